/-! LAYER 2: segments of the model's methods (printed by gen22.py) -/
set_option maxRecDepth 100000
theorem sX5_heldIn_0 {G : GG} {m : Nat} {sg : MS} {Q : Outcome → MS → Prop} {a1 : Int32} (w : MR G mX5_findKnown 3 0 [(0, .ref m), (1, .int a1), (2, .int 0)] [] m sg (fun o sg1 => o = .returned none ∧ (MR G mX5_heldIn 8 10 [(0, .ref m), (1, .int a1), (2, .int 0), (3, .int 0)] [] m sg1 Q))) : MR G mX5_heldIn 8 0 [(0, .ref m), (1, .int a1)] [] m sg Q := by
  refine MR_aload_n dX5_heldIn_0 0 rfl ?_
  refine MR_iload_n dX5_heldIn_1 1 rfl ?_
  refine MR_iconst (v := 0) dX5_heldIn_2 (by decide) ?_
  refine MR_invVv (Mc := mX5_findKnown) (As := [.int a1, .int 0]) (st := []) dX5_heldIn_3 q1570 q1572 qs68 q111 wX5_findKnown pX5_findKnown rfl (Nat.le_of_ble_eq_true rfl) (by decide) (by decide) (Nat.le_of_ble_eq_true rfl) w (fun sg1 w => ?_)
  refine MR_iconst (v := 0) dX5_heldIn_6 (by decide) ?_
  refine MR_istore_n (lv' := [(2, .int 0), (0, .ref m), (1, .int a1)]) dX5_heldIn_7 rfl (by decide) rfl ?_
  refine MR_iconst (v := 0) dX5_heldIn_8 (by decide) ?_
  refine MR_istore_n (lv' := [(3, .int 0), (2, .int 0), (0, .ref m), (1, .int a1)]) dX5_heldIn_9 rfl (by decide) rfl ?_
  exact MR_sub [2, 3, 1, 0] rfl w
theorem sX5_heldIn_10 {G : GG} {m : Nat} {sg : MS} {Q : Outcome → MS → Prop} {a1 a2 a3 : Int32} (w : (12 ≤ a3 → (Q (.returned (some (.int a2))) sg)) ∧ (¬ 12 ≤ a3 → (MR G mX5_everybody 1 0 [(0, .ref m)] [] m sg (fun o sg1 => ∃ r2 : Int32, o = .returned (some (.int r2)) ∧ (MR G mX5_isHeld 7 0 [(0, .ref m), (1, .int a3), (2, .int a1), (3, .int r2)] [] m sg1 (fun o sg3 => ∃ b4 : Bool, o = .returned (some (.int (bi b4))) ∧ ((b4 = false → (MR G mX5_heldIn 8 10 [(0, .ref m), (1, .int a1), (2, .int a2), (3, .int (a3 + 1))] [] m sg3 Q)) ∧ (b4 = true → (MR G mX5_heldIn 8 10 [(0, .ref m), (1, .int a1), (2, .int (a2 ||| ((1 : Int32) <<< (a3 &&& 31)))), (3, .int (a3 + 1))] [] m sg3 Q))))))))) : MR G mX5_heldIn 8 10 [(0, .ref m), (1, .int a1), (2, .int a2), (3, .int a3)] [] m sg Q := by
  refine MR_iload_n dX5_heldIn_10 3 rfl ?_
  refine MR_bipush (v := 12) dX5_heldIn_11 (by decide) ?_
  refine MR_icmp_ge (tgt := 41) dX5_heldIn_13 (by decide) (fun c6 => ?_) (fun c6 => ?_)
  · have w := w.1 c6
    refine MR_iload_n dX5_heldIn_41 2 rfl ?_
    exact MR_iret dX5_heldIn_42 rfl w
  · have w := w.2 c6
    refine MR_aload_n dX5_heldIn_16 0 rfl ?_
    refine MR_iload_n dX5_heldIn_17 3 rfl ?_
    refine MR_iload_n dX5_heldIn_18 1 rfl ?_
    refine MR_aload_n dX5_heldIn_19 0 rfl ?_
    refine MR_invVi (Mc := mX5_everybody) (As := []) (st := [.int a1, .int a3, .ref m]) dX5_heldIn_20 q1582 q1584 qs70 q111 wX5_everybody pX5_everybody rfl (Nat.le_of_ble_eq_true rfl) (by decide) (by decide) (Nat.le_of_ble_eq_true rfl) w (fun r2 sg1 w => ?_)
    refine MR_invVz (Mc := mX5_isHeld) (As := [.int a3, .int a1, .int r2]) (st := []) dX5_heldIn_23 q1586 q1588 qs71 q111 wX5_isHeld pX5_isHeld rfl (Nat.le_of_ble_eq_true rfl) (by decide) (by decide) (Nat.le_of_ble_eq_true rfl) w (fun b4 sg3 w => ?_)
    refine MR_ifz_eq (tgt := 35) dX5_heldIn_26 (by decide) (fun c5 => ?_) (fun c5 => ?_)
    · have w := w.1 c5
      refine MR_iinc (v := (a3 + 1)) (lv' := [(3, .int (a3 + 1)), (0, .ref m), (1, .int a1), (2, .int a2)]) dX5_heldIn_35 3 rfl (congrArg (fun z => a3 + z) (show Int32.ofInt 1 = 1 by decide)) (by decide) rfl ?_
      refine MR_goto (tgt := 10) dX5_heldIn_38 (by decide) ?_
      exact MR_sub [1, 2, 3, 0] rfl w
    · have w := w.2 c5
      refine MR_iload_n dX5_heldIn_29 2 rfl ?_
      refine MR_iconst (v := 1) dX5_heldIn_30 (by decide) ?_
      refine MR_iload_n dX5_heldIn_31 3 rfl ?_
      refine MR_ishl dX5_heldIn_32 ?_
      refine MR_ior dX5_heldIn_33 ?_
      refine MR_istore_n (lv' := [(2, .int (a2 ||| ((1 : Int32) <<< (a3 &&& 31)))), (0, .ref m), (1, .int a1), (3, .int a3)]) dX5_heldIn_34 rfl (by decide) rfl ?_
      refine MR_iinc (v := (a3 + 1)) (lv' := [(3, .int (a3 + 1)), (2, .int (a2 ||| ((1 : Int32) <<< (a3 &&& 31)))), (0, .ref m), (1, .int a1)]) dX5_heldIn_35 3 rfl (congrArg (fun z => a3 + z) (show Int32.ofInt 1 = 1 by decide)) (by decide) rfl ?_
      refine MR_goto (tgt := 10) dX5_heldIn_38 (by decide) ?_
      exact MR_sub [2, 3, 1, 0] rfl w
theorem sX5_holders_0 {G : GG} {m : Nat} {sg : MS} {Q : Outcome → MS → Prop} {a1 a2 a3 : Int32} (w : MR G mX5_holders 6 6 [(0, .ref m), (1, .int a1), (2, .int a2), (3, .int a3), (4, .int 0), (5, .int 0)] [] m sg Q) : MR G mX5_holders 6 0 [(0, .ref m), (1, .int a1), (2, .int a2), (3, .int a3)] [] m sg Q := by
  refine MR_iconst (v := 0) dX5_holders_0 (by decide) ?_
  refine MR_istore (lv' := [(4, .int 0), (0, .ref m), (1, .int a1), (2, .int a2), (3, .int a3)]) dX5_holders_1 (by decide) rfl ?_
  refine MR_iconst (v := 0) dX5_holders_3 (by decide) ?_
  refine MR_istore (lv' := [(5, .int 0), (4, .int 0), (0, .ref m), (1, .int a1), (2, .int a2), (3, .int a3)]) dX5_holders_4 (by decide) rfl ?_
  exact MR_sub [2, 3, 4, 5, 1, 0] rfl w
theorem sX5_holders_6 {G : GG} {m : Nat} {sg : MS} {Q : Outcome → MS → Prop} {a1 a2 a3 a4 a5 : Int32} (w : ((sg.1 1 0) ≤ a5 → (Q (.returned (some (.int a4))) sg)) ∧ (¬ (sg.1 1 0) ≤ a5 → (MR G mX5_doesHold 5 0 [(0, .ref m), (1, .int a5), (2, .int a1), (3, .int a2), (4, .int a3)] [] m sg (fun o sg1 => ∃ b2 : Bool, o = .returned (some (.int (bi b2))) ∧ ((b2 = false → (MR G mX5_holders 6 6 [(0, .ref m), (1, .int a1), (2, .int a2), (3, .int a3), (4, .int a4), (5, .int (a5 + 1))] [] m sg1 Q)) ∧ (b2 = true → (MR G mX5_holders 6 6 [(0, .ref m), (1, .int a1), (2, .int a2), (3, .int a3), (4, .int (a4 ||| ((1 : Int32) <<< (a5 &&& 31)))), (5, .int (a5 + 1))] [] m sg1 Q))))))) : MR G mX5_holders 6 6 [(0, .ref m), (1, .int a1), (2, .int a2), (3, .int a3), (4, .int a4), (5, .int a5)] [] m sg Q := by
  refine MR_iload dX5_holders_6 5 rfl ?_
  refine MR_aload_n dX5_holders_8 0 rfl ?_
  refine MR_getS (k := 1) dX5_holders_9 q1265 (by decide) rfl rfl ?_
  refine MR_icmp_ge (tgt := 42) dX5_holders_12 (by decide) (fun c4 => ?_) (fun c4 => ?_)
  · have w := w.1 c4
    refine MR_iload dX5_holders_42 4 rfl ?_
    exact MR_iret dX5_holders_44 rfl w
  · have w := w.2 c4
    refine MR_aload_n dX5_holders_15 0 rfl ?_
    refine MR_iload dX5_holders_16 5 rfl ?_
    refine MR_iload_n dX5_holders_18 1 rfl ?_
    refine MR_iload_n dX5_holders_19 2 rfl ?_
    refine MR_iload_n dX5_holders_20 3 rfl ?_
    refine MR_invVz (Mc := mX5_doesHold) (As := [.int a5, .int a1, .int a2, .int a3]) (st := []) dX5_holders_21 q1602 q1604 qs75 q111 wX5_doesHold pX5_doesHold rfl (Nat.le_of_ble_eq_true rfl) (by decide) (by decide) (Nat.le_of_ble_eq_true rfl) w (fun b2 sg1 w => ?_)
    refine MR_ifz_eq (tgt := 36) dX5_holders_24 (by decide) (fun c3 => ?_) (fun c3 => ?_)
    · have w := w.1 c3
      refine MR_iinc (v := (a5 + 1)) (lv' := [(5, .int (a5 + 1)), (0, .ref m), (1, .int a1), (2, .int a2), (3, .int a3), (4, .int a4)]) dX5_holders_36 5 rfl (congrArg (fun z => a5 + z) (show Int32.ofInt 1 = 1 by decide)) (by decide) rfl ?_
      refine MR_goto (tgt := 6) dX5_holders_39 (by decide) ?_
      exact MR_sub [1, 2, 3, 4, 5, 0] rfl w
    · have w := w.2 c3
      refine MR_iload dX5_holders_27 4 rfl ?_
      refine MR_iconst (v := 1) dX5_holders_29 (by decide) ?_
      refine MR_iload dX5_holders_30 5 rfl ?_
      refine MR_ishl dX5_holders_32 ?_
      refine MR_ior dX5_holders_33 ?_
      refine MR_istore (lv' := [(4, .int (a4 ||| ((1 : Int32) <<< (a5 &&& 31)))), (0, .ref m), (1, .int a1), (2, .int a2), (3, .int a3), (5, .int a5)]) dX5_holders_34 (by decide) rfl ?_
      refine MR_iinc (v := (a5 + 1)) (lv' := [(5, .int (a5 + 1)), (4, .int (a4 ||| ((1 : Int32) <<< (a5 &&& 31)))), (0, .ref m), (1, .int a1), (2, .int a2), (3, .int a3)]) dX5_holders_36 5 rfl (congrArg (fun z => a5 + z) (show Int32.ofInt 1 = 1 by decide)) (by decide) rfl ?_
      refine MR_goto (tgt := 6) dX5_holders_39 (by decide) ?_
      exact MR_sub [2, 3, 4, 5, 1, 0] rfl w
theorem sX5_holding_0 {G : GG} {m : Nat} {sg : MS} {Q : Outcome → MS → Prop} {a1 a2 : Int32} (w : vp_in a1 50 ∧ (MR G mX5_isUnder 1 0 [(0, .int (sg.1 40 a1.toNatClampNeg)), (1, .int 3)] [] m sg (fun o sg1 => ∃ b2 : Bool, o = .returned (some (.int (bi b2))) ∧ ((b2 = false → (vp_in a1 50 ∧ ((¬ (sg1.1 40 a1.toNatClampNeg) = 7 → (vp_in a1 50 ∧ ((¬ (sg1.1 40 a1.toNatClampNeg) = 2 → (MR G mX5_plainHolds 5 0 [(0, .ref m), (1, .int a1), (2, .int a2)] [] m sg1 (fun o sg3 => ∃ r4 : Int32, o = .returned (some (.int r4)) ∧ (Q (.returned (some (.int r4))) sg3)))) ∧ ((sg1.1 40 a1.toNatClampNeg) = 2 → (MR G mX5_soonHolds 6 0 [(0, .ref m), (1, .int a1), (2, .int a2)] [] m sg1 (fun o sg5 => ∃ r6 : Int32, o = .returned (some (.int r6)) ∧ (Q (.returned (some (.int r6))) sg5))))))) ∧ ((sg1.1 40 a1.toNatClampNeg) = 7 → (MR G mX5_ran 1 0 [(0, .ref m), (1, .int 80)] [] m sg1 (fun o sg9 => o = .returned none ∧ (MR G mX5_plainHolds 5 0 [(0, .ref m), (1, .int a1), (2, .int a2)] [] m sg9 (fun o sg10 => ∃ r11 : Int32, o = .returned (some (.int r11)) ∧ (MR G mX5_knowing 5 0 [(0, .ref m), (1, .int a1), (2, .int 2)] [] m sg10 (fun o sg12 => ∃ r13 : Int32, o = .returned (some (.int r13)) ∧ (Q (.returned (some (.int (r11 + r13)))) sg12))))))))))) ∧ (b2 = true → (MR G mX5_ran 1 0 [(0, .ref m), (1, .int 41)] [] m sg1 (fun o sg16 => o = .returned none ∧ (MR G mX5_soonHolds 6 0 [(0, .ref m), (1, .int a1), (2, .int (a2 + 1))] [] m sg16 (fun o sg17 => ∃ r18 : Int32, o = .returned (some (.int r18)) ∧ (Q (.returned (some (.int r18))) sg17)))))))))) : MR G mX5_holding 7 0 [(0, .ref m), (1, .int a1), (2, .int a2)] [] m sg Q := by
  refine MR_aload_n dX5_holding_0 0 rfl ?_
  refine MR_getA (k := 40) (o := 26) (j := 0) (n := 50) dX5_holding_1 q1304 (by decide) rfl rfl ?_
  refine MR_iload_n dX5_holding_4 1 rfl ?_
  obtain ⟨c20, w⟩ := w
  refine MR_iald (k := 40) dX5_holding_5 (by decide) rfl c20 ?_
  refine MR_iconst (v := 3) dX5_holding_6 (by decide) ?_
  refine MR_invSz (Mc := mX5_isUnder) (As := [.int (sg.1 40 a1.toNatClampNeg), .int 3]) (st := []) dX5_holding_7 q1725 q1726 q111 wX5_isUnder pX5_isUnder rfl (Nat.le_of_ble_eq_true rfl) (by decide) (by decide) (Nat.le_of_ble_eq_true rfl) w (fun b2 sg1 w => ?_)
  refine MR_ifz_eq (tgt := 28) dX5_holding_10 (by decide) (fun c19 => ?_) (fun c19 => ?_)
  · have w := w.1 c19
    refine MR_aload_n dX5_holding_28 0 rfl ?_
    refine MR_getA (k := 40) (o := 26) (j := 0) (n := 50) dX5_holding_29 q1304 (by decide) rfl rfl ?_
    refine MR_iload_n dX5_holding_32 1 rfl ?_
    obtain ⟨c15, w⟩ := w
    refine MR_iald (k := 40) dX5_holding_33 (by decide) rfl c15 ?_
    refine MR_bipush (v := 7) dX5_holding_34 (by decide) ?_
    refine MR_icmp_ne (tgt := 61) dX5_holding_36 (by decide) (fun c14 => ?_) (fun c14 => ?_)
    · have w := w.1 c14
      refine MR_aload_n dX5_holding_61 0 rfl ?_
      refine MR_getA (k := 40) (o := 26) (j := 0) (n := 50) dX5_holding_62 q1304 (by decide) rfl rfl ?_
      refine MR_iload_n dX5_holding_65 1 rfl ?_
      obtain ⟨c8, w⟩ := w
      refine MR_iald (k := 40) dX5_holding_66 (by decide) rfl c8 ?_
      refine MR_iconst (v := 2) dX5_holding_67 (by decide) ?_
      refine MR_icmp_ne (tgt := 80) dX5_holding_68 (by decide) (fun c7 => ?_) (fun c7 => ?_)
      · have w := w.1 c7
        refine MR_aload_n dX5_holding_80 0 rfl ?_
        refine MR_iload_n dX5_holding_81 1 rfl ?_
        refine MR_iload_n dX5_holding_82 2 rfl ?_
        refine MR_invVi (Mc := mX5_plainHolds) (As := [.int a1, .int a2]) (st := []) dX5_holding_83 q1748 q1750 qs94 q111 wX5_plainHolds pX5_plainHolds rfl (Nat.le_of_ble_eq_true rfl) (by decide) (by decide) (Nat.le_of_ble_eq_true rfl) w (fun r4 sg3 w => ?_)
        exact MR_iret dX5_holding_86 rfl w
      · have w := w.2 c7
        refine MR_aload_n dX5_holding_71 0 rfl ?_
        refine MR_iload_n dX5_holding_72 1 rfl ?_
        refine MR_iload_n dX5_holding_73 2 rfl ?_
        refine MR_invVi (Mc := mX5_soonHolds) (As := [.int a1, .int a2]) (st := []) dX5_holding_74 q1744 q1746 qs93 q111 wX5_soonHolds pX5_soonHolds rfl (Nat.le_of_ble_eq_true rfl) (by decide) (by decide) (Nat.le_of_ble_eq_true rfl) w (fun r6 sg5 w => ?_)
        refine MR_goto (tgt := 86) dX5_holding_77 (by decide) ?_
        exact MR_iret dX5_holding_86 rfl w
    · have w := w.2 c14
      refine MR_aload_n dX5_holding_39 0 rfl ?_
      refine MR_bipush (v := 80) dX5_holding_40 (by decide) ?_
      refine MR_invVv (Mc := mX5_ran) (As := [.int 80]) (st := []) dX5_holding_42 q1728 q1730 qs89 q111 wX5_ran pX5_ran rfl (Nat.le_of_ble_eq_true rfl) (by decide) (by decide) (Nat.le_of_ble_eq_true rfl) w (fun sg9 w => ?_)
      refine MR_aload_n dX5_holding_45 0 rfl ?_
      refine MR_iload_n dX5_holding_46 1 rfl ?_
      refine MR_iload_n dX5_holding_47 2 rfl ?_
      refine MR_invVi (Mc := mX5_plainHolds) (As := [.int a1, .int a2]) (st := []) dX5_holding_48 q1748 q1750 qs94 q111 wX5_plainHolds pX5_plainHolds rfl (Nat.le_of_ble_eq_true rfl) (by decide) (by decide) (Nat.le_of_ble_eq_true rfl) w (fun r11 sg10 w => ?_)
      refine MR_istore_n (lv' := [(3, .int r11), (0, .ref m), (1, .int a1), (2, .int a2)]) dX5_holding_51 rfl (by decide) rfl ?_
      refine MR_iload_n dX5_holding_52 0 rfl ?_
      refine MR_aload_n dX5_holding_53 1 rfl ?_
      refine MR_iload_n dX5_holding_54 2 rfl ?_
      refine MR_iconst (v := 2) dX5_holding_55 (by decide) ?_
      refine MR_invVi (Mc := mX5_knowing) (As := [.int a1, .int 2]) (st := [.int r11]) dX5_holding_56 q1752 q1754 qs95 q111 wX5_knowing pX5_knowing rfl (Nat.le_of_ble_eq_true rfl) (by decide) (by decide) (Nat.le_of_ble_eq_true rfl) w (fun r13 sg12 w => ?_)
      refine MR_iadd dX5_holding_59 ?_
      exact MR_iret dX5_holding_60 rfl w
  · have w := w.2 c19
    refine MR_aload_n dX5_holding_13 0 rfl ?_
    refine MR_bipush (v := 41) dX5_holding_14 (by decide) ?_
    refine MR_invVv (Mc := mX5_ran) (As := [.int 41]) (st := []) dX5_holding_16 q1728 q1730 qs89 q111 wX5_ran pX5_ran rfl (Nat.le_of_ble_eq_true rfl) (by decide) (by decide) (Nat.le_of_ble_eq_true rfl) w (fun sg16 w => ?_)
    refine MR_aload_n dX5_holding_19 0 rfl ?_
    refine MR_iload_n dX5_holding_20 1 rfl ?_
    refine MR_iload_n dX5_holding_21 2 rfl ?_
    refine MR_iconst (v := 1) dX5_holding_22 (by decide) ?_
    refine MR_iadd dX5_holding_23 ?_
    refine MR_invVi (Mc := mX5_soonHolds) (As := [.int a1, .int (a2 + 1)]) (st := []) dX5_holding_24 q1744 q1746 qs93 q111 wX5_soonHolds pX5_soonHolds rfl (Nat.le_of_ble_eq_true rfl) (by decide) (by decide) (Nat.le_of_ble_eq_true rfl) w (fun r18 sg17 w => ?_)
    exact MR_iret dX5_holding_27 rfl w
theorem sX5_holdsFor_0 {G : GG} {m : Nat} {sg : MS} {Q : Outcome → MS → Prop} {a1 a2 a3 a4 : Int32} (w : vp_in a1 12 ∧ ((¬ a1 = a2 → (MR G mX5_holdsFor 4 21 [(0, .ref m), (2, .int a2), (3, .int a3), (4, .int a4), (5, .int (a4 - (sg.1 2 a1.toNatClampNeg)))] [.int 0] m sg Q)) ∧ (a1 = a2 → (MR G mX5_holdsFor 4 21 [(0, .ref m), (2, .int a2), (3, .int a3), (4, .int a4), (5, .int (a4 - (sg.1 2 a1.toNatClampNeg)))] [.int 1] m sg Q)))) : MR G mX5_holdsFor 4 0 [(0, .ref m), (1, .int a1), (2, .int a2), (3, .int a3), (4, .int a4)] [] m sg Q := by
  refine MR_iload dX5_holdsFor_0 4 rfl ?_
  refine MR_aload_n dX5_holdsFor_2 0 rfl ?_
  refine MR_getA (k := 2) (o := 1) (j := 0) (n := 12) dX5_holdsFor_3 q1266 (by decide) rfl rfl ?_
  refine MR_iload_n dX5_holdsFor_6 1 rfl ?_
  obtain ⟨c2, w⟩ := w
  refine MR_iald (k := 2) dX5_holdsFor_7 (by decide) rfl c2 ?_
  refine MR_isub dX5_holdsFor_8 ?_
  refine MR_istore (lv' := [(5, .int (a4 - (sg.1 2 a1.toNatClampNeg))), (0, .ref m), (1, .int a1), (2, .int a2), (3, .int a3), (4, .int a4)]) dX5_holdsFor_9 (by decide) rfl ?_
  refine MR_iload_n dX5_holdsFor_11 2 rfl ?_
  refine MR_iload_n dX5_holdsFor_12 3 rfl ?_
  refine MR_icmp_ne (tgt := 20) dX5_holdsFor_13 (by decide) (fun c1 => ?_) (fun c1 => ?_)
  · have w := w.1 c1
    refine MR_iconst (v := 0) dX5_holdsFor_20 (by decide) ?_
    exact MR_sub [1, 3, 4, 5, 0] rfl w
  · have w := w.2 c1
    refine MR_iconst (v := 1) dX5_holdsFor_16 (by decide) ?_
    refine MR_goto (tgt := 21) dX5_holdsFor_17 (by decide) ?_
    exact MR_sub [1, 3, 4, 5, 0] rfl w
theorem sX5_holdsFor_21 {G : GG} {m : Nat} {sg : MS} {Q : Outcome → MS → Prop} {a2 a3 a4 a5 t0 : Int32} (w : (¬ (sg.1 31 0) = 0 → (vp_in 0 6 ∧ (vp_in a2 12 ∧ ((a4 ≤ ((uS sg 29 (0 : Int32).toNatClampNeg a5).1 3 a2.toNatClampNeg) → (MR G mX5_holdsFor 4 86 [(0, .ref m), (3, .int a3), (6, .int t0)] [.int 0, .int 1, .ref (m + 19)] m (uS sg 29 (0 : Int32).toNatClampNeg a5) Q)) ∧ (¬ a4 ≤ ((uS sg 29 (0 : Int32).toNatClampNeg a5).1 3 a2.toNatClampNeg) → (vp_in a2 12 ∧ (MR G mX5_holdsFor 4 86 [(0, .ref m), (3, .int a3), (6, .int t0)] [.int (a4 - ((uS sg 29 (0 : Int32).toNatClampNeg a5).1 3 a2.toNatClampNeg)), .int 1, .ref (m + 19)] m (uS sg 29 (0 : Int32).toNatClampNeg a5) Q))))))) ∧ ((sg.1 31 0) = 0 → ((a5 < 80 → (Q (.returned (some (.int (bi true)))) sg)) ∧ (¬ a5 < 80 → ((¬ t0 = 1 → (Q (.returned (some (.int (bi false)))) sg)) ∧ (t0 = 1 → (Q (.returned (some (.int (bi true)))) sg))))))) : MR G mX5_holdsFor 4 21 [(0, .ref m), (2, .int a2), (3, .int a3), (4, .int a4), (5, .int a5)] [.int t0] m sg Q := by
  refine MR_istore (lv' := [(6, .int t0), (0, .ref m), (2, .int a2), (3, .int a3), (4, .int a4), (5, .int a5)]) dX5_holdsFor_21 (by decide) rfl ?_
  refine MR_aload_n dX5_holdsFor_23 1 rfl ?_
  refine MR_getS (k := 31) dX5_holdsFor_24 q1295 (by decide) rfl rfl ?_
  refine MR_if_ne (tgt := 49) dX5_holdsFor_27 (by decide) (fun c7 => ?_) (fun c7 => ?_)
  · have w := w.1 c7
    refine MR_aload_n dX5_holdsFor_49 1 rfl ?_
    refine MR_getA (k := 29) (o := 19) (j := 0) (n := 6) dX5_holdsFor_50 q1293 (by decide) rfl rfl ?_
    refine MR_iconst (v := 0) dX5_holdsFor_53 (by decide) ?_
    refine MR_iload dX5_holdsFor_54 5 rfl ?_
    obtain ⟨c4, w⟩ := w
    refine MR_iast (k := 29) dX5_holdsFor_56 (by decide) rfl c4 ?_
    refine MR_aload_n dX5_holdsFor_57 1 rfl ?_
    refine MR_getA (k := 29) (o := 19) (j := 0) (n := 6) dX5_holdsFor_58 q1293 (by decide) rfl rfl ?_
    refine MR_iconst (v := 1) dX5_holdsFor_61 (by decide) ?_
    refine MR_iload dX5_holdsFor_62 4 rfl ?_
    refine MR_aload_n dX5_holdsFor_64 1 rfl ?_
    refine MR_getA (k := 3) (o := 2) (j := 0) (n := 12) dX5_holdsFor_65 q1267 (by decide) rfl rfl ?_
    refine MR_iload_n dX5_holdsFor_68 2 rfl ?_
    obtain ⟨c3, w⟩ := w
    refine MR_iald (k := 3) dX5_holdsFor_69 (by decide) rfl c3 ?_
    refine MR_icmp_le (tgt := 85) dX5_holdsFor_70 (by decide) (fun c2 => ?_) (fun c2 => ?_)
    · have w := w.1 c2
      refine MR_iconst (v := 0) dX5_holdsFor_85 (by decide) ?_
      exact MR_sub [1, 3, 0] rfl w
    · have w := w.2 c2
      refine MR_iload dX5_holdsFor_73 4 rfl ?_
      refine MR_aload_n dX5_holdsFor_75 1 rfl ?_
      refine MR_getA (k := 3) (o := 2) (j := 0) (n := 12) dX5_holdsFor_76 q1267 (by decide) rfl rfl ?_
      refine MR_iload_n dX5_holdsFor_79 2 rfl ?_
      obtain ⟨c1, w⟩ := w
      refine MR_iald (k := 3) dX5_holdsFor_80 (by decide) rfl c1 ?_
      refine MR_isub dX5_holdsFor_81 ?_
      refine MR_goto (tgt := 86) dX5_holdsFor_82 (by decide) ?_
      exact MR_sub [1, 3, 0] rfl w
  · have w := w.2 c7
    refine MR_iload dX5_holdsFor_30 5 rfl ?_
    refine MR_bipush (v := 80) dX5_holdsFor_32 (by decide) ?_
    refine MR_icmp_lt (tgt := 43) dX5_holdsFor_34 (by decide) (fun c6 => ?_) (fun c6 => ?_)
    · have w := w.1 c6
      refine MR_iconst (v := 1) dX5_holdsFor_43 (by decide) ?_
      refine MR_goto (tgt := 48) dX5_holdsFor_44 (by decide) ?_
      exact MR_bret (b := true) dX5_holdsFor_48 rfl w
    · have w := w.2 c6
      refine MR_iload dX5_holdsFor_37 0 rfl ?_
      refine MR_iconst (v := 1) dX5_holdsFor_39 (by decide) ?_
      refine MR_icmp_ne (tgt := 47) dX5_holdsFor_40 (by decide) (fun c5 => ?_) (fun c5 => ?_)
      · have w := w.1 c5
        refine MR_iconst (v := 0) dX5_holdsFor_47 (by decide) ?_
        exact MR_bret (b := false) dX5_holdsFor_48 rfl w
      · have w := w.2 c5
        refine MR_iconst (v := 1) dX5_holdsFor_43 (by decide) ?_
        refine MR_goto (tgt := 48) dX5_holdsFor_44 (by decide) ?_
        exact MR_bret (b := true) dX5_holdsFor_48 rfl w
theorem sX5_holdsFor_86 {G : GG} {m : Nat} {sg : MS} {Q : Outcome → MS → Prop} {a3 a6 t0 t1 : Int32} (w : vp_in t1 6 ∧ (vp_in a3 12 ∧ (vp_in 2 6 ∧ (vp_in a3 12 ∧ (vp_in 3 6 ∧ (vp_in 4 6 ∧ (vp_in 5 6 ∧ (MR G mX5_gives 3 0 [(0, .ref m), (1, .int 0)] [] m (uS (uS (uS (uS (uS sg 29 t1.toNatClampNeg t0) 29 (2 : Int32).toNatClampNeg ((uS sg 29 t1.toNatClampNeg t0).1 11 a3.toNatClampNeg)) 29 (3 : Int32).toNatClampNeg ((uS (uS sg 29 t1.toNatClampNeg t0) 29 (2 : Int32).toNatClampNeg ((uS sg 29 t1.toNatClampNeg t0).1 11 a3.toNatClampNeg)).1 10 a3.toNatClampNeg)) 29 (4 : Int32).toNatClampNeg a6) 29 (5 : Int32).toNatClampNeg a3) (fun o sg1 => ∃ r2 : Int32, o = .returned (some (.int r2)) ∧ ((r2 = 0 → (Q (.returned (some (.int (bi false)))) sg1)) ∧ (¬ r2 = 0 → (Q (.returned (some (.int (bi true)))) sg1)))))))))))) : MR G mX5_holdsFor 4 86 [(0, .ref m), (3, .int a3), (6, .int a6)] [.int t0, .int t1, .ref (m + 19)] m sg Q := by
  obtain ⟨c10, w⟩ := w
  refine MR_iast (k := 29) dX5_holdsFor_86 (by decide) rfl c10 ?_
  refine MR_aload_n dX5_holdsFor_87 0 rfl ?_
  refine MR_getA (k := 29) (o := 19) (j := 0) (n := 6) dX5_holdsFor_88 q1293 (by decide) rfl rfl ?_
  refine MR_iconst (v := 2) dX5_holdsFor_91 (by decide) ?_
  refine MR_aload_n dX5_holdsFor_92 0 rfl ?_
  refine MR_getA (k := 11) (o := 8) (j := 0) (n := 12) dX5_holdsFor_93 q1275 (by decide) rfl rfl ?_
  refine MR_iload_n dX5_holdsFor_96 1 rfl ?_
  obtain ⟨c9, w⟩ := w
  refine MR_iald (k := 11) dX5_holdsFor_97 (by decide) rfl c9 ?_
  obtain ⟨c8, w⟩ := w
  refine MR_iast (k := 29) dX5_holdsFor_98 (by decide) rfl c8 ?_
  refine MR_aload_n dX5_holdsFor_99 0 rfl ?_
  refine MR_getA (k := 29) (o := 19) (j := 0) (n := 6) dX5_holdsFor_100 q1293 (by decide) rfl rfl ?_
  refine MR_iconst (v := 3) dX5_holdsFor_103 (by decide) ?_
  refine MR_aload_n dX5_holdsFor_104 0 rfl ?_
  refine MR_getA (k := 10) (o := 7) (j := 0) (n := 12) dX5_holdsFor_105 q1274 (by decide) rfl rfl ?_
  refine MR_iload_n dX5_holdsFor_108 1 rfl ?_
  obtain ⟨c7, w⟩ := w
  refine MR_iald (k := 10) dX5_holdsFor_109 (by decide) rfl c7 ?_
  obtain ⟨c6, w⟩ := w
  refine MR_iast (k := 29) dX5_holdsFor_110 (by decide) rfl c6 ?_
  refine MR_aload_n dX5_holdsFor_111 0 rfl ?_
  refine MR_getA (k := 29) (o := 19) (j := 0) (n := 6) dX5_holdsFor_112 q1293 (by decide) rfl rfl ?_
  refine MR_iconst (v := 4) dX5_holdsFor_115 (by decide) ?_
  refine MR_iload dX5_holdsFor_116 2 rfl ?_
  obtain ⟨c5, w⟩ := w
  refine MR_iast (k := 29) dX5_holdsFor_118 (by decide) rfl c5 ?_
  refine MR_aload_n dX5_holdsFor_119 0 rfl ?_
  refine MR_getA (k := 29) (o := 19) (j := 0) (n := 6) dX5_holdsFor_120 q1293 (by decide) rfl rfl ?_
  refine MR_iconst (v := 5) dX5_holdsFor_123 (by decide) ?_
  refine MR_iload_n dX5_holdsFor_124 1 rfl ?_
  obtain ⟨c4, w⟩ := w
  refine MR_iast (k := 29) dX5_holdsFor_125 (by decide) rfl c4 ?_
  refine MR_aload_n dX5_holdsFor_126 0 rfl ?_
  refine MR_iconst (v := 0) dX5_holdsFor_127 (by decide) ?_
  refine MR_invVi (Mc := mX5_gives) (As := [.int 0]) (st := []) dX5_holdsFor_128 q1610 q1612 qs77 q111 wX5_gives pX5_gives rfl (Nat.le_of_ble_eq_true rfl) (by decide) (by decide) (Nat.le_of_ble_eq_true rfl) w (fun r2 sg1 w => ?_)
  refine MR_if_eq (tgt := 138) dX5_holdsFor_131 (by decide) (fun c3 => ?_) (fun c3 => ?_)
  · have w := w.1 c3
    refine MR_iconst (v := 0) dX5_holdsFor_138 (by decide) ?_
    exact MR_bret (b := false) dX5_holdsFor_139 rfl w
  · have w := w.2 c3
    refine MR_iconst (v := 1) dX5_holdsFor_134 (by decide) ?_
    refine MR_goto (tgt := 139) dX5_holdsFor_135 (by decide) ?_
    exact MR_bret (b := true) dX5_holdsFor_139 rfl w
theorem sX5_image_0 {G : GG} {m : Nat} {sg : MS} {Q : Outcome → MS → Prop} (w : MR G mX5_image 1 15 [(0, .ref m), (1, .int 0)] [] m (uS (uS sg 36 0 1) 37 0 ((uS sg 36 0 1).1 1 0)) Q) : MR G mX5_image 1 0 [(0, .ref m)] [] m sg Q := by
  refine MR_aload_n dX5_image_0 0 rfl ?_
  refine MR_iconst (v := 1) dX5_image_1 (by decide) ?_
  refine MR_putS (k := 36) dX5_image_2 q1300 (by decide) rfl rfl rfl rfl rfl ?_
  refine MR_aload_n dX5_image_5 0 rfl ?_
  refine MR_aload_n dX5_image_6 0 rfl ?_
  refine MR_getS (k := 1) dX5_image_7 q1265 (by decide) rfl rfl ?_
  refine MR_putS (k := 37) dX5_image_10 q1301 (by decide) rfl rfl rfl rfl rfl ?_
  refine MR_iconst (v := 0) dX5_image_13 (by decide) ?_
  refine MR_istore_n (lv' := [(1, .int 0), (0, .ref m)]) dX5_image_14 rfl (by decide) rfl ?_
  exact MR_sub [1, 0] rfl w
theorem sX5_image_15 {G : GG} {m : Nat} {sg : MS} {Q : Outcome → MS → Prop} {a1 : Int32} (w : ((sg.1 1 0) ≤ a1 → (Q (.returned (some (.int (sg.1 1 0)))) sg)) ∧ (¬ (sg.1 1 0) ≤ a1 → (vp_in a1 12 ∧ (vp_in a1 12 ∧ (MR G mX5_image 1 15 [(0, .ref m), (1, .int (a1 + 1))] [] m (uS sg 38 a1.toNatClampNeg (sg.1 4 a1.toNatClampNeg)) Q))))) : MR G mX5_image 1 15 [(0, .ref m), (1, .int a1)] [] m sg Q := by
  refine MR_iload_n dX5_image_15 1 rfl ?_
  refine MR_aload_n dX5_image_16 0 rfl ?_
  refine MR_getS (k := 1) dX5_image_17 q1265 (by decide) rfl rfl ?_
  refine MR_icmp_ge (tgt := 41) dX5_image_20 (by decide) (fun c3 => ?_) (fun c3 => ?_)
  · have w := w.1 c3
    refine MR_aload_n dX5_image_41 0 rfl ?_
    refine MR_getS (k := 1) dX5_image_42 q1265 (by decide) rfl rfl ?_
    exact MR_iret dX5_image_45 rfl w
  · have w := w.2 c3
    refine MR_aload_n dX5_image_23 0 rfl ?_
    refine MR_getA (k := 38) (o := 25) (j := 0) (n := 12) dX5_image_24 q1302 (by decide) rfl rfl ?_
    refine MR_iload_n dX5_image_27 1 rfl ?_
    refine MR_aload_n dX5_image_28 0 rfl ?_
    refine MR_getA (k := 4) (o := 3) (j := 0) (n := 12) dX5_image_29 q1268 (by decide) rfl rfl ?_
    refine MR_iload_n dX5_image_32 1 rfl ?_
    obtain ⟨c2, w⟩ := w
    refine MR_iald (k := 4) dX5_image_33 (by decide) rfl c2 ?_
    obtain ⟨c1, w⟩ := w
    refine MR_iast (k := 38) dX5_image_34 (by decide) rfl c1 ?_
    refine MR_iinc (v := (a1 + 1)) (lv' := [(1, .int (a1 + 1)), (0, .ref m)]) dX5_image_35 1 rfl (congrArg (fun z => a1 + z) (show Int32.ofInt 1 = 1 by decide)) (by decide) rfl ?_
    refine MR_goto (tgt := 15) dX5_image_38 (by decide) ?_
    exact MR_sub [1, 0] rfl w
theorem sX5_in_0 {G : GG} {m : Nat} {sg : MS} {Q : Outcome → MS → Prop} {a0 a1 a2 : Int32} (w : (a0 < a1 → (Q (.returned (some (.int (bi false)))) sg)) ∧ (¬ a0 < a1 → ((a2 < a0 → (Q (.returned (some (.int (bi false)))) sg)) ∧ (¬ a2 < a0 → (Q (.returned (some (.int (bi true)))) sg))))) : MR G mX5_in 1 0 [(0, .int a0), (1, .int a1), (2, .int a2)] [] m sg Q := by
  refine MR_iload_n dX5_in_0 0 rfl ?_
  refine MR_iload_n dX5_in_1 1 rfl ?_
  refine MR_icmp_lt (tgt := 14) dX5_in_2 (by decide) (fun c2 => ?_) (fun c2 => ?_)
  · have w := w.1 c2
    refine MR_iconst (v := 0) dX5_in_14 (by decide) ?_
    exact MR_bret (b := false) dX5_in_15 rfl w
  · have w := w.2 c2
    refine MR_iload_n dX5_in_5 0 rfl ?_
    refine MR_iload_n dX5_in_6 2 rfl ?_
    refine MR_icmp_gt (tgt := 14) dX5_in_7 (by decide) (fun c1 => ?_) (fun c1 => ?_)
    · have w := w.1 c1
      refine MR_iconst (v := 0) dX5_in_14 (by decide) ?_
      exact MR_bret (b := false) dX5_in_15 rfl w
    · have w := w.2 c1
      refine MR_iconst (v := 1) dX5_in_10 (by decide) ?_
      refine MR_goto (tgt := 15) dX5_in_11 (by decide) ?_
      exact MR_bret (b := true) dX5_in_15 rfl w
theorem sX5_isAhead_0 {G : GG} {m : Nat} {sg : MS} {Q : Outcome → MS → Prop} {a1 a2 : Int32} (w : vp_in a1 12 ∧ (vp_in a2 12 ∧ (((sg.1 2 a1.toNatClampNeg) < (sg.1 2 a2.toNatClampNeg) → (Q (.returned (some (.int (bi true)))) sg)) ∧ (¬ (sg.1 2 a1.toNatClampNeg) < (sg.1 2 a2.toNatClampNeg) → (vp_in a1 12 ∧ (vp_in a2 12 ∧ ((¬ (sg.1 2 a1.toNatClampNeg) = (sg.1 2 a2.toNatClampNeg) → (Q (.returned (some (.int (bi false)))) sg)) ∧ ((sg.1 2 a1.toNatClampNeg) = (sg.1 2 a2.toNatClampNeg) → ((a2 ≤ a1 → (Q (.returned (some (.int (bi false)))) sg)) ∧ (¬ a2 ≤ a1 → (Q (.returned (some (.int (bi true)))) sg))))))))))) : MR G mX5_isAhead 1 0 [(0, .ref m), (1, .int a1), (2, .int a2)] [] m sg Q := by
  refine MR_aload_n dX5_isAhead_0 0 rfl ?_
  refine MR_getA (k := 2) (o := 1) (j := 0) (n := 12) dX5_isAhead_1 q1266 (by decide) rfl rfl ?_
  refine MR_iload_n dX5_isAhead_4 1 rfl ?_
  obtain ⟨c7, w⟩ := w
  refine MR_iald (k := 2) dX5_isAhead_5 (by decide) rfl c7 ?_
  refine MR_aload_n dX5_isAhead_6 0 rfl ?_
  refine MR_getA (k := 2) (o := 1) (j := 0) (n := 12) dX5_isAhead_7 q1266 (by decide) rfl rfl ?_
  refine MR_iload_n dX5_isAhead_10 2 rfl ?_
  obtain ⟨c6, w⟩ := w
  refine MR_iald (k := 2) dX5_isAhead_11 (by decide) rfl c6 ?_
  refine MR_icmp_lt (tgt := 35) dX5_isAhead_12 (by decide) (fun c5 => ?_) (fun c5 => ?_)
  · have w := w.1 c5
    refine MR_iconst (v := 1) dX5_isAhead_35 (by decide) ?_
    refine MR_goto (tgt := 40) dX5_isAhead_36 (by decide) ?_
    exact MR_bret (b := true) dX5_isAhead_40 rfl w
  · have w := w.2 c5
    refine MR_aload_n dX5_isAhead_15 0 rfl ?_
    refine MR_getA (k := 2) (o := 1) (j := 0) (n := 12) dX5_isAhead_16 q1266 (by decide) rfl rfl ?_
    refine MR_iload_n dX5_isAhead_19 1 rfl ?_
    obtain ⟨c4, w⟩ := w
    refine MR_iald (k := 2) dX5_isAhead_20 (by decide) rfl c4 ?_
    refine MR_aload_n dX5_isAhead_21 0 rfl ?_
    refine MR_getA (k := 2) (o := 1) (j := 0) (n := 12) dX5_isAhead_22 q1266 (by decide) rfl rfl ?_
    refine MR_iload_n dX5_isAhead_25 2 rfl ?_
    obtain ⟨c3, w⟩ := w
    refine MR_iald (k := 2) dX5_isAhead_26 (by decide) rfl c3 ?_
    refine MR_icmp_ne (tgt := 39) dX5_isAhead_27 (by decide) (fun c2 => ?_) (fun c2 => ?_)
    · have w := w.1 c2
      refine MR_iconst (v := 0) dX5_isAhead_39 (by decide) ?_
      exact MR_bret (b := false) dX5_isAhead_40 rfl w
    · have w := w.2 c2
      refine MR_iload_n dX5_isAhead_30 1 rfl ?_
      refine MR_iload_n dX5_isAhead_31 2 rfl ?_
      refine MR_icmp_ge (tgt := 39) dX5_isAhead_32 (by decide) (fun c1 => ?_) (fun c1 => ?_)
      · have w := w.1 c1
        refine MR_iconst (v := 0) dX5_isAhead_39 (by decide) ?_
        exact MR_bret (b := false) dX5_isAhead_40 rfl w
      · have w := w.2 c1
        refine MR_iconst (v := 1) dX5_isAhead_35 (by decide) ?_
        refine MR_goto (tgt := 40) dX5_isAhead_36 (by decide) ?_
        exact MR_bret (b := true) dX5_isAhead_40 rfl w
theorem sX5_isBody_0 {G : GG} {m : Nat} {sg : MS} {Q : Outcome → MS → Prop} {a1 : Int32} (w : MR G mX5_in 1 0 [(0, .int a1), (1, .int 0), (2, .int ((sg.1 39 0) - 1))] [] m sg (fun o sg1 => ∃ b2 : Bool, o = .returned (some (.int (bi b2))) ∧ (Q (.returned (some (.int (bi b2)))) sg1))) : MR G mX5_isBody 2 0 [(0, .ref m), (1, .int a1)] [] m sg Q := by
  refine MR_iload_n dX5_isBody_0 1 rfl ?_
  refine MR_iconst (v := 0) dX5_isBody_1 (by decide) ?_
  refine MR_aload_n dX5_isBody_2 0 rfl ?_
  refine MR_getS (k := 39) dX5_isBody_3 q1303 (by decide) rfl rfl ?_
  refine MR_iconst (v := 1) dX5_isBody_6 (by decide) ?_
  refine MR_isub dX5_isBody_7 ?_
  refine MR_invSz (Mc := mX5_in) (As := [.int a1, .int 0, .int ((sg.1 39 0) - 1)]) (st := []) dX5_isBody_8 q1416 q1417 q111 wX5_in pX5_in rfl (Nat.le_of_ble_eq_true rfl) (by decide) (by decide) (Nat.le_of_ble_eq_true rfl) w (fun b2 sg1 w => ?_)
  exact MR_bret (b := b2) dX5_isBody_11 rfl w
theorem sX5_isFamous_0 {G : GG} {m : Nat} {sg : MS} {Q : Outcome → MS → Prop} {a1 a2 a3 : Int32} (w : MR G mX5_isFamous 2 3 [(0, .ref m), (1, .int a1), (2, .int a2), (3, .int a3), (4, .int 0)] [] m sg Q) : MR G mX5_isFamous 2 0 [(0, .ref m), (1, .int a1), (2, .int a2), (3, .int a3)] [] m sg Q := by
  refine MR_iconst (v := 0) dX5_isFamous_0 (by decide) ?_
  refine MR_istore (lv' := [(4, .int 0), (0, .ref m), (1, .int a1), (2, .int a2), (3, .int a3)]) dX5_isFamous_1 (by decide) rfl ?_
  exact MR_sub [1, 2, 3, 4, 0] rfl w
theorem sX5_isFamous_3 {G : GG} {m : Nat} {sg : MS} {Q : Outcome → MS → Prop} {a1 a2 a3 a4 : Int32} (w : ((sg.1 1 0) ≤ a4 → (Q (.returned (some (.int (bi false)))) sg)) ∧ (¬ (sg.1 1 0) ≤ a4 → (vp_in a1 12 ∧ ((¬ (sg.1 11 a1.toNatClampNeg) = 1 → (MR G mX5_isFamous 2 3 [(0, .ref m), (1, .int a1), (2, .int a2), (3, .int a3), (4, .int (a4 + 1))] [] m sg Q)) ∧ ((sg.1 11 a1.toNatClampNeg) = 1 → (MR G mX5_bears 1 0 [(0, .ref m), (1, .int a4), (2, .int a1), (3, .int a2), (4, .int a3)] [] m sg (fun o sg1 => ∃ b2 : Bool, o = .returned (some (.int (bi b2))) ∧ ((b2 = false → (MR G mX5_isFamous 2 3 [(0, .ref m), (1, .int a1), (2, .int a2), (3, .int a3), (4, .int (a4 + 1))] [] m sg1 Q)) ∧ (b2 = true → (Q (.returned (some (.int (bi true)))) sg1)))))))))) : MR G mX5_isFamous 2 3 [(0, .ref m), (1, .int a1), (2, .int a2), (3, .int a3), (4, .int a4)] [] m sg Q := by
  refine MR_iload dX5_isFamous_3 4 rfl ?_
  refine MR_aload_n dX5_isFamous_5 0 rfl ?_
  refine MR_getS (k := 1) dX5_isFamous_6 q1265 (by decide) rfl rfl ?_
  refine MR_icmp_ge (tgt := 42) dX5_isFamous_9 (by decide) (fun c6 => ?_) (fun c6 => ?_)
  · have w := w.1 c6
    refine MR_iconst (v := 0) dX5_isFamous_42 (by decide) ?_
    exact MR_bret (b := false) dX5_isFamous_43 rfl w
  · have w := w.2 c6
    refine MR_aload_n dX5_isFamous_12 0 rfl ?_
    refine MR_getA (k := 11) (o := 8) (j := 0) (n := 12) dX5_isFamous_13 q1275 (by decide) rfl rfl ?_
    refine MR_iload_n dX5_isFamous_16 1 rfl ?_
    obtain ⟨c5, w⟩ := w
    refine MR_iald (k := 11) dX5_isFamous_17 (by decide) rfl c5 ?_
    refine MR_iconst (v := 1) dX5_isFamous_18 (by decide) ?_
    refine MR_icmp_ne (tgt := 36) dX5_isFamous_19 (by decide) (fun c4 => ?_) (fun c4 => ?_)
    · have w := w.1 c4
      refine MR_iinc (v := (a4 + 1)) (lv' := [(4, .int (a4 + 1)), (0, .ref m), (1, .int a1), (2, .int a2), (3, .int a3)]) dX5_isFamous_36 4 rfl (congrArg (fun z => a4 + z) (show Int32.ofInt 1 = 1 by decide)) (by decide) rfl ?_
      refine MR_goto (tgt := 3) dX5_isFamous_39 (by decide) ?_
      exact MR_sub [1, 2, 3, 4, 0] rfl w
    · have w := w.2 c4
      refine MR_aload_n dX5_isFamous_22 0 rfl ?_
      refine MR_iload dX5_isFamous_23 4 rfl ?_
      refine MR_iload_n dX5_isFamous_25 1 rfl ?_
      refine MR_iload_n dX5_isFamous_26 2 rfl ?_
      refine MR_iload_n dX5_isFamous_27 3 rfl ?_
      refine MR_invVz (Mc := mX5_bears) (As := [.int a4, .int a1, .int a2, .int a3]) (st := []) dX5_isFamous_28 q1594 q1596 qs73 q111 wX5_bears pX5_bears rfl (Nat.le_of_ble_eq_true rfl) (by decide) (by decide) (Nat.le_of_ble_eq_true rfl) w (fun b2 sg1 w => ?_)
      refine MR_ifz_eq (tgt := 36) dX5_isFamous_31 (by decide) (fun c3 => ?_) (fun c3 => ?_)
      · have w := w.1 c3
        refine MR_iinc (v := (a4 + 1)) (lv' := [(4, .int (a4 + 1)), (0, .ref m), (1, .int a1), (2, .int a2), (3, .int a3)]) dX5_isFamous_36 4 rfl (congrArg (fun z => a4 + z) (show Int32.ofInt 1 = 1 by decide)) (by decide) rfl ?_
        refine MR_goto (tgt := 3) dX5_isFamous_39 (by decide) ?_
        exact MR_sub [1, 2, 3, 4, 0] rfl w
      · have w := w.2 c3
        refine MR_iconst (v := 1) dX5_isFamous_34 (by decide) ?_
        exact MR_bret (b := true) dX5_isFamous_35 rfl w
theorem sX5_isFreeWithout_0 {G : GG} {m : Nat} {sg : MS} {Q : Outcome → MS → Prop} {a1 a2 a3 : Int32} (w : MR G mX5_findKnown 3 0 [(0, .ref m), (1, .int a2), (2, .int a3)] [] m sg (fun o sg1 => o = .returned none ∧ (MR G mX5_everybody 1 0 [(0, .ref m)] [] m sg1 (fun o sg2 => ∃ r3 : Int32, o = .returned (some (.int r3)) ∧ (MR G mX5_isHeld 7 0 [(0, .ref m), (1, .int a1), (2, .int a2), (3, .int r3)] [] m sg2 (fun o sg4 => ∃ b5 : Bool, o = .returned (some (.int (bi b5))) ∧ ((b5 = true → (Q (.returned (some (.int (bi false)))) sg4)) ∧ (b5 = false → (Q (.returned (some (.int (bi true)))) sg4))))))))) : MR G mX5_isFreeWithout 8 0 [(0, .ref m), (1, .int a1), (2, .int a2), (3, .int a3)] [] m sg Q := by
  refine MR_aload_n dX5_isFreeWithout_0 0 rfl ?_
  refine MR_iload_n dX5_isFreeWithout_1 2 rfl ?_
  refine MR_iload_n dX5_isFreeWithout_2 3 rfl ?_
  refine MR_invVv (Mc := mX5_findKnown) (As := [.int a2, .int a3]) (st := []) dX5_isFreeWithout_3 q1570 q1572 qs68 q111 wX5_findKnown pX5_findKnown rfl (Nat.le_of_ble_eq_true rfl) (by decide) (by decide) (Nat.le_of_ble_eq_true rfl) w (fun sg1 w => ?_)
  refine MR_aload_n dX5_isFreeWithout_6 0 rfl ?_
  refine MR_iload_n dX5_isFreeWithout_7 1 rfl ?_
  refine MR_iload_n dX5_isFreeWithout_8 2 rfl ?_
  refine MR_aload_n dX5_isFreeWithout_9 0 rfl ?_
  refine MR_invVi (Mc := mX5_everybody) (As := []) (st := [.int a2, .int a1, .ref m]) dX5_isFreeWithout_10 q1582 q1584 qs70 q111 wX5_everybody pX5_everybody rfl (Nat.le_of_ble_eq_true rfl) (by decide) (by decide) (Nat.le_of_ble_eq_true rfl) w (fun r3 sg2 w => ?_)
  refine MR_invVz (Mc := mX5_isHeld) (As := [.int a1, .int a2, .int r3]) (st := []) dX5_isFreeWithout_13 q1586 q1588 qs71 q111 wX5_isHeld pX5_isHeld rfl (Nat.le_of_ble_eq_true rfl) (by decide) (by decide) (Nat.le_of_ble_eq_true rfl) w (fun b5 sg4 w => ?_)
  refine MR_ifz_ne (tgt := 23) dX5_isFreeWithout_16 (by decide) (fun c6 => ?_) (fun c6 => ?_)
  · have w := w.1 c6
    refine MR_iconst (v := 0) dX5_isFreeWithout_23 (by decide) ?_
    exact MR_bret (b := false) dX5_isFreeWithout_24 rfl w
  · have w := w.2 c6
    refine MR_iconst (v := 1) dX5_isFreeWithout_19 (by decide) ?_
    refine MR_goto (tgt := 24) dX5_isFreeWithout_20 (by decide) ?_
    exact MR_bret (b := true) dX5_isFreeWithout_24 rfl w
theorem sX5_isHeld_0 {G : GG} {m : Nat} {sg : MS} {Q : Outcome → MS → Prop} {a1 a2 a3 : Int32} (w : MR G mX5_isFamous 2 0 [(0, .ref m), (1, .int a1), (2, .int a2), (3, .int a3)] [] m sg (fun o sg1 => ∃ b2 : Bool, o = .returned (some (.int (bi b2))) ∧ ((b2 = true → (Q (.returned (some (.int (bi true)))) sg1)) ∧ (b2 = false → (MR G mX5_holders 6 0 [(0, .ref m), (1, .int a1), (2, .int a2), (3, .int a3)] [] m sg1 (fun o sg3 => ∃ r4 : Int32, o = .returned (some (.int r4)) ∧ ((r4 = 0 → (Q (.returned (some (.int (bi false)))) sg3)) ∧ (¬ r4 = 0 → (Q (.returned (some (.int (bi true)))) sg3))))))))) : MR G mX5_isHeld 7 0 [(0, .ref m), (1, .int a1), (2, .int a2), (3, .int a3)] [] m sg Q := by
  refine MR_aload_n dX5_isHeld_0 0 rfl ?_
  refine MR_iload_n dX5_isHeld_1 1 rfl ?_
  refine MR_iload_n dX5_isHeld_2 2 rfl ?_
  refine MR_iload_n dX5_isHeld_3 3 rfl ?_
  refine MR_invVz (Mc := mX5_isFamous) (As := [.int a1, .int a2, .int a3]) (st := []) dX5_isHeld_4 q1590 q1592 qs72 q111 wX5_isFamous pX5_isFamous rfl (Nat.le_of_ble_eq_true rfl) (by decide) (by decide) (Nat.le_of_ble_eq_true rfl) w (fun b2 sg1 w => ?_)
  refine MR_ifz_ne (tgt := 20) dX5_isHeld_7 (by decide) (fun c6 => ?_) (fun c6 => ?_)
  · have w := w.1 c6
    refine MR_iconst (v := 1) dX5_isHeld_20 (by decide) ?_
    refine MR_goto (tgt := 25) dX5_isHeld_21 (by decide) ?_
    exact MR_bret (b := true) dX5_isHeld_25 rfl w
  · have w := w.2 c6
    refine MR_aload_n dX5_isHeld_10 0 rfl ?_
    refine MR_iload_n dX5_isHeld_11 1 rfl ?_
    refine MR_iload_n dX5_isHeld_12 2 rfl ?_
    refine MR_iload_n dX5_isHeld_13 3 rfl ?_
    refine MR_invVi (Mc := mX5_holders) (As := [.int a1, .int a2, .int a3]) (st := []) dX5_isHeld_14 q1598 q1600 qs74 q111 wX5_holders pX5_holders rfl (Nat.le_of_ble_eq_true rfl) (by decide) (by decide) (Nat.le_of_ble_eq_true rfl) w (fun r4 sg3 w => ?_)
    refine MR_if_eq (tgt := 24) dX5_isHeld_17 (by decide) (fun c5 => ?_) (fun c5 => ?_)
    · have w := w.1 c5
      refine MR_iconst (v := 0) dX5_isHeld_24 (by decide) ?_
      exact MR_bret (b := false) dX5_isHeld_25 rfl w
    · have w := w.2 c5
      refine MR_iconst (v := 1) dX5_isHeld_20 (by decide) ?_
      refine MR_goto (tgt := 25) dX5_isHeld_21 (by decide) ?_
      exact MR_bret (b := true) dX5_isHeld_25 rfl w
theorem sX5_isLife_0 {G : GG} {m : Nat} {sg : MS} {Q : Outcome → MS → Prop} {a0 a1 : Int32} (w : MR G mX5_isYear 2 0 [(0, .int a0)] [] m sg (fun o sg1 => ∃ b2 : Bool, o = .returned (some (.int (bi b2))) ∧ ((b2 = false → (Q (.returned (some (.int (bi false)))) sg1)) ∧ (b2 = true → (MR G mX5_in 1 0 [(0, .int a1), (1, .int (a0 + 1)), (2, .int 100)] [] m sg1 (fun o sg3 => ∃ b4 : Bool, o = .returned (some (.int (bi b4))) ∧ ((b4 = false → (Q (.returned (some (.int (bi false)))) sg3)) ∧ (b4 = true → (Q (.returned (some (.int (bi true)))) sg3))))))))) : MR G mX5_isLife 3 0 [(0, .int a0), (1, .int a1)] [] m sg Q := by
  refine MR_iload_n dX5_isLife_0 0 rfl ?_
  refine MR_invSz (Mc := mX5_isYear) (As := [.int a0]) (st := []) dX5_isLife_1 q1413 q1414 q111 wX5_isYear pX5_isYear rfl (Nat.le_of_ble_eq_true rfl) (by decide) (by decide) (Nat.le_of_ble_eq_true rfl) w (fun b2 sg1 w => ?_)
  refine MR_ifz_eq (tgt := 23) dX5_isLife_4 (by decide) (fun c6 => ?_) (fun c6 => ?_)
  · have w := w.1 c6
    refine MR_iconst (v := 0) dX5_isLife_23 (by decide) ?_
    exact MR_bret (b := false) dX5_isLife_24 rfl w
  · have w := w.2 c6
    refine MR_iload_n dX5_isLife_7 1 rfl ?_
    refine MR_iload_n dX5_isLife_8 0 rfl ?_
    refine MR_iconst (v := 1) dX5_isLife_9 (by decide) ?_
    refine MR_iadd dX5_isLife_10 ?_
    refine MR_bipush (v := 100) dX5_isLife_11 (by decide) ?_
    refine MR_invSz (Mc := mX5_in) (As := [.int a1, .int (a0 + 1), .int 100]) (st := []) dX5_isLife_13 q1416 q1417 q111 wX5_in pX5_in rfl (Nat.le_of_ble_eq_true rfl) (by decide) (by decide) (Nat.le_of_ble_eq_true rfl) w (fun b4 sg3 w => ?_)
    refine MR_ifz_eq (tgt := 23) dX5_isLife_16 (by decide) (fun c5 => ?_) (fun c5 => ?_)
    · have w := w.1 c5
      refine MR_iconst (v := 0) dX5_isLife_23 (by decide) ?_
      exact MR_bret (b := false) dX5_isLife_24 rfl w
    · have w := w.2 c5
      refine MR_iconst (v := 1) dX5_isLife_19 (by decide) ?_
      refine MR_goto (tgt := 24) dX5_isLife_20 (by decide) ?_
      exact MR_bret (b := true) dX5_isLife_24 rfl w
theorem sX5_isName_0 {G : GG} {m : Nat} {sg : MS} {Q : Outcome → MS → Prop} {a0 : Int32} (w : MR G mX5_in 1 0 [(0, .int a0), (1, .int 0), (2, .int 11)] [] m sg (fun o sg1 => ∃ b2 : Bool, o = .returned (some (.int (bi b2))) ∧ (Q (.returned (some (.int (bi b2)))) sg1))) : MR G mX5_isName 2 0 [(0, .int a0)] [] m sg Q := by
  refine MR_iload_n dX5_isName_0 0 rfl ?_
  refine MR_iconst (v := 0) dX5_isName_1 (by decide) ?_
  refine MR_bipush (v := 11) dX5_isName_2 (by decide) ?_
  refine MR_invSz (Mc := mX5_in) (As := [.int a0, .int 0, .int 11]) (st := []) dX5_isName_4 q1416 q1417 q111 wX5_in pX5_in rfl (Nat.le_of_ble_eq_true rfl) (by decide) (by decide) (Nat.le_of_ble_eq_true rfl) w (fun b2 sg1 w => ?_)
  exact MR_bret (b := b2) dX5_isName_7 rfl w
theorem sX5_isPerson_0 {G : GG} {m : Nat} {sg : MS} {Q : Outcome → MS → Prop} {a1 : Int32} (w : MR G mX5_in 1 0 [(0, .int a1), (1, .int 0), (2, .int ((sg.1 1 0) - 1))] [] m sg (fun o sg1 => ∃ b2 : Bool, o = .returned (some (.int (bi b2))) ∧ (Q (.returned (some (.int (bi b2)))) sg1))) : MR G mX5_isPerson 2 0 [(0, .ref m), (1, .int a1)] [] m sg Q := by
  refine MR_iload_n dX5_isPerson_0 1 rfl ?_
  refine MR_iconst (v := 0) dX5_isPerson_1 (by decide) ?_
  refine MR_aload_n dX5_isPerson_2 0 rfl ?_
  refine MR_getS (k := 1) dX5_isPerson_3 q1265 (by decide) rfl rfl ?_
  refine MR_iconst (v := 1) dX5_isPerson_6 (by decide) ?_
  refine MR_isub dX5_isPerson_7 ?_
  refine MR_invSz (Mc := mX5_in) (As := [.int a1, .int 0, .int ((sg.1 1 0) - 1)]) (st := []) dX5_isPerson_8 q1416 q1417 q111 wX5_in pX5_in rfl (Nat.le_of_ble_eq_true rfl) (by decide) (by decide) (Nat.le_of_ble_eq_true rfl) w (fun b2 sg1 w => ?_)
  exact MR_bret (b := b2) dX5_isPerson_11 rfl w
theorem sX5_isShelf_0 {G : GG} {m : Nat} {sg : MS} {Q : Outcome → MS → Prop} {a0 : Int32} (w : MR G mX5_in 1 0 [(0, .int a0), (1, .int 0), (2, .int 5)] [] m sg (fun o sg1 => ∃ b2 : Bool, o = .returned (some (.int (bi b2))) ∧ (Q (.returned (some (.int (bi b2)))) sg1))) : MR G mX5_isShelf 2 0 [(0, .int a0)] [] m sg Q := by
  refine MR_iload_n dX5_isShelf_0 0 rfl ?_
  refine MR_iconst (v := 0) dX5_isShelf_1 (by decide) ?_
  refine MR_iconst (v := 5) dX5_isShelf_2 (by decide) ?_
  refine MR_invSz (Mc := mX5_in) (As := [.int a0, .int 0, .int 5]) (st := []) dX5_isShelf_3 q1416 q1417 q111 wX5_in pX5_in rfl (Nat.le_of_ble_eq_true rfl) (by decide) (by decide) (Nat.le_of_ble_eq_true rfl) w (fun b2 sg1 w => ?_)
  exact MR_bret (b := b2) dX5_isShelf_6 rfl w
theorem sX5_isUnder_0 {G : GG} {m : Nat} {sg : MS} {Q : Outcome → MS → Prop} {a0 a1 : Int32} (w : (a1 = 0 → (Q (.returned (some (.int (bi true)))) sg)) ∧ (¬ a1 = 0 → ((a0 = a1 → (Q (.returned (some (.int (bi true)))) sg)) ∧ (¬ a0 = a1 → ((¬ a1 = 1 → (MR G mX5_isUnder 1 19 [(0, .int a0), (1, .int a1)] [] m sg Q)) ∧ (a1 = 1 → ((a0 = 4 → (Q (.returned (some (.int (bi true)))) sg)) ∧ (¬ a0 = 4 → (MR G mX5_isUnder 1 19 [(0, .int a0), (1, .int a1)] [] m sg Q))))))))) : MR G mX5_isUnder 1 0 [(0, .int a0), (1, .int a1)] [] m sg Q := by
  refine MR_iload_n dX5_isUnder_0 1 rfl ?_
  refine MR_if_eq (tgt := 56) dX5_isUnder_1 (by decide) (fun c4 => ?_) (fun c4 => ?_)
  · have w := w.1 c4
    refine MR_iconst (v := 1) dX5_isUnder_56 (by decide) ?_
    refine MR_goto (tgt := 61) dX5_isUnder_57 (by decide) ?_
    exact MR_bret (b := true) dX5_isUnder_61 rfl w
  · have w := w.2 c4
    refine MR_iload_n dX5_isUnder_4 0 rfl ?_
    refine MR_iload_n dX5_isUnder_5 1 rfl ?_
    refine MR_icmp_eq (tgt := 56) dX5_isUnder_6 (by decide) (fun c3 => ?_) (fun c3 => ?_)
    · have w := w.1 c3
      refine MR_iconst (v := 1) dX5_isUnder_56 (by decide) ?_
      refine MR_goto (tgt := 61) dX5_isUnder_57 (by decide) ?_
      exact MR_bret (b := true) dX5_isUnder_61 rfl w
    · have w := w.2 c3
      refine MR_iload_n dX5_isUnder_9 1 rfl ?_
      refine MR_iconst (v := 1) dX5_isUnder_10 (by decide) ?_
      refine MR_icmp_ne (tgt := 19) dX5_isUnder_11 (by decide) (fun c2 => ?_) (fun c2 => ?_)
      · have w := w.1 c2
        exact w
      · have w := w.2 c2
        refine MR_iload_n dX5_isUnder_14 0 rfl ?_
        refine MR_iconst (v := 4) dX5_isUnder_15 (by decide) ?_
        refine MR_icmp_eq (tgt := 56) dX5_isUnder_16 (by decide) (fun c1 => ?_) (fun c1 => ?_)
        · have w := w.1 c1
          refine MR_iconst (v := 1) dX5_isUnder_56 (by decide) ?_
          refine MR_goto (tgt := 61) dX5_isUnder_57 (by decide) ?_
          exact MR_bret (b := true) dX5_isUnder_61 rfl w
        · have w := w.2 c1
          exact w
theorem sX5_isUnder_19 {G : GG} {m : Nat} {sg : MS} {Q : Outcome → MS → Prop} {a0 a1 : Int32} (w : (¬ a1 = 2 → (MR G mX5_isUnder 1 34 [(0, .int a0), (1, .int a1)] [] m sg Q)) ∧ (a1 = 2 → ((a0 = 3 → (Q (.returned (some (.int (bi true)))) sg)) ∧ (¬ a0 = 3 → ((a0 = 5 → (Q (.returned (some (.int (bi true)))) sg)) ∧ (¬ a0 = 5 → (MR G mX5_isUnder 1 34 [(0, .int a0), (1, .int a1)] [] m sg Q))))))) : MR G mX5_isUnder 1 19 [(0, .int a0), (1, .int a1)] [] m sg Q := by
  refine MR_iload_n dX5_isUnder_19 1 rfl ?_
  refine MR_iconst (v := 2) dX5_isUnder_20 (by decide) ?_
  refine MR_icmp_ne (tgt := 34) dX5_isUnder_21 (by decide) (fun c3 => ?_) (fun c3 => ?_)
  · have w := w.1 c3
    exact w
  · have w := w.2 c3
    refine MR_iload_n dX5_isUnder_24 0 rfl ?_
    refine MR_iconst (v := 3) dX5_isUnder_25 (by decide) ?_
    refine MR_icmp_eq (tgt := 56) dX5_isUnder_26 (by decide) (fun c2 => ?_) (fun c2 => ?_)
    · have w := w.1 c2
      refine MR_iconst (v := 1) dX5_isUnder_56 (by decide) ?_
      refine MR_goto (tgt := 61) dX5_isUnder_57 (by decide) ?_
      exact MR_bret (b := true) dX5_isUnder_61 rfl w
    · have w := w.2 c2
      refine MR_iload_n dX5_isUnder_29 0 rfl ?_
      refine MR_iconst (v := 5) dX5_isUnder_30 (by decide) ?_
      refine MR_icmp_eq (tgt := 56) dX5_isUnder_31 (by decide) (fun c1 => ?_) (fun c1 => ?_)
      · have w := w.1 c1
        refine MR_iconst (v := 1) dX5_isUnder_56 (by decide) ?_
        refine MR_goto (tgt := 61) dX5_isUnder_57 (by decide) ?_
        exact MR_bret (b := true) dX5_isUnder_61 rfl w
      · have w := w.2 c1
        exact w
theorem sX5_isUnder_34 {G : GG} {m : Nat} {sg : MS} {Q : Outcome → MS → Prop} {a0 a1 : Int32} (w : (¬ a1 = 3 → ((¬ a1 = 6 → (Q (.returned (some (.int (bi false)))) sg)) ∧ (a1 = 6 → ((¬ a0 = 7 → (Q (.returned (some (.int (bi false)))) sg)) ∧ (a0 = 7 → (Q (.returned (some (.int (bi true)))) sg)))))) ∧ (a1 = 3 → ((a0 = 5 → (Q (.returned (some (.int (bi true)))) sg)) ∧ (¬ a0 = 5 → ((¬ a1 = 6 → (Q (.returned (some (.int (bi false)))) sg)) ∧ (a1 = 6 → ((¬ a0 = 7 → (Q (.returned (some (.int (bi false)))) sg)) ∧ (a0 = 7 → (Q (.returned (some (.int (bi true)))) sg))))))))) : MR G mX5_isUnder 1 34 [(0, .int a0), (1, .int a1)] [] m sg Q := by
  refine MR_iload_n dX5_isUnder_34 1 rfl ?_
  refine MR_iconst (v := 3) dX5_isUnder_35 (by decide) ?_
  refine MR_icmp_ne (tgt := 44) dX5_isUnder_36 (by decide) (fun c6 => ?_) (fun c6 => ?_)
  · have w := w.1 c6
    refine MR_iload_n dX5_isUnder_44 1 rfl ?_
    refine MR_bipush (v := 6) dX5_isUnder_45 (by decide) ?_
    refine MR_icmp_ne (tgt := 60) dX5_isUnder_47 (by decide) (fun c2 => ?_) (fun c2 => ?_)
    · have w := w.1 c2
      refine MR_iconst (v := 0) dX5_isUnder_60 (by decide) ?_
      exact MR_bret (b := false) dX5_isUnder_61 rfl w
    · have w := w.2 c2
      refine MR_iload_n dX5_isUnder_50 0 rfl ?_
      refine MR_bipush (v := 7) dX5_isUnder_51 (by decide) ?_
      refine MR_icmp_ne (tgt := 60) dX5_isUnder_53 (by decide) (fun c1 => ?_) (fun c1 => ?_)
      · have w := w.1 c1
        refine MR_iconst (v := 0) dX5_isUnder_60 (by decide) ?_
        exact MR_bret (b := false) dX5_isUnder_61 rfl w
      · have w := w.2 c1
        refine MR_iconst (v := 1) dX5_isUnder_56 (by decide) ?_
        refine MR_goto (tgt := 61) dX5_isUnder_57 (by decide) ?_
        exact MR_bret (b := true) dX5_isUnder_61 rfl w
  · have w := w.2 c6
    refine MR_iload_n dX5_isUnder_39 0 rfl ?_
    refine MR_iconst (v := 5) dX5_isUnder_40 (by decide) ?_
    refine MR_icmp_eq (tgt := 56) dX5_isUnder_41 (by decide) (fun c5 => ?_) (fun c5 => ?_)
    · have w := w.1 c5
      refine MR_iconst (v := 1) dX5_isUnder_56 (by decide) ?_
      refine MR_goto (tgt := 61) dX5_isUnder_57 (by decide) ?_
      exact MR_bret (b := true) dX5_isUnder_61 rfl w
    · have w := w.2 c5
      refine MR_iload_n dX5_isUnder_44 1 rfl ?_
      refine MR_bipush (v := 6) dX5_isUnder_45 (by decide) ?_
      refine MR_icmp_ne (tgt := 60) dX5_isUnder_47 (by decide) (fun c4 => ?_) (fun c4 => ?_)
      · have w := w.1 c4
        refine MR_iconst (v := 0) dX5_isUnder_60 (by decide) ?_
        exact MR_bret (b := false) dX5_isUnder_61 rfl w
      · have w := w.2 c4
        refine MR_iload_n dX5_isUnder_50 0 rfl ?_
        refine MR_bipush (v := 7) dX5_isUnder_51 (by decide) ?_
        refine MR_icmp_ne (tgt := 60) dX5_isUnder_53 (by decide) (fun c3 => ?_) (fun c3 => ?_)
        · have w := w.1 c3
          refine MR_iconst (v := 0) dX5_isUnder_60 (by decide) ?_
          exact MR_bret (b := false) dX5_isUnder_61 rfl w
        · have w := w.2 c3
          refine MR_iconst (v := 1) dX5_isUnder_56 (by decide) ?_
          refine MR_goto (tgt := 61) dX5_isUnder_57 (by decide) ?_
          exact MR_bret (b := true) dX5_isUnder_61 rfl w
theorem sX5_isYear_0 {G : GG} {m : Nat} {sg : MS} {Q : Outcome → MS → Prop} {a0 : Int32} (w : MR G mX5_in 1 0 [(0, .int a0), (1, .int 0), (2, .int 99)] [] m sg (fun o sg1 => ∃ b2 : Bool, o = .returned (some (.int (bi b2))) ∧ (Q (.returned (some (.int (bi b2)))) sg1))) : MR G mX5_isYear 2 0 [(0, .int a0)] [] m sg Q := by
  refine MR_iload_n dX5_isYear_0 0 rfl ?_
  refine MR_iconst (v := 0) dX5_isYear_1 (by decide) ?_
  refine MR_bipush (v := 99) dX5_isYear_2 (by decide) ?_
  refine MR_invSz (Mc := mX5_in) (As := [.int a0, .int 0, .int 99]) (st := []) dX5_isYear_4 q1416 q1417 q111 wX5_in pX5_in rfl (Nat.le_of_ble_eq_true rfl) (by decide) (by decide) (Nat.le_of_ble_eq_true rfl) w (fun b2 sg1 w => ?_)
  exact MR_bret (b := b2) dX5_isYear_7 rfl w
theorem sX5_judge_0 {G : GG} {m : Nat} {sg : MS} {Q : Outcome → MS → Prop} (w : MR G mX5_asNamed 1 0 [(0, .ref m)] [] m sg (fun o sg1 => o = .returned none ∧ (MR G mX5_judge 8 6 [(0, .ref m), (1, .int 0)] [] m sg1 Q))) : MR G mX5_judge 8 0 [(0, .ref m)] [] m sg Q := by
  refine MR_aload_n dX5_judge_0 0 rfl ?_
  refine MR_invVv (Mc := mX5_asNamed) (As := []) (st := []) dX5_judge_1 q1578 q1580 qs69 q111 wX5_asNamed pX5_asNamed rfl (Nat.le_of_ble_eq_true rfl) (by decide) (by decide) (Nat.le_of_ble_eq_true rfl) w (fun sg1 w => ?_)
  refine MR_iconst (v := 0) dX5_judge_4 (by decide) ?_
  refine MR_istore_n (lv' := [(1, .int 0), (0, .ref m)]) dX5_judge_5 rfl (by decide) rfl ?_
  exact MR_sub [1, 0] rfl w
theorem sX5_judge_6 {G : GG} {m : Nat} {sg : MS} {Q : Outcome → MS → Prop} {a1 : Int32} (w : ((sg.1 1 0) ≤ a1 → (Q (.returned (some (.int (-2)))) sg)) ∧ (¬ (sg.1 1 0) ≤ a1 → (MR G mX5_personAt 3 0 [(0, .ref m), (1, .int a1)] [] m sg (fun o sg1 => ∃ r2 : Int32, o = .returned (some (.int r2)) ∧ (vp_in r2 12 ∧ ((0 ≤ (sg1.1 4 r2.toNatClampNeg) → (vp_in r2 12 ∧ (MR G mX5_findKnown 3 0 [(0, .ref m), (1, .int (sg1.1 2 r2.toNatClampNeg)), (2, .int 0)] [] m sg1 (fun o sg3 => o = .returned none ∧ (vp_in r2 12 ∧ (vp_in r2 12 ∧ (MR G mX5_aheadOf 2 0 [(0, .ref m), (1, .int r2)] [] m sg3 (fun o sg4 => ∃ r5 : Int32, o = .returned (some (.int r5)) ∧ (MR G mX5_isHeld 7 0 [(0, .ref m), (1, .int (sg3.1 4 r2.toNatClampNeg)), (2, .int (sg3.1 2 r2.toNatClampNeg)), (3, .int r5)] [] m sg4 (fun o sg6 => ∃ b7 : Bool, o = .returned (some (.int (bi b7))) ∧ ((b7 = false → (MR G mX5_judge 8 6 [(0, .ref m), (1, .int (a1 + 1))] [] m sg6 Q)) ∧ (b7 = true → (Q (.returned (some (.int r2))) sg6))))))))))))) ∧ (¬ 0 ≤ (sg1.1 4 r2.toNatClampNeg) → (MR G mX5_judge 8 6 [(0, .ref m), (1, .int (a1 + 1))] [] m sg1 Q)))))))) : MR G mX5_judge 8 6 [(0, .ref m), (1, .int a1)] [] m sg Q := by
  refine MR_iload_n dX5_judge_6 1 rfl ?_
  refine MR_aload_n dX5_judge_7 0 rfl ?_
  refine MR_getS (k := 1) dX5_judge_8 q1265 (by decide) rfl rfl ?_
  refine MR_icmp_ge (tgt := 75) dX5_judge_11 (by decide) (fun c14 => ?_) (fun c14 => ?_)
  · have w := w.1 c14
    refine MR_bipush (v := (-2)) dX5_judge_75 (by decide) ?_
    exact MR_iret dX5_judge_77 rfl w
  · have w := w.2 c14
    refine MR_aload_n dX5_judge_14 0 rfl ?_
    refine MR_iload_n dX5_judge_15 1 rfl ?_
    refine MR_invVi (Mc := mX5_personAt) (As := [.int a1]) (st := []) dX5_judge_16 q1640 q1642 qs80 q111 wX5_personAt pX5_personAt rfl (Nat.le_of_ble_eq_true rfl) (by decide) (by decide) (Nat.le_of_ble_eq_true rfl) w (fun r2 sg1 w => ?_)
    refine MR_istore_n (lv' := [(2, .int r2), (0, .ref m), (1, .int a1)]) dX5_judge_19 rfl (by decide) rfl ?_
    refine MR_aload_n dX5_judge_20 1 rfl ?_
    refine MR_getA (k := 4) (o := 3) (j := 0) (n := 12) dX5_judge_21 q1268 (by decide) rfl rfl ?_
    refine MR_iload_n dX5_judge_24 0 rfl ?_
    obtain ⟨c13, w⟩ := w
    refine MR_iald (k := 4) dX5_judge_25 (by decide) rfl c13 ?_
    refine MR_if_ge (tgt := 32) dX5_judge_26 (by decide) (fun c12 => ?_) (fun c12 => ?_)
    · have w := w.1 c12
      refine MR_aload_n dX5_judge_32 1 rfl ?_
      refine MR_aload_n dX5_judge_33 1 rfl ?_
      refine MR_getA (k := 2) (o := 1) (j := 0) (n := 12) dX5_judge_34 q1266 (by decide) rfl rfl ?_
      refine MR_iload_n dX5_judge_37 0 rfl ?_
      obtain ⟨c11, w⟩ := w
      refine MR_iald (k := 2) dX5_judge_38 (by decide) rfl c11 ?_
      refine MR_iconst (v := 0) dX5_judge_39 (by decide) ?_
      refine MR_invVv (Mc := mX5_findKnown) (As := [.int (sg1.1 2 r2.toNatClampNeg), .int 0]) (st := []) dX5_judge_40 q1570 q1572 qs68 q111 wX5_findKnown pX5_findKnown rfl (Nat.le_of_ble_eq_true rfl) (by decide) (by decide) (Nat.le_of_ble_eq_true rfl) w (fun sg3 w => ?_)
      refine MR_aload_n dX5_judge_43 1 rfl ?_
      refine MR_aload_n dX5_judge_44 1 rfl ?_
      refine MR_getA (k := 4) (o := 3) (j := 0) (n := 12) dX5_judge_45 q1268 (by decide) rfl rfl ?_
      refine MR_iload_n dX5_judge_48 0 rfl ?_
      obtain ⟨c10, w⟩ := w
      refine MR_iald (k := 4) dX5_judge_49 (by decide) rfl c10 ?_
      refine MR_aload_n dX5_judge_50 1 rfl ?_
      refine MR_getA (k := 2) (o := 1) (j := 0) (n := 12) dX5_judge_51 q1266 (by decide) rfl rfl ?_
      refine MR_iload_n dX5_judge_54 0 rfl ?_
      obtain ⟨c9, w⟩ := w
      refine MR_iald (k := 2) dX5_judge_55 (by decide) rfl c9 ?_
      refine MR_aload_n dX5_judge_56 1 rfl ?_
      refine MR_iload_n dX5_judge_57 0 rfl ?_
      refine MR_invVi (Mc := mX5_aheadOf) (As := [.int r2]) (st := [.int (sg3.1 2 r2.toNatClampNeg), .int (sg3.1 4 r2.toNatClampNeg), .ref m]) dX5_judge_58 q1644 q1646 qs81 q111 wX5_aheadOf pX5_aheadOf rfl (Nat.le_of_ble_eq_true rfl) (by decide) (by decide) (Nat.le_of_ble_eq_true rfl) w (fun r5 sg4 w => ?_)
      refine MR_invVz (Mc := mX5_isHeld) (As := [.int (sg3.1 4 r2.toNatClampNeg), .int (sg3.1 2 r2.toNatClampNeg), .int r5]) (st := []) dX5_judge_61 q1586 q1588 qs71 q111 wX5_isHeld pX5_isHeld rfl (Nat.le_of_ble_eq_true rfl) (by decide) (by decide) (Nat.le_of_ble_eq_true rfl) w (fun b7 sg6 w => ?_)
      refine MR_ifz_eq (tgt := 69) dX5_judge_64 (by decide) (fun c8 => ?_) (fun c8 => ?_)
      · have w := w.1 c8
        refine MR_iinc (v := (a1 + 1)) (lv' := [(1, .int (a1 + 1)), (2, .int r2), (0, .ref m)]) dX5_judge_69 2 rfl (congrArg (fun z => a1 + z) (show Int32.ofInt 1 = 1 by decide)) (by decide) rfl ?_
        refine MR_goto (tgt := 6) dX5_judge_72 (by decide) ?_
        exact MR_sub [2, 0] rfl w
      · have w := w.2 c8
        refine MR_iload_n dX5_judge_67 0 rfl ?_
        exact MR_iret dX5_judge_68 rfl w
    · have w := w.2 c12
      refine MR_goto (tgt := 69) dX5_judge_29 (by decide) ?_
      refine MR_iinc (v := (a1 + 1)) (lv' := [(1, .int (a1 + 1)), (2, .int r2), (0, .ref m)]) dX5_judge_69 2 rfl (congrArg (fun z => a1 + z) (show Int32.ofInt 1 = 1 by decide)) (by decide) rfl ?_
      refine MR_goto (tgt := 6) dX5_judge_72 (by decide) ?_
      exact MR_sub [2, 0] rfl w
theorem sX5_keep_0 {G : GG} {m : Nat} {sg : MS} {Q : Outcome → MS → Prop} {a1 a2 : Int32} (w : MR G mX5_isShelf 2 0 [(0, .int a1)] [] m sg (fun o sg1 => ∃ b2 : Bool, o = .returned (some (.int (bi b2))) ∧ ((b2 = false → (Q (.returned (some (.int (-1)))) sg1)) ∧ (b2 = true → ((a2 = (-1) → (vp_in a1 6 ∧ (Q (.returned (some (.int 1))) (uS sg1 43 a1.toNatClampNeg a2)))) ∧ (¬ a2 = (-1) → (MR G mX5_isBody 2 0 [(0, .ref m), (1, .int a2)] [] m sg1 (fun o sg4 => ∃ b5 : Bool, o = .returned (some (.int (bi b5))) ∧ ((b5 = true → (vp_in a1 6 ∧ (Q (.returned (some (.int 1))) (uS sg4 43 a1.toNatClampNeg a2)))) ∧ (b5 = false → (Q (.returned (some (.int (-1)))) sg4))))))))))) : MR G mX5_keep 3 0 [(0, .ref m), (1, .int a1), (2, .int a2)] [] m sg Q := by
  refine MR_iload_n dX5_keep_0 1 rfl ?_
  refine MR_invSz (Mc := mX5_isShelf) (As := [.int a1]) (st := []) dX5_keep_1 q1427 q1428 q111 wX5_isShelf pX5_isShelf rfl (Nat.le_of_ble_eq_true rfl) (by decide) (by decide) (Nat.le_of_ble_eq_true rfl) w (fun b2 sg1 w => ?_)
  refine MR_ifz_eq (tgt := 20) dX5_keep_4 (by decide) (fun c9 => ?_) (fun c9 => ?_)
  · have w := w.1 c9
    refine MR_iconst (v := (-1)) dX5_keep_20 (by decide) ?_
    exact MR_iret dX5_keep_21 rfl w
  · have w := w.2 c9
    refine MR_iload_n dX5_keep_7 2 rfl ?_
    refine MR_iconst (v := (-1)) dX5_keep_8 (by decide) ?_
    refine MR_icmp_eq (tgt := 22) dX5_keep_9 (by decide) (fun c8 => ?_) (fun c8 => ?_)
    · have w := w.1 c8
      refine MR_aload_n dX5_keep_22 0 rfl ?_
      refine MR_getA (k := 43) (o := 28) (j := 0) (n := 6) dX5_keep_23 q1307 (by decide) rfl rfl ?_
      refine MR_iload_n dX5_keep_26 1 rfl ?_
      refine MR_iload_n dX5_keep_27 2 rfl ?_
      obtain ⟨c3, w⟩ := w
      refine MR_iast (k := 43) dX5_keep_28 (by decide) rfl c3 ?_
      refine MR_iconst (v := 1) dX5_keep_29 (by decide) ?_
      exact MR_iret dX5_keep_30 rfl w
    · have w := w.2 c8
      refine MR_aload_n dX5_keep_12 0 rfl ?_
      refine MR_iload_n dX5_keep_13 2 rfl ?_
      refine MR_invVz (Mc := mX5_isBody) (As := [.int a2]) (st := []) dX5_keep_14 q1717 q1719 qs87 q111 wX5_isBody pX5_isBody rfl (Nat.le_of_ble_eq_true rfl) (by decide) (by decide) (Nat.le_of_ble_eq_true rfl) w (fun b5 sg4 w => ?_)
      refine MR_ifz_ne (tgt := 22) dX5_keep_17 (by decide) (fun c7 => ?_) (fun c7 => ?_)
      · have w := w.1 c7
        refine MR_aload_n dX5_keep_22 0 rfl ?_
        refine MR_getA (k := 43) (o := 28) (j := 0) (n := 6) dX5_keep_23 q1307 (by decide) rfl rfl ?_
        refine MR_iload_n dX5_keep_26 1 rfl ?_
        refine MR_iload_n dX5_keep_27 2 rfl ?_
        obtain ⟨c6, w⟩ := w
        refine MR_iast (k := 43) dX5_keep_28 (by decide) rfl c6 ?_
        refine MR_iconst (v := 1) dX5_keep_29 (by decide) ?_
        exact MR_iret dX5_keep_30 rfl w
      · have w := w.2 c7
        refine MR_iconst (v := (-1)) dX5_keep_20 (by decide) ?_
        exact MR_iret dX5_keep_21 rfl w
theorem sX5_knowing_0 {G : GG} {m : Nat} {sg : MS} {Q : Outcome → MS → Prop} {a1 a2 : Int32} (w : vp_in a1 50 ∧ ((¬ (sg.1 40 a1.toNatClampNeg) = 5 → (vp_in a1 50 ∧ ((¬ (sg.1 40 a1.toNatClampNeg) = 3 → (MR G mX5_plainKnows 2 0 [(0, .ref m), (1, .int a1), (2, .int a2)] [] m sg (fun o sg1 => ∃ r2 : Int32, o = .returned (some (.int r2)) ∧ (Q (.returned (some (.int r2))) sg1)))) ∧ ((sg.1 40 a1.toNatClampNeg) = 3 → (MR G mX5_wishKnows 3 0 [(0, .ref m), (1, .int a1), (2, .int a2)] [] m sg (fun o sg3 => ∃ r4 : Int32, o = .returned (some (.int r4)) ∧ (Q (.returned (some (.int r4))) sg3))))))) ∧ ((sg.1 40 a1.toNatClampNeg) = 5 → (MR G mX5_ran 1 0 [(0, .ref m), (1, .int 60)] [] m sg (fun o sg7 => o = .returned none ∧ (MR G mX5_wishKnows 3 0 [(0, .ref m), (1, .int a1), (2, .int a2)] [] m sg7 (fun o sg8 => ∃ r9 : Int32, o = .returned (some (.int r9)) ∧ (MR G mX5_giving 4 0 [(0, .ref m), (1, .int a1), (2, .int 2)] [] m sg8 (fun o sg10 => ∃ r11 : Int32, o = .returned (some (.int r11)) ∧ (Q (.returned (some (.int (r9 - r11)))) sg10)))))))))) : MR G mX5_knowing 5 0 [(0, .ref m), (1, .int a1), (2, .int a2)] [] m sg Q := by
  refine MR_aload_n dX5_knowing_0 0 rfl ?_
  refine MR_getA (k := 40) (o := 26) (j := 0) (n := 50) dX5_knowing_1 q1304 (by decide) rfl rfl ?_
  refine MR_iload_n dX5_knowing_4 1 rfl ?_
  obtain ⟨c13, w⟩ := w
  refine MR_iald (k := 40) dX5_knowing_5 (by decide) rfl c13 ?_
  refine MR_iconst (v := 5) dX5_knowing_6 (by decide) ?_
  refine MR_icmp_ne (tgt := 32) dX5_knowing_7 (by decide) (fun c12 => ?_) (fun c12 => ?_)
  · have w := w.1 c12
    refine MR_aload_n dX5_knowing_32 0 rfl ?_
    refine MR_getA (k := 40) (o := 26) (j := 0) (n := 50) dX5_knowing_33 q1304 (by decide) rfl rfl ?_
    refine MR_iload_n dX5_knowing_36 1 rfl ?_
    obtain ⟨c6, w⟩ := w
    refine MR_iald (k := 40) dX5_knowing_37 (by decide) rfl c6 ?_
    refine MR_iconst (v := 3) dX5_knowing_38 (by decide) ?_
    refine MR_icmp_ne (tgt := 51) dX5_knowing_39 (by decide) (fun c5 => ?_) (fun c5 => ?_)
    · have w := w.1 c5
      refine MR_aload_n dX5_knowing_51 0 rfl ?_
      refine MR_iload_n dX5_knowing_52 1 rfl ?_
      refine MR_iload_n dX5_knowing_53 2 rfl ?_
      refine MR_invVi (Mc := mX5_plainKnows) (As := [.int a1, .int a2]) (st := []) dX5_knowing_54 q1760 q1762 qs97 q111 wX5_plainKnows pX5_plainKnows rfl (Nat.le_of_ble_eq_true rfl) (by decide) (by decide) (Nat.le_of_ble_eq_true rfl) w (fun r2 sg1 w => ?_)
      exact MR_iret dX5_knowing_57 rfl w
    · have w := w.2 c5
      refine MR_aload_n dX5_knowing_42 0 rfl ?_
      refine MR_iload_n dX5_knowing_43 1 rfl ?_
      refine MR_iload_n dX5_knowing_44 2 rfl ?_
      refine MR_invVi (Mc := mX5_wishKnows) (As := [.int a1, .int a2]) (st := []) dX5_knowing_45 q1756 q1758 qs96 q111 wX5_wishKnows pX5_wishKnows rfl (Nat.le_of_ble_eq_true rfl) (by decide) (by decide) (Nat.le_of_ble_eq_true rfl) w (fun r4 sg3 w => ?_)
      refine MR_goto (tgt := 57) dX5_knowing_48 (by decide) ?_
      exact MR_iret dX5_knowing_57 rfl w
  · have w := w.2 c12
    refine MR_aload_n dX5_knowing_10 0 rfl ?_
    refine MR_bipush (v := 60) dX5_knowing_11 (by decide) ?_
    refine MR_invVv (Mc := mX5_ran) (As := [.int 60]) (st := []) dX5_knowing_13 q1728 q1730 qs89 q111 wX5_ran pX5_ran rfl (Nat.le_of_ble_eq_true rfl) (by decide) (by decide) (Nat.le_of_ble_eq_true rfl) w (fun sg7 w => ?_)
    refine MR_aload_n dX5_knowing_16 0 rfl ?_
    refine MR_iload_n dX5_knowing_17 1 rfl ?_
    refine MR_iload_n dX5_knowing_18 2 rfl ?_
    refine MR_invVi (Mc := mX5_wishKnows) (As := [.int a1, .int a2]) (st := []) dX5_knowing_19 q1756 q1758 qs96 q111 wX5_wishKnows pX5_wishKnows rfl (Nat.le_of_ble_eq_true rfl) (by decide) (by decide) (Nat.le_of_ble_eq_true rfl) w (fun r9 sg8 w => ?_)
    refine MR_istore_n (lv' := [(3, .int r9), (0, .ref m), (1, .int a1), (2, .int a2)]) dX5_knowing_22 rfl (by decide) rfl ?_
    refine MR_iload_n dX5_knowing_23 0 rfl ?_
    refine MR_aload_n dX5_knowing_24 1 rfl ?_
    refine MR_iload_n dX5_knowing_25 2 rfl ?_
    refine MR_iconst (v := 2) dX5_knowing_26 (by decide) ?_
    refine MR_invVi (Mc := mX5_giving) (As := [.int a1, .int 2]) (st := [.int r9]) dX5_knowing_27 q1721 q1723 qs88 q111 wX5_giving pX5_giving rfl (Nat.le_of_ble_eq_true rfl) (by decide) (by decide) (Nat.le_of_ble_eq_true rfl) w (fun r11 sg10 w => ?_)
    refine MR_isub dX5_knowing_30 ?_
    exact MR_iret dX5_knowing_31 rfl w
theorem sX5_knows_0 {G : GG} {m : Nat} {sg : MS} {Q : Outcome → MS → Prop} {a1 a2 : Int32} (w : MR G mX5_isPerson 2 0 [(0, .ref m), (1, .int a1)] [] m sg (fun o sg1 => ∃ b2 : Bool, o = .returned (some (.int (bi b2))) ∧ ((b2 = false → (Q (.returned (some (.int (-1)))) sg1)) ∧ (b2 = true → (MR G mX5_isYear 2 0 [(0, .int a2)] [] m sg1 (fun o sg3 => ∃ b4 : Bool, o = .returned (some (.int (bi b4))) ∧ ((b4 = true → (MR G mX5_findKnown 3 0 [(0, .ref m), (1, .int a2), (2, .int 0)] [] m sg3 (fun o sg5 => o = .returned none ∧ (vp_in a1 12 ∧ (Q (.returned (some (.int (sg5.1 32 a1.toNatClampNeg)))) sg5))))) ∧ (b4 = false → (Q (.returned (some (.int (-1)))) sg3))))))))) : MR G mX5_knows 4 0 [(0, .ref m), (1, .int a1), (2, .int a2)] [] m sg Q := by
  refine MR_aload_n dX5_knows_0 0 rfl ?_
  refine MR_iload_n dX5_knows_1 1 rfl ?_
  refine MR_invVz (Mc := mX5_isPerson) (As := [.int a1]) (st := []) dX5_knows_2 q1435 q1437 qs46 q111 wX5_isPerson pX5_isPerson rfl (Nat.le_of_ble_eq_true rfl) (by decide) (by decide) (Nat.le_of_ble_eq_true rfl) w (fun b2 sg1 w => ?_)
  refine MR_ifz_eq (tgt := 15) dX5_knows_5 (by decide) (fun c8 => ?_) (fun c8 => ?_)
  · have w := w.1 c8
    refine MR_iconst (v := (-1)) dX5_knows_15 (by decide) ?_
    exact MR_iret dX5_knows_16 rfl w
  · have w := w.2 c8
    refine MR_iload_n dX5_knows_8 2 rfl ?_
    refine MR_invSz (Mc := mX5_isYear) (As := [.int a2]) (st := []) dX5_knows_9 q1413 q1414 q111 wX5_isYear pX5_isYear rfl (Nat.le_of_ble_eq_true rfl) (by decide) (by decide) (Nat.le_of_ble_eq_true rfl) w (fun b4 sg3 w => ?_)
    refine MR_ifz_ne (tgt := 17) dX5_knows_12 (by decide) (fun c7 => ?_) (fun c7 => ?_)
    · have w := w.1 c7
      refine MR_aload_n dX5_knows_17 0 rfl ?_
      refine MR_iload_n dX5_knows_18 2 rfl ?_
      refine MR_iconst (v := 0) dX5_knows_19 (by decide) ?_
      refine MR_invVv (Mc := mX5_findKnown) (As := [.int a2, .int 0]) (st := []) dX5_knows_20 q1570 q1572 qs68 q111 wX5_findKnown pX5_findKnown rfl (Nat.le_of_ble_eq_true rfl) (by decide) (by decide) (Nat.le_of_ble_eq_true rfl) w (fun sg5 w => ?_)
      refine MR_aload_n dX5_knows_23 0 rfl ?_
      refine MR_getA (k := 32) (o := 21) (j := 0) (n := 12) dX5_knows_24 q1296 (by decide) rfl rfl ?_
      refine MR_iload_n dX5_knows_27 1 rfl ?_
      obtain ⟨c6, w⟩ := w
      refine MR_iald (k := 32) dX5_knows_28 (by decide) rfl c6 ?_
      exact MR_iret dX5_knows_29 rfl w
    · have w := w.2 c7
      refine MR_iconst (v := (-1)) dX5_knows_15 (by decide) ?_
      exact MR_iret dX5_knows_16 rfl w
theorem sX5_latestHeld_0 {G : GG} {m : Nat} {sg : MS} {Q : Outcome → MS → Prop} {a1 a2 a3 : Int32} (w : MR G mX5_latestHeld 8 5 [(0, .ref m), (1, .int a1), (3, .int a3), (4, .int (a2 - 1))] [] m sg Q) : MR G mX5_latestHeld 8 0 [(0, .ref m), (1, .int a1), (2, .int a2), (3, .int a3)] [] m sg Q := by
  refine MR_iload_n dX5_latestHeld_0 2 rfl ?_
  refine MR_iconst (v := 1) dX5_latestHeld_1 (by decide) ?_
  refine MR_isub dX5_latestHeld_2 ?_
  refine MR_istore (lv' := [(4, .int (a2 - 1)), (0, .ref m), (1, .int a1), (2, .int a2), (3, .int a3)]) dX5_latestHeld_3 (by decide) rfl ?_
  exact MR_sub [1, 2, 4, 0] rfl w
theorem sX5_latestHeld_5 {G : GG} {m : Nat} {sg : MS} {Q : Outcome → MS → Prop} {a1 a3 a4 : Int32} (w : (a4 < 0 → (Q (.returned (some (.int (-1)))) sg)) ∧ (¬ a4 < 0 → (MR G mX5_findKnown 3 0 [(0, .ref m), (1, .int a4), (2, .int 0)] [] m sg (fun o sg1 => o = .returned none ∧ (MR G mX5_isHeld 7 0 [(0, .ref m), (1, .int a1), (2, .int a4), (3, .int a3)] [] m sg1 (fun o sg2 => ∃ b3 : Bool, o = .returned (some (.int (bi b3))) ∧ ((b3 = false → (MR G mX5_latestHeld 8 5 [(0, .ref m), (1, .int a1), (3, .int a3), (4, .int (a4 + (-1)))] [] m sg2 Q)) ∧ (b3 = true → (Q (.returned (some (.int a4))) sg2))))))))) : MR G mX5_latestHeld 8 5 [(0, .ref m), (1, .int a1), (3, .int a3), (4, .int a4)] [] m sg Q := by
  refine MR_iload dX5_latestHeld_5 3 rfl ?_
  refine MR_if_lt (tgt := 37) dX5_latestHeld_7 (by decide) (fun c5 => ?_) (fun c5 => ?_)
  · have w := w.1 c5
    refine MR_iconst (v := (-1)) dX5_latestHeld_37 (by decide) ?_
    exact MR_iret dX5_latestHeld_38 rfl w
  · have w := w.2 c5
    refine MR_aload_n dX5_latestHeld_10 0 rfl ?_
    refine MR_iload dX5_latestHeld_11 3 rfl ?_
    refine MR_iconst (v := 0) dX5_latestHeld_13 (by decide) ?_
    refine MR_invVv (Mc := mX5_findKnown) (As := [.int a4, .int 0]) (st := []) dX5_latestHeld_14 q1570 q1572 qs68 q111 wX5_findKnown pX5_findKnown rfl (Nat.le_of_ble_eq_true rfl) (by decide) (by decide) (Nat.le_of_ble_eq_true rfl) w (fun sg1 w => ?_)
    refine MR_aload_n dX5_latestHeld_17 0 rfl ?_
    refine MR_iload_n dX5_latestHeld_18 1 rfl ?_
    refine MR_iload dX5_latestHeld_19 3 rfl ?_
    refine MR_iload_n dX5_latestHeld_21 2 rfl ?_
    refine MR_invVz (Mc := mX5_isHeld) (As := [.int a1, .int a4, .int a3]) (st := []) dX5_latestHeld_22 q1586 q1588 qs71 q111 wX5_isHeld pX5_isHeld rfl (Nat.le_of_ble_eq_true rfl) (by decide) (by decide) (Nat.le_of_ble_eq_true rfl) w (fun b3 sg2 w => ?_)
    refine MR_ifz_eq (tgt := 31) dX5_latestHeld_25 (by decide) (fun c4 => ?_) (fun c4 => ?_)
    · have w := w.1 c4
      refine MR_iinc (v := (a4 + (-1))) (lv' := [(4, .int (a4 + (-1))), (0, .ref m), (1, .int a1), (3, .int a3)]) dX5_latestHeld_31 3 rfl (congrArg (fun z => a4 + z) (show Int32.ofInt (-1) = (-1) by decide)) (by decide) rfl ?_
      refine MR_goto (tgt := 5) dX5_latestHeld_34 (by decide) ?_
      exact MR_sub [1, 2, 3, 0] rfl w
    · have w := w.2 c4
      refine MR_iload dX5_latestHeld_28 3 rfl ?_
      exact MR_iret dX5_latestHeld_30 rfl w
theorem sX5_law_0 {G : GG} {m : Nat} {sg : MS} {Q : Outcome → MS → Prop} (w : MR G mX5_readText 402 0 [(0, .ref m), (1, .int 0)] [] m sg (fun o sg1 => ∃ r2 : Int32, o = .returned (some (.int r2)) ∧ ((r2 < 0 → (Q (.returned (some (.int 1))) (uS sg1 31 0 1))) ∧ (¬ r2 < 0 → (Q (.returned (some (.int ((-100) - r2)))) sg1))))) : MR G mX5_law 403 0 [(0, .ref m)] [] m sg Q := by
  refine MR_aload_n dX5_law_0 0 rfl ?_
  refine MR_iconst (v := 0) dX5_law_1 (by decide) ?_
  refine MR_invVi (Mc := mX5_readText) (As := [.int 0]) (st := []) dX5_law_2 q1511 q1513 qs55 q111 wX5_readText pX5_readText rfl (Nat.le_of_ble_eq_true rfl) (by decide) (by decide) (Nat.le_of_ble_eq_true rfl) w (fun r2 sg1 w => ?_)
  refine MR_istore_n (lv' := [(1, .int r2), (0, .ref m)]) dX5_law_5 rfl (by decide) rfl ?_
  refine MR_iload_n dX5_law_6 0 rfl ?_
  refine MR_if_lt (tgt := 15) dX5_law_7 (by decide) (fun c3 => ?_) (fun c3 => ?_)
  · have w := w.1 c3
    refine MR_aload_n dX5_law_15 1 rfl ?_
    refine MR_iconst (v := 1) dX5_law_16 (by decide) ?_
    refine MR_putS (k := 31) dX5_law_17 q1295 (by decide) rfl rfl rfl rfl rfl ?_
    refine MR_iconst (v := 1) dX5_law_20 (by decide) ?_
    exact MR_iret dX5_law_21 rfl w
  · have w := w.2 c3
    refine MR_bipush (v := (-100)) dX5_law_10 (by decide) ?_
    refine MR_iload_n dX5_law_12 0 rfl ?_
    refine MR_isub dX5_law_13 ?_
    exact MR_iret dX5_law_14 rfl w
theorem sX5_lays_0 {G : GG} {m : Nat} {sg : MS} {Q : Outcome → MS → Prop} {a1 a2 a3 : Int32} (w : (¬ a1 = 0 → (vp_in a2 12 ∧ (Q (.returned none) (uS sg 10 a2.toNatClampNeg a3)))) ∧ (a1 = 0 → (vp_in a2 12 ∧ (Q (.returned none) (uS sg 3 a2.toNatClampNeg a3))))) : MR G mX5_lays 1 0 [(0, .ref m), (1, .int a1), (2, .int a2), (3, .int a3)] [] m sg Q := by
  refine MR_iload_n dX5_lays_0 1 rfl ?_
  refine MR_if_ne (tgt := 14) dX5_lays_1 (by decide) (fun c3 => ?_) (fun c3 => ?_)
  · have w := w.1 c3
    refine MR_aload_n dX5_lays_14 0 rfl ?_
    refine MR_getA (k := 10) (o := 7) (j := 0) (n := 12) dX5_lays_15 q1274 (by decide) rfl rfl ?_
    refine MR_iload_n dX5_lays_18 2 rfl ?_
    refine MR_iload_n dX5_lays_19 3 rfl ?_
    obtain ⟨c1, w⟩ := w
    refine MR_iast (k := 10) dX5_lays_20 (by decide) rfl c1 ?_
    exact MR_vret dX5_lays_21 rfl w
  · have w := w.2 c3
    refine MR_aload_n dX5_lays_4 0 rfl ?_
    refine MR_getA (k := 3) (o := 2) (j := 0) (n := 12) dX5_lays_5 q1267 (by decide) rfl rfl ?_
    refine MR_iload_n dX5_lays_8 2 rfl ?_
    refine MR_iload_n dX5_lays_9 3 rfl ?_
    obtain ⟨c2, w⟩ := w
    refine MR_iast (k := 3) dX5_lays_10 (by decide) rfl c2 ?_
    refine MR_goto (tgt := 21) dX5_lays_11 (by decide) ?_
    exact MR_vret dX5_lays_21 rfl w
theorem sX5_line_0 {G : GG} {m : Nat} {sg : MS} {Q : Outcome → MS → Prop} (w : vp_in 1 2 ∧ (vp_in (61 + (sg.1 26 (1 : Int32).toNatClampNeg)) 122 ∧ (MR G mX5_either 400 0 [(0, .ref m)] [] m (uS sg 27 (61 + (sg.1 26 (1 : Int32).toNatClampNeg)).toNatClampNeg ((sg.1 23 0).toInt16.toInt32)) (fun o sg1 => o = .returned none ∧ ((0 ≤ (sg1.1 21 0) → (vp_in (61 + (sg.1 26 (1 : Int32).toNatClampNeg)) 122 ∧ (vp_in 1 2 ∧ (vp_in 1 2 ∧ (Q (.returned none) (uS (uS sg1 28 (61 + (sg.1 26 (1 : Int32).toNatClampNeg)).toNatClampNeg ((sg1.1 23 0).toInt16.toInt32)) 26 (1 : Int32).toNatClampNeg (((uS sg1 28 (61 + (sg.1 26 (1 : Int32).toNatClampNeg)).toNatClampNeg ((sg1.1 23 0).toInt16.toInt32)).1 26 (1 : Int32).toNatClampNeg) + 1))))))) ∧ (¬ 0 ≤ (sg1.1 21 0) → (MR G mX5_look 1 0 [(0, .ref m)] [] m sg1 (fun o sg5 => ∃ r6 : Int32, o = .returned (some (.int r6)) ∧ ((¬ r6 = 63 → (vp_in (61 + (sg.1 26 (1 : Int32).toNatClampNeg)) 122 ∧ (vp_in 1 2 ∧ (vp_in 1 2 ∧ (Q (.returned none) (uS (uS sg5 28 (61 + (sg.1 26 (1 : Int32).toNatClampNeg)).toNatClampNeg ((sg5.1 23 0).toInt16.toInt32)) 26 (1 : Int32).toNatClampNeg (((uS sg5 28 (61 + (sg.1 26 (1 : Int32).toNatClampNeg)).toNatClampNeg ((sg5.1 23 0).toInt16.toInt32)).1 26 (1 : Int32).toNatClampNeg) + 1))))))) ∧ (r6 = 63 → (vp_in (61 + (sg.1 26 (1 : Int32).toNatClampNeg)) 122 ∧ (MR G mX5_either 400 0 [(0, .ref m)] [] m (uS (uS sg5 20 0 ((sg5.1 20 0) + 1)) 27 (61 + (sg.1 26 (1 : Int32).toNatClampNeg)).toNatClampNeg (((uS sg5 20 0 ((sg5.1 20 0) + 1)).1 23 0).toInt16.toInt32)) (fun o sg10 => o = .returned none ∧ (vp_in (61 + (sg.1 26 (1 : Int32).toNatClampNeg)) 122 ∧ (vp_in 1 2 ∧ (vp_in 1 2 ∧ (Q (.returned none) (uS (uS sg10 28 (61 + (sg.1 26 (1 : Int32).toNatClampNeg)).toNatClampNeg ((sg10.1 23 0).toInt16.toInt32)) 26 (1 : Int32).toNatClampNeg (((uS sg10 28 (61 + (sg.1 26 (1 : Int32).toNatClampNeg)).toNatClampNeg ((sg10.1 23 0).toInt16.toInt32)).1 26 (1 : Int32).toNatClampNeg) + 1))))))))))))))))))) : MR G mX5_line 401 0 [(0, .ref m)] [] m sg Q := by
  refine MR_bipush (v := 61) dX5_line_0 (by decide) ?_
  refine MR_aload_n dX5_line_2 0 rfl ?_
  refine MR_getA (k := 26) (o := 16) (j := 0) (n := 2) dX5_line_3 q1290 (by decide) rfl rfl ?_
  refine MR_iconst (v := 1) dX5_line_6 (by decide) ?_
  obtain ⟨c18, w⟩ := w
  refine MR_iald (k := 26) dX5_line_7 (by decide) rfl c18 ?_
  refine MR_iadd dX5_line_8 ?_
  refine MR_istore_n (lv' := [(1, .int (61 + (sg.1 26 (1 : Int32).toNatClampNeg))), (0, .ref m)]) dX5_line_9 rfl (by decide) rfl ?_
  refine MR_aload_n dX5_line_10 1 rfl ?_
  refine MR_getA (k := 27) (o := 17) (j := 3) (n := 122) dX5_line_11 q1291 (by decide) rfl rfl ?_
  refine MR_iload_n dX5_line_14 0 rfl ?_
  refine MR_aload_n dX5_line_15 1 rfl ?_
  refine MR_getS (k := 23) dX5_line_16 q1287 (by decide) rfl rfl ?_
  refine MR_i2s dX5_line_19 ?_
  obtain ⟨c17, w⟩ := w
  refine MR_sast (k := 27) dX5_line_20 (by decide) rfl c17 (pk_vs _) ?_
  refine MR_aload_n dX5_line_21 1 rfl ?_
  refine MR_invVv (Mc := mX5_either) (As := []) (st := []) dX5_line_22 q1519 q1521 qs57 q111 wX5_either pX5_either rfl (Nat.le_of_ble_eq_true rfl) (by decide) (by decide) (Nat.le_of_ble_eq_true rfl) w (fun sg1 w => ?_)
  refine MR_aload_n dX5_line_25 1 rfl ?_
  refine MR_getS (k := 21) dX5_line_26 q1285 (by decide) rfl rfl ?_
  refine MR_if_ge (tgt := 66) dX5_line_29 (by decide) (fun c16 => ?_) (fun c16 => ?_)
  · have w := w.1 c16
    refine MR_aload_n dX5_line_66 1 rfl ?_
    refine MR_getA (k := 28) (o := 18) (j := 3) (n := 122) dX5_line_67 q1292 (by decide) rfl rfl ?_
    refine MR_iload_n dX5_line_70 0 rfl ?_
    refine MR_aload_n dX5_line_71 1 rfl ?_
    refine MR_getS (k := 23) dX5_line_72 q1287 (by decide) rfl rfl ?_
    refine MR_i2s dX5_line_75 ?_
    obtain ⟨c4, w⟩ := w
    refine MR_sast (k := 28) dX5_line_76 (by decide) rfl c4 (pk_vs _) ?_
    refine MR_aload_n dX5_line_77 1 rfl ?_
    refine MR_getA (k := 26) (o := 16) (j := 0) (n := 2) dX5_line_78 q1290 (by decide) rfl rfl ?_
    refine MR_iconst (v := 1) dX5_line_81 (by decide) ?_
    refine MR_dup2 dX5_line_82 rfl rfl ?_
    obtain ⟨c3, w⟩ := w
    refine MR_iald (k := 26) dX5_line_83 (by decide) rfl c3 ?_
    refine MR_iconst (v := 1) dX5_line_84 (by decide) ?_
    refine MR_iadd dX5_line_85 ?_
    obtain ⟨c2, w⟩ := w
    refine MR_iast (k := 26) dX5_line_86 (by decide) rfl c2 ?_
    exact MR_vret dX5_line_87 rfl w
  · have w := w.2 c16
    refine MR_aload_n dX5_line_32 1 rfl ?_
    refine MR_invVi (Mc := mX5_look) (As := []) (st := []) dX5_line_33 q1543 q1545 qs63 q111 wX5_look pX5_look rfl (Nat.le_of_ble_eq_true rfl) (by decide) (by decide) (Nat.le_of_ble_eq_true rfl) w (fun r6 sg5 w => ?_)
    refine MR_bipush (v := 63) dX5_line_36 (by decide) ?_
    refine MR_icmp_ne (tgt := 66) dX5_line_38 (by decide) (fun c15 => ?_) (fun c15 => ?_)
    · have w := w.1 c15
      refine MR_aload_n dX5_line_66 1 rfl ?_
      refine MR_getA (k := 28) (o := 18) (j := 3) (n := 122) dX5_line_67 q1292 (by decide) rfl rfl ?_
      refine MR_iload_n dX5_line_70 0 rfl ?_
      refine MR_aload_n dX5_line_71 1 rfl ?_
      refine MR_getS (k := 23) dX5_line_72 q1287 (by decide) rfl rfl ?_
      refine MR_i2s dX5_line_75 ?_
      obtain ⟨c9, w⟩ := w
      refine MR_sast (k := 28) dX5_line_76 (by decide) rfl c9 (pk_vs _) ?_
      refine MR_aload_n dX5_line_77 1 rfl ?_
      refine MR_getA (k := 26) (o := 16) (j := 0) (n := 2) dX5_line_78 q1290 (by decide) rfl rfl ?_
      refine MR_iconst (v := 1) dX5_line_81 (by decide) ?_
      refine MR_dup2 dX5_line_82 rfl rfl ?_
      obtain ⟨c8, w⟩ := w
      refine MR_iald (k := 26) dX5_line_83 (by decide) rfl c8 ?_
      refine MR_iconst (v := 1) dX5_line_84 (by decide) ?_
      refine MR_iadd dX5_line_85 ?_
      obtain ⟨c7, w⟩ := w
      refine MR_iast (k := 26) dX5_line_86 (by decide) rfl c7 ?_
      exact MR_vret dX5_line_87 rfl w
    · have w := w.2 c15
      refine MR_aload_n dX5_line_41 1 rfl ?_
      refine MR_dup dX5_line_42 rfl ?_
      refine MR_getS (k := 20) dX5_line_43 q1284 (by decide) rfl rfl ?_
      refine MR_iconst (v := 1) dX5_line_46 (by decide) ?_
      refine MR_iadd dX5_line_47 ?_
      refine MR_putS (k := 20) dX5_line_48 q1284 (by decide) rfl rfl rfl rfl rfl ?_
      refine MR_aload_n dX5_line_51 1 rfl ?_
      refine MR_getA (k := 27) (o := 17) (j := 3) (n := 122) dX5_line_52 q1291 (by decide) rfl rfl ?_
      refine MR_iload_n dX5_line_55 0 rfl ?_
      refine MR_aload_n dX5_line_56 1 rfl ?_
      refine MR_getS (k := 23) dX5_line_57 q1287 (by decide) rfl rfl ?_
      refine MR_i2s dX5_line_60 ?_
      obtain ⟨c14, w⟩ := w
      refine MR_sast (k := 27) dX5_line_61 (by decide) rfl c14 (pk_vs _) ?_
      refine MR_aload_n dX5_line_62 1 rfl ?_
      refine MR_invVv (Mc := mX5_either) (As := []) (st := []) dX5_line_63 q1519 q1521 qs57 q111 wX5_either pX5_either rfl (Nat.le_of_ble_eq_true rfl) (by decide) (by decide) (Nat.le_of_ble_eq_true rfl) w (fun sg10 w => ?_)
      refine MR_aload_n dX5_line_66 1 rfl ?_
      refine MR_getA (k := 28) (o := 18) (j := 3) (n := 122) dX5_line_67 q1292 (by decide) rfl rfl ?_
      refine MR_iload_n dX5_line_70 0 rfl ?_
      refine MR_aload_n dX5_line_71 1 rfl ?_
      refine MR_getS (k := 23) dX5_line_72 q1287 (by decide) rfl rfl ?_
      refine MR_i2s dX5_line_75 ?_
      obtain ⟨c13, w⟩ := w
      refine MR_sast (k := 28) dX5_line_76 (by decide) rfl c13 (pk_vs _) ?_
      refine MR_aload_n dX5_line_77 1 rfl ?_
      refine MR_getA (k := 26) (o := 16) (j := 0) (n := 2) dX5_line_78 q1290 (by decide) rfl rfl ?_
      refine MR_iconst (v := 1) dX5_line_81 (by decide) ?_
      refine MR_dup2 dX5_line_82 rfl rfl ?_
      obtain ⟨c12, w⟩ := w
      refine MR_iald (k := 26) dX5_line_83 (by decide) rfl c12 ?_
      refine MR_iconst (v := 1) dX5_line_84 (by decide) ?_
      refine MR_iadd dX5_line_85 ?_
      obtain ⟨c11, w⟩ := w
      refine MR_iast (k := 26) dX5_line_86 (by decide) rfl c11 ?_
      exact MR_vret dX5_line_87 rfl w
theorem sX5_lives_0 {G : GG} {m : Nat} {sg : MS} {Q : Outcome → MS → Prop} {a1 a2 : Int32} (w : vp_in a1 12 ∧ ((a2 < (sg.1 2 a1.toNatClampNeg) → (Q (.returned (some (.int (bi false)))) sg)) ∧ (¬ a2 < (sg.1 2 a1.toNatClampNeg) → (vp_in a1 12 ∧ (((sg.1 3 a1.toNatClampNeg) ≤ a2 → (Q (.returned (some (.int (bi false)))) sg)) ∧ (¬ (sg.1 3 a1.toNatClampNeg) ≤ a2 → (Q (.returned (some (.int (bi true)))) sg))))))) : MR G mX5_lives 1 0 [(0, .ref m), (1, .int a1), (2, .int a2)] [] m sg Q := by
  refine MR_aload_n dX5_lives_0 0 rfl ?_
  refine MR_getA (k := 2) (o := 1) (j := 0) (n := 12) dX5_lives_1 q1266 (by decide) rfl rfl ?_
  refine MR_iload_n dX5_lives_4 1 rfl ?_
  obtain ⟨c4, w⟩ := w
  refine MR_iald (k := 2) dX5_lives_5 (by decide) rfl c4 ?_
  refine MR_iload_n dX5_lives_6 2 rfl ?_
  refine MR_icmp_gt (tgt := 24) dX5_lives_7 (by decide) (fun c3 => ?_) (fun c3 => ?_)
  · have w := w.1 c3
    refine MR_iconst (v := 0) dX5_lives_24 (by decide) ?_
    exact MR_bret (b := false) dX5_lives_25 rfl w
  · have w := w.2 c3
    refine MR_iload_n dX5_lives_10 2 rfl ?_
    refine MR_aload_n dX5_lives_11 0 rfl ?_
    refine MR_getA (k := 3) (o := 2) (j := 0) (n := 12) dX5_lives_12 q1267 (by decide) rfl rfl ?_
    refine MR_iload_n dX5_lives_15 1 rfl ?_
    obtain ⟨c2, w⟩ := w
    refine MR_iald (k := 3) dX5_lives_16 (by decide) rfl c2 ?_
    refine MR_icmp_ge (tgt := 24) dX5_lives_17 (by decide) (fun c1 => ?_) (fun c1 => ?_)
    · have w := w.1 c1
      refine MR_iconst (v := 0) dX5_lives_24 (by decide) ?_
      exact MR_bret (b := false) dX5_lives_25 rfl w
    · have w := w.2 c1
      refine MR_iconst (v := 1) dX5_lives_20 (by decide) ?_
      refine MR_goto (tgt := 25) dX5_lives_21 (by decide) ?_
      exact MR_bret (b := true) dX5_lives_25 rfl w
theorem sX5_look_0 {G : GG} {m : Nat} {sg : MS} {Q : Outcome → MS → Prop} (w : ((sg.1 19 0) ≤ (sg.1 20 0) → (Q (.returned (some (.int (-1)))) sg)) ∧ (¬ (sg.1 19 0) ≤ (sg.1 20 0) → (vp_in (sg.1 20 0) 120 ∧ (Q (.returned (some (.int (sg.1 18 (sg.1 20 0).toNatClampNeg)))) sg)))) : MR G mX5_look 1 0 [(0, .ref m)] [] m sg Q := by
  refine MR_aload_n dX5_look_0 0 rfl ?_
  refine MR_getS (k := 20) dX5_look_1 q1284 (by decide) rfl rfl ?_
  refine MR_aload_n dX5_look_4 0 rfl ?_
  refine MR_getS (k := 19) dX5_look_5 q1283 (by decide) rfl rfl ?_
  refine MR_icmp_ge (tgt := 23) dX5_look_8 (by decide) (fun c2 => ?_) (fun c2 => ?_)
  · have w := w.1 c2
    refine MR_iconst (v := (-1)) dX5_look_23 (by decide) ?_
    exact MR_iret dX5_look_24 rfl w
  · have w := w.2 c2
    refine MR_aload_n dX5_look_11 0 rfl ?_
    refine MR_getA (k := 18) (o := 13) (j := 2) (n := 120) dX5_look_12 q1282 (by decide) rfl rfl ?_
    refine MR_aload_n dX5_look_15 0 rfl ?_
    refine MR_getS (k := 20) dX5_look_16 q1284 (by decide) rfl rfl ?_
    obtain ⟨c1, w⟩ := w
    refine MR_bald (k := 18) dX5_look_19 (by decide) rfl c1 ?_
    refine MR_goto (tgt := 24) dX5_look_20 (by decide) ?_
    exact MR_iret dX5_look_24 rfl w
theorem sX5_meet_0 {G : GG} {m : Nat} {sg : MS} {Q : Outcome → MS → Prop} {a1 a2 : Int32} (w : (a1 < 0 → (Q (.returned (some (.int (-1)))) sg)) ∧ (¬ a1 < 0 → (MR G mX5_isPerson 2 0 [(0, .ref m), (1, .int (a1 / 100))] [] m sg (fun o sg1 => ∃ b2 : Bool, o = .returned (some (.int (bi b2))) ∧ ((b2 = false → (Q (.returned (some (.int (-1)))) sg1)) ∧ (b2 = true → (MR G mX5_isPerson 2 0 [(0, .ref m), (1, .int (a1 - a1 / 100 * 100))] [] m sg1 (fun o sg3 => ∃ b4 : Bool, o = .returned (some (.int (bi b4))) ∧ ((b4 = false → (Q (.returned (some (.int (-1)))) sg3)) ∧ (b4 = true → (((a1 / 100) = (a1 - a1 / 100 * 100) → (Q (.returned (some (.int (-1)))) sg3)) ∧ (¬ (a1 / 100) = (a1 - a1 / 100 * 100) → (MR G mX5_isYear 2 0 [(0, .int a2)] [] m sg3 (fun o sg5 => ∃ b6 : Bool, o = .returned (some (.int (bi b6))) ∧ ((b6 = false → (Q (.returned (some (.int (-1)))) sg5)) ∧ (b6 = true → (MR G mX5_lives 1 0 [(0, .ref m), (1, .int (a1 / 100)), (2, .int a2)] [] m sg5 (fun o sg7 => ∃ b8 : Bool, o = .returned (some (.int (bi b8))) ∧ ((b8 = false → (Q (.returned (some (.int (-1)))) sg7)) ∧ (b8 = true → (MR G mX5_lives 1 0 [(0, .ref m), (1, .int (a1 - a1 / 100 * 100)), (2, .int a2)] [] m sg7 (fun o sg9 => ∃ b10 : Bool, o = .returned (some (.int (bi b10))) ∧ ((b10 = true → ((¬ (sg9.1 5 0) = 16 → (vp_in (sg9.1 5 0) 16 ∧ (vp_in ((uS sg9 6 (sg9.1 5 0).toNatClampNeg (a1 / 100)).1 5 0) 16 ∧ (vp_in ((uS (uS sg9 6 (sg9.1 5 0).toNatClampNeg (a1 / 100)) 7 ((uS sg9 6 (sg9.1 5 0).toNatClampNeg (a1 / 100)).1 5 0).toNatClampNeg (a1 - a1 / 100 * 100)).1 5 0) 16 ∧ (Q (.returned (some (.int (((uS (uS (uS (uS sg9 6 (sg9.1 5 0).toNatClampNeg (a1 / 100)) 7 ((uS sg9 6 (sg9.1 5 0).toNatClampNeg (a1 / 100)).1 5 0).toNatClampNeg (a1 - a1 / 100 * 100)) 8 ((uS (uS sg9 6 (sg9.1 5 0).toNatClampNeg (a1 / 100)) 7 ((uS sg9 6 (sg9.1 5 0).toNatClampNeg (a1 / 100)).1 5 0).toNatClampNeg (a1 - a1 / 100 * 100)).1 5 0).toNatClampNeg a2) 5 0 (((uS (uS (uS sg9 6 (sg9.1 5 0).toNatClampNeg (a1 / 100)) 7 ((uS sg9 6 (sg9.1 5 0).toNatClampNeg (a1 / 100)).1 5 0).toNatClampNeg (a1 - a1 / 100 * 100)) 8 ((uS (uS sg9 6 (sg9.1 5 0).toNatClampNeg (a1 / 100)) 7 ((uS sg9 6 (sg9.1 5 0).toNatClampNeg (a1 / 100)).1 5 0).toNatClampNeg (a1 - a1 / 100 * 100)).1 5 0).toNatClampNeg a2).1 5 0) + 1)).1 5 0) - 1)))) (uS (uS (uS (uS sg9 6 (sg9.1 5 0).toNatClampNeg (a1 / 100)) 7 ((uS sg9 6 (sg9.1 5 0).toNatClampNeg (a1 / 100)).1 5 0).toNatClampNeg (a1 - a1 / 100 * 100)) 8 ((uS (uS sg9 6 (sg9.1 5 0).toNatClampNeg (a1 / 100)) 7 ((uS sg9 6 (sg9.1 5 0).toNatClampNeg (a1 / 100)).1 5 0).toNatClampNeg (a1 - a1 / 100 * 100)).1 5 0).toNatClampNeg a2) 5 0 (((uS (uS (uS sg9 6 (sg9.1 5 0).toNatClampNeg (a1 / 100)) 7 ((uS sg9 6 (sg9.1 5 0).toNatClampNeg (a1 / 100)).1 5 0).toNatClampNeg (a1 - a1 / 100 * 100)) 8 ((uS (uS sg9 6 (sg9.1 5 0).toNatClampNeg (a1 / 100)) 7 ((uS sg9 6 (sg9.1 5 0).toNatClampNeg (a1 / 100)).1 5 0).toNatClampNeg (a1 - a1 / 100 * 100)).1 5 0).toNatClampNeg a2).1 5 0) + 1))))))) ∧ ((sg9.1 5 0) = 16 → (Q (.returned (some (.int (-3)))) sg9)))) ∧ (b10 = false → (Q (.returned (some (.int (-1)))) sg9))))))))))))))))))))))))) : MR G mX5_meet 3 0 [(0, .ref m), (1, .int a1), (2, .int a2)] [] m sg Q := by
  refine MR_iload_n dX5_meet_0 1 rfl ?_
  refine MR_if_lt (tgt := 68) dX5_meet_1 (by decide) (fun c21 => ?_) (fun c21 => ?_)
  · have w := w.1 c21
    refine MR_iconst (v := (-1)) dX5_meet_68 (by decide) ?_
    exact MR_iret dX5_meet_69 rfl w
  · have w := w.2 c21
    refine MR_aload_n dX5_meet_4 0 rfl ?_
    refine MR_iload_n dX5_meet_5 1 rfl ?_
    refine MR_bipush (v := 100) dX5_meet_6 (by decide) ?_
    refine MR_idiv dX5_meet_8 (by decide) ?_
    refine MR_invVz (Mc := mX5_isPerson) (As := [.int (a1 / 100)]) (st := []) dX5_meet_9 q1435 q1437 qs46 q111 wX5_isPerson pX5_isPerson rfl (Nat.le_of_ble_eq_true rfl) (by decide) (by decide) (Nat.le_of_ble_eq_true rfl) w (fun b2 sg1 w => ?_)
    refine MR_ifz_eq (tgt := 68) dX5_meet_12 (by decide) (fun c20 => ?_) (fun c20 => ?_)
    · have w := w.1 c20
      refine MR_iconst (v := (-1)) dX5_meet_68 (by decide) ?_
      exact MR_iret dX5_meet_69 rfl w
    · have w := w.2 c20
      refine MR_aload_n dX5_meet_15 0 rfl ?_
      refine MR_iload_n dX5_meet_16 1 rfl ?_
      refine MR_bipush (v := 100) dX5_meet_17 (by decide) ?_
      refine MR_irem dX5_meet_19 (by decide) ?_
      refine MR_invVz (Mc := mX5_isPerson) (As := [.int (a1 - a1 / 100 * 100)]) (st := []) dX5_meet_20 q1435 q1437 qs46 q111 wX5_isPerson pX5_isPerson rfl (Nat.le_of_ble_eq_true rfl) (by decide) (by decide) (Nat.le_of_ble_eq_true rfl) w (fun b4 sg3 w => ?_)
      refine MR_ifz_eq (tgt := 68) dX5_meet_23 (by decide) (fun c19 => ?_) (fun c19 => ?_)
      · have w := w.1 c19
        refine MR_iconst (v := (-1)) dX5_meet_68 (by decide) ?_
        exact MR_iret dX5_meet_69 rfl w
      · have w := w.2 c19
        refine MR_iload_n dX5_meet_26 1 rfl ?_
        refine MR_bipush (v := 100) dX5_meet_27 (by decide) ?_
        refine MR_idiv dX5_meet_29 (by decide) ?_
        refine MR_iload_n dX5_meet_30 1 rfl ?_
        refine MR_bipush (v := 100) dX5_meet_31 (by decide) ?_
        refine MR_irem dX5_meet_33 (by decide) ?_
        refine MR_icmp_eq (tgt := 68) dX5_meet_34 (by decide) (fun c18 => ?_) (fun c18 => ?_)
        · have w := w.1 c18
          refine MR_iconst (v := (-1)) dX5_meet_68 (by decide) ?_
          exact MR_iret dX5_meet_69 rfl w
        · have w := w.2 c18
          refine MR_iload_n dX5_meet_37 2 rfl ?_
          refine MR_invSz (Mc := mX5_isYear) (As := [.int a2]) (st := []) dX5_meet_38 q1413 q1414 q111 wX5_isYear pX5_isYear rfl (Nat.le_of_ble_eq_true rfl) (by decide) (by decide) (Nat.le_of_ble_eq_true rfl) w (fun b6 sg5 w => ?_)
          refine MR_ifz_eq (tgt := 68) dX5_meet_41 (by decide) (fun c17 => ?_) (fun c17 => ?_)
          · have w := w.1 c17
            refine MR_iconst (v := (-1)) dX5_meet_68 (by decide) ?_
            exact MR_iret dX5_meet_69 rfl w
          · have w := w.2 c17
            refine MR_aload_n dX5_meet_44 0 rfl ?_
            refine MR_iload_n dX5_meet_45 1 rfl ?_
            refine MR_bipush (v := 100) dX5_meet_46 (by decide) ?_
            refine MR_idiv dX5_meet_48 (by decide) ?_
            refine MR_iload_n dX5_meet_49 2 rfl ?_
            refine MR_invVz (Mc := mX5_lives) (As := [.int (a1 / 100), .int a2]) (st := []) dX5_meet_50 q1439 q1441 qs47 q111 wX5_lives pX5_lives rfl (Nat.le_of_ble_eq_true rfl) (by decide) (by decide) (Nat.le_of_ble_eq_true rfl) w (fun b8 sg7 w => ?_)
            refine MR_ifz_eq (tgt := 68) dX5_meet_53 (by decide) (fun c16 => ?_) (fun c16 => ?_)
            · have w := w.1 c16
              refine MR_iconst (v := (-1)) dX5_meet_68 (by decide) ?_
              exact MR_iret dX5_meet_69 rfl w
            · have w := w.2 c16
              refine MR_aload_n dX5_meet_56 0 rfl ?_
              refine MR_iload_n dX5_meet_57 1 rfl ?_
              refine MR_bipush (v := 100) dX5_meet_58 (by decide) ?_
              refine MR_irem dX5_meet_60 (by decide) ?_
              refine MR_iload_n dX5_meet_61 2 rfl ?_
              refine MR_invVz (Mc := mX5_lives) (As := [.int (a1 - a1 / 100 * 100), .int a2]) (st := []) dX5_meet_62 q1439 q1441 qs47 q111 wX5_lives pX5_lives rfl (Nat.le_of_ble_eq_true rfl) (by decide) (by decide) (Nat.le_of_ble_eq_true rfl) w (fun b10 sg9 w => ?_)
              refine MR_ifz_ne (tgt := 70) dX5_meet_65 (by decide) (fun c15 => ?_) (fun c15 => ?_)
              · have w := w.1 c15
                refine MR_aload_n dX5_meet_70 0 rfl ?_
                refine MR_getS (k := 5) dX5_meet_71 q1269 (by decide) rfl rfl ?_
                refine MR_bipush (v := 16) dX5_meet_74 (by decide) ?_
                refine MR_icmp_ne (tgt := 82) dX5_meet_76 (by decide) (fun c14 => ?_) (fun c14 => ?_)
                · have w := w.1 c14
                  refine MR_aload_n dX5_meet_82 0 rfl ?_
                  refine MR_getA (k := 6) (o := 4) (j := 0) (n := 16) dX5_meet_83 q1270 (by decide) rfl rfl ?_
                  refine MR_aload_n dX5_meet_86 0 rfl ?_
                  refine MR_getS (k := 5) dX5_meet_87 q1269 (by decide) rfl rfl ?_
                  refine MR_iload_n dX5_meet_90 1 rfl ?_
                  refine MR_bipush (v := 100) dX5_meet_91 (by decide) ?_
                  refine MR_idiv dX5_meet_93 (by decide) ?_
                  obtain ⟨c13, w⟩ := w
                  refine MR_iast (k := 6) dX5_meet_94 (by decide) rfl c13 ?_
                  refine MR_aload_n dX5_meet_95 0 rfl ?_
                  refine MR_getA (k := 7) (o := 5) (j := 0) (n := 16) dX5_meet_96 q1271 (by decide) rfl rfl ?_
                  refine MR_aload_n dX5_meet_99 0 rfl ?_
                  refine MR_getS (k := 5) dX5_meet_100 q1269 (by decide) rfl rfl ?_
                  refine MR_iload_n dX5_meet_103 1 rfl ?_
                  refine MR_bipush (v := 100) dX5_meet_104 (by decide) ?_
                  refine MR_irem dX5_meet_106 (by decide) ?_
                  obtain ⟨c12, w⟩ := w
                  refine MR_iast (k := 7) dX5_meet_107 (by decide) rfl c12 ?_
                  refine MR_aload_n dX5_meet_108 0 rfl ?_
                  refine MR_getA (k := 8) (o := 6) (j := 0) (n := 16) dX5_meet_109 q1272 (by decide) rfl rfl ?_
                  refine MR_aload_n dX5_meet_112 0 rfl ?_
                  refine MR_getS (k := 5) dX5_meet_113 q1269 (by decide) rfl rfl ?_
                  refine MR_iload_n dX5_meet_116 2 rfl ?_
                  obtain ⟨c11, w⟩ := w
                  refine MR_iast (k := 8) dX5_meet_117 (by decide) rfl c11 ?_
                  refine MR_aload_n dX5_meet_118 0 rfl ?_
                  refine MR_dup dX5_meet_119 rfl ?_
                  refine MR_getS (k := 5) dX5_meet_120 q1269 (by decide) rfl rfl ?_
                  refine MR_iconst (v := 1) dX5_meet_123 (by decide) ?_
                  refine MR_iadd dX5_meet_124 ?_
                  refine MR_putS (k := 5) dX5_meet_125 q1269 (by decide) rfl rfl rfl rfl rfl ?_
                  refine MR_aload_n dX5_meet_128 0 rfl ?_
                  refine MR_getS (k := 5) dX5_meet_129 q1269 (by decide) rfl rfl ?_
                  refine MR_iconst (v := 1) dX5_meet_132 (by decide) ?_
                  refine MR_isub dX5_meet_133 ?_
                  exact MR_iret dX5_meet_134 rfl w
                · have w := w.2 c14
                  refine MR_bipush (v := (-3)) dX5_meet_79 (by decide) ?_
                  exact MR_iret dX5_meet_81 rfl w
              · have w := w.2 c15
                refine MR_iconst (v := (-1)) dX5_meet_68 (by decide) ?_
                exact MR_iret dX5_meet_69 rfl w
theorem sX5_mend_0 {G : GG} {m : Nat} {sg : MS} {Q : Outcome → MS → Prop} {a1 a2 a3 : Int32} (w : (¬ a2 = 0 → ((¬ a2 = 1 → (Q (.returned (some (.int (-1)))) sg)) ∧ (a2 = 1 → (MR G mX5_isName 2 0 [(0, .int a1)] [] m sg (fun o sg1 => ∃ b2 : Bool, o = .returned (some (.int (bi b2))) ∧ ((b2 = false → (Q (.returned (some (.int (-1)))) sg1)) ∧ (b2 = true → (MR G mX5_in 1 0 [(0, .int a3), (1, .int 0), (2, .int 9)] [] m sg1 (fun o sg3 => ∃ b4 : Bool, o = .returned (some (.int (bi b4))) ∧ ((b4 = false → (Q (.returned (some (.int (-1)))) sg3)) ∧ (b4 = true → (MR G mX5_changes 2 0 [(0, .ref m), (1, .int 1), (2, .int a1), (3, .int a3)] [] m sg3 (fun o sg5 => ∃ r6 : Int32, o = .returned (some (.int r6)) ∧ (Q (.returned (some (.int r6))) sg5)))))))))))))) ∧ (a2 = 0 → (MR G mX5_isPerson 2 0 [(0, .ref m), (1, .int a1)] [] m sg (fun o sg10 => ∃ b11 : Bool, o = .returned (some (.int (bi b11))) ∧ ((b11 = false → (Q (.returned (some (.int (-1)))) sg10)) ∧ (b11 = true → (vp_in a1 12 ∧ (MR G mX5_in 1 0 [(0, .int a3), (1, .int ((sg10.1 2 a1.toNatClampNeg) + 1)), (2, .int 100)] [] m sg10 (fun o sg12 => ∃ b13 : Bool, o = .returned (some (.int (bi b13))) ∧ ((b13 = false → (Q (.returned (some (.int (-1)))) sg12)) ∧ (b13 = true → (MR G mX5_changes 2 0 [(0, .ref m), (1, .int 0), (2, .int a1), (3, .int a3)] [] m sg12 (fun o sg14 => ∃ r15 : Int32, o = .returned (some (.int r15)) ∧ (Q (.returned (some (.int r15))) sg14)))))))))))))) : MR G mX5_mend 3 0 [(0, .ref m), (1, .int a1), (2, .int a2), (3, .int a3)] [] m sg Q := by
  refine MR_iload_n dX5_mend_0 2 rfl ?_
  refine MR_if_ne (tgt := 41) dX5_mend_1 (by decide) (fun c19 => ?_) (fun c19 => ?_)
  · have w := w.1 c19
    refine MR_iload_n dX5_mend_41 2 rfl ?_
    refine MR_iconst (v := 1) dX5_mend_42 (by decide) ?_
    refine MR_icmp_ne (tgt := 73) dX5_mend_43 (by decide) (fun c9 => ?_) (fun c9 => ?_)
    · have w := w.1 c9
      refine MR_iconst (v := (-1)) dX5_mend_73 (by decide) ?_
      exact MR_iret dX5_mend_74 rfl w
    · have w := w.2 c9
      refine MR_iload_n dX5_mend_46 1 rfl ?_
      refine MR_invSz (Mc := mX5_isName) (As := [.int a1]) (st := []) dX5_mend_47 q1456 q1457 q111 wX5_isName pX5_isName rfl (Nat.le_of_ble_eq_true rfl) (by decide) (by decide) (Nat.le_of_ble_eq_true rfl) w (fun b2 sg1 w => ?_)
      refine MR_ifz_eq (tgt := 73) dX5_mend_50 (by decide) (fun c8 => ?_) (fun c8 => ?_)
      · have w := w.1 c8
        refine MR_iconst (v := (-1)) dX5_mend_73 (by decide) ?_
        exact MR_iret dX5_mend_74 rfl w
      · have w := w.2 c8
        refine MR_iload_n dX5_mend_53 3 rfl ?_
        refine MR_iconst (v := 0) dX5_mend_54 (by decide) ?_
        refine MR_bipush (v := 9) dX5_mend_55 (by decide) ?_
        refine MR_invSz (Mc := mX5_in) (As := [.int a3, .int 0, .int 9]) (st := []) dX5_mend_57 q1416 q1417 q111 wX5_in pX5_in rfl (Nat.le_of_ble_eq_true rfl) (by decide) (by decide) (Nat.le_of_ble_eq_true rfl) w (fun b4 sg3 w => ?_)
        refine MR_ifz_eq (tgt := 73) dX5_mend_60 (by decide) (fun c7 => ?_) (fun c7 => ?_)
        · have w := w.1 c7
          refine MR_iconst (v := (-1)) dX5_mend_73 (by decide) ?_
          exact MR_iret dX5_mend_74 rfl w
        · have w := w.2 c7
          refine MR_aload_n dX5_mend_63 0 rfl ?_
          refine MR_iconst (v := 1) dX5_mend_64 (by decide) ?_
          refine MR_iload_n dX5_mend_65 1 rfl ?_
          refine MR_iload_n dX5_mend_66 3 rfl ?_
          refine MR_invVi (Mc := mX5_changes) (As := [.int 1, .int a1, .int a3]) (st := []) dX5_mend_67 q1475 q1477 qs49 q111 wX5_changes pX5_changes rfl (Nat.le_of_ble_eq_true rfl) (by decide) (by decide) (Nat.le_of_ble_eq_true rfl) w (fun r6 sg5 w => ?_)
          refine MR_goto (tgt := 74) dX5_mend_70 (by decide) ?_
          exact MR_iret dX5_mend_74 rfl w
  · have w := w.2 c19
    refine MR_aload_n dX5_mend_4 0 rfl ?_
    refine MR_iload_n dX5_mend_5 1 rfl ?_
    refine MR_invVz (Mc := mX5_isPerson) (As := [.int a1]) (st := []) dX5_mend_6 q1435 q1437 qs46 q111 wX5_isPerson pX5_isPerson rfl (Nat.le_of_ble_eq_true rfl) (by decide) (by decide) (Nat.le_of_ble_eq_true rfl) w (fun b11 sg10 w => ?_)
    refine MR_ifz_eq (tgt := 39) dX5_mend_9 (by decide) (fun c18 => ?_) (fun c18 => ?_)
    · have w := w.1 c18
      refine MR_iconst (v := (-1)) dX5_mend_39 (by decide) ?_
      exact MR_iret dX5_mend_40 rfl w
    · have w := w.2 c18
      refine MR_iload_n dX5_mend_12 3 rfl ?_
      refine MR_aload_n dX5_mend_13 0 rfl ?_
      refine MR_getA (k := 2) (o := 1) (j := 0) (n := 12) dX5_mend_14 q1266 (by decide) rfl rfl ?_
      refine MR_iload_n dX5_mend_17 1 rfl ?_
      obtain ⟨c17, w⟩ := w
      refine MR_iald (k := 2) dX5_mend_18 (by decide) rfl c17 ?_
      refine MR_iconst (v := 1) dX5_mend_19 (by decide) ?_
      refine MR_iadd dX5_mend_20 ?_
      refine MR_bipush (v := 100) dX5_mend_21 (by decide) ?_
      refine MR_invSz (Mc := mX5_in) (As := [.int a3, .int ((sg10.1 2 a1.toNatClampNeg) + 1), .int 100]) (st := []) dX5_mend_23 q1416 q1417 q111 wX5_in pX5_in rfl (Nat.le_of_ble_eq_true rfl) (by decide) (by decide) (Nat.le_of_ble_eq_true rfl) w (fun b13 sg12 w => ?_)
      refine MR_ifz_eq (tgt := 39) dX5_mend_26 (by decide) (fun c16 => ?_) (fun c16 => ?_)
      · have w := w.1 c16
        refine MR_iconst (v := (-1)) dX5_mend_39 (by decide) ?_
        exact MR_iret dX5_mend_40 rfl w
      · have w := w.2 c16
        refine MR_aload_n dX5_mend_29 0 rfl ?_
        refine MR_iconst (v := 0) dX5_mend_30 (by decide) ?_
        refine MR_iload_n dX5_mend_31 1 rfl ?_
        refine MR_iload_n dX5_mend_32 3 rfl ?_
        refine MR_invVi (Mc := mX5_changes) (As := [.int 0, .int a1, .int a3]) (st := []) dX5_mend_33 q1475 q1477 qs49 q111 wX5_changes pX5_changes rfl (Nat.le_of_ble_eq_true rfl) (by decide) (by decide) (Nat.le_of_ble_eq_true rfl) w (fun r15 sg14 w => ?_)
        refine MR_goto (tgt := 40) dX5_mend_36 (by decide) ?_
        exact MR_iret dX5_mend_40 rfl w
theorem sX5_most_0 {G : GG} {m : Nat} {sg : MS} {Q : Outcome → MS → Prop} {a1 : Int32} (w : MR G mX5_in 1 0 [(0, .int a1), (1, .int 0), (2, .int 1)] [] m sg (fun o sg1 => ∃ b2 : Bool, o = .returned (some (.int (bi b2))) ∧ ((b2 = true → (MR G mX5_asNamed 1 0 [(0, .ref m)] [] m sg1 (fun o sg3 => o = .returned none ∧ (MR G mX5_most 9 22 [(0, .ref m), (1, .int a1), (2, .int 0), (3, .int (-1)), (4, .int 0)] [] m sg3 Q)))) ∧ (b2 = false → (Q (.returned (some (.int (-1)))) sg1))))) : MR G mX5_most 9 0 [(0, .ref m), (1, .int a1)] [] m sg Q := by
  refine MR_iload_n dX5_most_0 1 rfl ?_
  refine MR_iconst (v := 0) dX5_most_1 (by decide) ?_
  refine MR_iconst (v := 1) dX5_most_2 (by decide) ?_
  refine MR_invSz (Mc := mX5_in) (As := [.int a1, .int 0, .int 1]) (st := []) dX5_most_3 q1416 q1417 q111 wX5_in pX5_in rfl (Nat.le_of_ble_eq_true rfl) (by decide) (by decide) (Nat.le_of_ble_eq_true rfl) w (fun b2 sg1 w => ?_)
  refine MR_ifz_ne (tgt := 11) dX5_most_6 (by decide) (fun c4 => ?_) (fun c4 => ?_)
  · have w := w.1 c4
    refine MR_aload_n dX5_most_11 0 rfl ?_
    refine MR_invVv (Mc := mX5_asNamed) (As := []) (st := []) dX5_most_12 q1578 q1580 qs69 q111 wX5_asNamed pX5_asNamed rfl (Nat.le_of_ble_eq_true rfl) (by decide) (by decide) (Nat.le_of_ble_eq_true rfl) w (fun sg3 w => ?_)
    refine MR_iconst (v := 0) dX5_most_15 (by decide) ?_
    refine MR_istore_n (lv' := [(2, .int 0), (0, .ref m), (1, .int a1)]) dX5_most_16 rfl (by decide) rfl ?_
    refine MR_iconst (v := (-1)) dX5_most_17 (by decide) ?_
    refine MR_istore_n (lv' := [(3, .int (-1)), (2, .int 0), (0, .ref m), (1, .int a1)]) dX5_most_18 rfl (by decide) rfl ?_
    refine MR_iconst (v := 0) dX5_most_19 (by decide) ?_
    refine MR_istore (lv' := [(4, .int 0), (3, .int (-1)), (2, .int 0), (0, .ref m), (1, .int a1)]) dX5_most_20 (by decide) rfl ?_
    exact MR_sub [3, 4, 2, 1, 0] rfl w
  · have w := w.2 c4
    refine MR_iconst (v := (-1)) dX5_most_9 (by decide) ?_
    exact MR_iret dX5_most_10 rfl w
theorem sX5_most_22 {G : GG} {m : Nat} {sg : MS} {Q : Outcome → MS → Prop} {a1 a2 a3 a4 : Int32} (w : (99 < a4 → ((¬ a1 = 0 → (Q (.returned (some (.int a2))) sg)) ∧ (a1 = 0 → (Q (.returned (some (.int a3))) sg)))) ∧ (¬ 99 < a4 → (MR G mX5_heldIn 8 0 [(0, .ref m), (1, .int a4)] [] m sg (fun o sg2 => ∃ r3 : Int32, o = .returned (some (.int r3)) ∧ (MR G mX5_bitsOf 1 0 [(0, .int r3)] [] m sg2 (fun o sg4 => ∃ r5 : Int32, o = .returned (some (.int r5)) ∧ ((a3 < r5 → (MR G mX5_most 9 22 [(0, .ref m), (1, .int a1), (2, .int a4), (3, .int r5), (4, .int (a4 + 1))] [] m sg4 Q)) ∧ (¬ a3 < r5 → (MR G mX5_most 9 22 [(0, .ref m), (1, .int a1), (2, .int a2), (3, .int a3), (4, .int (a4 + 1))] [] m sg4 Q))))))))) : MR G mX5_most 9 22 [(0, .ref m), (1, .int a1), (2, .int a2), (3, .int a3), (4, .int a4)] [] m sg Q := by
  refine MR_iload dX5_most_22 4 rfl ?_
  refine MR_bipush (v := 99) dX5_most_24 (by decide) ?_
  refine MR_icmp_gt (tgt := 61) dX5_most_26 (by decide) (fun c7 => ?_) (fun c7 => ?_)
  · have w := w.1 c7
    refine MR_iload_n dX5_most_61 1 rfl ?_
    refine MR_if_ne (tgt := 69) dX5_most_62 (by decide) (fun c1 => ?_) (fun c1 => ?_)
    · have w := w.1 c1
      refine MR_iload_n dX5_most_69 2 rfl ?_
      exact MR_iret dX5_most_70 rfl w
    · have w := w.2 c1
      refine MR_iload_n dX5_most_65 3 rfl ?_
      refine MR_goto (tgt := 70) dX5_most_66 (by decide) ?_
      exact MR_iret dX5_most_70 rfl w
  · have w := w.2 c7
    refine MR_aload_n dX5_most_29 0 rfl ?_
    refine MR_iload dX5_most_30 4 rfl ?_
    refine MR_invVi (Mc := mX5_heldIn) (As := [.int a4]) (st := []) dX5_most_32 q1625 q1627 qs79 q111 wX5_heldIn pX5_heldIn rfl (Nat.le_of_ble_eq_true rfl) (by decide) (by decide) (Nat.le_of_ble_eq_true rfl) w (fun r3 sg2 w => ?_)
    refine MR_invSi (Mc := mX5_bitsOf) (As := [.int r3]) (st := []) dX5_most_35 q1633 q1634 q111 wX5_bitsOf pX5_bitsOf rfl (Nat.le_of_ble_eq_true rfl) (by decide) (by decide) (Nat.le_of_ble_eq_true rfl) w (fun r5 sg4 w => ?_)
    refine MR_istore (lv' := [(5, .int r5), (0, .ref m), (1, .int a1), (2, .int a2), (3, .int a3), (4, .int a4)]) dX5_most_38 (by decide) rfl ?_
    refine MR_iload dX5_most_40 0 rfl ?_
    refine MR_iload_n dX5_most_42 4 rfl ?_
    refine MR_icmp_gt (tgt := 49) dX5_most_43 (by decide) (fun c6 => ?_) (fun c6 => ?_)
    · have w := w.1 c6
      refine MR_iload dX5_most_49 0 rfl ?_
      refine MR_istore_n (lv' := [(3, .int r5), (5, .int r5), (0, .ref m), (1, .int a1), (2, .int a2), (4, .int a4)]) dX5_most_51 rfl (by decide) rfl ?_
      refine MR_iload dX5_most_52 5 rfl ?_
      refine MR_istore_n (lv' := [(2, .int a4), (3, .int r5), (5, .int r5), (0, .ref m), (1, .int a1), (4, .int a4)]) dX5_most_54 rfl (by decide) rfl ?_
      refine MR_iinc (v := (a4 + 1)) (lv' := [(4, .int (a4 + 1)), (2, .int a4), (3, .int r5), (5, .int r5), (0, .ref m), (1, .int a1)]) dX5_most_55 5 rfl (congrArg (fun z => a4 + z) (show Int32.ofInt 1 = 1 by decide)) (by decide) rfl ?_
      refine MR_goto (tgt := 22) dX5_most_58 (by decide) ?_
      exact MR_sub [4, 5, 1, 2, 0] rfl w
    · have w := w.2 c6
      refine MR_goto (tgt := 55) dX5_most_46 (by decide) ?_
      refine MR_iinc (v := (a4 + 1)) (lv' := [(4, .int (a4 + 1)), (5, .int r5), (0, .ref m), (1, .int a1), (2, .int a2), (3, .int a3)]) dX5_most_55 5 rfl (congrArg (fun z => a4 + z) (show Int32.ofInt 1 = 1 by decide)) (by decide) rfl ?_
      refine MR_goto (tgt := 22) dX5_most_58 (by decide) ?_
      exact MR_sub [2, 3, 4, 5, 0] rfl w
theorem sX5_name_0 {G : GG} {m : Nat} {sg : MS} {Q : Outcome → MS → Prop} {a1 a2 : Int32} (w : MR G mX5_isPerson 2 0 [(0, .ref m), (1, .int a1)] [] m sg (fun o sg1 => ∃ b2 : Bool, o = .returned (some (.int (bi b2))) ∧ ((b2 = false → (Q (.returned (some (.int (-2000000000)))) sg1)) ∧ (b2 = true → (MR G mX5_in 1 0 [(0, .int a2), (1, .int (-1)), (2, .int 11)] [] m sg1 (fun o sg3 => ∃ b4 : Bool, o = .returned (some (.int (bi b4))) ∧ ((b4 = true → (vp_in a1 12 ∧ (vp_in a1 12 ∧ (Q (.returned (some (.int (sg3.1 4 a1.toNatClampNeg)))) (uS sg3 4 a1.toNatClampNeg a2))))) ∧ (b4 = false → (Q (.returned (some (.int (-2000000000)))) sg3))))))))) : MR G mX5_name 3 0 [(0, .ref m), (1, .int a1), (2, .int a2)] [] m sg Q := by
  refine MR_aload_n dX5_name_0 0 rfl ?_
  refine MR_iload_n dX5_name_1 1 rfl ?_
  refine MR_invVz (Mc := mX5_isPerson) (As := [.int a1]) (st := []) dX5_name_2 q1435 q1437 qs46 q111 wX5_isPerson pX5_isPerson rfl (Nat.le_of_ble_eq_true rfl) (by decide) (by decide) (Nat.le_of_ble_eq_true rfl) w (fun b2 sg1 w => ?_)
  refine MR_ifz_eq (tgt := 18) dX5_name_5 (by decide) (fun c8 => ?_) (fun c8 => ?_)
  · have w := w.1 c8
    refine MR_ldc (v := (-2000000000)) dX5_name_18 q1451 ?_
    exact MR_iret dX5_name_20 rfl w
  · have w := w.2 c8
    refine MR_iload_n dX5_name_8 2 rfl ?_
    refine MR_iconst (v := (-1)) dX5_name_9 (by decide) ?_
    refine MR_bipush (v := 11) dX5_name_10 (by decide) ?_
    refine MR_invSz (Mc := mX5_in) (As := [.int a2, .int (-1), .int 11]) (st := []) dX5_name_12 q1416 q1417 q111 wX5_in pX5_in rfl (Nat.le_of_ble_eq_true rfl) (by decide) (by decide) (Nat.le_of_ble_eq_true rfl) w (fun b4 sg3 w => ?_)
    refine MR_ifz_ne (tgt := 21) dX5_name_15 (by decide) (fun c7 => ?_) (fun c7 => ?_)
    · have w := w.1 c7
      refine MR_aload_n dX5_name_21 0 rfl ?_
      refine MR_getA (k := 4) (o := 3) (j := 0) (n := 12) dX5_name_22 q1268 (by decide) rfl rfl ?_
      refine MR_iload_n dX5_name_25 1 rfl ?_
      obtain ⟨c6, w⟩ := w
      refine MR_iald (k := 4) dX5_name_26 (by decide) rfl c6 ?_
      refine MR_istore_n (lv' := [(3, .int (sg3.1 4 a1.toNatClampNeg)), (0, .ref m), (1, .int a1), (2, .int a2)]) dX5_name_27 rfl (by decide) rfl ?_
      refine MR_aload_n dX5_name_28 1 rfl ?_
      refine MR_getA (k := 4) (o := 3) (j := 0) (n := 12) dX5_name_29 q1268 (by decide) rfl rfl ?_
      refine MR_iload_n dX5_name_32 2 rfl ?_
      refine MR_iload_n dX5_name_33 3 rfl ?_
      obtain ⟨c5, w⟩ := w
      refine MR_iast (k := 4) dX5_name_34 (by decide) rfl c5 ?_
      refine MR_iload_n dX5_name_35 0 rfl ?_
      exact MR_iret dX5_name_36 rfl w
    · have w := w.2 c7
      refine MR_ldc (v := (-2000000000)) dX5_name_18 q1451 ?_
      exact MR_iret dX5_name_20 rfl w
theorem sX5_nameOf_0 {G : GG} {m : Nat} {sg : MS} {Q : Outcome → MS → Prop} {a0 : Int32} (w : (a0 = 97 → (Q (.returned (some (.int 0))) sg)) ∧ (¬ a0 = 97 → ((a0 = 100 → (Q (.returned (some (.int 1))) sg)) ∧ (¬ a0 = 100 → ((a0 = 102 → (Q (.returned (some (.int 2))) sg)) ∧ (¬ a0 = 102 → ((a0 = 105 → (Q (.returned (some (.int 4))) sg)) ∧ (¬ a0 = 105 → ((a0 = 110 → (Q (.returned (some (.int 5))) sg)) ∧ (¬ a0 = 110 → ((a0 = 119 → (Q (.returned (some (.int 3))) sg)) ∧ (¬ a0 = 119 → (Q (.returned (some (.int (-1)))) sg))))))))))))) : MR G mX5_nameOf 1 0 [(0, .int a0)] [] m sg Q := by
  refine MR_iload_n dX5_nameOf_0 0 rfl ?_
  by_cases c1 : a0 = 97
  · have w := w.1 c1
    refine MR_lookup (off := 59) (tgt := 60) dX5_nameOf_1 (by decide) (by rw [c1]; rfl) (by decide) ?_
    refine MR_iconst (v := 0) dX5_nameOf_60 (by decide) ?_
    exact MR_iret dX5_nameOf_61 rfl w
  · have w := w.2 c1
    by_cases c2 : a0 = 100
    · have w := w.1 c2
      refine MR_lookup (off := 61) (tgt := 62) dX5_nameOf_1 (by decide) (by rw [c2]; rfl) (by decide) ?_
      refine MR_iconst (v := 1) dX5_nameOf_62 (by decide) ?_
      exact MR_iret dX5_nameOf_63 rfl w
    · have w := w.2 c2
      by_cases c3 : a0 = 102
      · have w := w.1 c3
        refine MR_lookup (off := 63) (tgt := 64) dX5_nameOf_1 (by decide) (by rw [c3]; rfl) (by decide) ?_
        refine MR_iconst (v := 2) dX5_nameOf_64 (by decide) ?_
        exact MR_iret dX5_nameOf_65 rfl w
      · have w := w.2 c3
        by_cases c4 : a0 = 105
        · have w := w.1 c4
          refine MR_lookup (off := 67) (tgt := 68) dX5_nameOf_1 (by decide) (by rw [c4]; rfl) (by decide) ?_
          refine MR_iconst (v := 4) dX5_nameOf_68 (by decide) ?_
          exact MR_iret dX5_nameOf_69 rfl w
        · have w := w.2 c4
          by_cases c5 : a0 = 110
          · have w := w.1 c5
            refine MR_lookup (off := 69) (tgt := 70) dX5_nameOf_1 (by decide) (by rw [c5]; rfl) (by decide) ?_
            refine MR_iconst (v := 5) dX5_nameOf_70 (by decide) ?_
            exact MR_iret dX5_nameOf_71 rfl w
          · have w := w.2 c5
            by_cases c6 : a0 = 119
            · have w := w.1 c6
              refine MR_lookup (off := 65) (tgt := 66) dX5_nameOf_1 (by decide) (by rw [c6]; rfl) (by decide) ?_
              refine MR_iconst (v := 3) dX5_nameOf_66 (by decide) ?_
              exact MR_iret dX5_nameOf_67 rfl w
            · have w := w.2 c6
              have ho : Op.lookupswitch.offset [(97, 59), (100, 61), (102, 63), (105, 67), (110, 69), (119, 65)] 71 (a0).toInt = 71 := by rw [lv_osw (k := 97) c1 (by decide), lv_osw (k := 100) c2 (by decide), lv_osw (k := 102) c3 (by decide), lv_osw (k := 105) c4 (by decide), lv_osw (k := 110) c5 (by decide), lv_osw (k := 119) c6 (by decide)]; rfl
              refine MR_lookup (tgt := 72) dX5_nameOf_1 (by decide) ho (by decide) ?_
              refine MR_iconst (v := (-1)) dX5_nameOf_72 (by decide) ?_
              exact MR_iret dX5_nameOf_73 rfl w
theorem sX5_namedMany_0 {G : GG} {m : Nat} {sg : MS} {Q : Outcome → MS → Prop} (w : MR G mX5_namedMany 1 4 [(0, .ref m), (1, .int 0), (2, .int 0)] [] m sg Q) : MR G mX5_namedMany 1 0 [(0, .ref m)] [] m sg Q := by
  refine MR_iconst (v := 0) dX5_namedMany_0 (by decide) ?_
  refine MR_istore_n (lv' := [(1, .int 0), (0, .ref m)]) dX5_namedMany_1 rfl (by decide) rfl ?_
  refine MR_iconst (v := 0) dX5_namedMany_2 (by decide) ?_
  refine MR_istore_n (lv' := [(2, .int 0), (1, .int 0), (0, .ref m)]) dX5_namedMany_3 rfl (by decide) rfl ?_
  exact MR_sub [2, 1, 0] rfl w
theorem sX5_namedMany_4 {G : GG} {m : Nat} {sg : MS} {Q : Outcome → MS → Prop} {a1 a2 : Int32} (w : ((sg.1 1 0) ≤ a2 → (Q (.returned (some (.int a1))) sg)) ∧ (¬ (sg.1 1 0) ≤ a2 → (vp_in a2 12 ∧ (((sg.1 4 a2.toNatClampNeg) < 0 → (MR G mX5_namedMany 1 4 [(0, .ref m), (1, .int a1), (2, .int (a2 + 1))] [] m sg Q)) ∧ (¬ (sg.1 4 a2.toNatClampNeg) < 0 → (MR G mX5_namedMany 1 4 [(0, .ref m), (1, .int (a1 + 1)), (2, .int (a2 + 1))] [] m sg Q)))))) : MR G mX5_namedMany 1 4 [(0, .ref m), (1, .int a1), (2, .int a2)] [] m sg Q := by
  refine MR_iload_n dX5_namedMany_4 2 rfl ?_
  refine MR_aload_n dX5_namedMany_5 0 rfl ?_
  refine MR_getS (k := 1) dX5_namedMany_6 q1265 (by decide) rfl rfl ?_
  refine MR_icmp_ge (tgt := 30) dX5_namedMany_9 (by decide) (fun c3 => ?_) (fun c3 => ?_)
  · have w := w.1 c3
    refine MR_iload_n dX5_namedMany_30 1 rfl ?_
    exact MR_iret dX5_namedMany_31 rfl w
  · have w := w.2 c3
    refine MR_aload_n dX5_namedMany_12 0 rfl ?_
    refine MR_getA (k := 4) (o := 3) (j := 0) (n := 12) dX5_namedMany_13 q1268 (by decide) rfl rfl ?_
    refine MR_iload_n dX5_namedMany_16 2 rfl ?_
    obtain ⟨c2, w⟩ := w
    refine MR_iald (k := 4) dX5_namedMany_17 (by decide) rfl c2 ?_
    refine MR_if_lt (tgt := 24) dX5_namedMany_18 (by decide) (fun c1 => ?_) (fun c1 => ?_)
    · have w := w.1 c1
      refine MR_iinc (v := (a2 + 1)) (lv' := [(2, .int (a2 + 1)), (0, .ref m), (1, .int a1)]) dX5_namedMany_24 2 rfl (congrArg (fun z => a2 + z) (show Int32.ofInt 1 = 1 by decide)) (by decide) rfl ?_
      refine MR_goto (tgt := 4) dX5_namedMany_27 (by decide) ?_
      exact MR_sub [1, 2, 0] rfl w
    · have w := w.2 c1
      refine MR_iinc (v := (a1 + 1)) (lv' := [(1, .int (a1 + 1)), (0, .ref m), (2, .int a2)]) dX5_namedMany_21 1 rfl (congrArg (fun z => a1 + z) (show Int32.ofInt 1 = 1 by decide)) (by decide) rfl ?_
      refine MR_iinc (v := (a2 + 1)) (lv' := [(2, .int (a2 + 1)), (1, .int (a1 + 1)), (0, .ref m)]) dX5_namedMany_24 2 rfl (congrArg (fun z => a2 + z) (show Int32.ofInt 1 = 1 by decide)) (by decide) rfl ?_
      refine MR_goto (tgt := 4) dX5_namedMany_27 (by decide) ?_
      exact MR_sub [2, 1, 0] rfl w
theorem sX5_needs_0 {G : GG} {m : Nat} {sg : MS} {Q : Outcome → MS → Prop} {a1 a2 a3 : Int32} (w : MR G mX5_in 1 0 [(0, .int a2), (1, .int 1), (2, .int 20)] [] m sg (fun o sg1 => ∃ b2 : Bool, o = .returned (some (.int (bi b2))) ∧ ((b2 = false → (Q (.returned (some (.int (-1)))) sg1)) ∧ (b2 = true → (MR G mX5_in 1 0 [(0, .int a3), (1, .int 0), (2, .int 1)] [] m sg1 (fun o sg3 => ∃ b4 : Bool, o = .returned (some (.int (bi b4))) ∧ ((b4 = true → (MR G mX5_needs 11 24 [(0, .ref m), (1, .int a1), (2, .int a2), (3, .int a3), (4, .int 0)] [] m sg3 Q)) ∧ (b4 = false → (Q (.returned (some (.int (-1)))) sg3))))))))) : MR G mX5_needs 11 0 [(0, .ref m), (1, .int a1), (2, .int a2), (3, .int a3)] [] m sg Q := by
  refine MR_iload_n dX5_needs_0 2 rfl ?_
  refine MR_iconst (v := 1) dX5_needs_1 (by decide) ?_
  refine MR_bipush (v := 20) dX5_needs_2 (by decide) ?_
  refine MR_invSz (Mc := mX5_in) (As := [.int a2, .int 1, .int 20]) (st := []) dX5_needs_4 q1416 q1417 q111 wX5_in pX5_in rfl (Nat.le_of_ble_eq_true rfl) (by decide) (by decide) (Nat.le_of_ble_eq_true rfl) w (fun b2 sg1 w => ?_)
  refine MR_ifz_eq (tgt := 19) dX5_needs_7 (by decide) (fun c6 => ?_) (fun c6 => ?_)
  · have w := w.1 c6
    refine MR_iconst (v := (-1)) dX5_needs_19 (by decide) ?_
    exact MR_iret dX5_needs_20 rfl w
  · have w := w.2 c6
    refine MR_iload_n dX5_needs_10 3 rfl ?_
    refine MR_iconst (v := 0) dX5_needs_11 (by decide) ?_
    refine MR_iconst (v := 1) dX5_needs_12 (by decide) ?_
    refine MR_invSz (Mc := mX5_in) (As := [.int a3, .int 0, .int 1]) (st := []) dX5_needs_13 q1416 q1417 q111 wX5_in pX5_in rfl (Nat.le_of_ble_eq_true rfl) (by decide) (by decide) (Nat.le_of_ble_eq_true rfl) w (fun b4 sg3 w => ?_)
    refine MR_ifz_ne (tgt := 21) dX5_needs_16 (by decide) (fun c5 => ?_) (fun c5 => ?_)
    · have w := w.1 c5
      refine MR_iconst (v := 0) dX5_needs_21 (by decide) ?_
      refine MR_istore (lv' := [(4, .int 0), (0, .ref m), (1, .int a1), (2, .int a2), (3, .int a3)]) dX5_needs_22 (by decide) rfl ?_
      exact MR_sub [1, 2, 3, 4, 0] rfl w
    · have w := w.2 c5
      refine MR_iconst (v := (-1)) dX5_needs_19 (by decide) ?_
      exact MR_iret dX5_needs_20 rfl w
theorem sX5_needs_24 {G : GG} {m : Nat} {sg : MS} {Q : Outcome → MS → Prop} {a1 a2 a3 a4 : Int32} (w : ((sg.1 1 0) ≤ a4 → (MR G mX5_needs 11 65 [(0, .ref m), (2, .int a2), (3, .int a3), (4, .int a1), (5, .int 0), (6, .int 0), (7, .int 0)] [] m sg Q)) ∧ (¬ (sg.1 1 0) ≤ a4 → (vp_in a4 12 ∧ (vp_in a4 12 ∧ (MR G mX5_needs 11 24 [(0, .ref m), (1, .int a1), (2, .int a2), (3, .int a3), (4, .int (a4 + 1))] [] m (uS sg 35 a4.toNatClampNeg (sg.1 3 a4.toNatClampNeg)) Q))))) : MR G mX5_needs 11 24 [(0, .ref m), (1, .int a1), (2, .int a2), (3, .int a3), (4, .int a4)] [] m sg Q := by
  refine MR_iload dX5_needs_24 4 rfl ?_
  refine MR_aload_n dX5_needs_26 0 rfl ?_
  refine MR_getS (k := 1) dX5_needs_27 q1265 (by decide) rfl rfl ?_
  refine MR_icmp_ge (tgt := 53) dX5_needs_30 (by decide) (fun c3 => ?_) (fun c3 => ?_)
  · have w := w.1 c3
    refine MR_iload_n dX5_needs_53 1 rfl ?_
    refine MR_istore (lv' := [(4, .int a1), (0, .ref m), (1, .int a1), (2, .int a2), (3, .int a3)]) dX5_needs_54 (by decide) rfl ?_
    refine MR_iconst (v := 0) dX5_needs_56 (by decide) ?_
    refine MR_istore (lv' := [(5, .int 0), (4, .int a1), (0, .ref m), (1, .int a1), (2, .int a2), (3, .int a3)]) dX5_needs_57 (by decide) rfl ?_
    refine MR_iconst (v := 0) dX5_needs_59 (by decide) ?_
    refine MR_istore (lv' := [(6, .int 0), (5, .int 0), (4, .int a1), (0, .ref m), (1, .int a1), (2, .int a2), (3, .int a3)]) dX5_needs_60 (by decide) rfl ?_
    refine MR_iconst (v := 0) dX5_needs_62 (by decide) ?_
    refine MR_istore (lv' := [(7, .int 0), (6, .int 0), (5, .int 0), (4, .int a1), (0, .ref m), (1, .int a1), (2, .int a2), (3, .int a3)]) dX5_needs_63 (by decide) rfl ?_
    exact MR_sub [4, 6, 7, 3, 2, 1, 0] rfl w
  · have w := w.2 c3
    refine MR_aload_n dX5_needs_33 0 rfl ?_
    refine MR_getA (k := 35) (o := 24) (j := 0) (n := 12) dX5_needs_34 q1299 (by decide) rfl rfl ?_
    refine MR_iload dX5_needs_37 4 rfl ?_
    refine MR_aload_n dX5_needs_39 0 rfl ?_
    refine MR_getA (k := 3) (o := 2) (j := 0) (n := 12) dX5_needs_40 q1267 (by decide) rfl rfl ?_
    refine MR_iload dX5_needs_43 4 rfl ?_
    obtain ⟨c2, w⟩ := w
    refine MR_iald (k := 3) dX5_needs_45 (by decide) rfl c2 ?_
    obtain ⟨c1, w⟩ := w
    refine MR_iast (k := 35) dX5_needs_46 (by decide) rfl c1 ?_
    refine MR_iinc (v := (a4 + 1)) (lv' := [(4, .int (a4 + 1)), (0, .ref m), (1, .int a1), (2, .int a2), (3, .int a3)]) dX5_needs_47 4 rfl (congrArg (fun z => a4 + z) (show Int32.ofInt 1 = 1 by decide)) (by decide) rfl ?_
    refine MR_goto (tgt := 24) dX5_needs_50 (by decide) ?_
    exact MR_sub [1, 2, 3, 4, 0] rfl w
theorem sX5_needs_65 {G : GG} {m : Nat} {sg : MS} {Q : Outcome → MS → Prop} {a2 a3 a4 a5 a6 a7 : Int32} (w : (a2 ≤ a7 → (MR G mX5_needs 11 172 [(0, .ref m), (2, .int a2), (3, .int a3), (5, .int a5), (6, .int a6), (7, .int 0)] [] m sg Q)) ∧ (¬ a2 ≤ a7 → (MR G mX5_needs 11 74 [(0, .ref m), (2, .int a2), (3, .int a3), (4, .int a4), (5, .int a5), (6, .int a6), (7, .int a7), (8, .int 0)] [] m sg Q))) : MR G mX5_needs 11 65 [(0, .ref m), (2, .int a2), (3, .int a3), (4, .int a4), (5, .int a5), (6, .int a6), (7, .int a7)] [] m sg Q := by
  refine MR_iload dX5_needs_65 6 rfl ?_
  refine MR_iload_n dX5_needs_67 1 rfl ?_
  refine MR_icmp_ge (tgt := 169) dX5_needs_68 (by decide) (fun c1 => ?_) (fun c1 => ?_)
  · have w := w.1 c1
    refine MR_iconst (v := 0) dX5_needs_169 (by decide) ?_
    refine MR_istore (lv' := [(7, .int 0), (0, .ref m), (2, .int a2), (3, .int a3), (4, .int a4), (5, .int a5), (6, .int a6)]) dX5_needs_170 (by decide) rfl ?_
    exact MR_sub [1, 2, 3, 5, 6, 0] rfl w
  · have w := w.2 c1
    refine MR_iconst (v := 0) dX5_needs_71 (by decide) ?_
    refine MR_istore (lv' := [(8, .int 0), (0, .ref m), (2, .int a2), (3, .int a3), (4, .int a4), (5, .int a5), (6, .int a6), (7, .int a7)]) dX5_needs_72 (by decide) rfl ?_
    exact MR_sub [1, 2, 3, 4, 5, 6, 7, 0] rfl w
theorem sX5_needs_74 {G : GG} {m : Nat} {sg : MS} {Q : Outcome → MS → Prop} {a2 a3 a4 a5 a6 a7 a8 : Int32} (w : ((sg.1 1 0) ≤ a8 → (MR G mX5_runBy 10 0 [(0, .ref m), (1, .int 0)] [] m sg (fun o sg1 => o = .returned none ∧ (MR G mX5_unlikeNames 2 0 [(0, .ref m)] [] m sg1 (fun o sg2 => ∃ r3 : Int32, o = .returned (some (.int r3)) ∧ ((r3 ≤ a6 → (MR G mX5_needs 11 65 [(0, .ref m), (2, .int a2), (3, .int a3), (4, .int a4), (5, .int (a5 + r3)), (6, .int a6), (7, .int (a7 + 1))] [] m sg2 Q)) ∧ (¬ r3 ≤ a6 → (MR G mX5_needs 11 65 [(0, .ref m), (2, .int a2), (3, .int a3), (4, .int a4), (5, .int (a5 + r3)), (6, .int r3), (7, .int (a7 + 1))] [] m sg2 Q)))))))) ∧ (¬ (sg.1 1 0) ≤ a8 → (vp_in a8 12 ∧ (vp_in a8 12 ∧ (¬ (100 - (sg.1 2 a8.toNatClampNeg)) = 0 ∧ (vp_in a8 12 ∧ (MR G mX5_needs 11 74 [(0, .ref m), (2, .int a2), (3, .int a3), (4, .int ((a4 * 1103515245) + 12345)), (5, .int a5), (6, .int a6), (7, .int a7), (8, .int (a8 + 1))] [] m (uS sg 3 a8.toNatClampNeg (((sg.1 2 a8.toNatClampNeg) + 1) + (((((a4 * 1103515245) + 12345)).toUInt32 >>> ((8 : Int32).toUInt32 &&& Int32.toUInt32 31)).toInt32 - ((((a4 * 1103515245) + 12345)).toUInt32 >>> ((8 : Int32).toUInt32 &&& Int32.toUInt32 31)).toInt32 / (100 - (sg.1 2 a8.toNatClampNeg)) * (100 - (sg.1 2 a8.toNatClampNeg))))) Q))))))) : MR G mX5_needs 11 74 [(0, .ref m), (2, .int a2), (3, .int a3), (4, .int a4), (5, .int a5), (6, .int a6), (7, .int a7), (8, .int a8)] [] m sg Q := by
  refine MR_iload dX5_needs_74 7 rfl ?_
  refine MR_aload_n dX5_needs_76 0 rfl ?_
  refine MR_getS (k := 1) dX5_needs_77 q1265 (by decide) rfl rfl ?_
  refine MR_icmp_ge (tgt := 134) dX5_needs_80 (by decide) (fun c9 => ?_) (fun c9 => ?_)
  · have w := w.1 c9
    refine MR_aload_n dX5_needs_134 0 rfl ?_
    refine MR_iconst (v := 0) dX5_needs_135 (by decide) ?_
    refine MR_invVv (Mc := mX5_runBy) (As := [.int 0]) (st := []) dX5_needs_136 q1664 q1666 qs84 q111 wX5_runBy pX5_runBy rfl (Nat.le_of_ble_eq_true rfl) (by decide) (by decide) (Nat.le_of_ble_eq_true rfl) w (fun sg1 w => ?_)
    refine MR_aload_n dX5_needs_139 0 rfl ?_
    refine MR_invVi (Mc := mX5_unlikeNames) (As := []) (st := []) dX5_needs_140 q1672 q1674 qs85 q111 wX5_unlikeNames pX5_unlikeNames rfl (Nat.le_of_ble_eq_true rfl) (by decide) (by decide) (Nat.le_of_ble_eq_true rfl) w (fun r3 sg2 w => ?_)
    refine MR_istore (lv' := [(8, .int r3), (0, .ref m), (2, .int a2), (3, .int a3), (4, .int a4), (5, .int a5), (6, .int a6), (7, .int a7)]) dX5_needs_143 (by decide) rfl ?_
    refine MR_iload dX5_needs_145 5 rfl ?_
    refine MR_iload dX5_needs_147 0 rfl ?_
    refine MR_iadd dX5_needs_149 ?_
    refine MR_istore (lv' := [(5, .int (a5 + r3)), (8, .int r3), (0, .ref m), (2, .int a2), (3, .int a3), (4, .int a4), (6, .int a6), (7, .int a7)]) dX5_needs_150 (by decide) rfl ?_
    refine MR_iload dX5_needs_152 1 rfl ?_
    refine MR_iload dX5_needs_154 6 rfl ?_
    refine MR_icmp_le (tgt := 163) dX5_needs_156 (by decide) (fun c4 => ?_) (fun c4 => ?_)
    · have w := w.1 c4
      refine MR_iinc (v := (a7 + 1)) (lv' := [(7, .int (a7 + 1)), (5, .int (a5 + r3)), (8, .int r3), (0, .ref m), (2, .int a2), (3, .int a3), (4, .int a4), (6, .int a6)]) dX5_needs_163 7 rfl (congrArg (fun z => a7 + z) (show Int32.ofInt 1 = 1 by decide)) (by decide) rfl ?_
      refine MR_goto (tgt := 65) dX5_needs_166 (by decide) ?_
      exact MR_sub [3, 4, 5, 6, 1, 7, 0] rfl w
    · have w := w.2 c4
      refine MR_iload dX5_needs_159 1 rfl ?_
      refine MR_istore (lv' := [(6, .int r3), (5, .int (a5 + r3)), (8, .int r3), (0, .ref m), (2, .int a2), (3, .int a3), (4, .int a4), (7, .int a7)]) dX5_needs_161 (by decide) rfl ?_
      refine MR_iinc (v := (a7 + 1)) (lv' := [(7, .int (a7 + 1)), (6, .int r3), (5, .int (a5 + r3)), (8, .int r3), (0, .ref m), (2, .int a2), (3, .int a3), (4, .int a4)]) dX5_needs_163 7 rfl (congrArg (fun z => a7 + z) (show Int32.ofInt 1 = 1 by decide)) (by decide) rfl ?_
      refine MR_goto (tgt := 65) dX5_needs_166 (by decide) ?_
      exact MR_sub [4, 5, 6, 7, 2, 1, 0] rfl w
  · have w := w.2 c9
    refine MR_iload dX5_needs_83 3 rfl ?_
    refine MR_ldcw (v := 1103515245) dX5_needs_85 q1696 ?_
    refine MR_imul dX5_needs_88 ?_
    refine MR_sipush (v := 12345) dX5_needs_89 (by decide) ?_
    refine MR_iadd dX5_needs_92 ?_
    refine MR_istore (lv' := [(4, .int ((a4 * 1103515245) + 12345)), (0, .ref m), (2, .int a2), (3, .int a3), (5, .int a5), (6, .int a6), (7, .int a7), (8, .int a8)]) dX5_needs_93 (by decide) rfl ?_
    refine MR_aload_n dX5_needs_95 1 rfl ?_
    refine MR_getA (k := 3) (o := 2) (j := 0) (n := 12) dX5_needs_96 q1267 (by decide) rfl rfl ?_
    refine MR_iload dX5_needs_99 7 rfl ?_
    refine MR_aload_n dX5_needs_101 1 rfl ?_
    refine MR_getA (k := 2) (o := 1) (j := 0) (n := 12) dX5_needs_102 q1266 (by decide) rfl rfl ?_
    refine MR_iload dX5_needs_105 7 rfl ?_
    obtain ⟨c8, w⟩ := w
    refine MR_iald (k := 2) dX5_needs_107 (by decide) rfl c8 ?_
    refine MR_iconst (v := 1) dX5_needs_108 (by decide) ?_
    refine MR_iadd dX5_needs_109 ?_
    refine MR_iload dX5_needs_110 0 rfl ?_
    refine MR_bipush (v := 8) dX5_needs_112 (by decide) ?_
    refine MR_iushr dX5_needs_114 ?_
    refine MR_bipush (v := 100) dX5_needs_115 (by decide) ?_
    refine MR_aload_n dX5_needs_117 1 rfl ?_
    refine MR_getA (k := 2) (o := 1) (j := 0) (n := 12) dX5_needs_118 q1266 (by decide) rfl rfl ?_
    refine MR_iload dX5_needs_121 7 rfl ?_
    obtain ⟨c7, w⟩ := w
    refine MR_iald (k := 2) dX5_needs_123 (by decide) rfl c7 ?_
    refine MR_isub dX5_needs_124 ?_
    obtain ⟨c6, w⟩ := w
    refine MR_irem dX5_needs_125 c6 ?_
    refine MR_iadd dX5_needs_126 ?_
    obtain ⟨c5, w⟩ := w
    refine MR_iast (k := 3) dX5_needs_127 (by decide) rfl c5 ?_
    refine MR_iinc (v := (a8 + 1)) (lv' := [(8, .int (a8 + 1)), (4, .int ((a4 * 1103515245) + 12345)), (0, .ref m), (2, .int a2), (3, .int a3), (5, .int a5), (6, .int a6), (7, .int a7)]) dX5_needs_128 7 rfl (congrArg (fun z => a8 + z) (show Int32.ofInt 1 = 1 by decide)) (by decide) rfl ?_
    refine MR_goto (tgt := 74) dX5_needs_131 (by decide) ?_
    exact MR_sub [2, 3, 4, 1, 5, 6, 7, 0] rfl w
theorem sX5_needs_172 {G : GG} {m : Nat} {sg : MS} {Q : Outcome → MS → Prop} {a2 a3 a5 a6 a7 : Int32} (w : ((sg.1 1 0) ≤ a7 → ((¬ a3 = 0 → (Q (.returned (some (.int a6))) sg)) ∧ (a3 = 0 → (¬ a2 = 0 ∧ (Q (.returned (some (.int (a5 / a2)))) sg))))) ∧ (¬ (sg.1 1 0) ≤ a7 → (vp_in a7 12 ∧ (vp_in a7 12 ∧ (MR G mX5_needs 11 172 [(0, .ref m), (2, .int a2), (3, .int a3), (5, .int a5), (6, .int a6), (7, .int (a7 + 1))] [] m (uS sg 3 a7.toNatClampNeg (sg.1 35 a7.toNatClampNeg)) Q))))) : MR G mX5_needs 11 172 [(0, .ref m), (2, .int a2), (3, .int a3), (5, .int a5), (6, .int a6), (7, .int a7)] [] m sg Q := by
  refine MR_iload dX5_needs_172 5 rfl ?_
  refine MR_aload_n dX5_needs_174 0 rfl ?_
  refine MR_getS (k := 1) dX5_needs_175 q1265 (by decide) rfl rfl ?_
  refine MR_icmp_ge (tgt := 201) dX5_needs_178 (by decide) (fun c5 => ?_) (fun c5 => ?_)
  · have w := w.1 c5
    refine MR_iload_n dX5_needs_201 2 rfl ?_
    refine MR_if_ne (tgt := 212) dX5_needs_202 (by decide) (fun c2 => ?_) (fun c2 => ?_)
    · have w := w.1 c2
      refine MR_iload dX5_needs_212 4 rfl ?_
      exact MR_iret dX5_needs_214 rfl w
    · have w := w.2 c2
      refine MR_iload dX5_needs_205 3 rfl ?_
      refine MR_iload_n dX5_needs_207 1 rfl ?_
      obtain ⟨c1, w⟩ := w
      refine MR_idiv dX5_needs_208 c1 ?_
      refine MR_goto (tgt := 214) dX5_needs_209 (by decide) ?_
      exact MR_iret dX5_needs_214 rfl w
  · have w := w.2 c5
    refine MR_aload_n dX5_needs_181 0 rfl ?_
    refine MR_getA (k := 3) (o := 2) (j := 0) (n := 12) dX5_needs_182 q1267 (by decide) rfl rfl ?_
    refine MR_iload dX5_needs_185 5 rfl ?_
    refine MR_aload_n dX5_needs_187 0 rfl ?_
    refine MR_getA (k := 35) (o := 24) (j := 0) (n := 12) dX5_needs_188 q1299 (by decide) rfl rfl ?_
    refine MR_iload dX5_needs_191 5 rfl ?_
    obtain ⟨c4, w⟩ := w
    refine MR_iald (k := 35) dX5_needs_193 (by decide) rfl c4 ?_
    obtain ⟨c3, w⟩ := w
    refine MR_iast (k := 3) dX5_needs_194 (by decide) rfl c3 ?_
    refine MR_iinc (v := (a7 + 1)) (lv' := [(7, .int (a7 + 1)), (0, .ref m), (2, .int a2), (3, .int a3), (5, .int a5), (6, .int a6)]) dX5_needs_195 5 rfl (congrArg (fun z => a7 + z) (show Int32.ofInt 1 = 1 by decide)) (by decide) rfl ?_
    refine MR_goto (tgt := 172) dX5_needs_198 (by decide) ?_
    exact MR_sub [1, 2, 3, 4, 5, 0] rfl w
theorem sX5_never_0 {G : GG} {m : Nat} {sg : MS} {Q : Outcome → MS → Prop} {a1 : Int32} (w : MR G mX5_isPerson 2 0 [(0, .ref m), (1, .int a1)] [] m sg (fun o sg1 => ∃ b2 : Bool, o = .returned (some (.int (bi b2))) ∧ ((b2 = true → (MR G mX5_never 3 14 [(0, .ref m), (1, .int a1), (2, .int 0), (3, .int 0)] [] m sg1 Q)) ∧ (b2 = false → (Q (.returned (some (.int (-1)))) sg1))))) : MR G mX5_never 3 0 [(0, .ref m), (1, .int a1)] [] m sg Q := by
  refine MR_aload_n dX5_never_0 0 rfl ?_
  refine MR_iload_n dX5_never_1 1 rfl ?_
  refine MR_invVz (Mc := mX5_isPerson) (As := [.int a1]) (st := []) dX5_never_2 q1435 q1437 qs46 q111 wX5_isPerson pX5_isPerson rfl (Nat.le_of_ble_eq_true rfl) (by decide) (by decide) (Nat.le_of_ble_eq_true rfl) w (fun b2 sg1 w => ?_)
  refine MR_ifz_ne (tgt := 10) dX5_never_5 (by decide) (fun c3 => ?_) (fun c3 => ?_)
  · have w := w.1 c3
    refine MR_iconst (v := 0) dX5_never_10 (by decide) ?_
    refine MR_istore_n (lv' := [(2, .int 0), (0, .ref m), (1, .int a1)]) dX5_never_11 rfl (by decide) rfl ?_
    refine MR_iconst (v := 0) dX5_never_12 (by decide) ?_
    refine MR_istore_n (lv' := [(3, .int 0), (2, .int 0), (0, .ref m), (1, .int a1)]) dX5_never_13 rfl (by decide) rfl ?_
    exact MR_sub [2, 3, 1, 0] rfl w
  · have w := w.2 c3
    refine MR_iconst (v := (-1)) dX5_never_8 (by decide) ?_
    exact MR_iret dX5_never_9 rfl w
theorem sX5_never_14 {G : GG} {m : Nat} {sg : MS} {Q : Outcome → MS → Prop} {a1 a2 a3 : Int32} (w : ((sg.1 1 0) ≤ a3 → (Q (.returned (some (.int a2))) sg)) ∧ (¬ (sg.1 1 0) ≤ a3 → (vp_in a1 12 ∧ (((sg.1 4 a1.toNatClampNeg) < 0 → (MR G mX5_never 3 14 [(0, .ref m), (1, .int a1), (2, .int a2), (3, .int (a3 + 1))] [] m sg Q)) ∧ (¬ (sg.1 4 a1.toNatClampNeg) < 0 → ((a3 = a1 → (MR G mX5_never 3 14 [(0, .ref m), (1, .int a1), (2, .int a2), (3, .int (a3 + 1))] [] m sg Q)) ∧ (¬ a3 = a1 → (vp_in a3 12 ∧ (vp_in a1 12 ∧ ((¬ (sg.1 4 a3.toNatClampNeg) = (sg.1 4 a1.toNatClampNeg) → (MR G mX5_never 3 14 [(0, .ref m), (1, .int a1), (2, .int a2), (3, .int (a3 + 1))] [] m sg Q)) ∧ ((sg.1 4 a3.toNatClampNeg) = (sg.1 4 a1.toNatClampNeg) → (MR G mX5_isAhead 1 0 [(0, .ref m), (1, .int a1), (2, .int a3)] [] m sg (fun o sg1 => ∃ b2 : Bool, o = .returned (some (.int (bi b2))) ∧ ((b2 = true → (MR G mX5_never 3 66 [(0, .ref m), (1, .int a1), (2, .int a2), (3, .int a3), (4, .int 0)] [] m sg1 Q)) ∧ (b2 = false → (MR G mX5_never 3 14 [(0, .ref m), (1, .int a1), (2, .int a2), (3, .int (a3 + 1))] [] m sg1 Q)))))))))))))))) : MR G mX5_never 3 14 [(0, .ref m), (1, .int a1), (2, .int a2), (3, .int a3)] [] m sg Q := by
  refine MR_iload_n dX5_never_14 3 rfl ?_
  refine MR_aload_n dX5_never_15 0 rfl ?_
  refine MR_getS (k := 1) dX5_never_16 q1265 (by decide) rfl rfl ?_
  refine MR_icmp_ge (tgt := 121) dX5_never_19 (by decide) (fun c10 => ?_) (fun c10 => ?_)
  · have w := w.1 c10
    refine MR_iload_n dX5_never_121 2 rfl ?_
    exact MR_iret dX5_never_122 rfl w
  · have w := w.2 c10
    refine MR_aload_n dX5_never_22 0 rfl ?_
    refine MR_getA (k := 4) (o := 3) (j := 0) (n := 12) dX5_never_23 q1268 (by decide) rfl rfl ?_
    refine MR_iload_n dX5_never_26 1 rfl ?_
    obtain ⟨c9, w⟩ := w
    refine MR_iald (k := 4) dX5_never_27 (by decide) rfl c9 ?_
    refine MR_if_lt (tgt := 115) dX5_never_28 (by decide) (fun c8 => ?_) (fun c8 => ?_)
    · have w := w.1 c8
      refine MR_iinc (v := (a3 + 1)) (lv' := [(3, .int (a3 + 1)), (0, .ref m), (1, .int a1), (2, .int a2)]) dX5_never_115 3 rfl (congrArg (fun z => a3 + z) (show Int32.ofInt 1 = 1 by decide)) (by decide) rfl ?_
      refine MR_goto (tgt := 14) dX5_never_118 (by decide) ?_
      exact MR_sub [1, 2, 3, 0] rfl w
    · have w := w.2 c8
      refine MR_iload_n dX5_never_31 3 rfl ?_
      refine MR_iload_n dX5_never_32 1 rfl ?_
      refine MR_icmp_eq (tgt := 115) dX5_never_33 (by decide) (fun c7 => ?_) (fun c7 => ?_)
      · have w := w.1 c7
        refine MR_iinc (v := (a3 + 1)) (lv' := [(3, .int (a3 + 1)), (0, .ref m), (1, .int a1), (2, .int a2)]) dX5_never_115 3 rfl (congrArg (fun z => a3 + z) (show Int32.ofInt 1 = 1 by decide)) (by decide) rfl ?_
        refine MR_goto (tgt := 14) dX5_never_118 (by decide) ?_
        exact MR_sub [1, 2, 3, 0] rfl w
      · have w := w.2 c7
        refine MR_aload_n dX5_never_36 0 rfl ?_
        refine MR_getA (k := 4) (o := 3) (j := 0) (n := 12) dX5_never_37 q1268 (by decide) rfl rfl ?_
        refine MR_iload_n dX5_never_40 3 rfl ?_
        obtain ⟨c6, w⟩ := w
        refine MR_iald (k := 4) dX5_never_41 (by decide) rfl c6 ?_
        refine MR_aload_n dX5_never_42 0 rfl ?_
        refine MR_getA (k := 4) (o := 3) (j := 0) (n := 12) dX5_never_43 q1268 (by decide) rfl rfl ?_
        refine MR_iload_n dX5_never_46 1 rfl ?_
        obtain ⟨c5, w⟩ := w
        refine MR_iald (k := 4) dX5_never_47 (by decide) rfl c5 ?_
        refine MR_icmp_ne (tgt := 115) dX5_never_48 (by decide) (fun c4 => ?_) (fun c4 => ?_)
        · have w := w.1 c4
          refine MR_iinc (v := (a3 + 1)) (lv' := [(3, .int (a3 + 1)), (0, .ref m), (1, .int a1), (2, .int a2)]) dX5_never_115 3 rfl (congrArg (fun z => a3 + z) (show Int32.ofInt 1 = 1 by decide)) (by decide) rfl ?_
          refine MR_goto (tgt := 14) dX5_never_118 (by decide) ?_
          exact MR_sub [1, 2, 3, 0] rfl w
        · have w := w.2 c4
          refine MR_aload_n dX5_never_51 0 rfl ?_
          refine MR_iload_n dX5_never_52 1 rfl ?_
          refine MR_iload_n dX5_never_53 3 rfl ?_
          refine MR_invVz (Mc := mX5_isAhead) (As := [.int a1, .int a3]) (st := []) dX5_never_54 q1491 q1493 qs52 q111 wX5_isAhead pX5_isAhead rfl (Nat.le_of_ble_eq_true rfl) (by decide) (by decide) (Nat.le_of_ble_eq_true rfl) w (fun b2 sg1 w => ?_)
          refine MR_ifz_ne (tgt := 63) dX5_never_57 (by decide) (fun c3 => ?_) (fun c3 => ?_)
          · have w := w.1 c3
            refine MR_iconst (v := 0) dX5_never_63 (by decide) ?_
            refine MR_istore (lv' := [(4, .int 0), (0, .ref m), (1, .int a1), (2, .int a2), (3, .int a3)]) dX5_never_64 (by decide) rfl ?_
            exact MR_sub [1, 2, 3, 4, 0] rfl w
          · have w := w.2 c3
            refine MR_goto (tgt := 115) dX5_never_60 (by decide) ?_
            refine MR_iinc (v := (a3 + 1)) (lv' := [(3, .int (a3 + 1)), (0, .ref m), (1, .int a1), (2, .int a2)]) dX5_never_115 3 rfl (congrArg (fun z => a3 + z) (show Int32.ofInt 1 = 1 by decide)) (by decide) rfl ?_
            refine MR_goto (tgt := 14) dX5_never_118 (by decide) ?_
            exact MR_sub [1, 2, 3, 0] rfl w
theorem sX5_never_66 {G : GG} {m : Nat} {sg : MS} {Q : Outcome → MS → Prop} {a1 a2 a3 a4 : Int32} (w : ((sg.1 1 0) ≤ a4 → (MR G mX5_never 3 14 [(0, .ref m), (1, .int a1), (2, .int a2), (3, .int (a3 + 1))] [] m sg Q)) ∧ (¬ (sg.1 1 0) ≤ a4 → ((a4 = a1 → (MR G mX5_never 3 66 [(0, .ref m), (1, .int a1), (2, .int a2), (3, .int a3), (4, .int (a4 + 1))] [] m sg Q)) ∧ (¬ a4 = a1 → ((a4 = a3 → (MR G mX5_never 3 66 [(0, .ref m), (1, .int a1), (2, .int a2), (3, .int a3), (4, .int (a4 + 1))] [] m sg Q)) ∧ (¬ a4 = a3 → (vp_in a3 12 ∧ (MR G mX5_lives 1 0 [(0, .ref m), (1, .int a4), (2, .int (sg.1 2 a3.toNatClampNeg))] [] m sg (fun o sg1 => ∃ b2 : Bool, o = .returned (some (.int (bi b2))) ∧ ((b2 = false → (MR G mX5_never 3 66 [(0, .ref m), (1, .int a1), (2, .int a2), (3, .int a3), (4, .int (a4 + 1))] [] m sg1 Q)) ∧ (b2 = true → (MR G mX5_never 3 66 [(0, .ref m), (1, .int a1), (2, .int (a2 ||| ((1 : Int32) <<< (a4 &&& 31)))), (3, .int a3), (4, .int (a4 + 1))] [] m sg1 Q)))))))))))) : MR G mX5_never 3 66 [(0, .ref m), (1, .int a1), (2, .int a2), (3, .int a3), (4, .int a4)] [] m sg Q := by
  refine MR_iload dX5_never_66 4 rfl ?_
  refine MR_aload_n dX5_never_68 0 rfl ?_
  refine MR_getS (k := 1) dX5_never_69 q1265 (by decide) rfl rfl ?_
  refine MR_icmp_ge (tgt := 115) dX5_never_72 (by decide) (fun c7 => ?_) (fun c7 => ?_)
  · have w := w.1 c7
    refine MR_iinc (v := (a3 + 1)) (lv' := [(3, .int (a3 + 1)), (0, .ref m), (1, .int a1), (2, .int a2), (4, .int a4)]) dX5_never_115 3 rfl (congrArg (fun z => a3 + z) (show Int32.ofInt 1 = 1 by decide)) (by decide) rfl ?_
    refine MR_goto (tgt := 14) dX5_never_118 (by decide) ?_
    exact MR_sub [1, 2, 3, 0] rfl w
  · have w := w.2 c7
    refine MR_iload dX5_never_75 4 rfl ?_
    refine MR_iload_n dX5_never_77 1 rfl ?_
    refine MR_icmp_eq (tgt := 109) dX5_never_78 (by decide) (fun c6 => ?_) (fun c6 => ?_)
    · have w := w.1 c6
      refine MR_iinc (v := (a4 + 1)) (lv' := [(4, .int (a4 + 1)), (0, .ref m), (1, .int a1), (2, .int a2), (3, .int a3)]) dX5_never_109 4 rfl (congrArg (fun z => a4 + z) (show Int32.ofInt 1 = 1 by decide)) (by decide) rfl ?_
      refine MR_goto (tgt := 66) dX5_never_112 (by decide) ?_
      exact MR_sub [1, 2, 3, 4, 0] rfl w
    · have w := w.2 c6
      refine MR_iload dX5_never_81 4 rfl ?_
      refine MR_iload_n dX5_never_83 3 rfl ?_
      refine MR_icmp_eq (tgt := 109) dX5_never_84 (by decide) (fun c5 => ?_) (fun c5 => ?_)
      · have w := w.1 c5
        refine MR_iinc (v := (a4 + 1)) (lv' := [(4, .int (a4 + 1)), (0, .ref m), (1, .int a1), (2, .int a2), (3, .int a3)]) dX5_never_109 4 rfl (congrArg (fun z => a4 + z) (show Int32.ofInt 1 = 1 by decide)) (by decide) rfl ?_
        refine MR_goto (tgt := 66) dX5_never_112 (by decide) ?_
        exact MR_sub [1, 2, 3, 4, 0] rfl w
      · have w := w.2 c5
        refine MR_aload_n dX5_never_87 0 rfl ?_
        refine MR_iload dX5_never_88 4 rfl ?_
        refine MR_aload_n dX5_never_90 0 rfl ?_
        refine MR_getA (k := 2) (o := 1) (j := 0) (n := 12) dX5_never_91 q1266 (by decide) rfl rfl ?_
        refine MR_iload_n dX5_never_94 3 rfl ?_
        obtain ⟨c4, w⟩ := w
        refine MR_iald (k := 2) dX5_never_95 (by decide) rfl c4 ?_
        refine MR_invVz (Mc := mX5_lives) (As := [.int a4, .int (sg.1 2 a3.toNatClampNeg)]) (st := []) dX5_never_96 q1439 q1441 qs47 q111 wX5_lives pX5_lives rfl (Nat.le_of_ble_eq_true rfl) (by decide) (by decide) (Nat.le_of_ble_eq_true rfl) w (fun b2 sg1 w => ?_)
        refine MR_ifz_eq (tgt := 109) dX5_never_99 (by decide) (fun c3 => ?_) (fun c3 => ?_)
        · have w := w.1 c3
          refine MR_iinc (v := (a4 + 1)) (lv' := [(4, .int (a4 + 1)), (0, .ref m), (1, .int a1), (2, .int a2), (3, .int a3)]) dX5_never_109 4 rfl (congrArg (fun z => a4 + z) (show Int32.ofInt 1 = 1 by decide)) (by decide) rfl ?_
          refine MR_goto (tgt := 66) dX5_never_112 (by decide) ?_
          exact MR_sub [1, 2, 3, 4, 0] rfl w
        · have w := w.2 c3
          refine MR_iload_n dX5_never_102 2 rfl ?_
          refine MR_iconst (v := 1) dX5_never_103 (by decide) ?_
          refine MR_iload dX5_never_104 4 rfl ?_
          refine MR_ishl dX5_never_106 ?_
          refine MR_ior dX5_never_107 ?_
          refine MR_istore_n (lv' := [(2, .int (a2 ||| ((1 : Int32) <<< (a4 &&& 31)))), (0, .ref m), (1, .int a1), (3, .int a3), (4, .int a4)]) dX5_never_108 rfl (by decide) rfl ?_
          refine MR_iinc (v := (a4 + 1)) (lv' := [(4, .int (a4 + 1)), (2, .int (a2 ||| ((1 : Int32) <<< (a4 &&& 31)))), (0, .ref m), (1, .int a1), (3, .int a3)]) dX5_never_109 4 rfl (congrArg (fun z => a4 + z) (show Int32.ofInt 1 = 1 by decide)) (by decide) rfl ?_
          refine MR_goto (tgt := 66) dX5_never_112 (by decide) ?_
          exact MR_sub [2, 3, 1, 4, 0] rfl w
theorem sX5_of_0 {G : GG} {m : Nat} {sg : MS} {Q : Outcome → MS → Prop} {a1 a2 : Int32} (w : MR G mX5_in 1 0 [(0, .int a2), (1, .int 0), (2, .int 3)] [] m sg (fun o sg1 => ∃ b2 : Bool, o = .returned (some (.int (bi b2))) ∧ ((b2 = false → (MR G mX5_in 1 0 [(0, .int a2), (1, .int 10), (2, .int 12)] [] m sg1 (fun o sg3 => ∃ b4 : Bool, o = .returned (some (.int (bi b4))) ∧ ((b4 = false → (MR G mX5_in 1 0 [(0, .int a2), (1, .int 20), (2, .int 22)] [] m sg3 (fun o sg5 => ∃ b6 : Bool, o = .returned (some (.int (bi b6))) ∧ ((b6 = false → (Q (.returned (some (.int (-2000000000)))) sg5)) ∧ (b6 = true → (MR G mX5_in 1 0 [(0, .int a1), (1, .int 0), (2, .int ((sg5.1 5 0) - 1))] [] m sg5 (fun o sg7 => ∃ b8 : Bool, o = .returned (some (.int (bi b8))) ∧ ((b8 = true → ((¬ a2 = 20 → ((¬ a2 = 21 → (MR G mX5_counts 2 0 [(0, .ref m), (1, .int a1)] [] m sg7 (fun o sg9 => ∃ b10 : Bool, o = .returned (some (.int (bi b10))) ∧ ((b10 = false → (Q (.returned (some (.int 0))) sg9)) ∧ (b10 = true → (Q (.returned (some (.int 1))) sg9)))))) ∧ (a2 = 21 → (vp_in a1 16 ∧ (Q (.returned (some (.int (sg7.1 8 a1.toNatClampNeg)))) sg7))))) ∧ (a2 = 20 → (vp_in a1 16 ∧ (vp_in a1 16 ∧ (Q (.returned (some (.int ((100 * (sg7.1 6 a1.toNatClampNeg)) + (sg7.1 7 a1.toNatClampNeg))))) sg7)))))) ∧ (b8 = false → (Q (.returned (some (.int (-2000000000)))) sg7)))))))))) ∧ (b4 = true → (MR G mX5_isName 2 0 [(0, .int a1)] [] m sg3 (fun o sg19 => ∃ b20 : Bool, o = .returned (some (.int (bi b20))) ∧ ((b20 = true → ((¬ a2 = 10 → ((¬ a2 = 11 → (MR G mX5_bearersOf 1 0 [(0, .ref m), (1, .int a1)] [] m sg19 (fun o sg21 => ∃ r22 : Int32, o = .returned (some (.int r22)) ∧ (Q (.returned (some (.int r22))) sg21)))) ∧ (a2 = 11 → (vp_in a1 12 ∧ (Q (.returned (some (.int (sg19.1 11 a1.toNatClampNeg)))) sg19))))) ∧ (a2 = 10 → (vp_in a1 12 ∧ (Q (.returned (some (.int (sg19.1 10 a1.toNatClampNeg)))) sg19))))) ∧ (b20 = false → (Q (.returned (some (.int (-2000000000)))) sg19)))))))))) ∧ (b2 = true → (MR G mX5_isPerson 2 0 [(0, .ref m), (1, .int a1)] [] m sg1 (fun o sg29 => ∃ b30 : Bool, o = .returned (some (.int (bi b30))) ∧ ((b30 = true → ((¬ a2 = 0 → ((¬ a2 = 1 → ((¬ a2 = 2 → (MR G mX5_placeOf 2 0 [(0, .ref m), (1, .int a1)] [] m sg29 (fun o sg31 => ∃ r32 : Int32, o = .returned (some (.int r32)) ∧ (Q (.returned (some (.int r32))) sg31)))) ∧ (a2 = 2 → (vp_in a1 12 ∧ (Q (.returned (some (.int (sg29.1 4 a1.toNatClampNeg)))) sg29))))) ∧ (a2 = 1 → (vp_in a1 12 ∧ (Q (.returned (some (.int (sg29.1 3 a1.toNatClampNeg)))) sg29))))) ∧ (a2 = 0 → (vp_in a1 12 ∧ (Q (.returned (some (.int (sg29.1 2 a1.toNatClampNeg)))) sg29))))) ∧ (b30 = false → (Q (.returned (some (.int (-2000000000)))) sg29))))))))) : MR G mX5_of 3 0 [(0, .ref m), (1, .int a1), (2, .int a2)] [] m sg Q := by
  refine MR_iload_n dX5_of_0 2 rfl ?_
  refine MR_iconst (v := 0) dX5_of_1 (by decide) ?_
  refine MR_iconst (v := 3) dX5_of_2 (by decide) ?_
  refine MR_invSz (Mc := mX5_in) (As := [.int a2, .int 0, .int 3]) (st := []) dX5_of_3 q1416 q1417 q111 wX5_in pX5_in rfl (Nat.le_of_ble_eq_true rfl) (by decide) (by decide) (Nat.le_of_ble_eq_true rfl) w (fun b2 sg1 w => ?_)
  refine MR_ifz_eq (tgt := 67) dX5_of_6 (by decide) (fun c40 => ?_) (fun c40 => ?_)
  · have w := w.1 c40
    refine MR_iload_n dX5_of_67 2 rfl ?_
    refine MR_bipush (v := 10) dX5_of_68 (by decide) ?_
    refine MR_bipush (v := 12) dX5_of_70 (by decide) ?_
    refine MR_invSz (Mc := mX5_in) (As := [.int a2, .int 10, .int 12]) (st := []) dX5_of_72 q1416 q1417 q111 wX5_in pX5_in rfl (Nat.le_of_ble_eq_true rfl) (by decide) (by decide) (Nat.le_of_ble_eq_true rfl) w (fun b4 sg3 w => ?_)
    refine MR_ifz_eq (tgt := 126) dX5_of_75 (by decide) (fun c28 => ?_) (fun c28 => ?_)
    · have w := w.1 c28
      refine MR_iload_n dX5_of_126 2 rfl ?_
      refine MR_bipush (v := 20) dX5_of_127 (by decide) ?_
      refine MR_bipush (v := 22) dX5_of_129 (by decide) ?_
      refine MR_invSz (Mc := mX5_in) (As := [.int a2, .int 20, .int 22]) (st := []) dX5_of_131 q1416 q1417 q111 wX5_in pX5_in rfl (Nat.le_of_ble_eq_true rfl) (by decide) (by decide) (Nat.le_of_ble_eq_true rfl) w (fun b6 sg5 w => ?_)
      refine MR_ifz_eq (tgt := 151) dX5_of_134 (by decide) (fun c18 => ?_) (fun c18 => ?_)
      · have w := w.1 c18
        refine MR_ldc (v := (-2000000000)) dX5_of_151 q1451 ?_
        exact MR_iret dX5_of_153 rfl w
      · have w := w.2 c18
        refine MR_iload_n dX5_of_137 1 rfl ?_
        refine MR_iconst (v := 0) dX5_of_138 (by decide) ?_
        refine MR_aload_n dX5_of_139 0 rfl ?_
        refine MR_getS (k := 5) dX5_of_140 q1269 (by decide) rfl rfl ?_
        refine MR_iconst (v := 1) dX5_of_143 (by decide) ?_
        refine MR_isub dX5_of_144 ?_
        refine MR_invSz (Mc := mX5_in) (As := [.int a1, .int 0, .int ((sg5.1 5 0) - 1)]) (st := []) dX5_of_145 q1416 q1417 q111 wX5_in pX5_in rfl (Nat.le_of_ble_eq_true rfl) (by decide) (by decide) (Nat.le_of_ble_eq_true rfl) w (fun b8 sg7 w => ?_)
        refine MR_ifz_ne (tgt := 154) dX5_of_148 (by decide) (fun c17 => ?_) (fun c17 => ?_)
        · have w := w.1 c17
          refine MR_iload_n dX5_of_154 2 rfl ?_
          refine MR_bipush (v := 20) dX5_of_155 (by decide) ?_
          refine MR_icmp_ne (tgt := 179) dX5_of_157 (by decide) (fun c16 => ?_) (fun c16 => ?_)
          · have w := w.1 c16
            refine MR_iload_n dX5_of_179 2 rfl ?_
            refine MR_bipush (v := 21) dX5_of_180 (by decide) ?_
            refine MR_icmp_ne (tgt := 194) dX5_of_182 (by decide) (fun c13 => ?_) (fun c13 => ?_)
            · have w := w.1 c13
              refine MR_aload_n dX5_of_194 0 rfl ?_
              refine MR_iload_n dX5_of_195 1 rfl ?_
              refine MR_invVz (Mc := mX5_counts) (As := [.int a1]) (st := []) dX5_of_196 q1499 q1501 qs54 q111 wX5_counts pX5_counts rfl (Nat.le_of_ble_eq_true rfl) (by decide) (by decide) (Nat.le_of_ble_eq_true rfl) w (fun b10 sg9 w => ?_)
              refine MR_ifz_eq (tgt := 206) dX5_of_199 (by decide) (fun c11 => ?_) (fun c11 => ?_)
              · have w := w.1 c11
                refine MR_iconst (v := 0) dX5_of_206 (by decide) ?_
                exact MR_iret dX5_of_207 rfl w
              · have w := w.2 c11
                refine MR_iconst (v := 1) dX5_of_202 (by decide) ?_
                refine MR_goto (tgt := 207) dX5_of_203 (by decide) ?_
                exact MR_iret dX5_of_207 rfl w
            · have w := w.2 c13
              refine MR_aload_n dX5_of_185 0 rfl ?_
              refine MR_getA (k := 8) (o := 6) (j := 0) (n := 16) dX5_of_186 q1272 (by decide) rfl rfl ?_
              refine MR_iload_n dX5_of_189 1 rfl ?_
              obtain ⟨c12, w⟩ := w
              refine MR_iald (k := 8) dX5_of_190 (by decide) rfl c12 ?_
              refine MR_goto (tgt := 207) dX5_of_191 (by decide) ?_
              exact MR_iret dX5_of_207 rfl w
          · have w := w.2 c16
            refine MR_bipush (v := 100) dX5_of_160 (by decide) ?_
            refine MR_aload_n dX5_of_162 0 rfl ?_
            refine MR_getA (k := 6) (o := 4) (j := 0) (n := 16) dX5_of_163 q1270 (by decide) rfl rfl ?_
            refine MR_iload_n dX5_of_166 1 rfl ?_
            obtain ⟨c15, w⟩ := w
            refine MR_iald (k := 6) dX5_of_167 (by decide) rfl c15 ?_
            refine MR_imul dX5_of_168 ?_
            refine MR_aload_n dX5_of_169 0 rfl ?_
            refine MR_getA (k := 7) (o := 5) (j := 0) (n := 16) dX5_of_170 q1271 (by decide) rfl rfl ?_
            refine MR_iload_n dX5_of_173 1 rfl ?_
            obtain ⟨c14, w⟩ := w
            refine MR_iald (k := 7) dX5_of_174 (by decide) rfl c14 ?_
            refine MR_iadd dX5_of_175 ?_
            refine MR_goto (tgt := 207) dX5_of_176 (by decide) ?_
            exact MR_iret dX5_of_207 rfl w
        · have w := w.2 c17
          refine MR_ldc (v := (-2000000000)) dX5_of_151 q1451 ?_
          exact MR_iret dX5_of_153 rfl w
    · have w := w.2 c28
      refine MR_iload_n dX5_of_78 1 rfl ?_
      refine MR_invSz (Mc := mX5_isName) (As := [.int a1]) (st := []) dX5_of_79 q1456 q1457 q111 wX5_isName pX5_isName rfl (Nat.le_of_ble_eq_true rfl) (by decide) (by decide) (Nat.le_of_ble_eq_true rfl) w (fun b20 sg19 w => ?_)
      refine MR_ifz_ne (tgt := 90) dX5_of_82 (by decide) (fun c27 => ?_) (fun c27 => ?_)
      · have w := w.1 c27
        refine MR_iload_n dX5_of_90 2 rfl ?_
        refine MR_bipush (v := 10) dX5_of_91 (by decide) ?_
        refine MR_icmp_ne (tgt := 105) dX5_of_93 (by decide) (fun c26 => ?_) (fun c26 => ?_)
        · have w := w.1 c26
          refine MR_iload_n dX5_of_105 2 rfl ?_
          refine MR_bipush (v := 11) dX5_of_106 (by decide) ?_
          refine MR_icmp_ne (tgt := 120) dX5_of_108 (by decide) (fun c24 => ?_) (fun c24 => ?_)
          · have w := w.1 c24
            refine MR_aload_n dX5_of_120 0 rfl ?_
            refine MR_iload_n dX5_of_121 1 rfl ?_
            refine MR_invVi (Mc := mX5_bearersOf) (As := [.int a1]) (st := []) dX5_of_122 q1495 q1497 qs53 q111 wX5_bearersOf pX5_bearersOf rfl (Nat.le_of_ble_eq_true rfl) (by decide) (by decide) (Nat.le_of_ble_eq_true rfl) w (fun r22 sg21 w => ?_)
            exact MR_iret dX5_of_125 rfl w
          · have w := w.2 c24
            refine MR_aload_n dX5_of_111 0 rfl ?_
            refine MR_getA (k := 11) (o := 8) (j := 0) (n := 12) dX5_of_112 q1275 (by decide) rfl rfl ?_
            refine MR_iload_n dX5_of_115 1 rfl ?_
            obtain ⟨c23, w⟩ := w
            refine MR_iald (k := 11) dX5_of_116 (by decide) rfl c23 ?_
            refine MR_goto (tgt := 125) dX5_of_117 (by decide) ?_
            exact MR_iret dX5_of_125 rfl w
        · have w := w.2 c26
          refine MR_aload_n dX5_of_96 0 rfl ?_
          refine MR_getA (k := 10) (o := 7) (j := 0) (n := 12) dX5_of_97 q1274 (by decide) rfl rfl ?_
          refine MR_iload_n dX5_of_100 1 rfl ?_
          obtain ⟨c25, w⟩ := w
          refine MR_iald (k := 10) dX5_of_101 (by decide) rfl c25 ?_
          refine MR_goto (tgt := 125) dX5_of_102 (by decide) ?_
          exact MR_iret dX5_of_125 rfl w
      · have w := w.2 c27
        refine MR_ldc (v := (-2000000000)) dX5_of_85 q1451 ?_
        refine MR_goto (tgt := 125) dX5_of_87 (by decide) ?_
        exact MR_iret dX5_of_125 rfl w
  · have w := w.2 c40
    refine MR_aload_n dX5_of_9 0 rfl ?_
    refine MR_iload_n dX5_of_10 1 rfl ?_
    refine MR_invVz (Mc := mX5_isPerson) (As := [.int a1]) (st := []) dX5_of_11 q1435 q1437 qs46 q111 wX5_isPerson pX5_isPerson rfl (Nat.le_of_ble_eq_true rfl) (by decide) (by decide) (Nat.le_of_ble_eq_true rfl) w (fun b30 sg29 w => ?_)
    refine MR_ifz_ne (tgt := 20) dX5_of_14 (by decide) (fun c39 => ?_) (fun c39 => ?_)
    · have w := w.1 c39
      refine MR_iload_n dX5_of_20 2 rfl ?_
      refine MR_if_ne (tgt := 33) dX5_of_21 (by decide) (fun c38 => ?_) (fun c38 => ?_)
      · have w := w.1 c38
        refine MR_iload_n dX5_of_33 2 rfl ?_
        refine MR_iconst (v := 1) dX5_of_34 (by decide) ?_
        refine MR_icmp_ne (tgt := 47) dX5_of_35 (by decide) (fun c36 => ?_) (fun c36 => ?_)
        · have w := w.1 c36
          refine MR_iload_n dX5_of_47 2 rfl ?_
          refine MR_iconst (v := 2) dX5_of_48 (by decide) ?_
          refine MR_icmp_ne (tgt := 61) dX5_of_49 (by decide) (fun c34 => ?_) (fun c34 => ?_)
          · have w := w.1 c34
            refine MR_aload_n dX5_of_61 0 rfl ?_
            refine MR_iload_n dX5_of_62 1 rfl ?_
            refine MR_invVi (Mc := mX5_placeOf) (As := [.int a1]) (st := []) dX5_of_63 q1487 q1489 qs51 q111 wX5_placeOf pX5_placeOf rfl (Nat.le_of_ble_eq_true rfl) (by decide) (by decide) (Nat.le_of_ble_eq_true rfl) w (fun r32 sg31 w => ?_)
            exact MR_iret dX5_of_66 rfl w
          · have w := w.2 c34
            refine MR_aload_n dX5_of_52 0 rfl ?_
            refine MR_getA (k := 4) (o := 3) (j := 0) (n := 12) dX5_of_53 q1268 (by decide) rfl rfl ?_
            refine MR_iload_n dX5_of_56 1 rfl ?_
            obtain ⟨c33, w⟩ := w
            refine MR_iald (k := 4) dX5_of_57 (by decide) rfl c33 ?_
            refine MR_goto (tgt := 66) dX5_of_58 (by decide) ?_
            exact MR_iret dX5_of_66 rfl w
        · have w := w.2 c36
          refine MR_aload_n dX5_of_38 0 rfl ?_
          refine MR_getA (k := 3) (o := 2) (j := 0) (n := 12) dX5_of_39 q1267 (by decide) rfl rfl ?_
          refine MR_iload_n dX5_of_42 1 rfl ?_
          obtain ⟨c35, w⟩ := w
          refine MR_iald (k := 3) dX5_of_43 (by decide) rfl c35 ?_
          refine MR_goto (tgt := 66) dX5_of_44 (by decide) ?_
          exact MR_iret dX5_of_66 rfl w
      · have w := w.2 c38
        refine MR_aload_n dX5_of_24 0 rfl ?_
        refine MR_getA (k := 2) (o := 1) (j := 0) (n := 12) dX5_of_25 q1266 (by decide) rfl rfl ?_
        refine MR_iload_n dX5_of_28 1 rfl ?_
        obtain ⟨c37, w⟩ := w
        refine MR_iald (k := 2) dX5_of_29 (by decide) rfl c37 ?_
        refine MR_goto (tgt := 66) dX5_of_30 (by decide) ?_
        exact MR_iret dX5_of_66 rfl w
    · have w := w.2 c39
      refine MR_ldc (v := (-2000000000)) dX5_of_17 q1451 ?_
      exact MR_iret dX5_of_19 rfl w
theorem sX5_opens_0 {G : GG} {m : Nat} {sg : MS} {Q : Outcome → MS → Prop} (w : (¬ (sg.1 22 0) = 6 → (Q (.returned (some (.int (bi true)))) (uS (uS sg 22 0 ((sg.1 22 0) + 1)) 20 0 (((uS sg 22 0 ((sg.1 22 0) + 1)).1 20 0) + 1)))) ∧ ((sg.1 22 0) = 6 → (MR G mX5_faulty 1 0 [(0, .ref m)] [] m sg (fun o sg1 => o = .returned none ∧ (Q (.returned (some (.int (bi false)))) sg1))))) : MR G mX5_opens 2 0 [(0, .ref m)] [] m sg Q := by
  refine MR_aload_n dX5_opens_0 0 rfl ?_
  refine MR_getS (k := 22) dX5_opens_1 q1286 (by decide) rfl rfl ?_
  refine MR_bipush (v := 6) dX5_opens_4 (by decide) ?_
  refine MR_icmp_ne (tgt := 15) dX5_opens_6 (by decide) (fun c2 => ?_) (fun c2 => ?_)
  · have w := w.1 c2
    refine MR_aload_n dX5_opens_15 0 rfl ?_
    refine MR_dup dX5_opens_16 rfl ?_
    refine MR_getS (k := 22) dX5_opens_17 q1286 (by decide) rfl rfl ?_
    refine MR_iconst (v := 1) dX5_opens_20 (by decide) ?_
    refine MR_iadd dX5_opens_21 ?_
    refine MR_putS (k := 22) dX5_opens_22 q1286 (by decide) rfl rfl rfl rfl rfl ?_
    refine MR_aload_n dX5_opens_25 0 rfl ?_
    refine MR_dup dX5_opens_26 rfl ?_
    refine MR_getS (k := 20) dX5_opens_27 q1284 (by decide) rfl rfl ?_
    refine MR_iconst (v := 1) dX5_opens_30 (by decide) ?_
    refine MR_iadd dX5_opens_31 ?_
    refine MR_putS (k := 20) dX5_opens_32 q1284 (by decide) rfl rfl rfl rfl rfl ?_
    refine MR_iconst (v := 1) dX5_opens_35 (by decide) ?_
    exact MR_bret (b := true) dX5_opens_36 rfl w
  · have w := w.2 c2
    refine MR_aload_n dX5_opens_9 0 rfl ?_
    refine MR_invVv (Mc := mX5_faulty) (As := []) (st := []) dX5_opens_10 q1558 q1560 qs66 q111 wX5_faulty pX5_faulty rfl (Nat.le_of_ble_eq_true rfl) (by decide) (by decide) (Nat.le_of_ble_eq_true rfl) w (fun sg1 w => ?_)
    refine MR_iconst (v := 0) dX5_opens_13 (by decide) ?_
    exact MR_bret (b := false) dX5_opens_14 rfl w
theorem sX5_operand_0 {G : GG} {m : Nat} {sg : MS} {Q : Outcome → MS → Prop} {d d' : Nat} (hdd : d' + 1 ≤ d) (h9 : 9 ≤ d) (w : MR G mX5_look 1 0 [(0, .ref m)] [] m sg (fun o sg1 => ∃ r2 : Int32, o = .returned (some (.int r2)) ∧ (MR G mX5_nameOf 1 0 [(0, .int r2)] [] m sg1 (fun o sg3 => ∃ r4 : Int32, o = .returned (some (.int r4)) ∧ ((r4 < 0 → ((r2 = 33 → (MR G mX5_operand d 46 [(0, .ref m), (1, .int r2)] [] m sg3 Q)) ∧ (¬ r2 = 33 → ((¬ r2 = 45 → ((¬ r2 = 40 → (MR G mX5_figure 2 0 [(0, .ref m)] [] m sg3 (fun o sg5 => o = .returned none ∧ (Q (.returned none) sg5)))) ∧ (r2 = 40 → (MR G mX5_opens 2 0 [(0, .ref m)] [] m sg3 (fun o sg6 => ∃ b7 : Bool, o = .returned (some (.int (bi b7))) ∧ ((b7 = true → (MR G mX5_either d' 0 [(0, .ref m)] [] m sg6 (fun o sg8 => o = .returned none ∧ (((sg8.1 21 0) < 0 → (MR G mX5_look 1 0 [(0, .ref m)] [] m sg8 (fun o sg9 => ∃ r10 : Int32, o = .returned (some (.int r10)) ∧ ((r10 = 41 → (Q (.returned none) (uS (uS sg9 20 0 ((sg9.1 20 0) + 1)) 22 0 (((uS sg9 20 0 ((sg9.1 20 0) + 1)).1 22 0) - 1)))) ∧ (¬ r10 = 41 → (MR G mX5_faulty 1 0 [(0, .ref m)] [] m sg9 (fun o sg11 => o = .returned none ∧ (Q (.returned none) sg11)))))))) ∧ (¬ (sg8.1 21 0) < 0 → (Q (.returned none) sg8)))))) ∧ (b7 = false → (Q (.returned none) sg6)))))))) ∧ (r2 = 45 → (MR G mX5_operand d 46 [(0, .ref m), (1, .int r2)] [] m sg3 Q)))))) ∧ (¬ r4 < 0 → (MR G mX5_nameOf 1 0 [(0, .int r2)] [] m sg3 (fun o sg18 => ∃ r19 : Int32, o = .returned (some (.int r19)) ∧ (MR G mX5_addStep 1 0 [(0, .ref m), (1, .int 2), (2, .int r19)] [] m sg18 (fun o sg20 => o = .returned none ∧ (Q (.returned none) (uS sg20 20 0 ((sg20.1 20 0) + 1))))))))))))) : MR G mX5_operand d 0 [(0, .ref m)] [] m sg Q := by
  refine MR_aload_n dX5_operand_0 0 rfl ?_
  refine MR_invVi (Mc := mX5_look) (As := []) (st := []) dX5_operand_1 q1543 q1545 qs63 q111 wX5_look pX5_look rfl (Nat.le_of_ble_eq_true rfl) (by decide) (by omega) (Nat.le_of_ble_eq_true rfl) w (fun r2 sg1 w => ?_)
  refine MR_istore_n (lv' := [(1, .int r2), (0, .ref m)]) dX5_operand_4 rfl (by decide) rfl ?_
  refine MR_iload_n dX5_operand_5 0 rfl ?_
  refine MR_invSi (Mc := mX5_nameOf) (As := [.int r2]) (st := []) dX5_operand_6 q1547 q1548 q111 wX5_nameOf pX5_nameOf rfl (Nat.le_of_ble_eq_true rfl) (by decide) (by omega) (Nat.le_of_ble_eq_true rfl) w (fun r4 sg3 w => ?_)
  refine MR_if_lt (tgt := 34) dX5_operand_9 (by decide) (fun c21 => ?_) (fun c21 => ?_)
  · have w := w.1 c21
    refine MR_iload_n dX5_operand_34 0 rfl ?_
    refine MR_bipush (v := 33) dX5_operand_35 (by decide) ?_
    refine MR_icmp_eq (tgt := 46) dX5_operand_37 (by decide) (fun c17 => ?_) (fun c17 => ?_)
    · have w := w.1 c17
      exact MR_sub [1, 0] rfl w
    · have w := w.2 c17
      refine MR_iload_n dX5_operand_40 0 rfl ?_
      refine MR_bipush (v := 45) dX5_operand_41 (by decide) ?_
      refine MR_icmp_ne (tgt := 87) dX5_operand_43 (by decide) (fun c16 => ?_) (fun c16 => ?_)
      · have w := w.1 c16
        refine MR_iload_n dX5_operand_87 0 rfl ?_
        refine MR_bipush (v := 40) dX5_operand_88 (by decide) ?_
        refine MR_icmp_ne (tgt := 150) dX5_operand_90 (by decide) (fun c15 => ?_) (fun c15 => ?_)
        · have w := w.1 c15
          refine MR_aload_n dX5_operand_150 1 rfl ?_
          refine MR_invVv (Mc := mX5_figure) (As := []) (st := []) dX5_operand_151 q1562 q1564 qs67 q111 wX5_figure pX5_figure rfl (Nat.le_of_ble_eq_true rfl) (by decide) (by omega) (Nat.le_of_ble_eq_true rfl) w (fun sg5 w => ?_)
          exact MR_vret dX5_operand_154 rfl w
        · have w := w.2 c15
          refine MR_aload_n dX5_operand_93 1 rfl ?_
          refine MR_invVz (Mc := mX5_opens) (As := []) (st := []) dX5_operand_94 q1554 q1556 qs65 q111 wX5_opens pX5_opens rfl (Nat.le_of_ble_eq_true rfl) (by decide) (by omega) (Nat.le_of_ble_eq_true rfl) w (fun b7 sg6 w => ?_)
          refine MR_ifz_ne (tgt := 101) dX5_operand_97 (by decide) (fun c14 => ?_) (fun c14 => ?_)
          · have w := w.1 c14
            refine MR_aload_n dX5_operand_101 1 rfl ?_
            refine MR_invVv (Mc := mX5_either) (As := []) (st := []) dX5_operand_102 q1519 q1521 qs57 q111 wX5_either pX5_either rfl (Nat.le_of_ble_eq_true rfl) (by decide) hdd (Nat.le_of_ble_eq_true rfl) w (fun sg8 w => ?_)
            refine MR_aload_n dX5_operand_105 1 rfl ?_
            refine MR_getS (k := 21) dX5_operand_106 q1285 (by decide) rfl rfl ?_
            refine MR_if_lt (tgt := 113) dX5_operand_109 (by decide) (fun c13 => ?_) (fun c13 => ?_)
            · have w := w.1 c13
              refine MR_aload_n dX5_operand_113 1 rfl ?_
              refine MR_invVi (Mc := mX5_look) (As := []) (st := []) dX5_operand_114 q1543 q1545 qs63 q111 wX5_look pX5_look rfl (Nat.le_of_ble_eq_true rfl) (by decide) (by omega) (Nat.le_of_ble_eq_true rfl) w (fun r10 sg9 w => ?_)
              refine MR_bipush (v := 41) dX5_operand_117 (by decide) ?_
              refine MR_icmp_eq (tgt := 127) dX5_operand_119 (by decide) (fun c12 => ?_) (fun c12 => ?_)
              · have w := w.1 c12
                refine MR_aload_n dX5_operand_127 1 rfl ?_
                refine MR_dup dX5_operand_128 rfl ?_
                refine MR_getS (k := 20) dX5_operand_129 q1284 (by decide) rfl rfl ?_
                refine MR_iconst (v := 1) dX5_operand_132 (by decide) ?_
                refine MR_iadd dX5_operand_133 ?_
                refine MR_putS (k := 20) dX5_operand_134 q1284 (by decide) rfl rfl rfl rfl rfl ?_
                refine MR_aload_n dX5_operand_137 1 rfl ?_
                refine MR_dup dX5_operand_138 rfl ?_
                refine MR_getS (k := 22) dX5_operand_139 q1286 (by decide) rfl rfl ?_
                refine MR_iconst (v := 1) dX5_operand_142 (by decide) ?_
                refine MR_isub dX5_operand_143 ?_
                refine MR_putS (k := 22) dX5_operand_144 q1286 (by decide) rfl rfl rfl rfl rfl ?_
                refine MR_goto (tgt := 154) dX5_operand_147 (by decide) ?_
                exact MR_vret dX5_operand_154 rfl w
              · have w := w.2 c12
                refine MR_aload_n dX5_operand_122 1 rfl ?_
                refine MR_invVv (Mc := mX5_faulty) (As := []) (st := []) dX5_operand_123 q1558 q1560 qs66 q111 wX5_faulty pX5_faulty rfl (Nat.le_of_ble_eq_true rfl) (by decide) (by omega) (Nat.le_of_ble_eq_true rfl) w (fun sg11 w => ?_)
                exact MR_vret dX5_operand_126 rfl w
            · have w := w.2 c13
              exact MR_vret dX5_operand_112 rfl w
          · have w := w.2 c14
            exact MR_vret dX5_operand_100 rfl w
      · have w := w.2 c16
        exact MR_sub [1, 0] rfl w
  · have w := w.2 c21
    refine MR_aload_n dX5_operand_12 1 rfl ?_
    refine MR_iconst (v := 2) dX5_operand_13 (by decide) ?_
    refine MR_iload_n dX5_operand_14 0 rfl ?_
    refine MR_invSi (Mc := mX5_nameOf) (As := [.int r2]) (st := [.int 2, .ref m]) dX5_operand_15 q1547 q1548 q111 wX5_nameOf pX5_nameOf rfl (Nat.le_of_ble_eq_true rfl) (by decide) (by omega) (Nat.le_of_ble_eq_true rfl) w (fun r19 sg18 w => ?_)
    refine MR_invVv (Mc := mX5_addStep) (As := [.int 2, .int r19]) (st := []) dX5_operand_18 q1550 q1552 qs64 q111 wX5_addStep pX5_addStep rfl (Nat.le_of_ble_eq_true rfl) (by decide) (by omega) (Nat.le_of_ble_eq_true rfl) w (fun sg20 w => ?_)
    refine MR_aload_n dX5_operand_21 1 rfl ?_
    refine MR_dup dX5_operand_22 rfl ?_
    refine MR_getS (k := 20) dX5_operand_23 q1284 (by decide) rfl rfl ?_
    refine MR_iconst (v := 1) dX5_operand_26 (by decide) ?_
    refine MR_iadd dX5_operand_27 ?_
    refine MR_putS (k := 20) dX5_operand_28 q1284 (by decide) rfl rfl rfl rfl rfl ?_
    refine MR_goto (tgt := 154) dX5_operand_31 (by decide) ?_
    exact MR_vret dX5_operand_154 rfl w
theorem sX5_operand_46 {G : GG} {m : Nat} {sg : MS} {Q : Outcome → MS → Prop} {a1 : Int32} {d d' : Nat} (hdd : d' + 1 ≤ d) (h9 : 9 ≤ d) (w : MR G mX5_opens 2 0 [(0, .ref m)] [] m sg (fun o sg1 => ∃ b2 : Bool, o = .returned (some (.int (bi b2))) ∧ ((b2 = true → (MR G mX5_operand d' 0 [(0, .ref m)] [] m sg1 (fun o sg3 => o = .returned none ∧ ((¬ a1 = 33 → (MR G mX5_addStep 1 0 [(0, .ref m), (1, .int 4), (2, .int 0)] [] m (uS sg3 22 0 ((sg3.1 22 0) - 1)) (fun o sg4 => o = .returned none ∧ (Q (.returned none) sg4)))) ∧ (a1 = 33 → (MR G mX5_addStep 1 0 [(0, .ref m), (1, .int 3), (2, .int 0)] [] m (uS sg3 22 0 ((sg3.1 22 0) - 1)) (fun o sg5 => o = .returned none ∧ (Q (.returned none) sg5)))))))) ∧ (b2 = false → (Q (.returned none) sg1))))) : MR G mX5_operand d 46 [(0, .ref m), (1, .int a1)] [] m sg Q := by
  refine MR_aload_n dX5_operand_46 0 rfl ?_
  refine MR_invVz (Mc := mX5_opens) (As := []) (st := []) dX5_operand_47 q1554 q1556 qs65 q111 wX5_opens pX5_opens rfl (Nat.le_of_ble_eq_true rfl) (by decide) (by omega) (Nat.le_of_ble_eq_true rfl) w (fun b2 sg1 w => ?_)
  refine MR_ifz_ne (tgt := 54) dX5_operand_50 (by decide) (fun c7 => ?_) (fun c7 => ?_)
  · have w := w.1 c7
    refine MR_aload_n dX5_operand_54 0 rfl ?_
    refine MR_invVv (Mc := mX5_operand) (As := []) (st := []) dX5_operand_55 q1539 q1541 qs62 q111 wX5_operand pX5_operand rfl (Nat.le_of_ble_eq_true rfl) (by decide) hdd (Nat.le_of_ble_eq_true rfl) w (fun sg3 w => ?_)
    refine MR_aload_n dX5_operand_58 0 rfl ?_
    refine MR_dup dX5_operand_59 rfl ?_
    refine MR_getS (k := 22) dX5_operand_60 q1286 (by decide) rfl rfl ?_
    refine MR_iconst (v := 1) dX5_operand_63 (by decide) ?_
    refine MR_isub dX5_operand_64 ?_
    refine MR_putS (k := 22) dX5_operand_65 q1286 (by decide) rfl rfl rfl rfl rfl ?_
    refine MR_aload_n dX5_operand_68 0 rfl ?_
    refine MR_iload_n dX5_operand_69 1 rfl ?_
    refine MR_bipush (v := 33) dX5_operand_70 (by decide) ?_
    refine MR_icmp_ne (tgt := 79) dX5_operand_72 (by decide) (fun c6 => ?_) (fun c6 => ?_)
    · have w := w.1 c6
      refine MR_iconst (v := 4) dX5_operand_79 (by decide) ?_
      refine MR_iconst (v := 0) dX5_operand_80 (by decide) ?_
      refine MR_invVv (Mc := mX5_addStep) (As := [.int 4, .int 0]) (st := []) dX5_operand_81 q1550 q1552 qs64 q111 wX5_addStep pX5_addStep rfl (Nat.le_of_ble_eq_true rfl) (by decide) (by omega) (Nat.le_of_ble_eq_true rfl) w (fun sg4 w => ?_)
      refine MR_goto (tgt := 154) dX5_operand_84 (by decide) ?_
      exact MR_vret dX5_operand_154 rfl w
    · have w := w.2 c6
      refine MR_iconst (v := 3) dX5_operand_75 (by decide) ?_
      refine MR_goto (tgt := 80) dX5_operand_76 (by decide) ?_
      refine MR_iconst (v := 0) dX5_operand_80 (by decide) ?_
      refine MR_invVv (Mc := mX5_addStep) (As := [.int 3, .int 0]) (st := []) dX5_operand_81 q1550 q1552 qs64 q111 wX5_addStep pX5_addStep rfl (Nat.le_of_ble_eq_true rfl) (by decide) (by omega) (Nat.le_of_ble_eq_true rfl) w (fun sg5 w => ?_)
      refine MR_goto (tgt := 154) dX5_operand_84 (by decide) ?_
      exact MR_vret dX5_operand_154 rfl w
  · have w := w.2 c7
    exact MR_vret dX5_operand_53 rfl w

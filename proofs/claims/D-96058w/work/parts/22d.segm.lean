/-! LAYER 2: segments of the model's methods (printed by gen22.py) -/
set_option maxRecDepth 100000
theorem sX5_used_0 {G : GG} {m : Nat} {sg : MS} {Q : Outcome → MS → Prop} {a1 a2 : Int32} (w : MR G mX5_in 1 0 [(0, .int a1), (1, .int 0), (2, .int 2)] [] m sg (fun o sg1 => ∃ b2 : Bool, o = .returned (some (.int (bi b2))) ∧ ((b2 = false → (Q (.returned (some (.int (-1)))) sg1)) ∧ (b2 = true → (MR G mX5_in 1 0 [(0, .int a2), (1, .int 0), (2, .int 2)] [] m sg1 (fun o sg3 => ∃ b4 : Bool, o = .returned (some (.int (bi b4))) ∧ ((b4 = true → (MR G mX5_runBy 10 0 [(0, .ref m), (1, .int a1)] [] m sg3 (fun o sg5 => o = .returned none ∧ ((¬ a2 = 0 → (MR G mX5_used 11 39 [(0, .ref m), (2, .int a2), (3, .int 0), (4, .int 0)] [] m sg5 Q)) ∧ (a2 = 0 → (MR G mX5_unlikeNames 2 0 [(0, .ref m)] [] m sg5 (fun o sg6 => ∃ r7 : Int32, o = .returned (some (.int r7)) ∧ (Q (.returned (some (.int r7))) sg6)))))))) ∧ (b4 = false → (Q (.returned (some (.int (-1)))) sg3))))))))) : MR G mX5_used 11 0 [(0, .ref m), (1, .int a1), (2, .int a2)] [] m sg Q := by
  refine MR_iload_n dX5_used_0 1 rfl ?_
  refine MR_iconst (v := 0) dX5_used_1 (by decide) ?_
  refine MR_iconst (v := 2) dX5_used_2 (by decide) ?_
  refine MR_invSz (Mc := mX5_in) (As := [.int a1, .int 0, .int 2]) (st := []) dX5_used_3 q1416 q1417 q111 wX5_in pX5_in rfl (Nat.le_of_ble_eq_true rfl) (by decide) (by decide) (Nat.le_of_ble_eq_true rfl) w (fun b2 sg1 w => ?_)
  refine MR_ifz_eq (tgt := 18) dX5_used_6 (by decide) (fun c10 => ?_) (fun c10 => ?_)
  · have w := w.1 c10
    refine MR_iconst (v := (-1)) dX5_used_18 (by decide) ?_
    exact MR_iret dX5_used_19 rfl w
  · have w := w.2 c10
    refine MR_iload_n dX5_used_9 2 rfl ?_
    refine MR_iconst (v := 0) dX5_used_10 (by decide) ?_
    refine MR_iconst (v := 2) dX5_used_11 (by decide) ?_
    refine MR_invSz (Mc := mX5_in) (As := [.int a2, .int 0, .int 2]) (st := []) dX5_used_12 q1416 q1417 q111 wX5_in pX5_in rfl (Nat.le_of_ble_eq_true rfl) (by decide) (by decide) (Nat.le_of_ble_eq_true rfl) w (fun b4 sg3 w => ?_)
    refine MR_ifz_ne (tgt := 20) dX5_used_15 (by decide) (fun c9 => ?_) (fun c9 => ?_)
    · have w := w.1 c9
      refine MR_aload_n dX5_used_20 0 rfl ?_
      refine MR_iload_n dX5_used_21 1 rfl ?_
      refine MR_invVv (Mc := mX5_runBy) (As := [.int a1]) (st := []) dX5_used_22 q1664 q1666 qs84 q111 wX5_runBy pX5_runBy rfl (Nat.le_of_ble_eq_true rfl) (by decide) (by decide) (Nat.le_of_ble_eq_true rfl) w (fun sg5 w => ?_)
      refine MR_iload_n dX5_used_25 2 rfl ?_
      refine MR_if_ne (tgt := 34) dX5_used_26 (by decide) (fun c8 => ?_) (fun c8 => ?_)
      · have w := w.1 c8
        refine MR_iconst (v := 0) dX5_used_34 (by decide) ?_
        refine MR_istore_n (lv' := [(3, .int 0), (0, .ref m), (1, .int a1), (2, .int a2)]) dX5_used_35 rfl (by decide) rfl ?_
        refine MR_iconst (v := 0) dX5_used_36 (by decide) ?_
        refine MR_istore (lv' := [(4, .int 0), (3, .int 0), (0, .ref m), (1, .int a1), (2, .int a2)]) dX5_used_37 (by decide) rfl ?_
        exact MR_sub [2, 4, 1, 0] rfl w
      · have w := w.2 c8
        refine MR_aload_n dX5_used_29 0 rfl ?_
        refine MR_invVi (Mc := mX5_unlikeNames) (As := []) (st := []) dX5_used_30 q1672 q1674 qs85 q111 wX5_unlikeNames pX5_unlikeNames rfl (Nat.le_of_ble_eq_true rfl) (by decide) (by decide) (Nat.le_of_ble_eq_true rfl) w (fun r7 sg6 w => ?_)
        exact MR_iret dX5_used_33 rfl w
    · have w := w.2 c9
      refine MR_iconst (v := (-1)) dX5_used_18 (by decide) ?_
      exact MR_iret dX5_used_19 rfl w
theorem sX5_used_39 {G : GG} {m : Nat} {sg : MS} {Q : Outcome → MS → Prop} {a2 a3 a4 : Int32} (w : ((sg.1 1 0) ≤ a4 → (Q (.returned (some (.int a3))) sg)) ∧ (¬ (sg.1 1 0) ≤ a4 → ((¬ a2 = 1 → (MR G mX5_used 11 78 [(0, .ref m), (2, .int a2), (3, .int a3), (4, .int a4)] [] m sg Q)) ∧ (a2 = 1 → (vp_in a4 12 ∧ (((sg.1 34 a4.toNatClampNeg) < 0 → (MR G mX5_used 11 78 [(0, .ref m), (2, .int a2), (3, .int a3), (4, .int a4)] [] m sg Q)) ∧ (¬ (sg.1 34 a4.toNatClampNeg) < 0 → (vp_in a4 12 ∧ (vp_in (sg.1 34 a4.toNatClampNeg) 12 ∧ (MR G mX5_used 11 78 [(0, .ref m), (2, .int a2), (3, .int (a3 + (sg.1 10 (sg.1 34 a4.toNatClampNeg).toNatClampNeg))), (4, .int a4)] [] m sg Q)))))))))) : MR G mX5_used 11 39 [(0, .ref m), (2, .int a2), (3, .int a3), (4, .int a4)] [] m sg Q := by
  refine MR_iload dX5_used_39 3 rfl ?_
  refine MR_aload_n dX5_used_41 0 rfl ?_
  refine MR_getS (k := 1) dX5_used_42 q1265 (by decide) rfl rfl ?_
  refine MR_icmp_ge (tgt := 102) dX5_used_45 (by decide) (fun c6 => ?_) (fun c6 => ?_)
  · have w := w.1 c6
    refine MR_iload_n dX5_used_102 2 rfl ?_
    exact MR_iret dX5_used_103 rfl w
  · have w := w.2 c6
    refine MR_iload_n dX5_used_48 1 rfl ?_
    refine MR_iconst (v := 1) dX5_used_49 (by decide) ?_
    refine MR_icmp_ne (tgt := 78) dX5_used_50 (by decide) (fun c5 => ?_) (fun c5 => ?_)
    · have w := w.1 c5
      exact w
    · have w := w.2 c5
      refine MR_aload_n dX5_used_53 0 rfl ?_
      refine MR_getA (k := 34) (o := 23) (j := 0) (n := 12) dX5_used_54 q1298 (by decide) rfl rfl ?_
      refine MR_iload dX5_used_57 3 rfl ?_
      obtain ⟨c4, w⟩ := w
      refine MR_iald (k := 34) dX5_used_59 (by decide) rfl c4 ?_
      refine MR_if_lt (tgt := 78) dX5_used_60 (by decide) (fun c3 => ?_) (fun c3 => ?_)
      · have w := w.1 c3
        exact w
      · have w := w.2 c3
        refine MR_iload_n dX5_used_63 2 rfl ?_
        refine MR_aload_n dX5_used_64 0 rfl ?_
        refine MR_getA (k := 10) (o := 7) (j := 0) (n := 12) dX5_used_65 q1274 (by decide) rfl rfl ?_
        refine MR_aload_n dX5_used_68 0 rfl ?_
        refine MR_getA (k := 34) (o := 23) (j := 0) (n := 12) dX5_used_69 q1298 (by decide) rfl rfl ?_
        refine MR_iload dX5_used_72 3 rfl ?_
        obtain ⟨c2, w⟩ := w
        refine MR_iald (k := 34) dX5_used_74 (by decide) rfl c2 ?_
        obtain ⟨c1, w⟩ := w
        refine MR_iald (k := 10) dX5_used_75 (by decide) rfl c1 ?_
        refine MR_iadd dX5_used_76 ?_
        refine MR_istore_n (lv' := [(3, .int (a3 + (sg.1 10 (sg.1 34 a4.toNatClampNeg).toNatClampNeg))), (0, .ref m), (2, .int a2), (4, .int a4)]) dX5_used_77 rfl (by decide) rfl ?_
        exact MR_sub [1, 2, 0, 3] rfl w
theorem sX5_used_78 {G : GG} {m : Nat} {sg : MS} {Q : Outcome → MS → Prop} {a2 a3 a4 : Int32} (w : (¬ a2 = 2 → (MR G mX5_used 11 39 [(0, .ref m), (2, .int a2), (3, .int a3), (4, .int (a4 + 1))] [] m sg Q)) ∧ (a2 = 2 → (vp_in a4 12 ∧ ((0 ≤ (sg.1 34 a4.toNatClampNeg) → (MR G mX5_used 11 39 [(0, .ref m), (2, .int a2), (3, .int a3), (4, .int (a4 + 1))] [] m sg Q)) ∧ (¬ 0 ≤ (sg.1 34 a4.toNatClampNeg) → (MR G mX5_used 11 39 [(0, .ref m), (2, .int a2), (3, .int (a3 + 1)), (4, .int (a4 + 1))] [] m sg Q)))))) : MR G mX5_used 11 78 [(0, .ref m), (2, .int a2), (3, .int a3), (4, .int a4)] [] m sg Q := by
  refine MR_iload_n dX5_used_78 1 rfl ?_
  refine MR_iconst (v := 2) dX5_used_79 (by decide) ?_
  refine MR_icmp_ne (tgt := 96) dX5_used_80 (by decide) (fun c3 => ?_) (fun c3 => ?_)
  · have w := w.1 c3
    refine MR_iinc (v := (a4 + 1)) (lv' := [(4, .int (a4 + 1)), (0, .ref m), (2, .int a2), (3, .int a3)]) dX5_used_96 3 rfl (congrArg (fun z => a4 + z) (show Int32.ofInt 1 = 1 by decide)) (by decide) rfl ?_
    refine MR_goto (tgt := 39) dX5_used_99 (by decide) ?_
    exact MR_sub [1, 2, 3, 0] rfl w
  · have w := w.2 c3
    refine MR_aload_n dX5_used_83 0 rfl ?_
    refine MR_getA (k := 34) (o := 23) (j := 0) (n := 12) dX5_used_84 q1298 (by decide) rfl rfl ?_
    refine MR_iload dX5_used_87 3 rfl ?_
    obtain ⟨c2, w⟩ := w
    refine MR_iald (k := 34) dX5_used_89 (by decide) rfl c2 ?_
    refine MR_if_ge (tgt := 96) dX5_used_90 (by decide) (fun c1 => ?_) (fun c1 => ?_)
    · have w := w.1 c1
      refine MR_iinc (v := (a4 + 1)) (lv' := [(4, .int (a4 + 1)), (0, .ref m), (2, .int a2), (3, .int a3)]) dX5_used_96 3 rfl (congrArg (fun z => a4 + z) (show Int32.ofInt 1 = 1 by decide)) (by decide) rfl ?_
      refine MR_goto (tgt := 39) dX5_used_99 (by decide) ?_
      exact MR_sub [1, 2, 3, 0] rfl w
    · have w := w.2 c1
      refine MR_iinc (v := (a3 + 1)) (lv' := [(3, .int (a3 + 1)), (0, .ref m), (2, .int a2), (4, .int a4)]) dX5_used_93 2 rfl (congrArg (fun z => a3 + z) (show Int32.ofInt 1 = 1 by decide)) (by decide) rfl ?_
      refine MR_iinc (v := (a4 + 1)) (lv' := [(4, .int (a4 + 1)), (3, .int (a3 + 1)), (0, .ref m), (2, .int a2)]) dX5_used_96 3 rfl (congrArg (fun z => a4 + z) (show Int32.ofInt 1 = 1 by decide)) (by decide) rfl ?_
      refine MR_goto (tgt := 39) dX5_used_99 (by decide) ?_
      exact MR_sub [2, 3, 1, 0] rfl w
theorem sX5_valueAt_0 {G : GG} {m : Nat} {sg : MS} {Q : Outcome → MS → Prop} {a1 a2 : Int32} (w : (¬ a1 = 0 → (vp_in a2 12 ∧ (Q (.returned (some (.int (sg.1 10 a2.toNatClampNeg)))) sg))) ∧ (a1 = 0 → (vp_in a2 12 ∧ (Q (.returned (some (.int (sg.1 3 a2.toNatClampNeg)))) sg)))) : MR G mX5_valueAt 1 0 [(0, .ref m), (1, .int a1), (2, .int a2)] [] m sg Q := by
  refine MR_iload_n dX5_valueAt_0 1 rfl ?_
  refine MR_if_ne (tgt := 13) dX5_valueAt_1 (by decide) (fun c3 => ?_) (fun c3 => ?_)
  · have w := w.1 c3
    refine MR_aload_n dX5_valueAt_13 0 rfl ?_
    refine MR_getA (k := 10) (o := 7) (j := 0) (n := 12) dX5_valueAt_14 q1274 (by decide) rfl rfl ?_
    refine MR_iload_n dX5_valueAt_17 2 rfl ?_
    obtain ⟨c1, w⟩ := w
    refine MR_iald (k := 10) dX5_valueAt_18 (by decide) rfl c1 ?_
    exact MR_iret dX5_valueAt_19 rfl w
  · have w := w.2 c3
    refine MR_aload_n dX5_valueAt_4 0 rfl ?_
    refine MR_getA (k := 3) (o := 2) (j := 0) (n := 12) dX5_valueAt_5 q1267 (by decide) rfl rfl ?_
    refine MR_iload_n dX5_valueAt_8 2 rfl ?_
    obtain ⟨c2, w⟩ := w
    refine MR_iald (k := 3) dX5_valueAt_9 (by decide) rfl c2 ?_
    refine MR_goto (tgt := 19) dX5_valueAt_10 (by decide) ?_
    exact MR_iret dX5_valueAt_19 rfl w
theorem sX5_whyNoPlace_0 {G : GG} {m : Nat} {sg : MS} {Q : Outcome → MS → Prop} {a1 a2 : Int32} (w : MR G mX5_isShelf 2 0 [(0, .int a1)] [] m sg (fun o sg1 => ∃ b2 : Bool, o = .returned (some (.int (bi b2))) ∧ ((b2 = true → (vp_in a1 6 ∧ ((¬ (sg1.1 43 a1.toNatClampNeg) = (-1) → (vp_in a1 6 ∧ (((sg1.1 43 a1.toNatClampNeg) < 0 → (vp_in a1 6 ∧ (MR G mX5_in 1 0 [(0, .int a2), (1, .int 0), (2, .int ((sg1.1 44 a1.toNatClampNeg) - 1))] [] m sg1 (fun o sg3 => ∃ b4 : Bool, o = .returned (some (.int (bi b4))) ∧ ((b4 = false → (Q (.returned (some (.int (-13)))) sg3)) ∧ (b4 = true → (Q (.returned (some (.int 0))) sg3))))))) ∧ (¬ (sg1.1 43 a1.toNatClampNeg) < 0 → (Q (.returned (some (.int (-12)))) sg1))))) ∧ ((sg1.1 43 a1.toNatClampNeg) = (-1) → (Q (.returned (some (.int (-11)))) sg1))))) ∧ (b2 = false → (Q (.returned (some (.int (-1)))) sg1))))) : MR G mX5_whyNoPlace 3 0 [(0, .ref m), (1, .int a1), (2, .int a2)] [] m sg Q := by
  refine MR_iload_n dX5_whyNoPlace_0 1 rfl ?_
  refine MR_invSz (Mc := mX5_isShelf) (As := [.int a1]) (st := []) dX5_whyNoPlace_1 q1427 q1428 q111 wX5_isShelf pX5_isShelf rfl (Nat.le_of_ble_eq_true rfl) (by decide) (by decide) (Nat.le_of_ble_eq_true rfl) w (fun b2 sg1 w => ?_)
  refine MR_ifz_ne (tgt := 9) dX5_whyNoPlace_4 (by decide) (fun c11 => ?_) (fun c11 => ?_)
  · have w := w.1 c11
    refine MR_aload_n dX5_whyNoPlace_9 0 rfl ?_
    refine MR_getA (k := 43) (o := 28) (j := 0) (n := 6) dX5_whyNoPlace_10 q1307 (by decide) rfl rfl ?_
    refine MR_iload_n dX5_whyNoPlace_13 1 rfl ?_
    obtain ⟨c10, w⟩ := w
    refine MR_iald (k := 43) dX5_whyNoPlace_14 (by decide) rfl c10 ?_
    refine MR_iconst (v := (-1)) dX5_whyNoPlace_15 (by decide) ?_
    refine MR_icmp_ne (tgt := 22) dX5_whyNoPlace_16 (by decide) (fun c9 => ?_) (fun c9 => ?_)
    · have w := w.1 c9
      refine MR_aload_n dX5_whyNoPlace_22 0 rfl ?_
      refine MR_getA (k := 43) (o := 28) (j := 0) (n := 6) dX5_whyNoPlace_23 q1307 (by decide) rfl rfl ?_
      refine MR_iload_n dX5_whyNoPlace_26 1 rfl ?_
      obtain ⟨c8, w⟩ := w
      refine MR_iald (k := 43) dX5_whyNoPlace_27 (by decide) rfl c8 ?_
      refine MR_if_lt (tgt := 34) dX5_whyNoPlace_28 (by decide) (fun c7 => ?_) (fun c7 => ?_)
      · have w := w.1 c7
        refine MR_iload_n dX5_whyNoPlace_34 2 rfl ?_
        refine MR_iconst (v := 0) dX5_whyNoPlace_35 (by decide) ?_
        refine MR_aload_n dX5_whyNoPlace_36 0 rfl ?_
        refine MR_getA (k := 44) (o := 29) (j := 0) (n := 6) dX5_whyNoPlace_37 q1308 (by decide) rfl rfl ?_
        refine MR_iload_n dX5_whyNoPlace_40 1 rfl ?_
        obtain ⟨c6, w⟩ := w
        refine MR_iald (k := 44) dX5_whyNoPlace_41 (by decide) rfl c6 ?_
        refine MR_iconst (v := 1) dX5_whyNoPlace_42 (by decide) ?_
        refine MR_isub dX5_whyNoPlace_43 ?_
        refine MR_invSz (Mc := mX5_in) (As := [.int a2, .int 0, .int ((sg1.1 44 a1.toNatClampNeg) - 1)]) (st := []) dX5_whyNoPlace_44 q1416 q1417 q111 wX5_in pX5_in rfl (Nat.le_of_ble_eq_true rfl) (by decide) (by decide) (Nat.le_of_ble_eq_true rfl) w (fun b4 sg3 w => ?_)
        refine MR_ifz_eq (tgt := 54) dX5_whyNoPlace_47 (by decide) (fun c5 => ?_) (fun c5 => ?_)
        · have w := w.1 c5
          refine MR_bipush (v := (-13)) dX5_whyNoPlace_54 (by decide) ?_
          exact MR_iret dX5_whyNoPlace_56 rfl w
        · have w := w.2 c5
          refine MR_iconst (v := 0) dX5_whyNoPlace_50 (by decide) ?_
          refine MR_goto (tgt := 56) dX5_whyNoPlace_51 (by decide) ?_
          exact MR_iret dX5_whyNoPlace_56 rfl w
      · have w := w.2 c7
        refine MR_bipush (v := (-12)) dX5_whyNoPlace_31 (by decide) ?_
        exact MR_iret dX5_whyNoPlace_33 rfl w
    · have w := w.2 c9
      refine MR_bipush (v := (-11)) dX5_whyNoPlace_19 (by decide) ?_
      exact MR_iret dX5_whyNoPlace_21 rfl w
  · have w := w.2 c11
    refine MR_iconst (v := (-1)) dX5_whyNoPlace_7 (by decide) ?_
    exact MR_iret dX5_whyNoPlace_8 rfl w
theorem sX5_wishKnows_0 {G : GG} {m : Nat} {sg : MS} {Q : Outcome → MS → Prop} {a1 a2 : Int32} (w : MR G mX5_ran 1 0 [(0, .ref m), (1, .int 40)] [] m sg (fun o sg1 => o = .returned none ∧ (MR G mX5_plainKnows 2 0 [(0, .ref m), (1, .int a1), (2, .int a2)] [] m sg1 (fun o sg2 => ∃ r3 : Int32, o = .returned (some (.int r3)) ∧ (Q (.returned (some (.int (r3 * 3)))) sg2))))) : MR G mX5_wishKnows 3 0 [(0, .ref m), (1, .int a1), (2, .int a2)] [] m sg Q := by
  refine MR_aload_n dX5_wishKnows_0 0 rfl ?_
  refine MR_bipush (v := 40) dX5_wishKnows_1 (by decide) ?_
  refine MR_invVv (Mc := mX5_ran) (As := [.int 40]) (st := []) dX5_wishKnows_3 q1728 q1730 qs89 q111 wX5_ran pX5_ran rfl (Nat.le_of_ble_eq_true rfl) (by decide) (by decide) (Nat.le_of_ble_eq_true rfl) w (fun sg1 w => ?_)
  refine MR_aload_n dX5_wishKnows_6 0 rfl ?_
  refine MR_iload_n dX5_wishKnows_7 1 rfl ?_
  refine MR_iload_n dX5_wishKnows_8 2 rfl ?_
  refine MR_invVi (Mc := mX5_plainKnows) (As := [.int a1, .int a2]) (st := []) dX5_wishKnows_9 q1760 q1762 qs97 q111 wX5_plainKnows pX5_plainKnows rfl (Nat.le_of_ble_eq_true rfl) (by decide) (by decide) (Nat.le_of_ble_eq_true rfl) w (fun r3 sg2 w => ?_)
  refine MR_iconst (v := 3) dX5_wishKnows_12 (by decide) ?_
  refine MR_imul dX5_wishKnows_13 ?_
  exact MR_iret dX5_wishKnows_14 rfl w
theorem sX5_worked_0 {G : GG} {m : Nat} {sg : MS} {Q : Outcome → MS → Prop} {a1 a2 a3 : Int32} (w : MR G mX5_worked 2 12 [(0, .ref m), (1, .int a1), (3, .int a3), (4, .int 0), (5, .int ((130 * a1) + a2))] [] m sg Q) : MR G mX5_worked 2 0 [(0, .ref m), (1, .int a1), (2, .int a2), (3, .int a3)] [] m sg Q := by
  refine MR_iconst (v := 0) dX5_worked_0 (by decide) ?_
  refine MR_istore (lv' := [(4, .int 0), (0, .ref m), (1, .int a1), (2, .int a2), (3, .int a3)]) dX5_worked_1 (by decide) rfl ?_
  refine MR_sipush (v := 130) dX5_worked_3 (by decide) ?_
  refine MR_iload_n dX5_worked_6 2 rfl ?_
  refine MR_imul dX5_worked_7 ?_
  refine MR_iload_n dX5_worked_8 3 rfl ?_
  refine MR_iadd dX5_worked_9 ?_
  refine MR_istore (lv' := [(5, .int ((130 * a1) + a2)), (4, .int 0), (0, .ref m), (1, .int a1), (2, .int a2), (3, .int a3)]) dX5_worked_10 (by decide) rfl ?_
  exact MR_sub [2, 3, 5, 1, 0] rfl w
theorem sX5_worked_12 {G : GG} {m : Nat} {sg : MS} {Q : Outcome → MS → Prop} {a1 a3 a4 a5 : Int32} (w : (((130 * a1) + a3) ≤ a5 → (vp_in 0 130 ∧ (Q (.returned (some (.int (sg.1 30 (0 : Int32).toNatClampNeg)))) sg))) ∧ (¬ ((130 * a1) + a3) ≤ a5 → (vp_in a5 260 ∧ (((sg.1 24 a5.toNatClampNeg) = 1 → (MR G mX5_worked 2 45 [(0, .ref m), (1, .int a1), (3, .int a3), (4, .int a4), (5, .int a5), (6, .int (sg.1 24 a5.toNatClampNeg))] [] m sg Q)) ∧ (¬ (sg.1 24 a5.toNatClampNeg) = 1 → ((¬ (sg.1 24 a5.toNatClampNeg) = 2 → ((¬ (sg.1 24 a5.toNatClampNeg) = 3 → ((¬ (sg.1 24 a5.toNatClampNeg) = 4 → (vp_in ((a4 + (-1)) - 1) 130 ∧ (vp_in (a4 + (-1)) 130 ∧ (MR G mX5_twoOf 1 0 [(0, .int (sg.1 24 a5.toNatClampNeg)), (1, .int (sg.1 30 ((a4 + (-1)) - 1).toNatClampNeg)), (2, .int (sg.1 30 (a4 + (-1)).toNatClampNeg))] [] m sg (fun o sg2 => ∃ r3 : Int32, o = .returned (some (.int r3)) ∧ (vp_in ((a4 + (-1)) - 1) 130 ∧ (MR G mX5_worked 2 12 [(0, .ref m), (1, .int a1), (3, .int a3), (4, .int (a4 + (-1))), (5, .int (a5 + 1))] [] m (uS sg2 30 ((a4 + (-1)) - 1).toNatClampNeg r3) Q))))))) ∧ ((sg.1 24 a5.toNatClampNeg) = 4 → (vp_in (a4 - 1) 130 ∧ (vp_in (a4 - 1) 130 ∧ (MR G mX5_worked 2 12 [(0, .ref m), (1, .int a1), (3, .int a3), (4, .int a4), (5, .int (a5 + 1))] [] m (uS sg 30 (a4 - 1).toNatClampNeg (-(sg.1 30 (a4 - 1).toNatClampNeg))) Q)))))) ∧ ((sg.1 24 a5.toNatClampNeg) = 3 → (vp_in (a4 - 1) 130 ∧ ((¬ (sg.1 30 (a4 - 1).toNatClampNeg) = 0 → (vp_in (a4 - 1) 130 ∧ (MR G mX5_worked 2 12 [(0, .ref m), (1, .int a1), (3, .int a3), (4, .int a4), (5, .int (a5 + 1))] [] m (uS sg 30 (a4 - 1).toNatClampNeg 0) Q))) ∧ ((sg.1 30 (a4 - 1).toNatClampNeg) = 0 → (vp_in (a4 - 1) 130 ∧ (MR G mX5_worked 2 12 [(0, .ref m), (1, .int a1), (3, .int a3), (4, .int a4), (5, .int (a5 + 1))] [] m (uS sg 30 (a4 - 1).toNatClampNeg 1) Q)))))))) ∧ ((sg.1 24 a5.toNatClampNeg) = 2 → (MR G mX5_worked 2 45 [(0, .ref m), (1, .int a1), (3, .int a3), (4, .int a4), (5, .int a5), (6, .int (sg.1 24 a5.toNatClampNeg))] [] m sg Q)))))))) : MR G mX5_worked 2 12 [(0, .ref m), (1, .int a1), (3, .int a3), (4, .int a4), (5, .int a5)] [] m sg Q := by
  refine MR_iload dX5_worked_12 4 rfl ?_
  refine MR_sipush (v := 130) dX5_worked_14 (by decide) ?_
  refine MR_iload_n dX5_worked_17 1 rfl ?_
  refine MR_imul dX5_worked_18 ?_
  refine MR_iload_n dX5_worked_19 2 rfl ?_
  refine MR_iadd dX5_worked_20 ?_
  refine MR_icmp_ge (tgt := 188) dX5_worked_21 (by decide) (fun c18 => ?_) (fun c18 => ?_)
  · have w := w.1 c18
    refine MR_aload_n dX5_worked_188 0 rfl ?_
    refine MR_getA (k := 30) (o := 20) (j := 0) (n := 130) dX5_worked_189 q1294 (by decide) rfl rfl ?_
    refine MR_iconst (v := 0) dX5_worked_192 (by decide) ?_
    obtain ⟨c1, w⟩ := w
    refine MR_iald (k := 30) dX5_worked_193 (by decide) rfl c1 ?_
    exact MR_iret dX5_worked_194 rfl w
  · have w := w.2 c18
    refine MR_aload_n dX5_worked_24 0 rfl ?_
    refine MR_getA (k := 24) (o := 14) (j := 2) (n := 260) dX5_worked_25 q1288 (by decide) rfl rfl ?_
    refine MR_iload dX5_worked_28 4 rfl ?_
    obtain ⟨c17, w⟩ := w
    refine MR_bald (k := 24) dX5_worked_30 (by decide) rfl c17 ?_
    refine MR_istore (lv' := [(6, .int (sg.1 24 a5.toNatClampNeg)), (0, .ref m), (1, .int a1), (3, .int a3), (4, .int a4), (5, .int a5)]) dX5_worked_31 (by decide) rfl ?_
    refine MR_iload dX5_worked_33 0 rfl ?_
    refine MR_iconst (v := 1) dX5_worked_35 (by decide) ?_
    refine MR_icmp_eq (tgt := 45) dX5_worked_36 (by decide) (fun c16 => ?_) (fun c16 => ?_)
    · have w := w.1 c16
      exact MR_sub [1, 2, 3, 4, 5, 0] rfl w
    · have w := w.2 c16
      refine MR_iload dX5_worked_39 0 rfl ?_
      refine MR_iconst (v := 2) dX5_worked_41 (by decide) ?_
      refine MR_icmp_ne (tgt := 86) dX5_worked_42 (by decide) (fun c15 => ?_) (fun c15 => ?_)
      · have w := w.1 c15
        refine MR_iload dX5_worked_86 0 rfl ?_
        refine MR_iconst (v := 3) dX5_worked_88 (by decide) ?_
        refine MR_icmp_ne (tgt := 121) dX5_worked_89 (by decide) (fun c14 => ?_) (fun c14 => ?_)
        · have w := w.1 c14
          refine MR_iload dX5_worked_121 0 rfl ?_
          refine MR_iconst (v := 4) dX5_worked_123 (by decide) ?_
          refine MR_icmp_ne (tgt := 149) dX5_worked_124 (by decide) (fun c9 => ?_) (fun c9 => ?_)
          · have w := w.1 c9
            refine MR_iinc (v := (a4 + (-1))) (lv' := [(4, .int (a4 + (-1))), (6, .int (sg.1 24 a5.toNatClampNeg)), (0, .ref m), (1, .int a1), (3, .int a3), (5, .int a5)]) dX5_worked_149 4 rfl (congrArg (fun z => a4 + z) (show Int32.ofInt (-1) = (-1) by decide)) (by decide) rfl ?_
            refine MR_aload_n dX5_worked_152 2 rfl ?_
            refine MR_getA (k := 30) (o := 20) (j := 0) (n := 130) dX5_worked_153 q1294 (by decide) rfl rfl ?_
            refine MR_iload dX5_worked_156 0 rfl ?_
            refine MR_iconst (v := 1) dX5_worked_158 (by decide) ?_
            refine MR_isub dX5_worked_159 ?_
            refine MR_iload dX5_worked_160 1 rfl ?_
            refine MR_aload_n dX5_worked_162 2 rfl ?_
            refine MR_getA (k := 30) (o := 20) (j := 0) (n := 130) dX5_worked_163 q1294 (by decide) rfl rfl ?_
            refine MR_iload dX5_worked_166 0 rfl ?_
            refine MR_iconst (v := 1) dX5_worked_168 (by decide) ?_
            refine MR_isub dX5_worked_169 ?_
            obtain ⟨c6, w⟩ := w
            refine MR_iald (k := 30) dX5_worked_170 (by decide) rfl c6 ?_
            refine MR_aload_n dX5_worked_171 2 rfl ?_
            refine MR_getA (k := 30) (o := 20) (j := 0) (n := 130) dX5_worked_172 q1294 (by decide) rfl rfl ?_
            refine MR_iload dX5_worked_175 0 rfl ?_
            obtain ⟨c5, w⟩ := w
            refine MR_iald (k := 30) dX5_worked_177 (by decide) rfl c5 ?_
            refine MR_invSi (Mc := mX5_twoOf) (As := [.int (sg.1 24 a5.toNatClampNeg), .int (sg.1 30 ((a4 + (-1)) - 1).toNatClampNeg), .int (sg.1 30 (a4 + (-1)).toNatClampNeg)]) (st := [.int ((a4 + (-1)) - 1), .ref (m + 20)]) dX5_worked_178 q1618 q1619 q111 wX5_twoOf pX5_twoOf rfl (Nat.le_of_ble_eq_true rfl) (by decide) (by decide) (Nat.le_of_ble_eq_true rfl) w (fun r3 sg2 w => ?_)
            obtain ⟨c4, w⟩ := w
            refine MR_iast (k := 30) dX5_worked_181 (by decide) rfl c4 ?_
            refine MR_iinc (v := (a5 + 1)) (lv' := [(5, .int (a5 + 1)), (4, .int (a4 + (-1))), (6, .int (sg.1 24 a5.toNatClampNeg)), (0, .ref m), (1, .int a1), (3, .int a3)]) dX5_worked_182 5 rfl (congrArg (fun z => a5 + z) (show Int32.ofInt 1 = 1 by decide)) (by decide) rfl ?_
            refine MR_goto (tgt := 12) dX5_worked_185 (by decide) ?_
            exact MR_sub [3, 4, 5, 1, 0] rfl w
          · have w := w.2 c9
            refine MR_aload_n dX5_worked_127 1 rfl ?_
            refine MR_getA (k := 30) (o := 20) (j := 0) (n := 130) dX5_worked_128 q1294 (by decide) rfl rfl ?_
            refine MR_iload dX5_worked_131 4 rfl ?_
            refine MR_iconst (v := 1) dX5_worked_133 (by decide) ?_
            refine MR_isub dX5_worked_134 ?_
            refine MR_aload_n dX5_worked_135 1 rfl ?_
            refine MR_getA (k := 30) (o := 20) (j := 0) (n := 130) dX5_worked_136 q1294 (by decide) rfl rfl ?_
            refine MR_iload dX5_worked_139 4 rfl ?_
            refine MR_iconst (v := 1) dX5_worked_141 (by decide) ?_
            refine MR_isub dX5_worked_142 ?_
            obtain ⟨c8, w⟩ := w
            refine MR_iald (k := 30) dX5_worked_143 (by decide) rfl c8 ?_
            refine MR_ineg dX5_worked_144 ?_
            obtain ⟨c7, w⟩ := w
            refine MR_iast (k := 30) dX5_worked_145 (by decide) rfl c7 ?_
            refine MR_goto (tgt := 182) dX5_worked_146 (by decide) ?_
            refine MR_iinc (v := (a5 + 1)) (lv' := [(5, .int (a5 + 1)), (6, .int (sg.1 24 a5.toNatClampNeg)), (0, .ref m), (1, .int a1), (3, .int a3), (4, .int a4)]) dX5_worked_182 5 rfl (congrArg (fun z => a5 + z) (show Int32.ofInt 1 = 1 by decide)) (by decide) rfl ?_
            refine MR_goto (tgt := 12) dX5_worked_185 (by decide) ?_
            exact MR_sub [2, 3, 4, 5, 0] rfl w
        · have w := w.2 c14
          refine MR_aload_n dX5_worked_92 1 rfl ?_
          refine MR_getA (k := 30) (o := 20) (j := 0) (n := 130) dX5_worked_93 q1294 (by decide) rfl rfl ?_
          refine MR_iload dX5_worked_96 4 rfl ?_
          refine MR_iconst (v := 1) dX5_worked_98 (by decide) ?_
          refine MR_isub dX5_worked_99 ?_
          refine MR_aload_n dX5_worked_100 1 rfl ?_
          refine MR_getA (k := 30) (o := 20) (j := 0) (n := 130) dX5_worked_101 q1294 (by decide) rfl rfl ?_
          refine MR_iload dX5_worked_104 4 rfl ?_
          refine MR_iconst (v := 1) dX5_worked_106 (by decide) ?_
          refine MR_isub dX5_worked_107 ?_
          obtain ⟨c13, w⟩ := w
          refine MR_iald (k := 30) dX5_worked_108 (by decide) rfl c13 ?_
          refine MR_if_ne (tgt := 116) dX5_worked_109 (by decide) (fun c12 => ?_) (fun c12 => ?_)
          · have w := w.1 c12
            refine MR_iconst (v := 0) dX5_worked_116 (by decide) ?_
            obtain ⟨c10, w⟩ := w
            refine MR_iast (k := 30) dX5_worked_117 (by decide) rfl c10 ?_
            refine MR_goto (tgt := 182) dX5_worked_118 (by decide) ?_
            refine MR_iinc (v := (a5 + 1)) (lv' := [(5, .int (a5 + 1)), (6, .int (sg.1 24 a5.toNatClampNeg)), (0, .ref m), (1, .int a1), (3, .int a3), (4, .int a4)]) dX5_worked_182 5 rfl (congrArg (fun z => a5 + z) (show Int32.ofInt 1 = 1 by decide)) (by decide) rfl ?_
            refine MR_goto (tgt := 12) dX5_worked_185 (by decide) ?_
            exact MR_sub [2, 3, 4, 5, 0] rfl w
          · have w := w.2 c12
            refine MR_iconst (v := 1) dX5_worked_112 (by decide) ?_
            refine MR_goto (tgt := 117) dX5_worked_113 (by decide) ?_
            obtain ⟨c11, w⟩ := w
            refine MR_iast (k := 30) dX5_worked_117 (by decide) rfl c11 ?_
            refine MR_goto (tgt := 182) dX5_worked_118 (by decide) ?_
            refine MR_iinc (v := (a5 + 1)) (lv' := [(5, .int (a5 + 1)), (6, .int (sg.1 24 a5.toNatClampNeg)), (0, .ref m), (1, .int a1), (3, .int a3), (4, .int a4)]) dX5_worked_182 5 rfl (congrArg (fun z => a5 + z) (show Int32.ofInt 1 = 1 by decide)) (by decide) rfl ?_
            refine MR_goto (tgt := 12) dX5_worked_185 (by decide) ?_
            exact MR_sub [2, 3, 4, 5, 0] rfl w
      · have w := w.2 c15
        exact MR_sub [1, 2, 3, 4, 5, 0] rfl w
theorem sX5_worked_45 {G : GG} {m : Nat} {sg : MS} {Q : Outcome → MS → Prop} {a1 a3 a4 a5 a6 : Int32} (w : (¬ a6 = 1 → (vp_in a5 260 ∧ (vp_in (sg.1 25 a5.toNatClampNeg) 6 ∧ (vp_in a4 130 ∧ (MR G mX5_worked 2 12 [(0, .ref m), (1, .int a1), (3, .int a3), (4, .int (a4 + 1)), (5, .int (a5 + 1))] [] m (uS sg 30 a4.toNatClampNeg (sg.1 29 (sg.1 25 a5.toNatClampNeg).toNatClampNeg)) Q))))) ∧ (a6 = 1 → (vp_in a5 260 ∧ (vp_in a4 130 ∧ (MR G mX5_worked 2 12 [(0, .ref m), (1, .int a1), (3, .int a3), (4, .int (a4 + 1)), (5, .int (a5 + 1))] [] m (uS sg 30 a4.toNatClampNeg (sg.1 25 a5.toNatClampNeg)) Q))))) : MR G mX5_worked 2 45 [(0, .ref m), (1, .int a1), (3, .int a3), (4, .int a4), (5, .int a5), (6, .int a6)] [] m sg Q := by
  refine MR_aload_n dX5_worked_45 0 rfl ?_
  refine MR_getA (k := 30) (o := 20) (j := 0) (n := 130) dX5_worked_46 q1294 (by decide) rfl rfl ?_
  refine MR_iload dX5_worked_49 3 rfl ?_
  refine MR_iload dX5_worked_51 5 rfl ?_
  refine MR_iconst (v := 1) dX5_worked_53 (by decide) ?_
  refine MR_icmp_ne (tgt := 67) dX5_worked_54 (by decide) (fun c6 => ?_) (fun c6 => ?_)
  · have w := w.1 c6
    refine MR_aload_n dX5_worked_67 0 rfl ?_
    refine MR_getA (k := 29) (o := 19) (j := 0) (n := 6) dX5_worked_68 q1293 (by decide) rfl rfl ?_
    refine MR_aload_n dX5_worked_71 0 rfl ?_
    refine MR_getA (k := 25) (o := 15) (j := 0) (n := 260) dX5_worked_72 q1289 (by decide) rfl rfl ?_
    refine MR_iload dX5_worked_75 4 rfl ?_
    obtain ⟨c3, w⟩ := w
    refine MR_iald (k := 25) dX5_worked_77 (by decide) rfl c3 ?_
    obtain ⟨c2, w⟩ := w
    refine MR_iald (k := 29) dX5_worked_78 (by decide) rfl c2 ?_
    obtain ⟨c1, w⟩ := w
    refine MR_iast (k := 30) dX5_worked_79 (by decide) rfl c1 ?_
    refine MR_iinc (v := (a4 + 1)) (lv' := [(4, .int (a4 + 1)), (0, .ref m), (1, .int a1), (3, .int a3), (5, .int a5), (6, .int a6)]) dX5_worked_80 3 rfl (congrArg (fun z => a4 + z) (show Int32.ofInt 1 = 1 by decide)) (by decide) rfl ?_
    refine MR_goto (tgt := 182) dX5_worked_83 (by decide) ?_
    refine MR_iinc (v := (a5 + 1)) (lv' := [(5, .int (a5 + 1)), (4, .int (a4 + 1)), (0, .ref m), (1, .int a1), (3, .int a3), (6, .int a6)]) dX5_worked_182 4 rfl (congrArg (fun z => a5 + z) (show Int32.ofInt 1 = 1 by decide)) (by decide) rfl ?_
    refine MR_goto (tgt := 12) dX5_worked_185 (by decide) ?_
    exact MR_sub [2, 3, 4, 1, 0] rfl w
  · have w := w.2 c6
    refine MR_aload_n dX5_worked_57 0 rfl ?_
    refine MR_getA (k := 25) (o := 15) (j := 0) (n := 260) dX5_worked_58 q1289 (by decide) rfl rfl ?_
    refine MR_iload dX5_worked_61 4 rfl ?_
    obtain ⟨c5, w⟩ := w
    refine MR_iald (k := 25) dX5_worked_63 (by decide) rfl c5 ?_
    refine MR_goto (tgt := 79) dX5_worked_64 (by decide) ?_
    obtain ⟨c4, w⟩ := w
    refine MR_iast (k := 30) dX5_worked_79 (by decide) rfl c4 ?_
    refine MR_iinc (v := (a4 + 1)) (lv' := [(4, .int (a4 + 1)), (0, .ref m), (1, .int a1), (3, .int a3), (5, .int a5), (6, .int a6)]) dX5_worked_80 3 rfl (congrArg (fun z => a4 + z) (show Int32.ofInt 1 = 1 by decide)) (by decide) rfl ?_
    refine MR_goto (tgt := 182) dX5_worked_83 (by decide) ?_
    refine MR_iinc (v := (a5 + 1)) (lv' := [(5, .int (a5 + 1)), (4, .int (a4 + 1)), (0, .ref m), (1, .int a1), (3, .int a3), (6, .int a6)]) dX5_worked_182 4 rfl (congrArg (fun z => a5 + z) (show Int32.ofInt 1 = 1 by decide)) (by decide) rfl ?_
    refine MR_goto (tgt := 12) dX5_worked_185 (by decide) ?_
    exact MR_sub [2, 3, 4, 1, 0] rfl w

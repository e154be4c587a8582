/-! LAYER 2: segments of the component's methods (printed by gen32.py) -/
set_option maxRecDepth 100000
theorem sX0_givenIn_0 {G : GG} {x : Nat} {h : AH} {Q : Outcome → AH → Prop} {a1 : Int32} {a2 : Int32} (B : XB G x h) (w : Run G mX0_freeIn 305 0 [(0, .ref x), (1, .int a1)] [] h (fun o h1 => ∃ r2 : Int32, o = .returned (some (.int r2)) ∧ XB G x h1 ∧ (XB G x h1 → Run G mX0_givenIn 307 16 [(0, .ref x), (1, .int a1), (2, .int a2), (3, .int r2), (4, .int (-2)), (5, .int 0), (6, .int 0)] [] h1 Q))) : Run G mX0_givenIn 307 0 [(0, .ref x), (1, .int a1), (2, .int a2)] [] h Q := by
  refine R_aload_n dX0_givenIn_0 0 rfl ?_
  refine R_iload_n dX0_givenIn_1 1 rfl ?_
  refine R_invV (Mc := mX0_freeIn) (b := x) (As := [.int a1]) (st := []) ok0 (by decide) B.1 dX0_givenIn_2 q719 q721 qs32 q103 wX0_freeIn pX0_freeIn rfl (Nat.le_of_ble_eq_true rfl) (by decide) (by decide) (Nat.le_of_ble_eq_true rfl) (aft_i w (fun r2 h1 w => ?_))
  obtain ⟨Bh1, w⟩ := w
  refine R_istore_n (lv' := [(3, .int r2), (0, .ref x), (1, .int a1), (2, .int a2)]) dX0_givenIn_5 rfl (by decide) rfl ?_
  refine R_bipush (v := (-2)) dX0_givenIn_6 (by decide) ?_
  refine R_istore (lv' := [(4, .int (-2)), (3, .int r2), (0, .ref x), (1, .int a1), (2, .int a2)]) dX0_givenIn_8 (by decide) rfl ?_
  refine R_iconst (v := 0) dX0_givenIn_10 (by decide) ?_
  refine R_istore (lv' := [(5, .int 0), (4, .int (-2)), (3, .int r2), (0, .ref x), (1, .int a1), (2, .int a2)]) dX0_givenIn_11 (by decide) rfl ?_
  refine R_iconst (v := 0) dX0_givenIn_13 (by decide) ?_
  refine R_istore (lv' := [(6, .int 0), (5, .int 0), (4, .int (-2)), (3, .int r2), (0, .ref x), (1, .int a1), (2, .int a2)]) dX0_givenIn_14 (by decide) rfl ?_
  exact R_sub [4, 5, 6, 3, 2, 1, 0] rfl (w Bh1)
theorem sX0_givenIn_16 {G : GG} {x : Nat} {h : AH} {Q : Outcome → AH → Prop} {a1 : Int32} {a2 : Int32} {a3 : Int32} {a4 : Int32} {a5 : Int32} {a6 : Int32} (B : XB G x h) (w : (12 ≤ a6 → (Q (.returned (some (.int a4))) h)) ∧ (¬ 12 ≤ a6 → (Run G mX0_isIn 1 0 [(0, .int a3), (1, .int a6)] [] h (fun o h1 => ∃ b2 : Bool, o = .returned (some (.int (bi b2))) ∧ XB G x h1 ∧ ((b2 = true → (Run G mX0_rank 306 0 [(0, .ref x), (1, .int a2), (2, .int a6), (3, .int a1)] [] h1 (fun o h3 => ∃ r4 : Int32, o = .returned (some (.int r4)) ∧ XB G x h3 ∧ ((a4 = (-2) → (XB G x h3 → Run G mX0_givenIn 307 16 [(0, .ref x), (1, .int a1), (2, .int a2), (3, .int a3), (4, .int a6), (5, .int r4), (6, .int (a6 + 1))] [] h3 Q)) ∧ (¬ a4 = (-2) → ((a5 < r4 → (XB G x h3 → Run G mX0_givenIn 307 16 [(0, .ref x), (1, .int a1), (2, .int a2), (3, .int a3), (4, .int a6), (5, .int r4), (6, .int (a6 + 1))] [] h3 Q)) ∧ (¬ a5 < r4 → (XB G x h3 → Run G mX0_givenIn 307 16 [(0, .ref x), (1, .int a1), (2, .int a2), (3, .int a3), (4, .int a4), (5, .int a5), (6, .int (a6 + 1))] [] h3 Q)))))))) ∧ (b2 = false → (XB G x h1 → Run G mX0_givenIn 307 16 [(0, .ref x), (1, .int a1), (2, .int a2), (3, .int a3), (4, .int a4), (5, .int a5), (6, .int (a6 + 1))] [] h1 Q))))))) : Run G mX0_givenIn 307 16 [(0, .ref x), (1, .int a1), (2, .int a2), (3, .int a3), (4, .int a4), (5, .int a5), (6, .int a6)] [] h Q := by
  refine R_iload dX0_givenIn_16 6 rfl ?_
  refine R_bipush (v := 12) dX0_givenIn_18 (by decide) ?_
  refine R_icmp_ge (tgt := 76) dX0_givenIn_20 (by decide) (fun c8 => ?_) (fun c8 => ?_)
  · have w := w.1 c8
    refine R_iload dX0_givenIn_76 4 rfl ?_
    exact R_iret dX0_givenIn_78 rfl w
  · have w := w.2 c8
    refine R_iload_n dX0_givenIn_23 3 rfl ?_
    refine R_iload dX0_givenIn_24 6 rfl ?_
    refine R_invS (Mc := mX0_isIn) (As := [.int a3, .int a6]) (st := []) dX0_givenIn_26 q654 q655 q103 wX0_isIn pX0_isIn rfl (Nat.le_of_ble_eq_true rfl) (by decide) (by decide) (Nat.le_of_ble_eq_true rfl) (aft_z w (fun b2 h1 w => ?_))
    obtain ⟨Bh1, w⟩ := w
    refine R_ifz_ne (tgt := 35) dX0_givenIn_29 (by decide) (fun c7 => ?_) (fun c7 => ?_)
    · have w := w.1 c7
      refine R_aload_n dX0_givenIn_35 0 rfl ?_
      refine R_iload_n dX0_givenIn_36 2 rfl ?_
      refine R_iload dX0_givenIn_37 6 rfl ?_
      refine R_iload_n dX0_givenIn_39 1 rfl ?_
      refine R_invV (Mc := mX0_rank) (b := x) (As := [.int a2, .int a6, .int a1]) (st := []) ok0 (by decide) Bh1.1 dX0_givenIn_40 q753 q755 qs36 q103 wX0_rank pX0_rank rfl (Nat.le_of_ble_eq_true rfl) (by decide) (by decide) (Nat.le_of_ble_eq_true rfl) (aft_i w (fun r4 h3 w => ?_))
      obtain ⟨Bh3, w⟩ := w
      refine R_istore (lv' := [(7, .int r4), (0, .ref x), (1, .int a1), (2, .int a2), (3, .int a3), (4, .int a4), (5, .int a5), (6, .int a6)]) dX0_givenIn_43 (by decide) rfl ?_
      refine R_iload dX0_givenIn_45 5 rfl ?_
      refine R_bipush (v := (-2)) dX0_givenIn_47 (by decide) ?_
      refine R_icmp_eq (tgt := 62) dX0_givenIn_49 (by decide) (fun c6 => ?_) (fun c6 => ?_)
      · have w := w.1 c6
        refine R_iload dX0_givenIn_62 7 rfl ?_
        refine R_istore (lv' := [(4, .int a6), (7, .int r4), (0, .ref x), (1, .int a1), (2, .int a2), (3, .int a3), (5, .int a5), (6, .int a6)]) dX0_givenIn_64 (by decide) rfl ?_
        refine R_iload dX0_givenIn_66 1 rfl ?_
        refine R_istore (lv' := [(5, .int r4), (4, .int a6), (7, .int r4), (0, .ref x), (1, .int a1), (2, .int a2), (3, .int a3), (6, .int a6)]) dX0_givenIn_68 (by decide) rfl ?_
        refine R_iinc (v := (a6 + 1)) (lv' := [(6, .int (a6 + 1)), (5, .int r4), (4, .int a6), (7, .int r4), (0, .ref x), (1, .int a1), (2, .int a2), (3, .int a3)]) dX0_givenIn_70 7 rfl (congrArg (fun z => a6 + z) (show Int32.ofInt 1 = 1 by decide)) (by decide) rfl ?_
        refine R_goto (tgt := 16) dX0_givenIn_73 (by decide) ?_
        exact R_sub [4, 5, 6, 7, 2, 1, 0] rfl (w Bh3)
      · have w := w.2 c6
        refine R_iload dX0_givenIn_52 0 rfl ?_
        refine R_iload dX0_givenIn_54 6 rfl ?_
        refine R_icmp_gt (tgt := 62) dX0_givenIn_56 (by decide) (fun c5 => ?_) (fun c5 => ?_)
        · have w := w.1 c5
          refine R_iload dX0_givenIn_62 7 rfl ?_
          refine R_istore (lv' := [(4, .int a6), (7, .int r4), (0, .ref x), (1, .int a1), (2, .int a2), (3, .int a3), (5, .int a5), (6, .int a6)]) dX0_givenIn_64 (by decide) rfl ?_
          refine R_iload dX0_givenIn_66 1 rfl ?_
          refine R_istore (lv' := [(5, .int r4), (4, .int a6), (7, .int r4), (0, .ref x), (1, .int a1), (2, .int a2), (3, .int a3), (6, .int a6)]) dX0_givenIn_68 (by decide) rfl ?_
          refine R_iinc (v := (a6 + 1)) (lv' := [(6, .int (a6 + 1)), (5, .int r4), (4, .int a6), (7, .int r4), (0, .ref x), (1, .int a1), (2, .int a2), (3, .int a3)]) dX0_givenIn_70 7 rfl (congrArg (fun z => a6 + z) (show Int32.ofInt 1 = 1 by decide)) (by decide) rfl ?_
          refine R_goto (tgt := 16) dX0_givenIn_73 (by decide) ?_
          exact R_sub [4, 5, 6, 7, 2, 1, 0] rfl (w Bh3)
        · have w := w.2 c5
          refine R_goto (tgt := 70) dX0_givenIn_59 (by decide) ?_
          refine R_iinc (v := (a6 + 1)) (lv' := [(6, .int (a6 + 1)), (7, .int r4), (0, .ref x), (1, .int a1), (2, .int a2), (3, .int a3), (4, .int a4), (5, .int a5)]) dX0_givenIn_70 7 rfl (congrArg (fun z => a6 + z) (show Int32.ofInt 1 = 1 by decide)) (by decide) rfl ?_
          refine R_goto (tgt := 16) dX0_givenIn_73 (by decide) ?_
          exact R_sub [2, 3, 4, 5, 6, 7, 0] rfl (w Bh3)
    · have w := w.2 c7
      refine R_goto (tgt := 70) dX0_givenIn_32 (by decide) ?_
      refine R_iinc (v := (a6 + 1)) (lv' := [(6, .int (a6 + 1)), (0, .ref x), (1, .int a1), (2, .int a2), (3, .int a3), (4, .int a4), (5, .int a5)]) dX0_givenIn_70 6 rfl (congrArg (fun z => a6 + z) (show Int32.ofInt 1 = 1 by decide)) (by decide) rfl ?_
      refine R_goto (tgt := 16) dX0_givenIn_73 (by decide) ?_
      exact R_sub [1, 2, 3, 4, 5, 6, 0] rfl (w Bh1)
theorem sX0_hearing_0 {G : GG} {x : Nat} {h : AH} {Q : Outcome → AH → Prop} {a1 : Int32} (B : XB G x h) (w : Run G mX0_within 1 0 [(0, .long a1.toInt64), (2, .long 0), (4, .long 1)] [] h (fun o h1 => ∃ b2 : Bool, o = .returned (some (.int (bi b2))) ∧ XB G x h1 ∧ ((b2 = true → (Q (.returned (some (.int (aI h1 13 x)))) (sI h1 13 x a1))) ∧ (b2 = false → (Q (.returned (some (.int (-1)))) h1))))) : Run G mX0_hearing 2 0 [(0, .ref x), (1, .int a1)] [] h Q := by
  refine R_iload_n dX0_hearing_0 1 rfl ?_
  refine R_i2l dX0_hearing_1 ?_
  refine R_lconst (v := 0) dX0_hearing_2 (by decide) ?_
  refine R_lconst (v := 1) dX0_hearing_3 (by decide) ?_
  refine R_invS (Mc := mX0_within) (As := [.long a1.toInt64, .long 0, .long 1]) (st := []) dX0_hearing_4 q366 q367 q103 wX0_within pX0_within rfl (Nat.le_of_ble_eq_true rfl) (by decide) (by decide) (Nat.le_of_ble_eq_true rfl) (aft_z w (fun b2 h1 w => ?_))
  obtain ⟨Bh1, w⟩ := w
  refine R_ifz_ne (tgt := 12) dX0_hearing_7 (by decide) (fun c3 => ?_) (fun c3 => ?_)
  · have w := w.1 c3
    refine R_aload_n dX0_hearing_12 0 rfl ?_
    refine X_getS (k := 13) Bh1 dX0_hearing_13 q277 (by decide) rfl ?_
    refine R_istore_n (lv' := [(2, .int (aI h1 13 x)), (0, .ref x), (1, .int a1)]) dX0_hearing_16 rfl (by decide) rfl ?_
    refine R_aload_n dX0_hearing_17 1 rfl ?_
    refine R_iload_n dX0_hearing_18 2 rfl ?_
    refine X_putS (k := 13) Bh1 dX0_hearing_19 q277 (by decide) rfl rfl rfl rfl ?_
    refine R_iload_n dX0_hearing_22 0 rfl ?_
    exact R_iret dX0_hearing_23 rfl w
  · have w := w.2 c3
    refine R_iconst (v := (-1)) dX0_hearing_10 (by decide) ?_
    exact R_iret dX0_hearing_11 rfl w
theorem sX0_held_0 {G : GG} {x : Nat} {h : AH} {Q : Outcome → AH → Prop} {a1 : Int32} {a2 : Int32} {a3 : Int32} (B : XB G x h) (w : Run G mX0_isName 2 0 [(0, .int a1)] [] h (fun o h1 => ∃ b2 : Bool, o = .returned (some (.int (bi b2))) ∧ XB G x h1 ∧ ((b2 = false → (Q (.returned (some (.int (-1)))) h1)) ∧ (b2 = true → (Run G mX0_isYear 2 0 [(0, .int a2)] [] h1 (fun o h3 => ∃ b4 : Bool, o = .returned (some (.int (bi b4))) ∧ XB G x h3 ∧ ((b4 = false → (Q (.returned (some (.int (-1)))) h3)) ∧ (b4 = true → (Run G mX0_within 1 0 [(0, .long a3.toInt64), (2, .long 0), (4, .long 2)] [] h3 (fun o h5 => ∃ b6 : Bool, o = .returned (some (.int (bi b6))) ∧ XB G x h5 ∧ ((b6 = true → (Run G mX0_asNamed 1 0 [(0, .ref x)] [] h5 (fun o h7 => o = .returned none ∧ XB G x h7 ∧ ((¬ a3 = 2 → (Run G mX0_knowUpTo 4 0 [(0, .ref x), (1, .int a2), (2, .int 0)] [] h7 (fun o h8 => o = .returned none ∧ XB G x h8 ∧ ((¬ a3 = 0 → (Run G mX0_holders 303 0 [(0, .ref x), (1, .int a1), (2, .int a2)] [] h8 (fun o h9 => ∃ r10 : Int32, o = .returned (some (.int r10)) ∧ XB G x h9 ∧ (Q (.returned (some (.int r10))) h9)))) ∧ (a3 = 0 → (Run G mX0_isHeld 304 0 [(0, .ref x), (1, .int a1), (2, .int a2)] [] h8 (fun o h11 => ∃ b12 : Bool, o = .returned (some (.int (bi b12))) ∧ XB G x h11 ∧ (Run G mX0_bit 1 0 [(0, .int (bi b12))] [] h11 (fun o h13 => ∃ r14 : Int32, o = .returned (some (.int r14)) ∧ XB G x h13 ∧ (Q (.returned (some (.int r14))) h13)))))))))) ∧ (a3 = 2 → (Run G mX0_tillOf 305 0 [(0, .ref x), (1, .int a1), (2, .int a2)] [] h7 (fun o h16 => ∃ r17 : Int32, o = .returned (some (.int r17)) ∧ XB G x h16 ∧ (Q (.returned (some (.int r17))) h16)))))))) ∧ (b6 = false → (Q (.returned (some (.int (-1)))) h5))))))))))))) : Run G mX0_held 306 0 [(0, .ref x), (1, .int a1), (2, .int a2), (3, .int a3)] [] h Q := by
  refine R_iload_n dX0_held_0 1 rfl ?_
  refine R_invS (Mc := mX0_isName) (As := [.int a1]) (st := []) dX0_held_1 q428 q429 q103 wX0_isName pX0_isName rfl (Nat.le_of_ble_eq_true rfl) (by decide) (by decide) (Nat.le_of_ble_eq_true rfl) (aft_z w (fun b2 h1 w => ?_))
  obtain ⟨Bh1, w⟩ := w
  refine R_ifz_eq (tgt := 26) dX0_held_4 (by decide) (fun c21 => ?_) (fun c21 => ?_)
  · have w := w.1 c21
    refine R_iconst (v := (-1)) dX0_held_26 (by decide) ?_
    exact R_iret dX0_held_27 rfl w
  · have w := w.2 c21
    refine R_iload_n dX0_held_7 2 rfl ?_
    refine R_invS (Mc := mX0_isYear) (As := [.int a2]) (st := []) dX0_held_8 q376 q377 q103 wX0_isYear pX0_isYear rfl (Nat.le_of_ble_eq_true rfl) (by decide) (by decide) (Nat.le_of_ble_eq_true rfl) (aft_z w (fun b4 h3 w => ?_))
    obtain ⟨Bh3, w⟩ := w
    refine R_ifz_eq (tgt := 26) dX0_held_11 (by decide) (fun c20 => ?_) (fun c20 => ?_)
    · have w := w.1 c20
      refine R_iconst (v := (-1)) dX0_held_26 (by decide) ?_
      exact R_iret dX0_held_27 rfl w
    · have w := w.2 c20
      refine R_iload_n dX0_held_14 3 rfl ?_
      refine R_i2l dX0_held_15 ?_
      refine R_lconst (v := 0) dX0_held_16 (by decide) ?_
      refine R_ldc2 (v := 2) dX0_held_17 q427 ?_
      refine R_invS (Mc := mX0_within) (As := [.long a3.toInt64, .long 0, .long 2]) (st := []) dX0_held_20 q366 q367 q103 wX0_within pX0_within rfl (Nat.le_of_ble_eq_true rfl) (by decide) (by decide) (Nat.le_of_ble_eq_true rfl) (aft_z w (fun b6 h5 w => ?_))
      obtain ⟨Bh5, w⟩ := w
      refine R_ifz_ne (tgt := 28) dX0_held_23 (by decide) (fun c19 => ?_) (fun c19 => ?_)
      · have w := w.1 c19
        refine R_aload_n dX0_held_28 0 rfl ?_
        refine R_invV (Mc := mX0_asNamed) (b := x) (As := []) (st := []) ok0 (by decide) Bh5.1 dX0_held_29 q661 q663 qs24 q103 wX0_asNamed pX0_asNamed rfl (Nat.le_of_ble_eq_true rfl) (by decide) (by decide) (Nat.le_of_ble_eq_true rfl) (aft_v w (fun h7 w => ?_))
        obtain ⟨Bh7, w⟩ := w
        refine R_iload_n dX0_held_32 3 rfl ?_
        refine R_iconst (v := 2) dX0_held_33 (by decide) ?_
        refine R_icmp_ne (tgt := 44) dX0_held_34 (by decide) (fun c18 => ?_) (fun c18 => ?_)
        · have w := w.1 c18
          refine R_aload_n dX0_held_44 0 rfl ?_
          refine R_iload_n dX0_held_45 2 rfl ?_
          refine R_iconst (v := 0) dX0_held_46 (by decide) ?_
          refine R_invV (Mc := mX0_knowUpTo) (b := x) (As := [.int a2, .int 0]) (st := []) ok0 (by decide) Bh7.1 dX0_held_47 q650 q652 qs23 q103 wX0_knowUpTo pX0_knowUpTo rfl (Nat.le_of_ble_eq_true rfl) (by decide) (by decide) (Nat.le_of_ble_eq_true rfl) (aft_v w (fun h8 w => ?_))
          obtain ⟨Bh8, w⟩ := w
          refine R_iload_n dX0_held_50 3 rfl ?_
          refine R_if_ne (tgt := 66) dX0_held_51 (by decide) (fun c15 => ?_) (fun c15 => ?_)
          · have w := w.1 c15
            refine R_aload_n dX0_held_66 0 rfl ?_
            refine R_iload_n dX0_held_67 1 rfl ?_
            refine R_iload_n dX0_held_68 2 rfl ?_
            refine R_invV (Mc := mX0_holders) (b := x) (As := [.int a1, .int a2]) (st := []) ok0 (by decide) Bh8.1 dX0_held_69 q677 q679 qs28 q103 wX0_holders pX0_holders rfl (Nat.le_of_ble_eq_true rfl) (by decide) (by decide) (Nat.le_of_ble_eq_true rfl) (aft_i w (fun r10 h9 w => ?_))
            obtain ⟨Bh9, w⟩ := w
            exact R_iret dX0_held_72 rfl w
          · have w := w.2 c15
            refine R_aload_n dX0_held_54 0 rfl ?_
            refine R_iload_n dX0_held_55 1 rfl ?_
            refine R_iload_n dX0_held_56 2 rfl ?_
            refine R_invV (Mc := mX0_isHeld) (b := x) (As := [.int a1, .int a2]) (st := []) ok0 (by decide) Bh8.1 dX0_held_57 q669 q671 qs26 q103 wX0_isHeld pX0_isHeld rfl (Nat.le_of_ble_eq_true rfl) (by decide) (by decide) (Nat.le_of_ble_eq_true rfl) (aft_z w (fun b12 h11 w => ?_))
            obtain ⟨Bh11, w⟩ := w
            refine R_invS (Mc := mX0_bit) (As := [.int (bi b12)]) (st := []) dX0_held_60 q505 q506 q103 wX0_bit pX0_bit rfl (Nat.le_of_ble_eq_true rfl) (by decide) (by decide) (Nat.le_of_ble_eq_true rfl) (aft_i w (fun r14 h13 w => ?_))
            obtain ⟨Bh13, w⟩ := w
            refine R_goto (tgt := 72) dX0_held_63 (by decide) ?_
            exact R_iret dX0_held_72 rfl w
        · have w := w.2 c18
          refine R_aload_n dX0_held_37 0 rfl ?_
          refine R_iload_n dX0_held_38 1 rfl ?_
          refine R_iload_n dX0_held_39 2 rfl ?_
          refine R_invV (Mc := mX0_tillOf) (b := x) (As := [.int a1, .int a2]) (st := []) ok0 (by decide) Bh7.1 dX0_held_40 q665 q667 qs25 q103 wX0_tillOf pX0_tillOf rfl (Nat.le_of_ble_eq_true rfl) (by decide) (by decide) (Nat.le_of_ble_eq_true rfl) (aft_i w (fun r17 h16 w => ?_))
          obtain ⟨Bh16, w⟩ := w
          exact R_iret dX0_held_43 rfl w
      · have w := w.2 c19
        refine R_iconst (v := (-1)) dX0_held_26 (by decide) ?_
        exact R_iret dX0_held_27 rfl w
theorem sX0_holders_0 {G : GG} {x : Nat} {h : AH} {Q : Outcome → AH → Prop} {a1 : Int32} {a2 : Int32} (B : XB G x h) (w : XB G x h → Run G mX0_holders 303 5 [(0, .ref x), (1, .int a1), (2, .int a2), (3, .int 0), (4, .int 0)] [] h Q) : Run G mX0_holders 303 0 [(0, .ref x), (1, .int a1), (2, .int a2)] [] h Q := by
  refine R_iconst (v := 0) dX0_holders_0 (by decide) ?_
  refine R_istore_n (lv' := [(3, .int 0), (0, .ref x), (1, .int a1), (2, .int a2)]) dX0_holders_1 rfl (by decide) rfl ?_
  refine R_iconst (v := 0) dX0_holders_2 (by decide) ?_
  refine R_istore (lv' := [(4, .int 0), (3, .int 0), (0, .ref x), (1, .int a1), (2, .int a2)]) dX0_holders_3 (by decide) rfl ?_
  exact R_sub [2, 3, 4, 1, 0] rfl (w B)
theorem sX0_holders_5 {G : GG} {x : Nat} {h : AH} {Q : Outcome → AH → Prop} {a1 : Int32} {a2 : Int32} {a3 : Int32} {a4 : Int32} (B : XB G x h) (w : ((aI h 8 x) ≤ a4 → (Q (.returned (some (.int a3))) h)) ∧ (¬ (aI h 8 x) ≤ a4 → (Run G mX0_doesHold 302 0 [(0, .ref x), (1, .int a4), (2, .int a1), (3, .int a2)] [] h (fun o h1 => ∃ b2 : Bool, o = .returned (some (.int (bi b2))) ∧ XB G x h1 ∧ (Run G mX0_bit 1 0 [(0, .int (bi b2))] [] h1 (fun o h3 => ∃ r4 : Int32, o = .returned (some (.int r4)) ∧ XB G x h3 ∧ (XB G x h3 → Run G mX0_holders 303 5 [(0, .ref x), (1, .int a1), (2, .int a2), (3, .int (a3 ||| (r4 <<< (a4 &&& 31)))), (4, .int (a4 + 1))] [] h3 Q))))))) : Run G mX0_holders 303 5 [(0, .ref x), (1, .int a1), (2, .int a2), (3, .int a3), (4, .int a4)] [] h Q := by
  refine R_iload dX0_holders_5 4 rfl ?_
  refine R_aload_n dX0_holders_7 0 rfl ?_
  refine X_getS (k := 8) B dX0_holders_8 q272 (by decide) rfl ?_
  refine R_icmp_ge (tgt := 37) dX0_holders_11 (by decide) (fun c5 => ?_) (fun c5 => ?_)
  · have w := w.1 c5
    refine R_iload_n dX0_holders_37 3 rfl ?_
    exact R_iret dX0_holders_38 rfl w
  · have w := w.2 c5
    refine R_iload_n dX0_holders_14 3 rfl ?_
    refine R_aload_n dX0_holders_15 0 rfl ?_
    refine R_iload dX0_holders_16 4 rfl ?_
    refine R_iload_n dX0_holders_18 1 rfl ?_
    refine R_iload_n dX0_holders_19 2 rfl ?_
    refine R_invV (Mc := mX0_doesHold) (b := x) (As := [.int a4, .int a1, .int a2]) (st := [.int a3]) ok0 (by decide) B.1 dX0_holders_20 q681 q683 qs29 q103 wX0_doesHold pX0_doesHold rfl (Nat.le_of_ble_eq_true rfl) (by decide) (by decide) (Nat.le_of_ble_eq_true rfl) (aft_z w (fun b2 h1 w => ?_))
    obtain ⟨Bh1, w⟩ := w
    refine R_invS (Mc := mX0_bit) (As := [.int (bi b2)]) (st := [.int a3]) dX0_holders_23 q505 q506 q103 wX0_bit pX0_bit rfl (Nat.le_of_ble_eq_true rfl) (by decide) (by decide) (Nat.le_of_ble_eq_true rfl) (aft_i w (fun r4 h3 w => ?_))
    obtain ⟨Bh3, w⟩ := w
    refine R_iload dX0_holders_26 4 rfl ?_
    refine R_ishl dX0_holders_28 ?_
    refine R_ior dX0_holders_29 ?_
    refine R_istore_n (lv' := [(3, .int (a3 ||| (r4 <<< (a4 &&& 31)))), (0, .ref x), (1, .int a1), (2, .int a2), (4, .int a4)]) dX0_holders_30 rfl (by decide) rfl ?_
    refine R_iinc (v := (a4 + 1)) (lv' := [(4, .int (a4 + 1)), (3, .int (a3 ||| (r4 <<< (a4 &&& 31)))), (0, .ref x), (1, .int a1), (2, .int a2)]) dX0_holders_31 4 rfl (congrArg (fun z => a4 + z) (show Int32.ofInt 1 = 1 by decide)) (by decide) rfl ?_
    refine R_goto (tgt := 5) dX0_holders_34 (by decide) ?_
    exact R_sub [2, 3, 4, 1, 0] rfl (w Bh3)
theorem sX0_holdsFor_0 {G : GG} {x : Nat} {h : AH} {Q : Outcome → AH → Prop} {a1 : Int32} {a2 : Int32} {a3 : Int32} {a4 : Int32} (B : XB G x h) (w : vp_in a1 12 ∧ ∃ q2 : Nat, (aR h (x + 4) a1.toNatClampNeg) = some q2 ∧ (IsK G h q2 (6, 0) ∧ (((aP h 19 x) = none → (((a4 - (aI h 384 q2)) < 80 → (Q (.returned (some (.int (bi true)))) h)) ∧ (¬ (a4 - (aI h 384 q2)) < 80 → ((¬ a1 = a2 → (Q (.returned (some (.int (bi false)))) h)) ∧ (a1 = a2 → (Q (.returned (some (.int (bi true)))) h)))))) ∧ (((aP h 19 x)).isSome = true → (vp_in 0 6 ∧ (vp_in a2 12 ∧ ∃ q8 : Nat, (aR (sA h (x + 11) (0 : Int32).toNatClampNeg (a4 - (aI h 384 q2))) (x + 4) a2.toNatClampNeg) = some q8 ∧ (IsK G (sA h (x + 11) (0 : Int32).toNatClampNeg (a4 - (aI h 384 q2))) q8 (6, 0) ∧ (∃ q11 : Nat, (aP (sA h (x + 11) (0 : Int32).toNatClampNeg (a4 - (aI h 384 q2))) 385 q8) = some q11 ∧ (IsK G (sA h (x + 11) (0 : Int32).toNatClampNeg (a4 - (aI h 384 q2))) q11 (4, 0) ∧ (vp_in 1 6 ∧ (vp_in a3 12 ∧ (vp_in 2 6 ∧ (vp_in a3 12 ∧ ∃ q15 : Nat, (aR (sA (sA (sA h (x + 11) (0 : Int32).toNatClampNeg (a4 - (aI h 384 q2))) (x + 11) (1 : Int32).toNatClampNeg (if 0 < (a4 - (aI (sA h (x + 11) (0 : Int32).toNatClampNeg (a4 - (aI h 384 q2))) 256 q11)) then (a4 - (aI (sA h (x + 11) (0 : Int32).toNatClampNeg (a4 - (aI h 384 q2))) 256 q11)) else 0)) (x + 11) (2 : Int32).toNatClampNeg (aA (sA (sA h (x + 11) (0 : Int32).toNatClampNeg (a4 - (aI h 384 q2))) (x + 11) (1 : Int32).toNatClampNeg (if 0 < (a4 - (aI (sA h (x + 11) (0 : Int32).toNatClampNeg (a4 - (aI h 384 q2))) 256 q11)) then (a4 - (aI (sA h (x + 11) (0 : Int32).toNatClampNeg (a4 - (aI h 384 q2))) 256 q11)) else 0)) (x + 9) a3.toNatClampNeg)) (x + 8) a3.toNatClampNeg) = some q15 ∧ (IsK G (sA (sA (sA h (x + 11) (0 : Int32).toNatClampNeg (a4 - (aI h 384 q2))) (x + 11) (1 : Int32).toNatClampNeg (if 0 < (a4 - (aI (sA h (x + 11) (0 : Int32).toNatClampNeg (a4 - (aI h 384 q2))) 256 q11)) then (a4 - (aI (sA h (x + 11) (0 : Int32).toNatClampNeg (a4 - (aI h 384 q2))) 256 q11)) else 0)) (x + 11) (2 : Int32).toNatClampNeg (aA (sA (sA h (x + 11) (0 : Int32).toNatClampNeg (a4 - (aI h 384 q2))) (x + 11) (1 : Int32).toNatClampNeg (if 0 < (a4 - (aI (sA h (x + 11) (0 : Int32).toNatClampNeg (a4 - (aI h 384 q2))) 256 q11)) then (a4 - (aI (sA h (x + 11) (0 : Int32).toNatClampNeg (a4 - (aI h 384 q2))) 256 q11)) else 0)) (x + 9) a3.toNatClampNeg)) q15 (4, 0) ∧ (vp_in 3 6 ∧ ((¬ a1 = a2 → (Run G mX0_bit 1 0 [(0, .int (bi false))] [] (sA (sA (sA (sA h (x + 11) (0 : Int32).toNatClampNeg (a4 - (aI h 384 q2))) (x + 11) (1 : Int32).toNatClampNeg (if 0 < (a4 - (aI (sA h (x + 11) (0 : Int32).toNatClampNeg (a4 - (aI h 384 q2))) 256 q11)) then (a4 - (aI (sA h (x + 11) (0 : Int32).toNatClampNeg (a4 - (aI h 384 q2))) 256 q11)) else 0)) (x + 11) (2 : Int32).toNatClampNeg (aA (sA (sA h (x + 11) (0 : Int32).toNatClampNeg (a4 - (aI h 384 q2))) (x + 11) (1 : Int32).toNatClampNeg (if 0 < (a4 - (aI (sA h (x + 11) (0 : Int32).toNatClampNeg (a4 - (aI h 384 q2))) 256 q11)) then (a4 - (aI (sA h (x + 11) (0 : Int32).toNatClampNeg (a4 - (aI h 384 q2))) 256 q11)) else 0)) (x + 9) a3.toNatClampNeg)) (x + 11) (3 : Int32).toNatClampNeg (aI (sA (sA (sA h (x + 11) (0 : Int32).toNatClampNeg (a4 - (aI h 384 q2))) (x + 11) (1 : Int32).toNatClampNeg (if 0 < (a4 - (aI (sA h (x + 11) (0 : Int32).toNatClampNeg (a4 - (aI h 384 q2))) 256 q11)) then (a4 - (aI (sA h (x + 11) (0 : Int32).toNatClampNeg (a4 - (aI h 384 q2))) 256 q11)) else 0)) (x + 11) (2 : Int32).toNatClampNeg (aA (sA (sA h (x + 11) (0 : Int32).toNatClampNeg (a4 - (aI h 384 q2))) (x + 11) (1 : Int32).toNatClampNeg (if 0 < (a4 - (aI (sA h (x + 11) (0 : Int32).toNatClampNeg (a4 - (aI h 384 q2))) 256 q11)) then (a4 - (aI (sA h (x + 11) (0 : Int32).toNatClampNeg (a4 - (aI h 384 q2))) 256 q11)) else 0)) (x + 9) a3.toNatClampNeg)) 256 q15)) (fun o h18 => ∃ r19 : Int32, o = .returned (some (.int r19)) ∧ XB G x h18 ∧ (vp_in 4 6 ∧ (vp_in 5 6 ∧ (Run G mX0_ruled 300 0 [(0, .ref x)] [] (sA (sA h18 (x + 11) (4 : Int32).toNatClampNeg r19) (x + 11) (5 : Int32).toNatClampNeg a3) (fun o h20 => ∃ b21 : Bool, o = .returned (some (.int (bi b21))) ∧ XB G x h20 ∧ (Q (.returned (some (.int (bi b21)))) h20)))))))) ∧ (a1 = a2 → (Run G mX0_bit 1 0 [(0, .int (bi true))] [] (sA (sA (sA (sA h (x + 11) (0 : Int32).toNatClampNeg (a4 - (aI h 384 q2))) (x + 11) (1 : Int32).toNatClampNeg (if 0 < (a4 - (aI (sA h (x + 11) (0 : Int32).toNatClampNeg (a4 - (aI h 384 q2))) 256 q11)) then (a4 - (aI (sA h (x + 11) (0 : Int32).toNatClampNeg (a4 - (aI h 384 q2))) 256 q11)) else 0)) (x + 11) (2 : Int32).toNatClampNeg (aA (sA (sA h (x + 11) (0 : Int32).toNatClampNeg (a4 - (aI h 384 q2))) (x + 11) (1 : Int32).toNatClampNeg (if 0 < (a4 - (aI (sA h (x + 11) (0 : Int32).toNatClampNeg (a4 - (aI h 384 q2))) 256 q11)) then (a4 - (aI (sA h (x + 11) (0 : Int32).toNatClampNeg (a4 - (aI h 384 q2))) 256 q11)) else 0)) (x + 9) a3.toNatClampNeg)) (x + 11) (3 : Int32).toNatClampNeg (aI (sA (sA (sA h (x + 11) (0 : Int32).toNatClampNeg (a4 - (aI h 384 q2))) (x + 11) (1 : Int32).toNatClampNeg (if 0 < (a4 - (aI (sA h (x + 11) (0 : Int32).toNatClampNeg (a4 - (aI h 384 q2))) 256 q11)) then (a4 - (aI (sA h (x + 11) (0 : Int32).toNatClampNeg (a4 - (aI h 384 q2))) 256 q11)) else 0)) (x + 11) (2 : Int32).toNatClampNeg (aA (sA (sA h (x + 11) (0 : Int32).toNatClampNeg (a4 - (aI h 384 q2))) (x + 11) (1 : Int32).toNatClampNeg (if 0 < (a4 - (aI (sA h (x + 11) (0 : Int32).toNatClampNeg (a4 - (aI h 384 q2))) 256 q11)) then (a4 - (aI (sA h (x + 11) (0 : Int32).toNatClampNeg (a4 - (aI h 384 q2))) 256 q11)) else 0)) (x + 9) a3.toNatClampNeg)) 256 q15)) (fun o h24 => ∃ r25 : Int32, o = .returned (some (.int r25)) ∧ XB G x h24 ∧ (vp_in 4 6 ∧ (vp_in 5 6 ∧ (Run G mX0_ruled 300 0 [(0, .ref x)] [] (sA (sA h24 (x + 11) (4 : Int32).toNatClampNeg r25) (x + 11) (5 : Int32).toNatClampNeg a3) (fun o h26 => ∃ b27 : Bool, o = .returned (some (.int (bi b27))) ∧ XB G x h26 ∧ (Q (.returned (some (.int (bi b27)))) h26)))))))))))))))))))))))) : Run G mX0_holdsFor 301 0 [(0, .ref x), (1, .int a1), (2, .int a2), (3, .int a3), (4, .int a4)] [] h Q := by
  refine R_iload dX0_holdsFor_0 4 rfl ?_
  refine R_aload_n dX0_holdsFor_2 0 rfl ?_
  refine X_getA (k := 7) (o := 4) (j := 107) (n := 12) B dX0_holdsFor_3 q271 (by decide) rfl rfl ?_
  refine R_iload_n dX0_holdsFor_6 1 rfl ?_
  obtain ⟨c1, q2, e3, w⟩ := w
  refine X_aald (k := 7) (j := 7) (E := "NameRests$Person") B dX0_holdsFor_7 rfl (by decide) (by decide) rfl c1 ?_
  refine R_top (v' := .ref q2) (congrArg va_rf e3) ?_
  obtain ⟨k4, w⟩ := w
  refine R_getIN (k := 0) (f := 384) ok6 dX0_holdsFor_8 q389 (by decide) rfl (by decide) k4 ?_
  refine R_isub dX0_holdsFor_11 ?_
  refine R_istore (lv' := [(5, .int (a4 - (aI h 384 q2))), (0, .ref x), (1, .int a1), (2, .int a2), (3, .int a3), (4, .int a4)]) dX0_holdsFor_12 (by decide) rfl ?_
  refine R_aload_n dX0_holdsFor_14 1 rfl ?_
  refine X_getQ (k := 19) B dX0_holdsFor_15 q284 (by decide) rfl ?_
  refine R_ifnonnull (tgt := 39) dX0_holdsFor_18 (by decide) (fun q6 e5 => ?_) (fun e5 => ?_)
  · have w := w.2 (by rw [e5]; rfl)
    refine R_aload_n dX0_holdsFor_39 1 rfl ?_
    refine X_getA (k := 17) (o := 11) (j := 100) (n := 6) B dX0_holdsFor_40 q282 (by decide) rfl rfl ?_
    refine R_iconst (v := 0) dX0_holdsFor_43 (by decide) ?_
    refine R_iload dX0_holdsFor_44 0 rfl ?_
    obtain ⟨c35, w⟩ := w
    refine X_iast (k := 17) B dX0_holdsFor_46 rfl c35 ?_
    refine R_aload_n dX0_holdsFor_47 1 rfl ?_
    refine X_getA (k := 17) (o := 11) (j := 100) (n := 6) B.A dX0_holdsFor_48 q282 (by decide) rfl rfl ?_
    refine R_iconst (v := 1) dX0_holdsFor_51 (by decide) ?_
    refine R_iconst (v := 0) dX0_holdsFor_52 (by decide) ?_
    refine R_iload dX0_holdsFor_53 5 rfl ?_
    refine R_aload_n dX0_holdsFor_55 1 rfl ?_
    refine X_getA (k := 7) (o := 4) (j := 107) (n := 12) B.A dX0_holdsFor_56 q271 (by decide) rfl rfl ?_
    refine R_iload_n dX0_holdsFor_59 3 rfl ?_
    obtain ⟨c7, q8, e9, w⟩ := w
    refine X_aald (k := 7) (j := 7) (E := "NameRests$Person") B.A dX0_holdsFor_60 rfl (by decide) (by decide) rfl c7 ?_
    refine R_top (v' := .ref q8) (congrArg va_rf e9) ?_
    obtain ⟨k10, w⟩ := w
    obtain ⟨q11, e12, w⟩ := w
    refine R_getPN (k := 1) (f := 385) ok6 dX0_holdsFor_61 q391 (by decide) rfl (by decide) k10 ?_
    refine R_top (v' := .ref q11) (congrArg va_rf e12) ?_
    obtain ⟨k13, w⟩ := w
    refine R_getIN (k := 0) (f := 256) ok4 dX0_holdsFor_64 q260 (by decide) rfl (by decide) k13 ?_
    refine R_isub dX0_holdsFor_67 ?_
    refine R_mmax dX0_holdsFor_68 q689 q690 q120 q691 (by decide) (Nat.le_of_ble_eq_true rfl) ?_
    obtain ⟨c34, w⟩ := w
    refine X_iast (k := 17) B.A dX0_holdsFor_71 rfl c34 ?_
    refine R_aload_n dX0_holdsFor_72 1 rfl ?_
    refine X_getA (k := 17) (o := 11) (j := 100) (n := 6) B.A.A dX0_holdsFor_73 q282 (by decide) rfl rfl ?_
    refine R_iconst (v := 2) dX0_holdsFor_76 (by decide) ?_
    refine R_aload_n dX0_holdsFor_77 1 rfl ?_
    refine X_getA (k := 15) (o := 9) (j := 100) (n := 12) B.A.A dX0_holdsFor_78 q279 (by decide) rfl rfl ?_
    refine R_iload_n dX0_holdsFor_81 4 rfl ?_
    obtain ⟨c33, w⟩ := w
    refine X_iald (k := 15) B.A.A dX0_holdsFor_82 rfl c33 ?_
    obtain ⟨c32, w⟩ := w
    refine X_iast (k := 17) B.A.A dX0_holdsFor_83 rfl c32 ?_
    refine R_aload_n dX0_holdsFor_84 1 rfl ?_
    refine X_getA (k := 17) (o := 11) (j := 100) (n := 6) B.A.A.A dX0_holdsFor_85 q282 (by decide) rfl rfl ?_
    refine R_iconst (v := 3) dX0_holdsFor_88 (by decide) ?_
    refine R_aload_n dX0_holdsFor_89 1 rfl ?_
    refine X_getA (k := 14) (o := 8) (j := 106) (n := 12) B.A.A.A dX0_holdsFor_90 q278 (by decide) rfl rfl ?_
    refine R_iload_n dX0_holdsFor_93 4 rfl ?_
    obtain ⟨c14, q15, e16, w⟩ := w
    refine X_aald (k := 14) (j := 6) (E := "NameRests$Held") B.A.A.A dX0_holdsFor_94 rfl (by decide) (by decide) rfl c14 ?_
    refine R_top (v' := .ref q15) (congrArg va_rf e16) ?_
    obtain ⟨k17, w⟩ := w
    refine R_getIN (k := 0) (f := 256) ok4 dX0_holdsFor_95 q260 (by decide) rfl (by decide) k17 ?_
    obtain ⟨c31, w⟩ := w
    refine X_iast (k := 17) B.A.A.A dX0_holdsFor_98 rfl c31 ?_
    refine R_aload_n dX0_holdsFor_99 1 rfl ?_
    refine X_getA (k := 17) (o := 11) (j := 100) (n := 6) B.A.A.A.A dX0_holdsFor_100 q282 (by decide) rfl rfl ?_
    refine R_iconst (v := 4) dX0_holdsFor_103 (by decide) ?_
    refine R_iload_n dX0_holdsFor_104 2 rfl ?_
    refine R_iload_n dX0_holdsFor_105 3 rfl ?_
    refine R_icmp_ne (tgt := 113) dX0_holdsFor_106 (by decide) (fun c30 => ?_) (fun c30 => ?_)
    · have w := w.1 c30
      refine R_iconst (v := 0) dX0_holdsFor_113 (by decide) ?_
      refine R_invS (Mc := mX0_bit) (As := [.int (bi false)]) (st := [.int 4, .ref (x + 11)]) dX0_holdsFor_114 q505 q506 q103 wX0_bit pX0_bit rfl (Nat.le_of_ble_eq_true rfl) (by decide) (by decide) (Nat.le_of_ble_eq_true rfl) (aft_i w (fun r19 h18 w => ?_))
      obtain ⟨Bh18, w⟩ := w
      obtain ⟨c23, w⟩ := w
      refine X_iast (k := 17) Bh18 dX0_holdsFor_117 rfl c23 ?_
      refine R_aload_n dX0_holdsFor_118 1 rfl ?_
      refine X_getA (k := 17) (o := 11) (j := 100) (n := 6) Bh18.A dX0_holdsFor_119 q282 (by decide) rfl rfl ?_
      refine R_iconst (v := 5) dX0_holdsFor_122 (by decide) ?_
      refine R_iload_n dX0_holdsFor_123 4 rfl ?_
      obtain ⟨c22, w⟩ := w
      refine X_iast (k := 17) Bh18.A dX0_holdsFor_124 rfl c22 ?_
      refine R_aload_n dX0_holdsFor_125 1 rfl ?_
      refine R_invV (Mc := mX0_ruled) (b := x) (As := []) (st := []) ok0 (by decide) Bh18.A.A.1 dX0_holdsFor_126 q692 q694 qs31 q103 wX0_ruled pX0_ruled rfl (Nat.le_of_ble_eq_true rfl) (by decide) (by decide) (Nat.le_of_ble_eq_true rfl) (aft_z w (fun b21 h20 w => ?_))
      obtain ⟨Bh20, w⟩ := w
      exact R_bret (b := b21) dX0_holdsFor_129 rfl w
    · have w := w.2 c30
      refine R_iconst (v := 1) dX0_holdsFor_109 (by decide) ?_
      refine R_goto (tgt := 114) dX0_holdsFor_110 (by decide) ?_
      refine R_invS (Mc := mX0_bit) (As := [.int (bi true)]) (st := [.int 4, .ref (x + 11)]) dX0_holdsFor_114 q505 q506 q103 wX0_bit pX0_bit rfl (Nat.le_of_ble_eq_true rfl) (by decide) (by decide) (Nat.le_of_ble_eq_true rfl) (aft_i w (fun r25 h24 w => ?_))
      obtain ⟨Bh24, w⟩ := w
      obtain ⟨c29, w⟩ := w
      refine X_iast (k := 17) Bh24 dX0_holdsFor_117 rfl c29 ?_
      refine R_aload_n dX0_holdsFor_118 1 rfl ?_
      refine X_getA (k := 17) (o := 11) (j := 100) (n := 6) Bh24.A dX0_holdsFor_119 q282 (by decide) rfl rfl ?_
      refine R_iconst (v := 5) dX0_holdsFor_122 (by decide) ?_
      refine R_iload_n dX0_holdsFor_123 4 rfl ?_
      obtain ⟨c28, w⟩ := w
      refine X_iast (k := 17) Bh24.A dX0_holdsFor_124 rfl c28 ?_
      refine R_aload_n dX0_holdsFor_125 1 rfl ?_
      refine R_invV (Mc := mX0_ruled) (b := x) (As := []) (st := []) ok0 (by decide) Bh24.A.A.1 dX0_holdsFor_126 q692 q694 qs31 q103 wX0_ruled pX0_ruled rfl (Nat.le_of_ble_eq_true rfl) (by decide) (by decide) (Nat.le_of_ble_eq_true rfl) (aft_z w (fun b27 h26 w => ?_))
      obtain ⟨Bh26, w⟩ := w
      exact R_bret (b := b27) dX0_holdsFor_129 rfl w
  · have w := w.1 e5
    refine R_iload dX0_holdsFor_21 0 rfl ?_
    refine R_bipush (v := 80) dX0_holdsFor_23 (by decide) ?_
    refine R_icmp_lt (tgt := 33) dX0_holdsFor_25 (by decide) (fun c37 => ?_) (fun c37 => ?_)
    · have w := w.1 c37
      refine R_iconst (v := 1) dX0_holdsFor_33 (by decide) ?_
      refine R_goto (tgt := 38) dX0_holdsFor_34 (by decide) ?_
      exact R_bret (b := true) dX0_holdsFor_38 rfl w
    · have w := w.2 c37
      refine R_iload_n dX0_holdsFor_28 2 rfl ?_
      refine R_iload_n dX0_holdsFor_29 3 rfl ?_
      refine R_icmp_ne (tgt := 37) dX0_holdsFor_30 (by decide) (fun c36 => ?_) (fun c36 => ?_)
      · have w := w.1 c36
        refine R_iconst (v := 0) dX0_holdsFor_37 (by decide) ?_
        exact R_bret (b := false) dX0_holdsFor_38 rfl w
      · have w := w.2 c36
        refine R_iconst (v := 1) dX0_holdsFor_33 (by decide) ?_
        refine R_goto (tgt := 38) dX0_holdsFor_34 (by decide) ?_
        exact R_bret (b := true) dX0_holdsFor_38 rfl w
theorem sX0_image_0 {G : GG} {x : Nat} {h : AH} {Q : Outcome → AH → Prop} (B : XB G x h) (w : XB G x (sI (sI h 23 x 1) 24 x (aI (sI h 23 x 1) 8 x)) → Run G mX0_image 1 15 [(0, .ref x), (1, .int 0)] [] (sI (sI h 23 x 1) 24 x (aI (sI h 23 x 1) 8 x)) Q) : Run G mX0_image 1 0 [(0, .ref x)] [] h Q := by
  refine R_aload_n dX0_image_0 0 rfl ?_
  refine R_iconst (v := 1) dX0_image_1 (by decide) ?_
  refine X_putS (k := 23) B dX0_image_2 q288 (by decide) rfl rfl rfl rfl ?_
  refine R_aload_n dX0_image_5 0 rfl ?_
  refine R_aload_n dX0_image_6 0 rfl ?_
  refine X_getS (k := 8) B.I dX0_image_7 q272 (by decide) rfl ?_
  refine X_putS (k := 24) B.I dX0_image_10 q289 (by decide) rfl rfl rfl rfl ?_
  refine R_iconst (v := 0) dX0_image_13 (by decide) ?_
  refine R_istore_n (lv' := [(1, .int 0), (0, .ref x)]) dX0_image_14 rfl (by decide) rfl ?_
  exact R_sub [1, 0] rfl (w B.I.I)
theorem sX0_image_15 {G : GG} {x : Nat} {h : AH} {Q : Outcome → AH → Prop} {a1 : Int32} (B : XB G x h) (w : ((aI h 8 x) ≤ a1 → (Q (.returned (some (.int (aI h 8 x)))) h)) ∧ (¬ (aI h 8 x) ≤ a1 → (vp_in a1 12 ∧ ∃ q2 : Nat, (aR h (x + 4) a1.toNatClampNeg) = some q2 ∧ (IsK G h q2 (6, 0) ∧ (vp_in a1 12 ∧ (XB G x (sA h (x + 15) a1.toNatClampNeg (aI h 386 q2)) → Run G mX0_image 1 15 [(0, .ref x), (1, .int (a1 + 1))] [] (sA h (x + 15) a1.toNatClampNeg (aI h 386 q2)) Q)))))) : Run G mX0_image 1 15 [(0, .ref x), (1, .int a1)] [] h Q := by
  refine R_iload_n dX0_image_15 1 rfl ?_
  refine R_aload_n dX0_image_16 0 rfl ?_
  refine X_getS (k := 8) B dX0_image_17 q272 (by decide) rfl ?_
  refine R_icmp_ge (tgt := 44) dX0_image_20 (by decide) (fun c6 => ?_) (fun c6 => ?_)
  · have w := w.1 c6
    refine R_aload_n dX0_image_44 0 rfl ?_
    refine X_getS (k := 8) B dX0_image_45 q272 (by decide) rfl ?_
    exact R_iret dX0_image_48 rfl w
  · have w := w.2 c6
    refine R_aload_n dX0_image_23 0 rfl ?_
    refine X_getA (k := 25) (o := 15) (j := 100) (n := 12) B dX0_image_24 q290 (by decide) rfl rfl ?_
    refine R_iload_n dX0_image_27 1 rfl ?_
    refine R_aload_n dX0_image_28 0 rfl ?_
    refine X_getA (k := 7) (o := 4) (j := 107) (n := 12) B dX0_image_29 q271 (by decide) rfl rfl ?_
    refine R_iload_n dX0_image_32 1 rfl ?_
    obtain ⟨c1, q2, e3, w⟩ := w
    refine X_aald (k := 7) (j := 7) (E := "NameRests$Person") B dX0_image_33 rfl (by decide) (by decide) rfl c1 ?_
    refine R_top (v' := .ref q2) (congrArg va_rf e3) ?_
    obtain ⟨k4, w⟩ := w
    refine R_getIN (k := 2) (f := 386) ok6 dX0_image_34 q393 (by decide) rfl (by decide) k4 ?_
    obtain ⟨c5, w⟩ := w
    refine X_iast (k := 25) B dX0_image_37 rfl c5 ?_
    refine R_iinc (v := (a1 + 1)) (lv' := [(1, .int (a1 + 1)), (0, .ref x)]) dX0_image_38 1 rfl (congrArg (fun z => a1 + z) (show Int32.ofInt 1 = 1 by decide)) (by decide) rfl ?_
    refine R_goto (tgt := 15) dX0_image_41 (by decide) ?_
    exact R_sub [1, 0] rfl (w B.A)
theorem sX0_isBody_0 {G : GG} {x : Nat} {h : AH} {Q : Outcome → AH → Prop} {a1 : Int32} (B : XB G x h) (w : Run G mX0_within 1 0 [(0, .long a1.toInt64), (2, .long 0), (4, .long ((aI h 27 x) - 1).toInt64)] [] h (fun o h1 => ∃ b2 : Bool, o = .returned (some (.int (bi b2))) ∧ XB G x h1 ∧ (Q (.returned (some (.int (bi b2)))) h1))) : Run G mX0_isBody 2 0 [(0, .ref x), (1, .int a1)] [] h Q := by
  refine R_iload_n dX0_isBody_0 1 rfl ?_
  refine R_i2l dX0_isBody_1 ?_
  refine R_lconst (v := 0) dX0_isBody_2 (by decide) ?_
  refine R_aload_n dX0_isBody_3 0 rfl ?_
  refine X_getS (k := 27) B dX0_isBody_4 q292 (by decide) rfl ?_
  refine R_iconst (v := 1) dX0_isBody_7 (by decide) ?_
  refine R_isub dX0_isBody_8 ?_
  refine R_i2l dX0_isBody_9 ?_
  refine R_invS (Mc := mX0_within) (As := [.long a1.toInt64, .long 0, .long ((aI h 27 x) - 1).toInt64]) (st := []) dX0_isBody_10 q366 q367 q103 wX0_within pX0_within rfl (Nat.le_of_ble_eq_true rfl) (by decide) (by decide) (Nat.le_of_ble_eq_true rfl) (aft_z w (fun b2 h1 w => ?_))
  obtain ⟨Bh1, w⟩ := w
  exact R_bret (b := b2) dX0_isBody_13 rfl w
theorem sX0_isDigit_0 {G : GG} {x : Nat} {h : AH} {Q : Outcome → AH → Prop} (B : XB G x h) (w : Run G mX0_peek 1 0 [(0, .ref x)] [] h (fun o h1 => ∃ r2 : Int32, o = .returned (some (.int r2)) ∧ XB G x h1 ∧ (Run G mX0_within 1 0 [(0, .long r2.toInt64), (2, .long 48), (4, .long 57)] [] h1 (fun o h3 => ∃ b4 : Bool, o = .returned (some (.int (bi b4))) ∧ XB G x h3 ∧ (Q (.returned (some (.int (bi b4)))) h3))))) : Run G mX0_isDigit 2 0 [(0, .ref x)] [] h Q := by
  refine R_aload_n dX0_isDigit_0 0 rfl ?_
  refine R_invV (Mc := mX0_peek) (b := x) (As := []) (st := []) ok0 (by decide) B.1 dX0_isDigit_1 q574 q576 qs20 q103 wX0_peek pX0_peek rfl (Nat.le_of_ble_eq_true rfl) (by decide) (by decide) (Nat.le_of_ble_eq_true rfl) (aft_i w (fun r2 h1 w => ?_))
  obtain ⟨Bh1, w⟩ := w
  refine R_i2l dX0_isDigit_4 ?_
  refine R_ldc2 (v := 48) dX0_isDigit_5 q578 ?_
  refine R_ldc2 (v := 57) dX0_isDigit_8 q579 ?_
  refine R_invS (Mc := mX0_within) (As := [.long r2.toInt64, .long 48, .long 57]) (st := []) dX0_isDigit_11 q366 q367 q103 wX0_within pX0_within rfl (Nat.le_of_ble_eq_true rfl) (by decide) (by decide) (Nat.le_of_ble_eq_true rfl) (aft_z w (fun b4 h3 w => ?_))
  obtain ⟨Bh3, w⟩ := w
  exact R_bret (b := b4) dX0_isDigit_14 rfl w
theorem sX0_isFamed_0 {G : GG} {x : Nat} {h : AH} {Q : Outcome → AH → Prop} {a1 : Int32} {a2 : Int32} (B : XB G x h) (w : vp_in a1 12 ∧ ((¬ (aA h (x + 9) a1.toNatClampNeg) = 0 → (XB G x h → Run G mX0_isFamed 1 13 [(0, .ref x), (1, .int a1), (2, .int a2), (3, .int 0)] [] h Q)) ∧ ((aA h (x + 9) a1.toNatClampNeg) = 0 → (Q (.returned (some (.int (bi false)))) h)))) : Run G mX0_isFamed 1 0 [(0, .ref x), (1, .int a1), (2, .int a2)] [] h Q := by
  refine R_aload_n dX0_isFamed_0 0 rfl ?_
  refine X_getA (k := 15) (o := 9) (j := 100) (n := 12) B dX0_isFamed_1 q279 (by decide) rfl rfl ?_
  refine R_iload_n dX0_isFamed_4 1 rfl ?_
  obtain ⟨c2, w⟩ := w
  refine X_iald (k := 15) B dX0_isFamed_5 rfl c2 ?_
  refine R_if_ne (tgt := 11) dX0_isFamed_6 (by decide) (fun c1 => ?_) (fun c1 => ?_)
  · have w := w.1 c1
    refine R_iconst (v := 0) dX0_isFamed_11 (by decide) ?_
    refine R_istore_n (lv' := [(3, .int 0), (0, .ref x), (1, .int a1), (2, .int a2)]) dX0_isFamed_12 rfl (by decide) rfl ?_
    exact R_sub [1, 2, 3, 0] rfl (w B)
  · have w := w.2 c1
    refine R_iconst (v := 0) dX0_isFamed_9 (by decide) ?_
    exact R_bret (b := false) dX0_isFamed_10 rfl w
theorem sX0_isFamed_13 {G : GG} {x : Nat} {h : AH} {Q : Outcome → AH → Prop} {a1 : Int32} {a2 : Int32} {a3 : Int32} (B : XB G x h) (w : ((aI h 8 x) ≤ a3 → (Q (.returned (some (.int (bi false)))) h)) ∧ (¬ (aI h 8 x) ≤ a3 → (vp_in a3 12 ∧ ((¬ (aA h (x + 13) a3.toNatClampNeg) = a1 → (XB G x h → Run G mX0_isFamed 1 13 [(0, .ref x), (1, .int a1), (2, .int a2), (3, .int (a3 + 1))] [] h Q)) ∧ ((aA h (x + 13) a3.toNatClampNeg) = a1 → (vp_in a3 12 ∧ ∃ q2 : Nat, (aR h (x + 4) a3.toNatClampNeg) = some q2 ∧ (IsK G h q2 (6, 0) ∧ ((a2 < (aI h 384 q2) → (XB G x h → Run G mX0_isFamed 1 13 [(0, .ref x), (1, .int a1), (2, .int a2), (3, .int (a3 + 1))] [] h Q)) ∧ (¬ a2 < (aI h 384 q2) → (Q (.returned (some (.int (bi true)))) h)))))))))) : Run G mX0_isFamed 1 13 [(0, .ref x), (1, .int a1), (2, .int a2), (3, .int a3)] [] h Q := by
  refine R_iload_n dX0_isFamed_13 3 rfl ?_
  refine R_aload_n dX0_isFamed_14 0 rfl ?_
  refine X_getS (k := 8) B dX0_isFamed_15 q272 (by decide) rfl ?_
  refine R_icmp_ge (tgt := 52) dX0_isFamed_18 (by decide) (fun c8 => ?_) (fun c8 => ?_)
  · have w := w.1 c8
    refine R_iconst (v := 0) dX0_isFamed_52 (by decide) ?_
    exact R_bret (b := false) dX0_isFamed_53 rfl w
  · have w := w.2 c8
    refine R_aload_n dX0_isFamed_21 0 rfl ?_
    refine X_getA (k := 21) (o := 13) (j := 100) (n := 12) B dX0_isFamed_22 q286 (by decide) rfl rfl ?_
    refine R_iload_n dX0_isFamed_25 3 rfl ?_
    obtain ⟨c7, w⟩ := w
    refine X_iald (k := 21) B dX0_isFamed_26 rfl c7 ?_
    refine R_iload_n dX0_isFamed_27 1 rfl ?_
    refine R_icmp_ne (tgt := 46) dX0_isFamed_28 (by decide) (fun c6 => ?_) (fun c6 => ?_)
    · have w := w.1 c6
      refine R_iinc (v := (a3 + 1)) (lv' := [(3, .int (a3 + 1)), (0, .ref x), (1, .int a1), (2, .int a2)]) dX0_isFamed_46 3 rfl (congrArg (fun z => a3 + z) (show Int32.ofInt 1 = 1 by decide)) (by decide) rfl ?_
      refine R_goto (tgt := 13) dX0_isFamed_49 (by decide) ?_
      exact R_sub [1, 2, 3, 0] rfl (w B)
    · have w := w.2 c6
      refine R_aload_n dX0_isFamed_31 0 rfl ?_
      refine X_getA (k := 7) (o := 4) (j := 107) (n := 12) B dX0_isFamed_32 q271 (by decide) rfl rfl ?_
      refine R_iload_n dX0_isFamed_35 3 rfl ?_
      obtain ⟨c1, q2, e3, w⟩ := w
      refine X_aald (k := 7) (j := 7) (E := "NameRests$Person") B dX0_isFamed_36 rfl (by decide) (by decide) rfl c1 ?_
      refine R_top (v' := .ref q2) (congrArg va_rf e3) ?_
      obtain ⟨k4, w⟩ := w
      refine R_getIN (k := 0) (f := 384) ok6 dX0_isFamed_37 q389 (by decide) rfl (by decide) k4 ?_
      refine R_iload_n dX0_isFamed_40 2 rfl ?_
      refine R_icmp_gt (tgt := 46) dX0_isFamed_41 (by decide) (fun c5 => ?_) (fun c5 => ?_)
      · have w := w.1 c5
        refine R_iinc (v := (a3 + 1)) (lv' := [(3, .int (a3 + 1)), (0, .ref x), (1, .int a1), (2, .int a2)]) dX0_isFamed_46 3 rfl (congrArg (fun z => a3 + z) (show Int32.ofInt 1 = 1 by decide)) (by decide) rfl ?_
        refine R_goto (tgt := 13) dX0_isFamed_49 (by decide) ?_
        exact R_sub [1, 2, 3, 0] rfl (w B)
      · have w := w.2 c5
        refine R_iconst (v := 1) dX0_isFamed_44 (by decide) ?_
        exact R_bret (b := true) dX0_isFamed_45 rfl w
theorem sX0_isFreeWithout_0 {G : GG} {x : Nat} {h : AH} {Q : Outcome → AH → Prop} {a1 : Int32} {a2 : Int32} {a3 : Int32} (B : XB G x h) (w : Run G mX0_knowUpTo 4 0 [(0, .ref x), (1, .int a2), (2, .int a3)] [] h (fun o h1 => o = .returned none ∧ XB G x h1 ∧ (Run G mX0_isHeld 304 0 [(0, .ref x), (1, .int a1), (2, .int a2)] [] h1 (fun o h2 => ∃ b3 : Bool, o = .returned (some (.int (bi b3))) ∧ XB G x h2 ∧ ((b3 = true → (Q (.returned (some (.int (bi false)))) h2)) ∧ (b3 = false → (Q (.returned (some (.int (bi true)))) h2))))))) : Run G mX0_isFreeWithout 305 0 [(0, .ref x), (1, .int a1), (2, .int a2), (3, .int a3)] [] h Q := by
  refine R_aload_n dX0_isFreeWithout_0 0 rfl ?_
  refine R_iload_n dX0_isFreeWithout_1 2 rfl ?_
  refine R_iload_n dX0_isFreeWithout_2 3 rfl ?_
  refine R_invV (Mc := mX0_knowUpTo) (b := x) (As := [.int a2, .int a3]) (st := []) ok0 (by decide) B.1 dX0_isFreeWithout_3 q650 q652 qs23 q103 wX0_knowUpTo pX0_knowUpTo rfl (Nat.le_of_ble_eq_true rfl) (by decide) (by decide) (Nat.le_of_ble_eq_true rfl) (aft_v w (fun h1 w => ?_))
  obtain ⟨Bh1, w⟩ := w
  refine R_aload_n dX0_isFreeWithout_6 0 rfl ?_
  refine R_iload_n dX0_isFreeWithout_7 1 rfl ?_
  refine R_iload_n dX0_isFreeWithout_8 2 rfl ?_
  refine R_invV (Mc := mX0_isHeld) (b := x) (As := [.int a1, .int a2]) (st := []) ok0 (by decide) Bh1.1 dX0_isFreeWithout_9 q669 q671 qs26 q103 wX0_isHeld pX0_isHeld rfl (Nat.le_of_ble_eq_true rfl) (by decide) (by decide) (Nat.le_of_ble_eq_true rfl) (aft_z w (fun b3 h2 w => ?_))
  obtain ⟨Bh2, w⟩ := w
  refine R_ifz_ne (tgt := 19) dX0_isFreeWithout_12 (by decide) (fun c4 => ?_) (fun c4 => ?_)
  · have w := w.1 c4
    refine R_iconst (v := 0) dX0_isFreeWithout_19 (by decide) ?_
    exact R_bret (b := false) dX0_isFreeWithout_20 rfl w
  · have w := w.2 c4
    refine R_iconst (v := 1) dX0_isFreeWithout_15 (by decide) ?_
    refine R_goto (tgt := 20) dX0_isFreeWithout_16 (by decide) ?_
    exact R_bret (b := true) dX0_isFreeWithout_20 rfl w
theorem sX0_isHeld_0 {G : GG} {x : Nat} {h : AH} {Q : Outcome → AH → Prop} {a1 : Int32} {a2 : Int32} (B : XB G x h) (w : Run G mX0_isFamed 1 0 [(0, .ref x), (1, .int a1), (2, .int a2)] [] h (fun o h1 => ∃ b2 : Bool, o = .returned (some (.int (bi b2))) ∧ XB G x h1 ∧ ((b2 = true → (Q (.returned (some (.int (bi true)))) h1)) ∧ (b2 = false → (Run G mX0_holders 303 0 [(0, .ref x), (1, .int a1), (2, .int a2)] [] h1 (fun o h3 => ∃ r4 : Int32, o = .returned (some (.int r4)) ∧ XB G x h3 ∧ ((r4 = 0 → (Q (.returned (some (.int (bi false)))) h3)) ∧ (¬ r4 = 0 → (Q (.returned (some (.int (bi true)))) h3))))))))) : Run G mX0_isHeld 304 0 [(0, .ref x), (1, .int a1), (2, .int a2)] [] h Q := by
  refine R_aload_n dX0_isHeld_0 0 rfl ?_
  refine R_iload_n dX0_isHeld_1 1 rfl ?_
  refine R_iload_n dX0_isHeld_2 2 rfl ?_
  refine R_invV (Mc := mX0_isFamed) (b := x) (As := [.int a1, .int a2]) (st := []) ok0 (by decide) B.1 dX0_isHeld_3 q673 q675 qs27 q103 wX0_isFamed pX0_isFamed rfl (Nat.le_of_ble_eq_true rfl) (by decide) (by decide) (Nat.le_of_ble_eq_true rfl) (aft_z w (fun b2 h1 w => ?_))
  obtain ⟨Bh1, w⟩ := w
  refine R_ifz_ne (tgt := 18) dX0_isHeld_6 (by decide) (fun c6 => ?_) (fun c6 => ?_)
  · have w := w.1 c6
    refine R_iconst (v := 1) dX0_isHeld_18 (by decide) ?_
    refine R_goto (tgt := 23) dX0_isHeld_19 (by decide) ?_
    exact R_bret (b := true) dX0_isHeld_23 rfl w
  · have w := w.2 c6
    refine R_aload_n dX0_isHeld_9 0 rfl ?_
    refine R_iload_n dX0_isHeld_10 1 rfl ?_
    refine R_iload_n dX0_isHeld_11 2 rfl ?_
    refine R_invV (Mc := mX0_holders) (b := x) (As := [.int a1, .int a2]) (st := []) ok0 (by decide) Bh1.1 dX0_isHeld_12 q677 q679 qs28 q103 wX0_holders pX0_holders rfl (Nat.le_of_ble_eq_true rfl) (by decide) (by decide) (Nat.le_of_ble_eq_true rfl) (aft_i w (fun r4 h3 w => ?_))
    obtain ⟨Bh3, w⟩ := w
    refine R_if_eq (tgt := 22) dX0_isHeld_15 (by decide) (fun c5 => ?_) (fun c5 => ?_)
    · have w := w.1 c5
      refine R_iconst (v := 0) dX0_isHeld_22 (by decide) ?_
      exact R_bret (b := false) dX0_isHeld_23 rfl w
    · have w := w.2 c5
      refine R_iconst (v := 1) dX0_isHeld_18 (by decide) ?_
      refine R_goto (tgt := 23) dX0_isHeld_19 (by decide) ?_
      exact R_bret (b := true) dX0_isHeld_23 rfl w
theorem sX0_isIn_0 {G : GG} {x : Nat} {h : AH} {Q : Outcome → AH → Prop} {a0 : Int32} {a1 : Int32} (B : XB G x h) (w : (¬ ((a0 >>> (a1 &&& 31)) &&& 1) = 1 → (Q (.returned (some (.int (bi false)))) h)) ∧ (((a0 >>> (a1 &&& 31)) &&& 1) = 1 → (Q (.returned (some (.int (bi true)))) h))) : Run G mX0_isIn 1 0 [(0, .int a0), (1, .int a1)] [] h Q := by
  refine R_iload_n dX0_isIn_0 0 rfl ?_
  refine R_iload_n dX0_isIn_1 1 rfl ?_
  refine R_ishr dX0_isIn_2 ?_
  refine R_iconst (v := 1) dX0_isIn_3 (by decide) ?_
  refine R_iand dX0_isIn_4 ?_
  refine R_iconst (v := 1) dX0_isIn_5 (by decide) ?_
  refine R_icmp_ne (tgt := 13) dX0_isIn_6 (by decide) (fun c1 => ?_) (fun c1 => ?_)
  · have w := w.1 c1
    refine R_iconst (v := 0) dX0_isIn_13 (by decide) ?_
    exact R_bret (b := false) dX0_isIn_14 rfl w
  · have w := w.2 c1
    refine R_iconst (v := 1) dX0_isIn_9 (by decide) ?_
    refine R_goto (tgt := 14) dX0_isIn_10 (by decide) ?_
    exact R_bret (b := true) dX0_isIn_14 rfl w
theorem sX0_isMeeting_0 {G : GG} {x : Nat} {h : AH} {Q : Outcome → AH → Prop} {a1 : Int32} (B : XB G x h) (w : Run G mX0_within 1 0 [(0, .long a1.toInt64), (2, .long 0), (4, .long ((aI h 11 x) - 1).toInt64)] [] h (fun o h1 => ∃ b2 : Bool, o = .returned (some (.int (bi b2))) ∧ XB G x h1 ∧ (Q (.returned (some (.int (bi b2)))) h1))) : Run G mX0_isMeeting 2 0 [(0, .ref x), (1, .int a1)] [] h Q := by
  refine R_iload_n dX0_isMeeting_0 1 rfl ?_
  refine R_i2l dX0_isMeeting_1 ?_
  refine R_lconst (v := 0) dX0_isMeeting_2 (by decide) ?_
  refine R_aload_n dX0_isMeeting_3 0 rfl ?_
  refine X_getS (k := 11) B dX0_isMeeting_4 q275 (by decide) rfl ?_
  refine R_iconst (v := 1) dX0_isMeeting_7 (by decide) ?_
  refine R_isub dX0_isMeeting_8 ?_
  refine R_i2l dX0_isMeeting_9 ?_
  refine R_invS (Mc := mX0_within) (As := [.long a1.toInt64, .long 0, .long ((aI h 11 x) - 1).toInt64]) (st := []) dX0_isMeeting_10 q366 q367 q103 wX0_within pX0_within rfl (Nat.le_of_ble_eq_true rfl) (by decide) (by decide) (Nat.le_of_ble_eq_true rfl) (aft_z w (fun b2 h1 w => ?_))
  obtain ⟨Bh1, w⟩ := w
  exact R_bret (b := b2) dX0_isMeeting_13 rfl w
theorem sX0_isName_0 {G : GG} {x : Nat} {h : AH} {Q : Outcome → AH → Prop} {a0 : Int32} (B : XB G x h) (w : Run G mX0_within 1 0 [(0, .long a0.toInt64), (2, .long 0), (4, .long 11)] [] h (fun o h1 => ∃ b2 : Bool, o = .returned (some (.int (bi b2))) ∧ XB G x h1 ∧ (Q (.returned (some (.int (bi b2)))) h1))) : Run G mX0_isName 2 0 [(0, .int a0)] [] h Q := by
  refine R_iload_n dX0_isName_0 0 rfl ?_
  refine R_i2l dX0_isName_1 ?_
  refine R_lconst (v := 0) dX0_isName_2 (by decide) ?_
  refine R_ldc2 (v := 11) dX0_isName_3 q431 ?_
  refine R_invS (Mc := mX0_within) (As := [.long a0.toInt64, .long 0, .long 11]) (st := []) dX0_isName_6 q366 q367 q103 wX0_within pX0_within rfl (Nat.le_of_ble_eq_true rfl) (by decide) (by decide) (Nat.le_of_ble_eq_true rfl) (aft_z w (fun b2 h1 w => ?_))
  obtain ⟨Bh1, w⟩ := w
  exact R_bret (b := b2) dX0_isName_9 rfl w
theorem sX0_isPerson_0 {G : GG} {x : Nat} {h : AH} {Q : Outcome → AH → Prop} {a1 : Int32} (B : XB G x h) (w : Run G mX0_within 1 0 [(0, .long a1.toInt64), (2, .long 0), (4, .long ((aI h 8 x) - 1).toInt64)] [] h (fun o h1 => ∃ b2 : Bool, o = .returned (some (.int (bi b2))) ∧ XB G x h1 ∧ (Q (.returned (some (.int (bi b2)))) h1))) : Run G mX0_isPerson 2 0 [(0, .ref x), (1, .int a1)] [] h Q := by
  refine R_iload_n dX0_isPerson_0 1 rfl ?_
  refine R_i2l dX0_isPerson_1 ?_
  refine R_lconst (v := 0) dX0_isPerson_2 (by decide) ?_
  refine R_aload_n dX0_isPerson_3 0 rfl ?_
  refine X_getS (k := 8) B dX0_isPerson_4 q272 (by decide) rfl ?_
  refine R_iconst (v := 1) dX0_isPerson_7 (by decide) ?_
  refine R_isub dX0_isPerson_8 ?_
  refine R_i2l dX0_isPerson_9 ?_
  refine R_invS (Mc := mX0_within) (As := [.long a1.toInt64, .long 0, .long ((aI h 8 x) - 1).toInt64]) (st := []) dX0_isPerson_10 q366 q367 q103 wX0_within pX0_within rfl (Nat.le_of_ble_eq_true rfl) (by decide) (by decide) (Nat.le_of_ble_eq_true rfl) (aft_z w (fun b2 h1 w => ?_))
  obtain ⟨Bh1, w⟩ := w
  exact R_bret (b := b2) dX0_isPerson_13 rfl w
theorem sX0_isShelf_0 {G : GG} {x : Nat} {h : AH} {Q : Outcome → AH → Prop} {a0 : Int32} (B : XB G x h) (w : Run G mX0_within 1 0 [(0, .long a0.toInt64), (2, .long 0), (4, .long 5)] [] h (fun o h1 => ∃ b2 : Bool, o = .returned (some (.int (bi b2))) ∧ XB G x h1 ∧ (Q (.returned (some (.int (bi b2)))) h1))) : Run G mX0_isShelf 2 0 [(0, .int a0)] [] h Q := by
  refine R_iload_n dX0_isShelf_0 0 rfl ?_
  refine R_i2l dX0_isShelf_1 ?_
  refine R_lconst (v := 0) dX0_isShelf_2 (by decide) ?_
  refine R_ldc2 (v := 5) dX0_isShelf_3 q412 ?_
  refine R_invS (Mc := mX0_within) (As := [.long a0.toInt64, .long 0, .long 5]) (st := []) dX0_isShelf_6 q366 q367 q103 wX0_within pX0_within rfl (Nat.le_of_ble_eq_true rfl) (by decide) (by decide) (Nat.le_of_ble_eq_true rfl) (aft_z w (fun b2 h1 w => ?_))
  obtain ⟨Bh1, w⟩ := w
  exact R_bret (b := b2) dX0_isShelf_9 rfl w
theorem sX0_isWay_0 {G : GG} {x : Nat} {h : AH} {Q : Outcome → AH → Prop} {a0 : Int32} (B : XB G x h) (w : Run G mX0_within 1 0 [(0, .long a0.toInt64), (2, .long 0), (4, .long 2)] [] h (fun o h1 => ∃ b2 : Bool, o = .returned (some (.int (bi b2))) ∧ XB G x h1 ∧ (Q (.returned (some (.int (bi b2)))) h1))) : Run G mX0_isWay 2 0 [(0, .int a0)] [] h Q := by
  refine R_iload_n dX0_isWay_0 0 rfl ?_
  refine R_i2l dX0_isWay_1 ?_
  refine R_lconst (v := 0) dX0_isWay_2 (by decide) ?_
  refine R_ldc2 (v := 2) dX0_isWay_3 q427 ?_
  refine R_invS (Mc := mX0_within) (As := [.long a0.toInt64, .long 0, .long 2]) (st := []) dX0_isWay_6 q366 q367 q103 wX0_within pX0_within rfl (Nat.le_of_ble_eq_true rfl) (by decide) (by decide) (Nat.le_of_ble_eq_true rfl) (aft_z w (fun b2 h1 w => ?_))
  obtain ⟨Bh1, w⟩ := w
  exact R_bret (b := b2) dX0_isWay_9 rfl w
theorem sX0_isYear_0 {G : GG} {x : Nat} {h : AH} {Q : Outcome → AH → Prop} {a0 : Int32} (B : XB G x h) (w : Run G mX0_within 1 0 [(0, .long a0.toInt64), (2, .long 0), (4, .long 99)] [] h (fun o h1 => ∃ b2 : Bool, o = .returned (some (.int (bi b2))) ∧ XB G x h1 ∧ (Q (.returned (some (.int (bi b2)))) h1))) : Run G mX0_isYear 2 0 [(0, .int a0)] [] h Q := by
  refine R_iload_n dX0_isYear_0 0 rfl ?_
  refine R_i2l dX0_isYear_1 ?_
  refine R_lconst (v := 0) dX0_isYear_2 (by decide) ?_
  refine R_ldc2 (v := 99) dX0_isYear_3 q379 ?_
  refine R_invS (Mc := mX0_within) (As := [.long a0.toInt64, .long 0, .long 99]) (st := []) dX0_isYear_6 q366 q367 q103 wX0_within pX0_within rfl (Nat.le_of_ble_eq_true rfl) (by decide) (by decide) (Nat.le_of_ble_eq_true rfl) (aft_z w (fun b2 h1 w => ?_))
  obtain ⟨Bh1, w⟩ := w
  exact R_bret (b := b2) dX0_isYear_9 rfl w
theorem sX0_judge_0 {G : GG} {x : Nat} {h : AH} {Q : Outcome → AH → Prop} (B : XB G x h) (w : Run G mX0_nobodyBears 1 0 [(0, .ref x)] [] h (fun o h1 => o = .returned none ∧ XB G x h1 ∧ (XB G x h1 → Run G mX0_judge 306 6 [(0, .ref x), (1, .int 0)] [] h1 Q))) : Run G mX0_judge 306 0 [(0, .ref x)] [] h Q := by
  refine R_aload_n dX0_judge_0 0 rfl ?_
  refine R_invV (Mc := mX0_nobodyBears) (b := x) (As := []) (st := []) ok0 (by decide) B.1 dX0_judge_1 q734 q736 qs33 q103 wX0_nobodyBears pX0_nobodyBears rfl (Nat.le_of_ble_eq_true rfl) (by decide) (by decide) (Nat.le_of_ble_eq_true rfl) (aft_v w (fun h1 w => ?_))
  obtain ⟨Bh1, w⟩ := w
  refine R_iconst (v := 0) dX0_judge_4 (by decide) ?_
  refine R_istore_n (lv' := [(1, .int 0), (0, .ref x)]) dX0_judge_5 rfl (by decide) rfl ?_
  exact R_sub [1, 0] rfl (w Bh1)
theorem sX0_judge_6 {G : GG} {x : Nat} {h : AH} {Q : Outcome → AH → Prop} {a1 : Int32} (B : XB G x h) (w : ((aI h 8 x) ≤ a1 → (Q (.returned (some (.int (-2)))) h)) ∧ (¬ (aI h 8 x) ≤ a1 → (vp_in a1 12 ∧ (vp_in (aA h (x + 5) a1.toNatClampNeg) 12 ∧ ∃ q2 : Nat, (aR h (x + 4) (aA h (x + 5) a1.toNatClampNeg).toNatClampNeg) = some q2 ∧ (IsK G h q2 (6, 0) ∧ (((aI h 386 q2) = (-1) → (vp_in a1 12 ∧ (vp_in (aA h (x + 5) a1.toNatClampNeg) 12 ∧ (XB G x (sA h (x + 13) (aA h (x + 5) a1.toNatClampNeg).toNatClampNeg (aI h 386 q2)) → Run G mX0_judge 306 6 [(0, .ref x), (1, .int (a1 + 1))] [] (sA h (x + 13) (aA h (x + 5) a1.toNatClampNeg).toNatClampNeg (aI h 386 q2)) Q)))) ∧ (¬ (aI h 386 q2) = (-1) → (Run G mX0_freeIn 305 0 [(0, .ref x), (1, .int (aI h 384 q2))] [] h (fun o h7 => ∃ r8 : Int32, o = .returned (some (.int r8)) ∧ XB G x h7 ∧ (IsK G h7 q2 (6, 0) ∧ (Run G mX0_isIn 1 0 [(0, .int r8), (1, .int (aI h7 386 q2))] [] h7 (fun o h10 => ∃ b11 : Bool, o = .returned (some (.int (bi b11))) ∧ XB G x h10 ∧ ((b11 = true → (vp_in a1 12 ∧ (IsK G h10 q2 (6, 0) ∧ (vp_in (aA h10 (x + 5) a1.toNatClampNeg) 12 ∧ (XB G x (sA h10 (x + 13) (aA h10 (x + 5) a1.toNatClampNeg).toNatClampNeg (aI h10 386 q2)) → Run G mX0_judge 306 6 [(0, .ref x), (1, .int (a1 + 1))] [] (sA h10 (x + 13) (aA h10 (x + 5) a1.toNatClampNeg).toNatClampNeg (aI h10 386 q2)) Q))))) ∧ (b11 = false → (vp_in a1 12 ∧ (Q (.returned (some (.int (aA h10 (x + 5) a1.toNatClampNeg)))) h10)))))))))))))))) : Run G mX0_judge 306 6 [(0, .ref x), (1, .int a1)] [] h Q := by
  refine R_iload_n dX0_judge_6 1 rfl ?_
  refine R_aload_n dX0_judge_7 0 rfl ?_
  refine X_getS (k := 8) B dX0_judge_8 q272 (by decide) rfl ?_
  refine R_icmp_ge (tgt := 80) dX0_judge_11 (by decide) (fun c19 => ?_) (fun c19 => ?_)
  · have w := w.1 c19
    refine R_bipush (v := (-2)) dX0_judge_80 (by decide) ?_
    exact R_iret dX0_judge_82 rfl w
  · have w := w.2 c19
    refine R_aload_n dX0_judge_14 0 rfl ?_
    refine X_getA (k := 7) (o := 4) (j := 107) (n := 12) B dX0_judge_15 q271 (by decide) rfl rfl ?_
    refine R_aload_n dX0_judge_18 0 rfl ?_
    refine X_getA (k := 9) (o := 5) (j := 100) (n := 12) B dX0_judge_19 q273 (by decide) rfl rfl ?_
    refine R_iload_n dX0_judge_22 1 rfl ?_
    obtain ⟨c18, w⟩ := w
    refine X_iald (k := 9) B dX0_judge_23 rfl c18 ?_
    obtain ⟨c1, q2, e3, w⟩ := w
    refine X_aald (k := 7) (j := 7) (E := "NameRests$Person") B dX0_judge_24 rfl (by decide) (by decide) rfl c1 ?_
    refine R_top (v' := .ref q2) (congrArg va_rf e3) ?_
    refine R_astore_n (lv' := [(2, .ref q2), (0, .ref x), (1, .int a1)]) dX0_judge_25 rfl (by decide) rfl ?_
    refine R_aload_n dX0_judge_26 0 rfl ?_
    obtain ⟨k4, w⟩ := w
    refine R_getIN (k := 2) (f := 386) ok6 dX0_judge_27 q393 (by decide) rfl (by decide) k4 ?_
    refine R_iconst (v := (-1)) dX0_judge_30 (by decide) ?_
    refine R_icmp_eq (tgt := 59) dX0_judge_31 (by decide) (fun c17 => ?_) (fun c17 => ?_)
    · have w := w.1 c17
      refine R_aload_n dX0_judge_59 1 rfl ?_
      refine X_getA (k := 21) (o := 13) (j := 100) (n := 12) B dX0_judge_60 q286 (by decide) rfl rfl ?_
      refine R_aload_n dX0_judge_63 1 rfl ?_
      refine X_getA (k := 9) (o := 5) (j := 100) (n := 12) B dX0_judge_64 q273 (by decide) rfl rfl ?_
      refine R_iload_n dX0_judge_67 2 rfl ?_
      obtain ⟨c6, w⟩ := w
      refine X_iald (k := 9) B dX0_judge_68 rfl c6 ?_
      refine R_aload_n dX0_judge_69 0 rfl ?_
      refine R_getIN (k := 2) (f := 386) ok6 dX0_judge_70 q393 (by decide) rfl (by decide) k4 ?_
      obtain ⟨c5, w⟩ := w
      refine X_iast (k := 21) B dX0_judge_73 rfl c5 ?_
      refine R_iinc (v := (a1 + 1)) (lv' := [(1, .int (a1 + 1)), (2, .ref q2), (0, .ref x)]) dX0_judge_74 2 rfl (congrArg (fun z => a1 + z) (show Int32.ofInt 1 = 1 by decide)) (by decide) rfl ?_
      refine R_goto (tgt := 6) dX0_judge_77 (by decide) ?_
      exact R_sub [2, 0] rfl (w B.A)
    · have w := w.2 c17
      refine R_aload_n dX0_judge_34 1 rfl ?_
      refine R_aload_n dX0_judge_35 0 rfl ?_
      refine R_getIN (k := 0) (f := 384) ok6 dX0_judge_36 q389 (by decide) rfl (by decide) k4 ?_
      refine R_invV (Mc := mX0_freeIn) (b := x) (As := [.int (aI h 384 q2)]) (st := []) ok0 (by decide) B.1 dX0_judge_39 q719 q721 qs32 q103 wX0_freeIn pX0_freeIn rfl (Nat.le_of_ble_eq_true rfl) (by decide) (by decide) (Nat.le_of_ble_eq_true rfl) (aft_i w (fun r8 h7 w => ?_))
      obtain ⟨Bh7, w⟩ := w
      refine R_aload_n dX0_judge_42 0 rfl ?_
      obtain ⟨k9, w⟩ := w
      refine R_getIN (k := 2) (f := 386) ok6 dX0_judge_43 q393 (by decide) rfl (by decide) k9 ?_
      refine R_invS (Mc := mX0_isIn) (As := [.int r8, .int (aI h7 386 q2)]) (st := []) dX0_judge_46 q654 q655 q103 wX0_isIn pX0_isIn rfl (Nat.le_of_ble_eq_true rfl) (by decide) (by decide) (Nat.le_of_ble_eq_true rfl) (aft_z w (fun b11 h10 w => ?_))
      obtain ⟨Bh10, w⟩ := w
      refine R_ifz_ne (tgt := 59) dX0_judge_49 (by decide) (fun c16 => ?_) (fun c16 => ?_)
      · have w := w.1 c16
        refine R_aload_n dX0_judge_59 1 rfl ?_
        refine X_getA (k := 21) (o := 13) (j := 100) (n := 12) Bh10 dX0_judge_60 q286 (by decide) rfl rfl ?_
        refine R_aload_n dX0_judge_63 1 rfl ?_
        refine X_getA (k := 9) (o := 5) (j := 100) (n := 12) Bh10 dX0_judge_64 q273 (by decide) rfl rfl ?_
        refine R_iload_n dX0_judge_67 2 rfl ?_
        obtain ⟨c14, w⟩ := w
        refine X_iald (k := 9) Bh10 dX0_judge_68 rfl c14 ?_
        refine R_aload_n dX0_judge_69 0 rfl ?_
        obtain ⟨k12, w⟩ := w
        refine R_getIN (k := 2) (f := 386) ok6 dX0_judge_70 q393 (by decide) rfl (by decide) k12 ?_
        obtain ⟨c13, w⟩ := w
        refine X_iast (k := 21) Bh10 dX0_judge_73 rfl c13 ?_
        refine R_iinc (v := (a1 + 1)) (lv' := [(1, .int (a1 + 1)), (2, .ref q2), (0, .ref x)]) dX0_judge_74 2 rfl (congrArg (fun z => a1 + z) (show Int32.ofInt 1 = 1 by decide)) (by decide) rfl ?_
        refine R_goto (tgt := 6) dX0_judge_77 (by decide) ?_
        exact R_sub [2, 0] rfl (w Bh10.A)
      · have w := w.2 c16
        refine R_aload_n dX0_judge_52 1 rfl ?_
        refine X_getA (k := 9) (o := 5) (j := 100) (n := 12) Bh10 dX0_judge_53 q273 (by decide) rfl rfl ?_
        refine R_iload_n dX0_judge_56 2 rfl ?_
        obtain ⟨c15, w⟩ := w
        refine X_iald (k := 9) Bh10 dX0_judge_57 rfl c15 ?_
        exact R_iret dX0_judge_58 rfl w
theorem sX0_keep_0 {G : GG} {x : Nat} {h : AH} {Q : Outcome → AH → Prop} {a1 : Int32} {a2 : Int32} (B : XB G x h) (w : Run G mX0_isShelf 2 0 [(0, .int a1)] [] h (fun o h1 => ∃ b2 : Bool, o = .returned (some (.int (bi b2))) ∧ XB G x h1 ∧ ((b2 = false → (Q (.returned (some (.int (-1)))) h1)) ∧ (b2 = true → ((a2 = (-1) → (XB G x h1 → Run G mX0_keep 3 22 [(0, .ref x), (1, .int a1), (2, .int a2)] [] h1 Q)) ∧ (¬ a2 = (-1) → (Run G mX0_isBody 2 0 [(0, .ref x), (1, .int a2)] [] h1 (fun o h3 => ∃ b4 : Bool, o = .returned (some (.int (bi b4))) ∧ XB G x h3 ∧ ((b4 = true → (XB G x h3 → Run G mX0_keep 3 22 [(0, .ref x), (1, .int a1), (2, .int a2)] [] h3 Q)) ∧ (b4 = false → (Q (.returned (some (.int (-1)))) h3))))))))))) : Run G mX0_keep 3 0 [(0, .ref x), (1, .int a1), (2, .int a2)] [] h Q := by
  refine R_iload_n dX0_keep_0 1 rfl ?_
  refine R_invS (Mc := mX0_isShelf) (As := [.int a1]) (st := []) dX0_keep_1 q409 q410 q103 wX0_isShelf pX0_isShelf rfl (Nat.le_of_ble_eq_true rfl) (by decide) (by decide) (Nat.le_of_ble_eq_true rfl) (aft_z w (fun b2 h1 w => ?_))
  obtain ⟨Bh1, w⟩ := w
  refine R_ifz_eq (tgt := 20) dX0_keep_4 (by decide) (fun c7 => ?_) (fun c7 => ?_)
  · have w := w.1 c7
    refine R_iconst (v := (-1)) dX0_keep_20 (by decide) ?_
    exact R_iret dX0_keep_21 rfl w
  · have w := w.2 c7
    refine R_iload_n dX0_keep_7 2 rfl ?_
    refine R_iconst (v := (-1)) dX0_keep_8 (by decide) ?_
    refine R_icmp_eq (tgt := 22) dX0_keep_9 (by decide) (fun c6 => ?_) (fun c6 => ?_)
    · have w := w.1 c6
      exact w Bh1
    · have w := w.2 c6
      refine R_aload_n dX0_keep_12 0 rfl ?_
      refine R_iload_n dX0_keep_13 2 rfl ?_
      refine R_invV (Mc := mX0_isBody) (b := x) (As := [.int a2]) (st := []) ok0 (by decide) Bh1.1 dX0_keep_14 q920 q922 qs42 q103 wX0_isBody pX0_isBody rfl (Nat.le_of_ble_eq_true rfl) (by decide) (by decide) (Nat.le_of_ble_eq_true rfl) (aft_z w (fun b4 h3 w => ?_))
      obtain ⟨Bh3, w⟩ := w
      refine R_ifz_ne (tgt := 22) dX0_keep_17 (by decide) (fun c5 => ?_) (fun c5 => ?_)
      · have w := w.1 c5
        exact w Bh3
      · have w := w.2 c5
        refine R_iconst (v := (-1)) dX0_keep_20 (by decide) ?_
        exact R_iret dX0_keep_21 rfl w
theorem sX0_keep_22 {G : GG} {x : Nat} {h : AH} {Q : Outcome → AH → Prop} {a1 : Int32} {a2 : Int32} (B : XB G x h) (w : (¬ a2 = (-1) → (vp_in a2 50 ∧ ∃ q2 : Nat, (aR h (x + 16) a2.toNatClampNeg) = some q2 ∧ (vp_in a1 6 ∧ Fit G h "java/lang/Object" q2 ∧ (Q (.returned (some (.int 1))) (sR h (x + 18) a1.toNatClampNeg (some q2)))))) ∧ (a2 = (-1) → (vp_in a1 6 ∧ (∀ a, (none : Option Nat) = some a → Fit G h "java/lang/Object" a) ∧ (Q (.returned (some (.int 1))) (sR h (x + 18) a1.toNatClampNeg (none : Option Nat)))))) : Run G mX0_keep 3 22 [(0, .ref x), (1, .int a1), (2, .int a2)] [] h Q := by
  refine R_aload_n dX0_keep_22 0 rfl ?_
  refine X_getA (k := 30) (o := 18) (j := 110) (n := 6) B dX0_keep_23 q297 (by decide) rfl rfl ?_
  refine R_iload_n dX0_keep_26 1 rfl ?_
  refine R_iload_n dX0_keep_27 2 rfl ?_
  refine R_iconst (v := (-1)) dX0_keep_28 (by decide) ?_
  refine R_icmp_ne (tgt := 36) dX0_keep_29 (by decide) (fun c8 => ?_) (fun c8 => ?_)
  · have w := w.1 c8
    refine R_aload_n dX0_keep_36 0 rfl ?_
    refine X_getA (k := 26) (o := 16) (j := 109) (n := 50) B dX0_keep_37 q291 (by decide) rfl rfl ?_
    refine R_iload_n dX0_keep_40 2 rfl ?_
    obtain ⟨c1, q2, e3, w⟩ := w
    refine X_aald (k := 26) (j := 9) (E := "NameRests$Body") B dX0_keep_41 rfl (by decide) (by decide) rfl c1 ?_
    refine R_top (v' := .ref q2) (congrArg va_rf e3) ?_
    obtain ⟨c4, f5, w⟩ := w
    refine X_aast (k := 30) (j := 10) (E := "java/lang/Object") B dX0_keep_42 rfl (by decide) (by decide) rfl c4 f5 ?_
    refine R_iconst (v := 1) dX0_keep_43 (by decide) ?_
    exact R_iret dX0_keep_44 rfl w
  · have w := w.2 c8
    refine R_null dX0_keep_32 ?_
    refine R_goto (tgt := 42) dX0_keep_33 (by decide) ?_
    obtain ⟨c6, f7, w⟩ := w
    refine R_top (v' := va_rf (none : Option Nat)) rfl ?_
    refine X_aastQ (k := 30) (j := 10) (E := "java/lang/Object") B dX0_keep_42 rfl (by decide) (by decide) rfl c6 f7 ?_
    refine R_iconst (v := 1) dX0_keep_43 (by decide) ?_
    exact R_iret dX0_keep_44 rfl w
theorem sX0_knowUpTo_0 {G : GG} {x : Nat} {h : AH} {Q : Outcome → AH → Prop} {a1 : Int32} {a2 : Int32} (B : XB G x h) (w : XB G x h → Run G mX0_knowUpTo 4 2 [(0, .ref x), (1, .int a1), (2, .int a2), (3, .int 0)] [] h Q) : Run G mX0_knowUpTo 4 0 [(0, .ref x), (1, .int a1), (2, .int a2)] [] h Q := by
  refine R_iconst (v := 0) dX0_knowUpTo_0 (by decide) ?_
  refine R_istore_n (lv' := [(3, .int 0), (0, .ref x), (1, .int a1), (2, .int a2)]) dX0_knowUpTo_1 rfl (by decide) rfl ?_
  exact R_sub [1, 2, 3, 0] rfl (w B)
theorem sX0_knowUpTo_2 {G : GG} {x : Nat} {h : AH} {Q : Outcome → AH → Prop} {a1 : Int32} {a2 : Int32} {a3 : Int32} (B : XB G x h) (w : ((aI h 8 x) ≤ a3 → (XB G x h → Run G mX0_knowUpTo 4 27 [(0, .ref x), (1, .int a1), (2, .int a2), (3, .int 0)] [] h Q)) ∧ (¬ (aI h 8 x) ≤ a3 → (vp_in a3 12 ∧ (XB G x (sA h (x + 12) a3.toNatClampNeg ((1 : Int32) <<< (a3 &&& 31))) → Run G mX0_knowUpTo 4 2 [(0, .ref x), (1, .int a1), (2, .int a2), (3, .int (a3 + 1))] [] (sA h (x + 12) a3.toNatClampNeg ((1 : Int32) <<< (a3 &&& 31))) Q)))) : Run G mX0_knowUpTo 4 2 [(0, .ref x), (1, .int a1), (2, .int a2), (3, .int a3)] [] h Q := by
  refine R_iload_n dX0_knowUpTo_2 3 rfl ?_
  refine R_aload_n dX0_knowUpTo_3 0 rfl ?_
  refine X_getS (k := 8) B dX0_knowUpTo_4 q272 (by decide) rfl ?_
  refine R_icmp_ge (tgt := 25) dX0_knowUpTo_7 (by decide) (fun c2 => ?_) (fun c2 => ?_)
  · have w := w.1 c2
    refine R_iconst (v := 0) dX0_knowUpTo_25 (by decide) ?_
    refine R_istore_n (lv' := [(3, .int 0), (0, .ref x), (1, .int a1), (2, .int a2)]) dX0_knowUpTo_26 rfl (by decide) rfl ?_
    exact R_sub [1, 2, 3, 0] rfl (w B)
  · have w := w.2 c2
    refine R_aload_n dX0_knowUpTo_10 0 rfl ?_
    refine X_getA (k := 20) (o := 12) (j := 100) (n := 12) B dX0_knowUpTo_11 q285 (by decide) rfl rfl ?_
    refine R_iload_n dX0_knowUpTo_14 3 rfl ?_
    refine R_iconst (v := 1) dX0_knowUpTo_15 (by decide) ?_
    refine R_iload_n dX0_knowUpTo_16 3 rfl ?_
    refine R_ishl dX0_knowUpTo_17 ?_
    obtain ⟨c1, w⟩ := w
    refine X_iast (k := 20) B dX0_knowUpTo_18 rfl c1 ?_
    refine R_iinc (v := (a3 + 1)) (lv' := [(3, .int (a3 + 1)), (0, .ref x), (1, .int a1), (2, .int a2)]) dX0_knowUpTo_19 3 rfl (congrArg (fun z => a3 + z) (show Int32.ofInt 1 = 1 by decide)) (by decide) rfl ?_
    refine R_goto (tgt := 2) dX0_knowUpTo_22 (by decide) ?_
    exact R_sub [1, 2, 3, 0] rfl (w B.A)
theorem sX0_knowUpTo_27 {G : GG} {x : Nat} {h : AH} {Q : Outcome → AH → Prop} {a1 : Int32} {a2 : Int32} {a3 : Int32} (B : XB G x h) (w : ((aI h 11 x) ≤ a3 → (Q (.returned none) h)) ∧ (¬ (aI h 11 x) ≤ a3 → (vp_in a3 16 ∧ (vp_in (aA h (x + 7) a3.toNatClampNeg) 16 ∧ ∃ q2 : Nat, (aR h (x + 6) (aA h (x + 7) a3.toNatClampNeg).toNatClampNeg) = some q2 ∧ (IsK G h q2 (7, 0) ∧ (((aI h 450 q2) ≤ a1 → (Run G mX0_isIn 1 0 [(0, .int a2), (1, .int (aA h (x + 7) a3.toNatClampNeg))] [] h (fun o h5 => ∃ b6 : Bool, o = .returned (some (.int (bi b6))) ∧ XB G x h5 ∧ ((b6 = true → (XB G x h5 → Run G mX0_knowUpTo 4 27 [(0, .ref x), (1, .int a1), (2, .int a2), (3, .int (a3 + 1))] [] h5 Q)) ∧ (b6 = false → (Run G mX0_doesCount 3 0 [(0, .ref x), (1, .int (aA h (x + 7) a3.toNatClampNeg))] [] h5 (fun o h7 => ∃ b8 : Bool, o = .returned (some (.int (bi b8))) ∧ XB G x h7 ∧ ((b8 = true → (IsK G h7 q2 (7, 0) ∧ (vp_in (aI h7 448 q2) 12 ∧ (vp_in (aI h7 449 q2) 12 ∧ ((¬ (aI h7 13 x) = 1 → (XB G x h7 → Run G mX0_knowUpTo 4 134 [(0, .ref x), (1, .int a1), (2, .int a2), (3, .int a3), (5, .ref q2), (6, .int (aA h7 (x + 12) (aI h7 448 q2).toNatClampNeg)), (7, .int (aA h7 (x + 12) (aI h7 449 q2).toNatClampNeg))] [.int 0, .int (aA h7 (x + 12) (aI h7 448 q2).toNatClampNeg), .int (aI h7 448 q2), .ref (x + 12)] h7 Q)) ∧ ((aI h7 13 x) = 1 → (XB G x h7 → Run G mX0_knowUpTo 4 134 [(0, .ref x), (1, .int a1), (2, .int a2), (3, .int a3), (5, .ref q2), (6, .int (aA h7 (x + 12) (aI h7 448 q2).toNatClampNeg)), (7, .int (aA h7 (x + 12) (aI h7 449 q2).toNatClampNeg))] [.int (aA h7 (x + 12) (aI h7 449 q2).toNatClampNeg), .int (aA h7 (x + 12) (aI h7 448 q2).toNatClampNeg), .int (aI h7 448 q2), .ref (x + 12)] h7 Q))))))) ∧ (b8 = false → (XB G x h7 → Run G mX0_knowUpTo 4 27 [(0, .ref x), (1, .int a1), (2, .int a2), (3, .int (a3 + 1))] [] h7 Q)))))))))) ∧ (¬ (aI h 450 q2) ≤ a1 → (Q (.returned none) h)))))))) : Run G mX0_knowUpTo 4 27 [(0, .ref x), (1, .int a1), (2, .int a2), (3, .int a3)] [] h Q := by
  refine R_iload_n dX0_knowUpTo_27 3 rfl ?_
  refine R_aload_n dX0_knowUpTo_28 0 rfl ?_
  refine X_getS (k := 11) B dX0_knowUpTo_29 q275 (by decide) rfl ?_
  refine R_icmp_ge (tgt := 185) dX0_knowUpTo_32 (by decide) (fun c17 => ?_) (fun c17 => ?_)
  · have w := w.1 c17
    exact R_vret dX0_knowUpTo_185 rfl w
  · have w := w.2 c17
    refine R_aload_n dX0_knowUpTo_35 0 rfl ?_
    refine X_getA (k := 12) (o := 7) (j := 100) (n := 16) B dX0_knowUpTo_36 q276 (by decide) rfl rfl ?_
    refine R_iload_n dX0_knowUpTo_39 3 rfl ?_
    obtain ⟨c16, w⟩ := w
    refine X_iald (k := 12) B dX0_knowUpTo_40 rfl c16 ?_
    refine R_istore (lv' := [(4, .int (aA h (x + 7) a3.toNatClampNeg)), (0, .ref x), (1, .int a1), (2, .int a2), (3, .int a3)]) dX0_knowUpTo_41 (by decide) rfl ?_
    refine R_aload_n dX0_knowUpTo_43 1 rfl ?_
    refine X_getA (k := 10) (o := 6) (j := 108) (n := 16) B dX0_knowUpTo_44 q274 (by decide) rfl rfl ?_
    refine R_iload dX0_knowUpTo_47 0 rfl ?_
    obtain ⟨c1, q2, e3, w⟩ := w
    refine X_aald (k := 10) (j := 8) (E := "NameRests$Meeting") B dX0_knowUpTo_49 rfl (by decide) (by decide) rfl c1 ?_
    refine R_top (v' := .ref q2) (congrArg va_rf e3) ?_
    refine R_astore (lv' := [(5, .ref q2), (4, .int (aA h (x + 7) a3.toNatClampNeg)), (0, .ref x), (1, .int a1), (2, .int a2), (3, .int a3)]) dX0_knowUpTo_50 (by decide) rfl ?_
    refine R_aload dX0_knowUpTo_52 0 rfl ?_
    obtain ⟨k4, w⟩ := w
    refine R_getIN (k := 2) (f := 450) ok7 dX0_knowUpTo_54 q458 (by decide) rfl (by decide) k4 ?_
    refine R_iload_n dX0_knowUpTo_57 3 rfl ?_
    refine R_icmp_le (tgt := 64) dX0_knowUpTo_58 (by decide) (fun c15 => ?_) (fun c15 => ?_)
    · have w := w.1 c15
      refine R_iload_n dX0_knowUpTo_64 4 rfl ?_
      refine R_iload dX0_knowUpTo_65 1 rfl ?_
      refine R_invS (Mc := mX0_isIn) (As := [.int a2, .int (aA h (x + 7) a3.toNatClampNeg)]) (st := []) dX0_knowUpTo_67 q654 q655 q103 wX0_isIn pX0_isIn rfl (Nat.le_of_ble_eq_true rfl) (by decide) (by decide) (Nat.le_of_ble_eq_true rfl) (aft_z w (fun b6 h5 w => ?_))
      obtain ⟨Bh5, w⟩ := w
      refine R_ifz_ne (tgt := 179) dX0_knowUpTo_70 (by decide) (fun c14 => ?_) (fun c14 => ?_)
      · have w := w.1 c14
        refine R_iinc (v := (a3 + 1)) (lv' := [(3, .int (a3 + 1)), (5, .ref q2), (4, .int (aA h (x + 7) a3.toNatClampNeg)), (0, .ref x), (1, .int a1), (2, .int a2)]) dX0_knowUpTo_179 5 rfl (congrArg (fun z => a3 + z) (show Int32.ofInt 1 = 1 by decide)) (by decide) rfl ?_
        refine R_goto (tgt := 27) dX0_knowUpTo_182 (by decide) ?_
        exact R_sub [3, 4, 5, 0] rfl (w Bh5)
      · have w := w.2 c14
        refine R_aload_n dX0_knowUpTo_73 2 rfl ?_
        refine R_iload dX0_knowUpTo_74 1 rfl ?_
        refine R_invV (Mc := mX0_doesCount) (b := x) (As := [.int (aA h (x + 7) a3.toNatClampNeg)]) (st := []) ok0 (by decide) Bh5.1 dX0_knowUpTo_76 q514 q516 qs10 q103 wX0_doesCount pX0_doesCount rfl (Nat.le_of_ble_eq_true rfl) (by decide) (by decide) (Nat.le_of_ble_eq_true rfl) (aft_z w (fun b8 h7 w => ?_))
        obtain ⟨Bh7, w⟩ := w
        refine R_ifz_ne (tgt := 85) dX0_knowUpTo_79 (by decide) (fun c13 => ?_) (fun c13 => ?_)
        · have w := w.1 c13
          refine R_aload_n dX0_knowUpTo_85 2 rfl ?_
          refine X_getA (k := 20) (o := 12) (j := 100) (n := 12) Bh7 dX0_knowUpTo_86 q285 (by decide) rfl rfl ?_
          refine R_aload dX0_knowUpTo_89 0 rfl ?_
          obtain ⟨k9, w⟩ := w
          refine R_getIN (k := 0) (f := 448) ok7 dX0_knowUpTo_91 q454 (by decide) rfl (by decide) k9 ?_
          obtain ⟨c12, w⟩ := w
          refine X_iald (k := 20) Bh7 dX0_knowUpTo_94 rfl c12 ?_
          refine R_istore (lv' := [(6, .int (aA h7 (x + 12) (aI h7 448 q2).toNatClampNeg)), (5, .ref q2), (4, .int (aA h (x + 7) a3.toNatClampNeg)), (0, .ref x), (1, .int a1), (2, .int a2), (3, .int a3)]) dX0_knowUpTo_95 (by decide) rfl ?_
          refine R_aload_n dX0_knowUpTo_97 3 rfl ?_
          refine X_getA (k := 20) (o := 12) (j := 100) (n := 12) Bh7 dX0_knowUpTo_98 q285 (by decide) rfl rfl ?_
          refine R_aload dX0_knowUpTo_101 1 rfl ?_
          refine R_getIN (k := 1) (f := 449) ok7 dX0_knowUpTo_103 q456 (by decide) rfl (by decide) k9 ?_
          obtain ⟨c11, w⟩ := w
          refine X_iald (k := 20) Bh7 dX0_knowUpTo_106 rfl c11 ?_
          refine R_istore (lv' := [(7, .int (aA h7 (x + 12) (aI h7 449 q2).toNatClampNeg)), (6, .int (aA h7 (x + 12) (aI h7 448 q2).toNatClampNeg)), (5, .ref q2), (4, .int (aA h (x + 7) a3.toNatClampNeg)), (0, .ref x), (1, .int a1), (2, .int a2), (3, .int a3)]) dX0_knowUpTo_107 (by decide) rfl ?_
          refine R_aload_n dX0_knowUpTo_109 4 rfl ?_
          refine X_getA (k := 20) (o := 12) (j := 100) (n := 12) Bh7 dX0_knowUpTo_110 q285 (by decide) rfl rfl ?_
          refine R_aload dX0_knowUpTo_113 2 rfl ?_
          refine R_getIN (k := 0) (f := 448) ok7 dX0_knowUpTo_115 q454 (by decide) rfl (by decide) k9 ?_
          refine R_iload dX0_knowUpTo_118 1 rfl ?_
          refine R_aload_n dX0_knowUpTo_120 4 rfl ?_
          refine X_getS (k := 13) Bh7 dX0_knowUpTo_121 q277 (by decide) rfl ?_
          refine R_iconst (v := 1) dX0_knowUpTo_124 (by decide) ?_
          refine R_icmp_ne (tgt := 133) dX0_knowUpTo_125 (by decide) (fun c10 => ?_) (fun c10 => ?_)
          · have w := w.1 c10
            refine R_iconst (v := 0) dX0_knowUpTo_133 (by decide) ?_
            exact R_sub [4, 5, 6, 7, 2, 1, 0] rfl (w Bh7)
          · have w := w.2 c10
            refine R_iload dX0_knowUpTo_128 0 rfl ?_
            refine R_goto (tgt := 134) dX0_knowUpTo_130 (by decide) ?_
            exact R_sub [4, 5, 6, 7, 2, 1, 0] rfl (w Bh7)
        · have w := w.2 c13
          refine R_goto (tgt := 179) dX0_knowUpTo_82 (by decide) ?_
          refine R_iinc (v := (a3 + 1)) (lv' := [(3, .int (a3 + 1)), (5, .ref q2), (4, .int (aA h (x + 7) a3.toNatClampNeg)), (0, .ref x), (1, .int a1), (2, .int a2)]) dX0_knowUpTo_179 5 rfl (congrArg (fun z => a3 + z) (show Int32.ofInt 1 = 1 by decide)) (by decide) rfl ?_
          refine R_goto (tgt := 27) dX0_knowUpTo_182 (by decide) ?_
          exact R_sub [3, 4, 5, 0] rfl (w Bh7)
    · have w := w.2 c15
      refine R_goto (tgt := 185) dX0_knowUpTo_61 (by decide) ?_
      exact R_vret dX0_knowUpTo_185 rfl w
theorem sX0_knowUpTo_134 {G : GG} {x : Nat} {h : AH} {Q : Outcome → AH → Prop} {a1 : Int32} {a2 : Int32} {a3 : Int32} {a5 : Nat} {a6 : Int32} {a7 : Int32} {t0 : Int32} {t1 : Int32} {t2 : Int32} (B : XB G x h) (w : IsK G h a5 (7, 0) ∧ (vp_in t2 12 ∧ ((¬ (aI (sA h (x + 12) t2.toNatClampNeg ((t1 ||| t0) ||| ((1 : Int32) <<< ((aI h 449 a5) &&& 31)))) 13 x) = 1 → (vp_in (aI (sA h (x + 12) t2.toNatClampNeg ((t1 ||| t0) ||| ((1 : Int32) <<< ((aI h 449 a5) &&& 31)))) 449 a5) 12 ∧ (XB G x (sA (sA h (x + 12) t2.toNatClampNeg ((t1 ||| t0) ||| ((1 : Int32) <<< ((aI h 449 a5) &&& 31)))) (x + 12) (aI (sA h (x + 12) t2.toNatClampNeg ((t1 ||| t0) ||| ((1 : Int32) <<< ((aI h 449 a5) &&& 31)))) 449 a5).toNatClampNeg ((a7 ||| 0) ||| ((1 : Int32) <<< ((aI (sA h (x + 12) t2.toNatClampNeg ((t1 ||| t0) ||| ((1 : Int32) <<< ((aI h 449 a5) &&& 31)))) 448 a5) &&& 31)))) → Run G mX0_knowUpTo 4 27 [(0, .ref x), (1, .int a1), (2, .int a2), (3, .int (a3 + 1))] [] (sA (sA h (x + 12) t2.toNatClampNeg ((t1 ||| t0) ||| ((1 : Int32) <<< ((aI h 449 a5) &&& 31)))) (x + 12) (aI (sA h (x + 12) t2.toNatClampNeg ((t1 ||| t0) ||| ((1 : Int32) <<< ((aI h 449 a5) &&& 31)))) 449 a5).toNatClampNeg ((a7 ||| 0) ||| ((1 : Int32) <<< ((aI (sA h (x + 12) t2.toNatClampNeg ((t1 ||| t0) ||| ((1 : Int32) <<< ((aI h 449 a5) &&& 31)))) 448 a5) &&& 31)))) Q))) ∧ ((aI (sA h (x + 12) t2.toNatClampNeg ((t1 ||| t0) ||| ((1 : Int32) <<< ((aI h 449 a5) &&& 31)))) 13 x) = 1 → (vp_in (aI (sA h (x + 12) t2.toNatClampNeg ((t1 ||| t0) ||| ((1 : Int32) <<< ((aI h 449 a5) &&& 31)))) 449 a5) 12 ∧ (XB G x (sA (sA h (x + 12) t2.toNatClampNeg ((t1 ||| t0) ||| ((1 : Int32) <<< ((aI h 449 a5) &&& 31)))) (x + 12) (aI (sA h (x + 12) t2.toNatClampNeg ((t1 ||| t0) ||| ((1 : Int32) <<< ((aI h 449 a5) &&& 31)))) 449 a5).toNatClampNeg ((a7 ||| a6) ||| ((1 : Int32) <<< ((aI (sA h (x + 12) t2.toNatClampNeg ((t1 ||| t0) ||| ((1 : Int32) <<< ((aI h 449 a5) &&& 31)))) 448 a5) &&& 31)))) → Run G mX0_knowUpTo 4 27 [(0, .ref x), (1, .int a1), (2, .int a2), (3, .int (a3 + 1))] [] (sA (sA h (x + 12) t2.toNatClampNeg ((t1 ||| t0) ||| ((1 : Int32) <<< ((aI h 449 a5) &&& 31)))) (x + 12) (aI (sA h (x + 12) t2.toNatClampNeg ((t1 ||| t0) ||| ((1 : Int32) <<< ((aI h 449 a5) &&& 31)))) 449 a5).toNatClampNeg ((a7 ||| a6) ||| ((1 : Int32) <<< ((aI (sA h (x + 12) t2.toNatClampNeg ((t1 ||| t0) ||| ((1 : Int32) <<< ((aI h 449 a5) &&& 31)))) 448 a5) &&& 31)))) Q)))))) : Run G mX0_knowUpTo 4 134 [(0, .ref x), (1, .int a1), (2, .int a2), (3, .int a3), (5, .ref a5), (6, .int a6), (7, .int a7)] [.int t0, .int t1, .int t2, .ref (x + 12)] h Q := by
  refine R_ior dX0_knowUpTo_134 ?_
  refine R_iconst (v := 1) dX0_knowUpTo_135 (by decide) ?_
  refine R_aload dX0_knowUpTo_136 4 rfl ?_
  obtain ⟨k1, w⟩ := w
  refine R_getIN (k := 1) (f := 449) ok7 dX0_knowUpTo_138 q456 (by decide) rfl (by decide) k1 ?_
  refine R_ishl dX0_knowUpTo_141 ?_
  refine R_ior dX0_knowUpTo_142 ?_
  obtain ⟨c5, w⟩ := w
  refine X_iast (k := 20) B dX0_knowUpTo_143 rfl c5 ?_
  refine R_aload_n dX0_knowUpTo_144 0 rfl ?_
  refine X_getA (k := 20) (o := 12) (j := 100) (n := 12) B.A dX0_knowUpTo_145 q285 (by decide) rfl rfl ?_
  refine R_aload dX0_knowUpTo_148 4 rfl ?_
  refine R_getIN (k := 1) (f := 449) ok7 dX0_knowUpTo_150 q456 (by decide) rfl (by decide) k1 ?_
  refine R_iload dX0_knowUpTo_153 6 rfl ?_
  refine R_aload_n dX0_knowUpTo_155 0 rfl ?_
  refine X_getS (k := 13) B.A dX0_knowUpTo_156 q277 (by decide) rfl ?_
  refine R_iconst (v := 1) dX0_knowUpTo_159 (by decide) ?_
  refine R_icmp_ne (tgt := 168) dX0_knowUpTo_160 (by decide) (fun c4 => ?_) (fun c4 => ?_)
  · have w := w.1 c4
    refine R_iconst (v := 0) dX0_knowUpTo_168 (by decide) ?_
    refine R_ior dX0_knowUpTo_169 ?_
    refine R_iconst (v := 1) dX0_knowUpTo_170 (by decide) ?_
    refine R_aload dX0_knowUpTo_171 4 rfl ?_
    refine R_getIN (k := 0) (f := 448) ok7 dX0_knowUpTo_173 q454 (by decide) rfl (by decide) k1 ?_
    refine R_ishl dX0_knowUpTo_176 ?_
    refine R_ior dX0_knowUpTo_177 ?_
    obtain ⟨c2, w⟩ := w
    refine X_iast (k := 20) B.A dX0_knowUpTo_178 rfl c2 ?_
    refine R_iinc (v := (a3 + 1)) (lv' := [(3, .int (a3 + 1)), (0, .ref x), (1, .int a1), (2, .int a2), (5, .ref a5), (6, .int a6), (7, .int a7)]) dX0_knowUpTo_179 3 rfl (congrArg (fun z => a3 + z) (show Int32.ofInt 1 = 1 by decide)) (by decide) rfl ?_
    refine R_goto (tgt := 27) dX0_knowUpTo_182 (by decide) ?_
    exact R_sub [1, 2, 3, 0] rfl (w B.A.A)
  · have w := w.2 c4
    refine R_iload dX0_knowUpTo_163 5 rfl ?_
    refine R_goto (tgt := 169) dX0_knowUpTo_165 (by decide) ?_
    refine R_ior dX0_knowUpTo_169 ?_
    refine R_iconst (v := 1) dX0_knowUpTo_170 (by decide) ?_
    refine R_aload dX0_knowUpTo_171 4 rfl ?_
    refine R_getIN (k := 0) (f := 448) ok7 dX0_knowUpTo_173 q454 (by decide) rfl (by decide) k1 ?_
    refine R_ishl dX0_knowUpTo_176 ?_
    refine R_ior dX0_knowUpTo_177 ?_
    obtain ⟨c3, w⟩ := w
    refine X_iast (k := 20) B.A dX0_knowUpTo_178 rfl c3 ?_
    refine R_iinc (v := (a3 + 1)) (lv' := [(3, .int (a3 + 1)), (0, .ref x), (1, .int a1), (2, .int a2), (5, .ref a5), (6, .int a6), (7, .int a7)]) dX0_knowUpTo_179 3 rfl (congrArg (fun z => a3 + z) (show Int32.ofInt 1 = 1 by decide)) (by decide) rfl ?_
    refine R_goto (tgt := 27) dX0_knowUpTo_182 (by decide) ?_
    exact R_sub [1, 2, 3, 0] rfl (w B.A.A)
theorem sX0_knows_0 {G : GG} {x : Nat} {h : AH} {Q : Outcome → AH → Prop} {a1 : Int32} {a2 : Int32} (B : XB G x h) (w : Run G mX0_isPerson 2 0 [(0, .ref x), (1, .int a1)] [] h (fun o h1 => ∃ b2 : Bool, o = .returned (some (.int (bi b2))) ∧ XB G x h1 ∧ ((b2 = false → (Q (.returned (some (.int (-1)))) h1)) ∧ (b2 = true → (Run G mX0_isYear 2 0 [(0, .int a2)] [] h1 (fun o h3 => ∃ b4 : Bool, o = .returned (some (.int (bi b4))) ∧ XB G x h3 ∧ ((b4 = true → (Run G mX0_knowUpTo 4 0 [(0, .ref x), (1, .int a2), (2, .int 0)] [] h3 (fun o h5 => o = .returned none ∧ XB G x h5 ∧ (vp_in a1 12 ∧ (Q (.returned (some (.int (aA h5 (x + 12) a1.toNatClampNeg)))) h5))))) ∧ (b4 = false → (Q (.returned (some (.int (-1)))) h3))))))))) : Run G mX0_knows 5 0 [(0, .ref x), (1, .int a1), (2, .int a2)] [] h Q := by
  refine R_aload_n dX0_knows_0 0 rfl ?_
  refine R_iload_n dX0_knows_1 1 rfl ?_
  refine R_invV (Mc := mX0_isPerson) (b := x) (As := [.int a1]) (st := []) ok0 (by decide) B.1 dX0_knows_2 q436 q438 qs3 q103 wX0_isPerson pX0_isPerson rfl (Nat.le_of_ble_eq_true rfl) (by decide) (by decide) (Nat.le_of_ble_eq_true rfl) (aft_z w (fun b2 h1 w => ?_))
  obtain ⟨Bh1, w⟩ := w
  refine R_ifz_eq (tgt := 15) dX0_knows_5 (by decide) (fun c8 => ?_) (fun c8 => ?_)
  · have w := w.1 c8
    refine R_iconst (v := (-1)) dX0_knows_15 (by decide) ?_
    exact R_iret dX0_knows_16 rfl w
  · have w := w.2 c8
    refine R_iload_n dX0_knows_8 2 rfl ?_
    refine R_invS (Mc := mX0_isYear) (As := [.int a2]) (st := []) dX0_knows_9 q376 q377 q103 wX0_isYear pX0_isYear rfl (Nat.le_of_ble_eq_true rfl) (by decide) (by decide) (Nat.le_of_ble_eq_true rfl) (aft_z w (fun b4 h3 w => ?_))
    obtain ⟨Bh3, w⟩ := w
    refine R_ifz_ne (tgt := 17) dX0_knows_12 (by decide) (fun c7 => ?_) (fun c7 => ?_)
    · have w := w.1 c7
      refine R_aload_n dX0_knows_17 0 rfl ?_
      refine R_iload_n dX0_knows_18 2 rfl ?_
      refine R_iconst (v := 0) dX0_knows_19 (by decide) ?_
      refine R_invV (Mc := mX0_knowUpTo) (b := x) (As := [.int a2, .int 0]) (st := []) ok0 (by decide) Bh3.1 dX0_knows_20 q650 q652 qs23 q103 wX0_knowUpTo pX0_knowUpTo rfl (Nat.le_of_ble_eq_true rfl) (by decide) (by decide) (Nat.le_of_ble_eq_true rfl) (aft_v w (fun h5 w => ?_))
      obtain ⟨Bh5, w⟩ := w
      refine R_aload_n dX0_knows_23 0 rfl ?_
      refine X_getA (k := 20) (o := 12) (j := 100) (n := 12) Bh5 dX0_knows_24 q285 (by decide) rfl rfl ?_
      refine R_iload_n dX0_knows_27 1 rfl ?_
      obtain ⟨c6, w⟩ := w
      refine X_iald (k := 20) Bh5 dX0_knows_28 rfl c6 ?_
      exact R_iret dX0_knows_29 rfl w
    · have w := w.2 c7
      refine R_iconst (v := (-1)) dX0_knows_15 (by decide) ?_
      exact R_iret dX0_knows_16 rfl w
theorem sX0_latestHeld_0 {G : GG} {x : Nat} {h : AH} {Q : Outcome → AH → Prop} {a1 : Int32} {a2 : Int32} (B : XB G x h) (w : XB G x h → Run G mX0_latestHeld 305 4 [(0, .ref x), (1, .int a1), (3, .int (a2 - 1))] [] h Q) : Run G mX0_latestHeld 305 0 [(0, .ref x), (1, .int a1), (2, .int a2)] [] h Q := by
  refine R_iload_n dX0_latestHeld_0 2 rfl ?_
  refine R_iconst (v := 1) dX0_latestHeld_1 (by decide) ?_
  refine R_isub dX0_latestHeld_2 ?_
  refine R_istore_n (lv' := [(3, .int (a2 - 1)), (0, .ref x), (1, .int a1), (2, .int a2)]) dX0_latestHeld_3 rfl (by decide) rfl ?_
  exact R_sub [1, 2, 0] rfl (w B)
theorem sX0_latestHeld_4 {G : GG} {x : Nat} {h : AH} {Q : Outcome → AH → Prop} {a1 : Int32} {a3 : Int32} (B : XB G x h) (w : (a3 < 0 → (Q (.returned (some (.int (-1)))) h)) ∧ (¬ a3 < 0 → (Run G mX0_knowUpTo 4 0 [(0, .ref x), (1, .int a3), (2, .int 0)] [] h (fun o h1 => o = .returned none ∧ XB G x h1 ∧ (Run G mX0_isHeld 304 0 [(0, .ref x), (1, .int a1), (2, .int a3)] [] h1 (fun o h2 => ∃ b3 : Bool, o = .returned (some (.int (bi b3))) ∧ XB G x h2 ∧ ((b3 = false → (XB G x h2 → Run G mX0_latestHeld 305 4 [(0, .ref x), (1, .int a1), (3, .int (a3 + (-1)))] [] h2 Q)) ∧ (b3 = true → (Q (.returned (some (.int a3))) h2))))))))) : Run G mX0_latestHeld 305 4 [(0, .ref x), (1, .int a1), (3, .int a3)] [] h Q := by
  refine R_iload_n dX0_latestHeld_4 2 rfl ?_
  refine R_if_lt (tgt := 31) dX0_latestHeld_5 (by decide) (fun c5 => ?_) (fun c5 => ?_)
  · have w := w.1 c5
    refine R_iconst (v := (-1)) dX0_latestHeld_31 (by decide) ?_
    exact R_iret dX0_latestHeld_32 rfl w
  · have w := w.2 c5
    refine R_aload_n dX0_latestHeld_8 0 rfl ?_
    refine R_iload_n dX0_latestHeld_9 2 rfl ?_
    refine R_iconst (v := 0) dX0_latestHeld_10 (by decide) ?_
    refine R_invV (Mc := mX0_knowUpTo) (b := x) (As := [.int a3, .int 0]) (st := []) ok0 (by decide) B.1 dX0_latestHeld_11 q650 q652 qs23 q103 wX0_knowUpTo pX0_knowUpTo rfl (Nat.le_of_ble_eq_true rfl) (by decide) (by decide) (Nat.le_of_ble_eq_true rfl) (aft_v w (fun h1 w => ?_))
    obtain ⟨Bh1, w⟩ := w
    refine R_aload_n dX0_latestHeld_14 0 rfl ?_
    refine R_iload_n dX0_latestHeld_15 1 rfl ?_
    refine R_iload_n dX0_latestHeld_16 2 rfl ?_
    refine R_invV (Mc := mX0_isHeld) (b := x) (As := [.int a1, .int a3]) (st := []) ok0 (by decide) Bh1.1 dX0_latestHeld_17 q669 q671 qs26 q103 wX0_isHeld pX0_isHeld rfl (Nat.le_of_ble_eq_true rfl) (by decide) (by decide) (Nat.le_of_ble_eq_true rfl) (aft_z w (fun b3 h2 w => ?_))
    obtain ⟨Bh2, w⟩ := w
    refine R_ifz_eq (tgt := 25) dX0_latestHeld_20 (by decide) (fun c4 => ?_) (fun c4 => ?_)
    · have w := w.1 c4
      refine R_iinc (v := (a3 + (-1))) (lv' := [(3, .int (a3 + (-1))), (0, .ref x), (1, .int a1)]) dX0_latestHeld_25 2 rfl (congrArg (fun z => a3 + z) (show Int32.ofInt (-1) = (-1) by decide)) (by decide) rfl ?_
      refine R_goto (tgt := 4) dX0_latestHeld_28 (by decide) ?_
      exact R_sub [1, 2, 0] rfl (w Bh2)
    · have w := w.2 c4
      refine R_iload_n dX0_latestHeld_23 2 rfl ?_
      exact R_iret dX0_latestHeld_24 rfl w
theorem sX0_law_0 {G : GG} {x : Nat} {h : AH} {Q : Outcome → AH → Prop} (B : XB G x h) (w : Run G mX0_readLaw 202 0 [(0, .ref x)] [] (sI h 6 x 0) (fun o h1 => (∃ q2 : Nat, o = .returned (some (.ref q2)) ∧ XB G x h1 ∧ (Q (.returned (some (.int 1))) (sI (sP h1 19 x (some q2)) 4 x 0))) ∨ (∃ y3 : Nat, o = .threw y3 ∧ y3 = x + 3 ∧ XB G x h1 ∧ (Q (.returned (some (.int ((-100) - (aI h1 6 x))))) (sI h1 4 x 0))))) : Run G mX0_law 203 0 [(0, .ref x)] [] h Q := by
  refine R_aload_n dX0_law_0 0 rfl ?_
  refine R_iconst (v := 0) dX0_law_1 (by decide) ?_
  refine X_putS (k := 6) B dX0_law_2 q270 (by decide) rfl rfl rfl rfl ?_
  refine R_aload_n dX0_law_5 0 rfl ?_
  refine R_aload_n dX0_law_6 0 rfl ?_
  refine R_invV (Mc := mX0_readLaw) (b := x) (As := []) (st := [.ref x]) ok0 (by decide) B.I.1 dX0_law_7 q522 q524 qs11 q103 wX0_readLaw pX0_readLaw rfl (Nat.le_of_ble_eq_true rfl) (by decide) (by decide) (Nat.le_of_ble_eq_true rfl) (aft_rT w (fun q2 h1 w => ?_) (fun y3 h1 w => ?_))
  · obtain ⟨Bh1, w⟩ := w
    refine R_top (v' := va_rf (some q2)) rfl ?_
    refine R_putP (k := 19) (f := 19) ok0 dX0_law_10 q284 (by decide) rfl rfl (Or.inl rfl) (nar_rf _) (fit_rf _) (by decide) Bh1.1 ?_
    refine R_iconst (v := 1) dX0_law_13 (by decide) ?_
    refine R_istore_n (lv' := [(1, .int 1), (0, .ref x)]) dX0_law_14 rfl (by decide) rfl ?_
    refine R_aload_n dX0_law_15 1 rfl ?_
    refine R_iconst (v := 0) dX0_law_16 (by decide) ?_
    refine X_putS (k := 4) (XB.P rfl Bh1) dX0_law_17 q268 (by decide) rfl rfl rfl rfl ?_
    refine R_iload_n dX0_law_20 0 rfl ?_
    exact R_iret dX0_law_21 rfl w
  · obtain ⟨ey, Bh1, w⟩ := w
    subst ey
    refine Thr.caught (hp := 22) rfl (by decide) (by decide) q148 (Cls.obj ok1 (by decide) (Bh1.2 5 _ rfl).2) ?_
    refine R_astore_n (lv' := [(1, .ref (x + 3)), (0, .ref x)]) dX0_law_22 rfl (by decide) rfl ?_
    refine R_bipush (v := (-100)) dX0_law_23 (by decide) ?_
    refine R_aload_n dX0_law_25 1 rfl ?_
    refine X_getS (k := 6) Bh1 dX0_law_26 q270 (by decide) rfl ?_
    refine R_isub dX0_law_29 ?_
    refine R_istore_n (lv' := [(2, .int ((-100) - (aI h1 6 x))), (1, .ref (x + 3)), (0, .ref x)]) dX0_law_30 rfl (by decide) rfl ?_
    refine R_aload_n dX0_law_31 2 rfl ?_
    refine R_iconst (v := 0) dX0_law_32 (by decide) ?_
    refine X_putS (k := 4) Bh1 dX0_law_33 q268 (by decide) rfl rfl rfl rfl ?_
    refine R_iload_n dX0_law_36 0 rfl ?_
    exact R_iret dX0_law_37 rfl w
theorem sX0_made_0 {G : GG} {x : Nat} {h : AH} {Q : Outcome → AH → Prop} {a1 : Int32} (B : XB G x h) (w : (a1 = 1 → (Run G mX15_init 3 0 [(0, .ref (aN h)), (1, .ref x), (2, .int (aI (sNew h (15, 0) 3) 27 x))] [] (sNew h (15, 0) 3) (fun o h2 => o = .returned none ∧ XB G x h2 ∧ (Q (.returned (some (.ref (aN h)))) h2)))) ∧ (¬ a1 = 1 → ((a1 = 2 → (Run G mX16_init 3 0 [(0, .ref (aN h)), (1, .ref x), (2, .int (aI (sNew h (16, 0) 3) 27 x))] [] (sNew h (16, 0) 3) (fun o h4 => o = .returned none ∧ XB G x h4 ∧ (Q (.returned (some (.ref (aN h)))) h4)))) ∧ (¬ a1 = 2 → ((a1 = 3 → (Run G mX17_init 4 0 [(0, .ref (aN h)), (1, .ref x), (2, .int (aI (sNew h (17, 0) 4) 27 x))] [] (sNew h (17, 0) 4) (fun o h6 => o = .returned none ∧ XB G x h6 ∧ (Q (.returned (some (.ref (aN h)))) h6)))) ∧ (¬ a1 = 3 → ((a1 = 4 → (Run G mX18_init 4 0 [(0, .ref (aN h)), (1, .ref x), (2, .int (aI (sNew h (18, 0) 4) 27 x))] [] (sNew h (18, 0) 4) (fun o h8 => o = .returned none ∧ XB G x h8 ∧ (Q (.returned (some (.ref (aN h)))) h8)))) ∧ (¬ a1 = 4 → ((a1 = 5 → (Run G mX19_init 5 0 [(0, .ref (aN h)), (1, .ref x), (2, .int (aI (sNew h (19, 0) 5) 27 x))] [] (sNew h (19, 0) 5) (fun o h10 => o = .returned none ∧ XB G x h10 ∧ (Q (.returned (some (.ref (aN h)))) h10)))) ∧ (¬ a1 = 5 → ((a1 = 6 → (Run G mX20_init 3 0 [(0, .ref (aN h)), (1, .ref x), (2, .int (aI (sNew h (20, 0) 3) 27 x))] [] (sNew h (20, 0) 3) (fun o h12 => o = .returned none ∧ XB G x h12 ∧ (Q (.returned (some (.ref (aN h)))) h12)))) ∧ (¬ a1 = 6 → ((a1 = 7 → (Run G mX21_init 4 0 [(0, .ref (aN h)), (1, .ref x), (2, .int (aI (sNew h (21, 0) 4) 27 x))] [] (sNew h (21, 0) 4) (fun o h14 => o = .returned none ∧ XB G x h14 ∧ (Q (.returned (some (.ref (aN h)))) h14)))) ∧ (¬ a1 = 7 → (Run G mX14_init 2 0 [(0, .ref (aN h)), (1, .ref x), (2, .int (aI (sNew h (14, 0) 2) 27 x))] [] (sNew h (14, 0) 2) (fun o h15 => o = .returned none ∧ XB G x h15 ∧ (Q (.returned (some (.ref (aN h)))) h15))))))))))))))))) : Run G mX0_made 6 0 [(0, .ref x), (1, .int a1)] [] h Q := by
  refine R_iload_n dX0_made_0 1 rfl ?_
  by_cases c1 : a1 = 1
  · have w := w.1 c1
    refine R_tableIn (off := 43) (tgt := 44) dX0_made_1 (by rw [c1]; decide) (by rw [c1]; decide) (by rw [c1]; rfl) (by decide) ?_
    refine R_new ok15 dX0_made_44 q815 q816 q122 (by decide) nfd15 ?_
    refine R_dup dX0_made_47 rfl ?_
    refine R_aload_n dX0_made_48 0 rfl ?_
    refine R_aload_n dX0_made_49 0 rfl ?_
    refine X_getS (k := 27) B.N dX0_made_50 q292 (by decide) rfl ?_
    refine R_invI (Mc := mX15_init) (b := (aN h)) (As := [.ref x, .int (aI (sNew h (15, 0) 3) 27 x)]) (st := [.ref (aN h)]) dX0_made_53 q817 q818 q122 rfl q819 rfl pX15_init rfl (Nat.le_of_ble_eq_true rfl) (by decide) (by decide) (Nat.le_of_ble_eq_true rfl) (aft_v w (fun h2 w => ?_))
    obtain ⟨Bh2, w⟩ := w
    exact R_aret (v := (some (aN h))) dX0_made_56 rfl w
  · have w := w.2 c1
    by_cases c3 : a1 = 2
    · have w := w.1 c3
      refine R_tableIn (off := 56) (tgt := 57) dX0_made_1 (by rw [c3]; decide) (by rw [c3]; decide) (by rw [c3]; rfl) (by decide) ?_
      refine R_new ok16 dX0_made_57 q834 q835 q123 (by decide) nfd16 ?_
      refine R_dup dX0_made_60 rfl ?_
      refine R_aload_n dX0_made_61 0 rfl ?_
      refine R_aload_n dX0_made_62 0 rfl ?_
      refine X_getS (k := 27) B.N dX0_made_63 q292 (by decide) rfl ?_
      refine R_invI (Mc := mX16_init) (b := (aN h)) (As := [.ref x, .int (aI (sNew h (16, 0) 3) 27 x)]) (st := [.ref (aN h)]) dX0_made_66 q836 q837 q123 rfl q838 rfl pX16_init rfl (Nat.le_of_ble_eq_true rfl) (by decide) (by decide) (Nat.le_of_ble_eq_true rfl) (aft_v w (fun h4 w => ?_))
      obtain ⟨Bh4, w⟩ := w
      exact R_aret (v := (some (aN h))) dX0_made_69 rfl w
    · have w := w.2 c3
      by_cases c5 : a1 = 3
      · have w := w.1 c5
        refine R_tableIn (off := 69) (tgt := 70) dX0_made_1 (by rw [c5]; decide) (by rw [c5]; decide) (by rw [c5]; rfl) (by decide) ?_
        refine R_new ok17 dX0_made_70 q846 q847 q124 (by decide) nfd17 ?_
        refine R_dup dX0_made_73 rfl ?_
        refine R_aload_n dX0_made_74 0 rfl ?_
        refine R_aload_n dX0_made_75 0 rfl ?_
        refine X_getS (k := 27) B.N dX0_made_76 q292 (by decide) rfl ?_
        refine R_invI (Mc := mX17_init) (b := (aN h)) (As := [.ref x, .int (aI (sNew h (17, 0) 4) 27 x)]) (st := [.ref (aN h)]) dX0_made_79 q848 q849 q124 rfl q850 rfl pX17_init rfl (Nat.le_of_ble_eq_true rfl) (by decide) (by decide) (Nat.le_of_ble_eq_true rfl) (aft_v w (fun h6 w => ?_))
        obtain ⟨Bh6, w⟩ := w
        exact R_aret (v := (some (aN h))) dX0_made_82 rfl w
      · have w := w.2 c5
        by_cases c7 : a1 = 4
        · have w := w.1 c7
          refine R_tableIn (off := 82) (tgt := 83) dX0_made_1 (by rw [c7]; decide) (by rw [c7]; decide) (by rw [c7]; rfl) (by decide) ?_
          refine R_new ok18 dX0_made_83 q859 q860 q125 (by decide) nfd18 ?_
          refine R_dup dX0_made_86 rfl ?_
          refine R_aload_n dX0_made_87 0 rfl ?_
          refine R_aload_n dX0_made_88 0 rfl ?_
          refine X_getS (k := 27) B.N dX0_made_89 q292 (by decide) rfl ?_
          refine R_invI (Mc := mX18_init) (b := (aN h)) (As := [.ref x, .int (aI (sNew h (18, 0) 4) 27 x)]) (st := [.ref (aN h)]) dX0_made_92 q861 q862 q125 rfl q863 rfl pX18_init rfl (Nat.le_of_ble_eq_true rfl) (by decide) (by decide) (Nat.le_of_ble_eq_true rfl) (aft_v w (fun h8 w => ?_))
          obtain ⟨Bh8, w⟩ := w
          exact R_aret (v := (some (aN h))) dX0_made_95 rfl w
        · have w := w.2 c7
          by_cases c9 : a1 = 5
          · have w := w.1 c9
            refine R_tableIn (off := 95) (tgt := 96) dX0_made_1 (by rw [c9]; decide) (by rw [c9]; decide) (by rw [c9]; rfl) (by decide) ?_
            refine R_new ok19 dX0_made_96 q872 q873 q126 (by decide) nfd19 ?_
            refine R_dup dX0_made_99 rfl ?_
            refine R_aload_n dX0_made_100 0 rfl ?_
            refine R_aload_n dX0_made_101 0 rfl ?_
            refine X_getS (k := 27) B.N dX0_made_102 q292 (by decide) rfl ?_
            refine R_invI (Mc := mX19_init) (b := (aN h)) (As := [.ref x, .int (aI (sNew h (19, 0) 5) 27 x)]) (st := [.ref (aN h)]) dX0_made_105 q874 q875 q126 rfl q876 rfl pX19_init rfl (Nat.le_of_ble_eq_true rfl) (by decide) (by decide) (Nat.le_of_ble_eq_true rfl) (aft_v w (fun h10 w => ?_))
            obtain ⟨Bh10, w⟩ := w
            exact R_aret (v := (some (aN h))) dX0_made_108 rfl w
          · have w := w.2 c9
            by_cases c11 : a1 = 6
            · have w := w.1 c11
              refine R_tableIn (off := 108) (tgt := 109) dX0_made_1 (by rw [c11]; decide) (by rw [c11]; decide) (by rw [c11]; rfl) (by decide) ?_
              refine R_new ok20 dX0_made_109 q886 q887 q127 (by decide) nfd20 ?_
              refine R_dup dX0_made_112 rfl ?_
              refine R_aload_n dX0_made_113 0 rfl ?_
              refine R_aload_n dX0_made_114 0 rfl ?_
              refine X_getS (k := 27) B.N dX0_made_115 q292 (by decide) rfl ?_
              refine R_invI (Mc := mX20_init) (b := (aN h)) (As := [.ref x, .int (aI (sNew h (20, 0) 3) 27 x)]) (st := [.ref (aN h)]) dX0_made_118 q888 q889 q127 rfl q890 rfl pX20_init rfl (Nat.le_of_ble_eq_true rfl) (by decide) (by decide) (Nat.le_of_ble_eq_true rfl) (aft_v w (fun h12 w => ?_))
              obtain ⟨Bh12, w⟩ := w
              exact R_aret (v := (some (aN h))) dX0_made_121 rfl w
            · have w := w.2 c11
              by_cases c13 : a1 = 7
              · have w := w.1 c13
                refine R_tableIn (off := 121) (tgt := 122) dX0_made_1 (by rw [c13]; decide) (by rw [c13]; decide) (by rw [c13]; rfl) (by decide) ?_
                refine R_new ok21 dX0_made_122 q898 q899 q128 (by decide) nfd21 ?_
                refine R_dup dX0_made_125 rfl ?_
                refine R_aload_n dX0_made_126 0 rfl ?_
                refine R_aload_n dX0_made_127 0 rfl ?_
                refine X_getS (k := 27) B.N dX0_made_128 q292 (by decide) rfl ?_
                refine R_invI (Mc := mX21_init) (b := (aN h)) (As := [.ref x, .int (aI (sNew h (21, 0) 4) 27 x)]) (st := [.ref (aN h)]) dX0_made_131 q900 q901 q128 rfl q902 rfl pX21_init rfl (Nat.le_of_ble_eq_true rfl) (by decide) (by decide) (Nat.le_of_ble_eq_true rfl) (aft_v w (fun h14 w => ?_))
                obtain ⟨Bh14, w⟩ := w
                exact R_aret (v := (some (aN h))) dX0_made_134 rfl w
              · have w := w.2 c13
                refine R_tableOut (tgt := 135) dX0_made_1 (sw_out a1 1 7 (by decide) (by decide) (fun j h1 h2 => ?_)) (by decide) ?_
                · intro e
                  have e2 : j = 1 ∨ j = 2 ∨ j = 3 ∨ j = 4 ∨ j = 5 ∨ j = 6 ∨ j = 7 := by omega
                  rcases e2 with rfl | rfl | rfl | rfl | rfl | rfl | rfl
                  · exact lv_neT c1 (by decide) e
                  · exact lv_neT c3 (by decide) e
                  · exact lv_neT c5 (by decide) e
                  · exact lv_neT c7 (by decide) e
                  · exact lv_neT c9 (by decide) e
                  · exact lv_neT c11 (by decide) e
                  · exact lv_neT c13 (by decide) e
                · refine R_new ok14 dX0_made_135 q235 q911 q121 (by decide) nfd14 ?_
                  refine R_dup dX0_made_138 rfl ?_
                  refine R_aload_n dX0_made_139 0 rfl ?_
                  refine R_aload_n dX0_made_140 0 rfl ?_
                  refine X_getS (k := 27) B.N dX0_made_141 q292 (by decide) rfl ?_
                  refine R_invI (Mc := mX14_init) (b := (aN h)) (As := [.ref x, .int (aI (sNew h (14, 0) 2) 27 x)]) (st := [.ref (aN h)]) dX0_made_144 q912 q821 q121 rfl q822 rfl pX14_init rfl (Nat.le_of_ble_eq_true rfl) (by decide) (by decide) (Nat.le_of_ble_eq_true rfl) (aft_v w (fun h15 w => ?_))
                  obtain ⟨Bh15, w⟩ := w
                  exact R_aret (v := (some (aN h))) dX0_made_147 rfl w
theorem sX0_mayLive_0 {G : GG} {x : Nat} {h : AH} {Q : Outcome → AH → Prop} {a0 : Int32} {a1 : Int32} (B : XB G x h) (w : Run G mX0_isYear 2 0 [(0, .int a0)] [] h (fun o h1 => ∃ b2 : Bool, o = .returned (some (.int (bi b2))) ∧ XB G x h1 ∧ ((b2 = false → (Q (.returned (some (.int (bi false)))) h1)) ∧ (b2 = true → (Run G mX0_within 1 0 [(0, .long a1.toInt64), (2, .long (a0 + 1).toInt64), (4, .long 100)] [] h1 (fun o h3 => ∃ b4 : Bool, o = .returned (some (.int (bi b4))) ∧ XB G x h3 ∧ ((b4 = false → (Q (.returned (some (.int (bi false)))) h3)) ∧ (b4 = true → (Q (.returned (some (.int (bi true)))) h3))))))))) : Run G mX0_mayLive 3 0 [(0, .int a0), (1, .int a1)] [] h Q := by
  refine R_iload_n dX0_mayLive_0 0 rfl ?_
  refine R_invS (Mc := mX0_isYear) (As := [.int a0]) (st := []) dX0_mayLive_1 q376 q377 q103 wX0_isYear pX0_isYear rfl (Nat.le_of_ble_eq_true rfl) (by decide) (by decide) (Nat.le_of_ble_eq_true rfl) (aft_z w (fun b2 h1 w => ?_))
  obtain ⟨Bh1, w⟩ := w
  refine R_ifz_eq (tgt := 26) dX0_mayLive_4 (by decide) (fun c6 => ?_) (fun c6 => ?_)
  · have w := w.1 c6
    refine R_iconst (v := 0) dX0_mayLive_26 (by decide) ?_
    exact R_bret (b := false) dX0_mayLive_27 rfl w
  · have w := w.2 c6
    refine R_iload_n dX0_mayLive_7 1 rfl ?_
    refine R_i2l dX0_mayLive_8 ?_
    refine R_iload_n dX0_mayLive_9 0 rfl ?_
    refine R_iconst (v := 1) dX0_mayLive_10 (by decide) ?_
    refine R_iadd dX0_mayLive_11 ?_
    refine R_i2l dX0_mayLive_12 ?_
    refine R_ldc2 (v := 100) dX0_mayLive_13 q380 ?_
    refine R_invS (Mc := mX0_within) (As := [.long a1.toInt64, .long (a0 + 1).toInt64, .long 100]) (st := []) dX0_mayLive_16 q366 q367 q103 wX0_within pX0_within rfl (Nat.le_of_ble_eq_true rfl) (by decide) (by decide) (Nat.le_of_ble_eq_true rfl) (aft_z w (fun b4 h3 w => ?_))
    obtain ⟨Bh3, w⟩ := w
    refine R_ifz_eq (tgt := 26) dX0_mayLive_19 (by decide) (fun c5 => ?_) (fun c5 => ?_)
    · have w := w.1 c5
      refine R_iconst (v := 0) dX0_mayLive_26 (by decide) ?_
      exact R_bret (b := false) dX0_mayLive_27 rfl w
    · have w := w.2 c5
      refine R_iconst (v := 1) dX0_mayLive_22 (by decide) ?_
      refine R_goto (tgt := 27) dX0_mayLive_23 (by decide) ?_
      exact R_bret (b := true) dX0_mayLive_27 rfl w
theorem sX0_meet_0 {G : GG} {x : Nat} {h : AH} {Q : Outcome → AH → Prop} {a1 : Int32} {a2 : Int32} (B : XB G x h) (w : (a1 < 0 → (Q (.returned (some (.int (-1)))) h)) ∧ (¬ a1 < 0 → (Run G mX0_isPerson 2 0 [(0, .ref x), (1, .int (a1 / 100))] [] h (fun o h1 => ∃ b2 : Bool, o = .returned (some (.int (bi b2))) ∧ XB G x h1 ∧ ((b2 = false → (Q (.returned (some (.int (-1)))) h1)) ∧ (b2 = true → (Run G mX0_isPerson 2 0 [(0, .ref x), (1, .int (a1 - a1 / 100 * 100))] [] h1 (fun o h3 => ∃ b4 : Bool, o = .returned (some (.int (bi b4))) ∧ XB G x h3 ∧ ((b4 = false → (Q (.returned (some (.int (-1)))) h3)) ∧ (b4 = true → (((a1 / 100) = (a1 - a1 / 100 * 100) → (Q (.returned (some (.int (-1)))) h3)) ∧ (¬ (a1 / 100) = (a1 - a1 / 100 * 100) → (Run G mX0_isYear 2 0 [(0, .int a2)] [] h3 (fun o h5 => ∃ b6 : Bool, o = .returned (some (.int (bi b6))) ∧ XB G x h5 ∧ ((b6 = false → (Q (.returned (some (.int (-1)))) h5)) ∧ (b6 = true → (Run G mX0_doLive 2 0 [(0, .ref x), (1, .int (a1 / 100)), (2, .int (a1 - a1 / 100 * 100)), (3, .int a2)] [] h5 (fun o h7 => ∃ b8 : Bool, o = .returned (some (.int (bi b8))) ∧ XB G x h7 ∧ ((b8 = true → ((¬ (aI h7 11 x) = 16 → (Run G mX7_init 2 0 [(0, .ref (aN h7)), (1, .int (a1 / 100)), (2, .int (a1 - a1 / 100 * 100)), (3, .int a2)] [] (sNew h7 (7, 0) 3) (fun o h9 => o = .returned none ∧ XB G x h9 ∧ (vp_in (aI h7 11 x) 16 ∧ Fit G h9 "NameRests$Meeting" (aN h7) ∧ (XB G x (sR h9 (x + 6) (aI h7 11 x).toNatClampNeg (some (aN h7))) → Run G mX0_meet 3 104 [(0, .ref x), (2, .int a2), (3, .int (aI (sR h9 (x + 6) (aI h7 11 x).toNatClampNeg (some (aN h7))) 11 x))] [] (sR h9 (x + 6) (aI h7 11 x).toNatClampNeg (some (aN h7))) Q))))) ∧ ((aI h7 11 x) = 16 → (Q (.returned (some (.int (-3)))) h7)))) ∧ (b8 = false → (Q (.returned (some (.int (-1)))) h7))))))))))))))))))))) : Run G mX0_meet 3 0 [(0, .ref x), (1, .int a1), (2, .int a2)] [] h Q := by
  refine R_iload_n dX0_meet_0 1 rfl ?_
  refine R_if_lt (tgt := 60) dX0_meet_1 (by decide) (fun c18 => ?_) (fun c18 => ?_)
  · have w := w.1 c18
    refine R_iconst (v := (-1)) dX0_meet_60 (by decide) ?_
    exact R_iret dX0_meet_61 rfl w
  · have w := w.2 c18
    refine R_aload_n dX0_meet_4 0 rfl ?_
    refine R_iload_n dX0_meet_5 1 rfl ?_
    refine R_bipush (v := 100) dX0_meet_6 (by decide) ?_
    refine R_idiv dX0_meet_8 (by decide) ?_
    refine R_invV (Mc := mX0_isPerson) (b := x) (As := [.int (a1 / 100)]) (st := []) ok0 (by decide) B.1 dX0_meet_9 q436 q438 qs3 q103 wX0_isPerson pX0_isPerson rfl (Nat.le_of_ble_eq_true rfl) (by decide) (by decide) (Nat.le_of_ble_eq_true rfl) (aft_z w (fun b2 h1 w => ?_))
    obtain ⟨Bh1, w⟩ := w
    refine R_ifz_eq (tgt := 60) dX0_meet_12 (by decide) (fun c17 => ?_) (fun c17 => ?_)
    · have w := w.1 c17
      refine R_iconst (v := (-1)) dX0_meet_60 (by decide) ?_
      exact R_iret dX0_meet_61 rfl w
    · have w := w.2 c17
      refine R_aload_n dX0_meet_15 0 rfl ?_
      refine R_iload_n dX0_meet_16 1 rfl ?_
      refine R_bipush (v := 100) dX0_meet_17 (by decide) ?_
      refine R_irem dX0_meet_19 (by decide) ?_
      refine R_invV (Mc := mX0_isPerson) (b := x) (As := [.int (a1 - a1 / 100 * 100)]) (st := []) ok0 (by decide) Bh1.1 dX0_meet_20 q436 q438 qs3 q103 wX0_isPerson pX0_isPerson rfl (Nat.le_of_ble_eq_true rfl) (by decide) (by decide) (Nat.le_of_ble_eq_true rfl) (aft_z w (fun b4 h3 w => ?_))
      obtain ⟨Bh3, w⟩ := w
      refine R_ifz_eq (tgt := 60) dX0_meet_23 (by decide) (fun c16 => ?_) (fun c16 => ?_)
      · have w := w.1 c16
        refine R_iconst (v := (-1)) dX0_meet_60 (by decide) ?_
        exact R_iret dX0_meet_61 rfl w
      · have w := w.2 c16
        refine R_iload_n dX0_meet_26 1 rfl ?_
        refine R_bipush (v := 100) dX0_meet_27 (by decide) ?_
        refine R_idiv dX0_meet_29 (by decide) ?_
        refine R_iload_n dX0_meet_30 1 rfl ?_
        refine R_bipush (v := 100) dX0_meet_31 (by decide) ?_
        refine R_irem dX0_meet_33 (by decide) ?_
        refine R_icmp_eq (tgt := 60) dX0_meet_34 (by decide) (fun c15 => ?_) (fun c15 => ?_)
        · have w := w.1 c15
          refine R_iconst (v := (-1)) dX0_meet_60 (by decide) ?_
          exact R_iret dX0_meet_61 rfl w
        · have w := w.2 c15
          refine R_iload_n dX0_meet_37 2 rfl ?_
          refine R_invS (Mc := mX0_isYear) (As := [.int a2]) (st := []) dX0_meet_38 q376 q377 q103 wX0_isYear pX0_isYear rfl (Nat.le_of_ble_eq_true rfl) (by decide) (by decide) (Nat.le_of_ble_eq_true rfl) (aft_z w (fun b6 h5 w => ?_))
          obtain ⟨Bh5, w⟩ := w
          refine R_ifz_eq (tgt := 60) dX0_meet_41 (by decide) (fun c14 => ?_) (fun c14 => ?_)
          · have w := w.1 c14
            refine R_iconst (v := (-1)) dX0_meet_60 (by decide) ?_
            exact R_iret dX0_meet_61 rfl w
          · have w := w.2 c14
            refine R_aload_n dX0_meet_44 0 rfl ?_
            refine R_iload_n dX0_meet_45 1 rfl ?_
            refine R_bipush (v := 100) dX0_meet_46 (by decide) ?_
            refine R_idiv dX0_meet_48 (by decide) ?_
            refine R_iload_n dX0_meet_49 1 rfl ?_
            refine R_bipush (v := 100) dX0_meet_50 (by decide) ?_
            refine R_irem dX0_meet_52 (by decide) ?_
            refine R_iload_n dX0_meet_53 2 rfl ?_
            refine R_invV (Mc := mX0_doLive) (b := x) (As := [.int (a1 / 100), .int (a1 - a1 / 100 * 100), .int a2]) (st := []) ok0 (by decide) Bh5.1 dX0_meet_54 q440 q442 qs4 q103 wX0_doLive pX0_doLive rfl (Nat.le_of_ble_eq_true rfl) (by decide) (by decide) (Nat.le_of_ble_eq_true rfl) (aft_z w (fun b8 h7 w => ?_))
            obtain ⟨Bh7, w⟩ := w
            refine R_ifz_ne (tgt := 62) dX0_meet_57 (by decide) (fun c13 => ?_) (fun c13 => ?_)
            · have w := w.1 c13
              refine R_aload_n dX0_meet_62 0 rfl ?_
              refine X_getS (k := 11) Bh7 dX0_meet_63 q275 (by decide) rfl ?_
              refine R_bipush (v := 16) dX0_meet_66 (by decide) ?_
              refine R_icmp_ne (tgt := 74) dX0_meet_68 (by decide) (fun c12 => ?_) (fun c12 => ?_)
              · have w := w.1 c12
                refine R_aload_n dX0_meet_74 0 rfl ?_
                refine X_getA (k := 10) (o := 6) (j := 108) (n := 16) Bh7 dX0_meet_75 q274 (by decide) rfl rfl ?_
                refine R_aload_n dX0_meet_78 0 rfl ?_
                refine X_getS (k := 11) Bh7 dX0_meet_79 q275 (by decide) rfl ?_
                refine R_new ok7 dX0_meet_82 q216 q448 q113 (by decide) nfd7 ?_
                refine R_dup dX0_meet_85 rfl ?_
                refine R_iload_n dX0_meet_86 1 rfl ?_
                refine R_bipush (v := 100) dX0_meet_87 (by decide) ?_
                refine R_idiv dX0_meet_89 (by decide) ?_
                refine R_iload_n dX0_meet_90 1 rfl ?_
                refine R_bipush (v := 100) dX0_meet_91 (by decide) ?_
                refine R_irem dX0_meet_93 (by decide) ?_
                refine R_iload_n dX0_meet_94 2 rfl ?_
                refine R_invI (Mc := mX7_init) (b := (aN h7)) (As := [.int (a1 / 100), .int (a1 - a1 / 100 * 100), .int a2]) (st := [.ref (aN h7), .int (aI h7 11 x), .ref (x + 6)]) dX0_meet_95 q449 q450 q113 rfl q451 rfl pX7_init rfl (Nat.le_of_ble_eq_true rfl) (by decide) (by decide) (Nat.le_of_ble_eq_true rfl) (aft_v w (fun h9 w => ?_))
                obtain ⟨Bh9, w⟩ := w
                obtain ⟨c10, f11, w⟩ := w
                refine X_aast (k := 10) (j := 8) (E := "NameRests$Meeting") Bh9 dX0_meet_98 rfl (by decide) (by decide) rfl c10 f11 ?_
                refine R_aload_n dX0_meet_99 0 rfl ?_
                refine X_getS (k := 11) Bh9.R dX0_meet_100 q275 (by decide) rfl ?_
                refine R_istore_n (lv' := [(3, .int (aI (sR h9 (x + 6) (aI h7 11 x).toNatClampNeg (some (aN h7))) 11 x)), (0, .ref x), (1, .int a1), (2, .int a2)]) dX0_meet_103 rfl (by decide) rfl ?_
                exact R_sub [1, 3, 0] rfl (w Bh9.R)
              · have w := w.2 c12
                refine R_bipush (v := (-3)) dX0_meet_71 (by decide) ?_
                exact R_iret dX0_meet_73 rfl w
            · have w := w.2 c13
              refine R_iconst (v := (-1)) dX0_meet_60 (by decide) ?_
              exact R_iret dX0_meet_61 rfl w
theorem sX0_meet_104 {G : GG} {x : Nat} {h : AH} {Q : Outcome → AH → Prop} {a2 : Int32} {a3 : Int32} (B : XB G x h) (w : (a3 ≤ 0 → (vp_in a3 16 ∧ (Q (.returned (some (.int ((aI (sA (sI h 11 x ((aI h 11 x) + 1)) (x + 7) a3.toNatClampNeg (aI h 11 x)) 11 x) - 1)))) (sA (sI h 11 x ((aI h 11 x) + 1)) (x + 7) a3.toNatClampNeg (aI h 11 x))))) ∧ (¬ a3 ≤ 0 → (vp_in (a3 - 1) 16 ∧ (vp_in (aA h (x + 7) (a3 - 1).toNatClampNeg) 16 ∧ ∃ q3 : Nat, (aR h (x + 6) (aA h (x + 7) (a3 - 1).toNatClampNeg).toNatClampNeg) = some q3 ∧ (IsK G h q3 (7, 0) ∧ (((aI h 450 q3) ≤ a2 → (vp_in a3 16 ∧ (Q (.returned (some (.int ((aI (sA (sI h 11 x ((aI h 11 x) + 1)) (x + 7) a3.toNatClampNeg (aI h 11 x)) 11 x) - 1)))) (sA (sI h 11 x ((aI h 11 x) + 1)) (x + 7) a3.toNatClampNeg (aI h 11 x))))) ∧ (¬ (aI h 450 q3) ≤ a2 → (vp_in (a3 - 1) 16 ∧ (vp_in a3 16 ∧ (XB G x (sA h (x + 7) a3.toNatClampNeg (aA h (x + 7) (a3 - 1).toNatClampNeg)) → Run G mX0_meet 3 104 [(0, .ref x), (2, .int a2), (3, .int (a3 + (-1)))] [] (sA h (x + 7) a3.toNatClampNeg (aA h (x + 7) (a3 - 1).toNatClampNeg)) Q)))))))))) : Run G mX0_meet 3 104 [(0, .ref x), (2, .int a2), (3, .int a3)] [] h Q := by
  refine R_iload_n dX0_meet_104 2 rfl ?_
  refine R_if_le (tgt := 148) dX0_meet_105 (by decide) (fun c11 => ?_) (fun c11 => ?_)
  · have w := w.1 c11
    refine R_aload_n dX0_meet_148 0 rfl ?_
    refine X_getA (k := 12) (o := 7) (j := 100) (n := 16) B dX0_meet_149 q276 (by decide) rfl rfl ?_
    refine R_iload_n dX0_meet_152 2 rfl ?_
    refine R_aload_n dX0_meet_153 0 rfl ?_
    refine R_dup dX0_meet_154 rfl ?_
    refine X_getS (k := 11) B dX0_meet_155 q275 (by decide) rfl ?_
    refine R_dup_x1 dX0_meet_158 rfl rfl ?_
    refine R_iconst (v := 1) dX0_meet_159 (by decide) ?_
    refine R_iadd dX0_meet_160 ?_
    refine X_putS (k := 11) B dX0_meet_161 q275 (by decide) rfl rfl rfl rfl ?_
    obtain ⟨c1, w⟩ := w
    refine X_iast (k := 12) B.I dX0_meet_164 rfl c1 ?_
    refine R_aload_n dX0_meet_165 0 rfl ?_
    refine X_getS (k := 11) B.I.A dX0_meet_166 q275 (by decide) rfl ?_
    refine R_iconst (v := 1) dX0_meet_169 (by decide) ?_
    refine R_isub dX0_meet_170 ?_
    exact R_iret dX0_meet_171 rfl w
  · have w := w.2 c11
    refine R_aload_n dX0_meet_108 0 rfl ?_
    refine X_getA (k := 10) (o := 6) (j := 108) (n := 16) B dX0_meet_109 q274 (by decide) rfl rfl ?_
    refine R_aload_n dX0_meet_112 0 rfl ?_
    refine X_getA (k := 12) (o := 7) (j := 100) (n := 16) B dX0_meet_113 q276 (by decide) rfl rfl ?_
    refine R_iload_n dX0_meet_116 2 rfl ?_
    refine R_iconst (v := 1) dX0_meet_117 (by decide) ?_
    refine R_isub dX0_meet_118 ?_
    obtain ⟨c10, w⟩ := w
    refine X_iald (k := 12) B dX0_meet_119 rfl c10 ?_
    obtain ⟨c2, q3, e4, w⟩ := w
    refine X_aald (k := 10) (j := 8) (E := "NameRests$Meeting") B dX0_meet_120 rfl (by decide) (by decide) rfl c2 ?_
    refine R_top (v' := .ref q3) (congrArg va_rf e4) ?_
    obtain ⟨k5, w⟩ := w
    refine R_getIN (k := 2) (f := 450) ok7 dX0_meet_121 q458 (by decide) rfl (by decide) k5 ?_
    refine R_iload_n dX0_meet_124 1 rfl ?_
    refine R_icmp_le (tgt := 148) dX0_meet_125 (by decide) (fun c9 => ?_) (fun c9 => ?_)
    · have w := w.1 c9
      refine R_aload_n dX0_meet_148 0 rfl ?_
      refine X_getA (k := 12) (o := 7) (j := 100) (n := 16) B dX0_meet_149 q276 (by decide) rfl rfl ?_
      refine R_iload_n dX0_meet_152 2 rfl ?_
      refine R_aload_n dX0_meet_153 0 rfl ?_
      refine R_dup dX0_meet_154 rfl ?_
      refine X_getS (k := 11) B dX0_meet_155 q275 (by decide) rfl ?_
      refine R_dup_x1 dX0_meet_158 rfl rfl ?_
      refine R_iconst (v := 1) dX0_meet_159 (by decide) ?_
      refine R_iadd dX0_meet_160 ?_
      refine X_putS (k := 11) B dX0_meet_161 q275 (by decide) rfl rfl rfl rfl ?_
      obtain ⟨c6, w⟩ := w
      refine X_iast (k := 12) B.I dX0_meet_164 rfl c6 ?_
      refine R_aload_n dX0_meet_165 0 rfl ?_
      refine X_getS (k := 11) B.I.A dX0_meet_166 q275 (by decide) rfl ?_
      refine R_iconst (v := 1) dX0_meet_169 (by decide) ?_
      refine R_isub dX0_meet_170 ?_
      exact R_iret dX0_meet_171 rfl w
    · have w := w.2 c9
      refine R_aload_n dX0_meet_128 0 rfl ?_
      refine X_getA (k := 12) (o := 7) (j := 100) (n := 16) B dX0_meet_129 q276 (by decide) rfl rfl ?_
      refine R_iload_n dX0_meet_132 2 rfl ?_
      refine R_aload_n dX0_meet_133 0 rfl ?_
      refine X_getA (k := 12) (o := 7) (j := 100) (n := 16) B dX0_meet_134 q276 (by decide) rfl rfl ?_
      refine R_iload_n dX0_meet_137 2 rfl ?_
      refine R_iconst (v := 1) dX0_meet_138 (by decide) ?_
      refine R_isub dX0_meet_139 ?_
      obtain ⟨c8, w⟩ := w
      refine X_iald (k := 12) B dX0_meet_140 rfl c8 ?_
      obtain ⟨c7, w⟩ := w
      refine X_iast (k := 12) B dX0_meet_141 rfl c7 ?_
      refine R_iinc (v := (a3 + (-1))) (lv' := [(3, .int (a3 + (-1))), (0, .ref x), (2, .int a2)]) dX0_meet_142 2 rfl (congrArg (fun z => a3 + z) (show Int32.ofInt (-1) = (-1) by decide)) (by decide) rfl ?_
      refine R_goto (tgt := 104) dX0_meet_145 (by decide) ?_
      exact R_sub [1, 2, 0] rfl (w B.A)
theorem sX0_mend_0 {G : GG} {x : Nat} {h : AH} {Q : Outcome → AH → Prop} {a1 : Int32} {a2 : Int32} {a3 : Int32} (B : XB G x h) (w : (¬ a2 = 0 → ((¬ a2 = 1 → (Q (.returned (some (.int (-1)))) h)) ∧ (a2 = 1 → (Run G mX0_isName 2 0 [(0, .int a1)] [] h (fun o h1 => ∃ b2 : Bool, o = .returned (some (.int (bi b2))) ∧ XB G x h1 ∧ ((b2 = false → (Q (.returned (some (.int (-1)))) h1)) ∧ (b2 = true → (Run G mX0_within 1 0 [(0, .long a3.toInt64), (2, .long 0), (4, .long 9)] [] h1 (fun o h3 => ∃ b4 : Bool, o = .returned (some (.int (bi b4))) ∧ XB G x h3 ∧ ((b4 = false → (Q (.returned (some (.int (-1)))) h3)) ∧ (b4 = true → (vp_in a1 12 ∧ ∃ q6 : Nat, (aR h3 (x + 8) a1.toNatClampNeg) = some q6 ∧ (Run G mX0_become 1 0 [(0, .ref x), (1, .ref q6), (2, .int a3)] [] h3 (fun o h8 => ∃ r9 : Int32, o = .returned (some (.int r9)) ∧ XB G x h8 ∧ (Q (.returned (some (.int r9))) h8))))))))))))))) ∧ (a2 = 0 → (Run G mX0_isPerson 2 0 [(0, .ref x), (1, .int a1)] [] h (fun o h13 => ∃ b14 : Bool, o = .returned (some (.int (bi b14))) ∧ XB G x h13 ∧ ((b14 = false → (Q (.returned (some (.int (-1)))) h13)) ∧ (b14 = true → (vp_in a1 12 ∧ ∃ q16 : Nat, (aR h13 (x + 4) a1.toNatClampNeg) = some q16 ∧ (IsK G h13 q16 (6, 0) ∧ (Run G mX0_within 1 0 [(0, .long a3.toInt64), (2, .long ((aI h13 384 q16) + 1).toInt64), (4, .long 100)] [] h13 (fun o h19 => ∃ b20 : Bool, o = .returned (some (.int (bi b20))) ∧ XB G x h19 ∧ ((b20 = false → (Q (.returned (some (.int (-1)))) h19)) ∧ (b20 = true → (vp_in a1 12 ∧ ∃ q22 : Nat, (aR h19 (x + 4) a1.toNatClampNeg) = some q22 ∧ (IsK G h19 q22 (6, 0) ∧ (∃ q25 : Nat, (aP h19 385 q22) = some q25 ∧ (Run G mX0_become 1 0 [(0, .ref x), (1, .ref q25), (2, .int a3)] [] h19 (fun o h27 => ∃ r28 : Int32, o = .returned (some (.int r28)) ∧ XB G x h27 ∧ (Q (.returned (some (.int r28))) h27)))))))))))))))))) : Run G mX0_mend 3 0 [(0, .ref x), (1, .int a1), (2, .int a2), (3, .int a3)] [] h Q := by
  refine R_iload_n dX0_mend_0 2 rfl ?_
  refine R_if_ne (tgt := 54) dX0_mend_1 (by decide) (fun c31 => ?_) (fun c31 => ?_)
  · have w := w.1 c31
    refine R_iload_n dX0_mend_54 2 rfl ?_
    refine R_iconst (v := 1) dX0_mend_55 (by decide) ?_
    refine R_icmp_ne (tgt := 92) dX0_mend_56 (by decide) (fun c12 => ?_) (fun c12 => ?_)
    · have w := w.1 c12
      refine R_iconst (v := (-1)) dX0_mend_92 (by decide) ?_
      exact R_iret dX0_mend_93 rfl w
    · have w := w.2 c12
      refine R_iload_n dX0_mend_59 1 rfl ?_
      refine R_invS (Mc := mX0_isName) (As := [.int a1]) (st := []) dX0_mend_60 q428 q429 q103 wX0_isName pX0_isName rfl (Nat.le_of_ble_eq_true rfl) (by decide) (by decide) (Nat.le_of_ble_eq_true rfl) (aft_z w (fun b2 h1 w => ?_))
      obtain ⟨Bh1, w⟩ := w
      refine R_ifz_eq (tgt := 92) dX0_mend_63 (by decide) (fun c11 => ?_) (fun c11 => ?_)
      · have w := w.1 c11
        refine R_iconst (v := (-1)) dX0_mend_92 (by decide) ?_
        exact R_iret dX0_mend_93 rfl w
      · have w := w.2 c11
        refine R_iload_n dX0_mend_66 3 rfl ?_
        refine R_i2l dX0_mend_67 ?_
        refine R_lconst (v := 0) dX0_mend_68 (by decide) ?_
        refine R_ldc2 (v := 9) dX0_mend_69 q487 ?_
        refine R_invS (Mc := mX0_within) (As := [.long a3.toInt64, .long 0, .long 9]) (st := []) dX0_mend_72 q366 q367 q103 wX0_within pX0_within rfl (Nat.le_of_ble_eq_true rfl) (by decide) (by decide) (Nat.le_of_ble_eq_true rfl) (aft_z w (fun b4 h3 w => ?_))
        obtain ⟨Bh3, w⟩ := w
        refine R_ifz_eq (tgt := 92) dX0_mend_75 (by decide) (fun c10 => ?_) (fun c10 => ?_)
        · have w := w.1 c10
          refine R_iconst (v := (-1)) dX0_mend_92 (by decide) ?_
          exact R_iret dX0_mend_93 rfl w
        · have w := w.2 c10
          refine R_aload_n dX0_mend_78 0 rfl ?_
          refine R_aload_n dX0_mend_79 0 rfl ?_
          refine X_getA (k := 14) (o := 8) (j := 106) (n := 12) Bh3 dX0_mend_80 q278 (by decide) rfl rfl ?_
          refine R_iload_n dX0_mend_83 1 rfl ?_
          obtain ⟨c5, q6, e7, w⟩ := w
          refine X_aald (k := 14) (j := 6) (E := "NameRests$Held") Bh3 dX0_mend_84 rfl (by decide) (by decide) rfl c5 ?_
          refine R_top (v' := .ref q6) (congrArg va_rf e7) ?_
          refine R_iload_n dX0_mend_85 3 rfl ?_
          refine R_invV (Mc := mX0_become) (b := x) (As := [.ref q6, .int a3]) (st := []) ok0 (by decide) Bh3.1 dX0_mend_86 q483 q485 qs5 q103 wX0_become pX0_become rfl (Nat.le_of_ble_eq_true rfl) (by decide) (by decide) (Nat.le_of_ble_eq_true rfl) (aft_i w (fun r9 h8 w => ?_))
          obtain ⟨Bh8, w⟩ := w
          refine R_goto (tgt := 93) dX0_mend_89 (by decide) ?_
          exact R_iret dX0_mend_93 rfl w
  · have w := w.2 c31
    refine R_aload_n dX0_mend_4 0 rfl ?_
    refine R_iload_n dX0_mend_5 1 rfl ?_
    refine R_invV (Mc := mX0_isPerson) (b := x) (As := [.int a1]) (st := []) ok0 (by decide) B.1 dX0_mend_6 q436 q438 qs3 q103 wX0_isPerson pX0_isPerson rfl (Nat.le_of_ble_eq_true rfl) (by decide) (by decide) (Nat.le_of_ble_eq_true rfl) (aft_z w (fun b14 h13 w => ?_))
    obtain ⟨Bh13, w⟩ := w
    refine R_ifz_eq (tgt := 52) dX0_mend_9 (by decide) (fun c30 => ?_) (fun c30 => ?_)
    · have w := w.1 c30
      refine R_iconst (v := (-1)) dX0_mend_52 (by decide) ?_
      exact R_iret dX0_mend_53 rfl w
    · have w := w.2 c30
      refine R_iload_n dX0_mend_12 3 rfl ?_
      refine R_i2l dX0_mend_13 ?_
      refine R_aload_n dX0_mend_14 0 rfl ?_
      refine X_getA (k := 7) (o := 4) (j := 107) (n := 12) Bh13 dX0_mend_15 q271 (by decide) rfl rfl ?_
      refine R_iload_n dX0_mend_18 1 rfl ?_
      obtain ⟨c15, q16, e17, w⟩ := w
      refine X_aald (k := 7) (j := 7) (E := "NameRests$Person") Bh13 dX0_mend_19 rfl (by decide) (by decide) rfl c15 ?_
      refine R_top (v' := .ref q16) (congrArg va_rf e17) ?_
      obtain ⟨k18, w⟩ := w
      refine R_getIN (k := 0) (f := 384) ok6 dX0_mend_20 q389 (by decide) rfl (by decide) k18 ?_
      refine R_iconst (v := 1) dX0_mend_23 (by decide) ?_
      refine R_iadd dX0_mend_24 ?_
      refine R_i2l dX0_mend_25 ?_
      refine R_ldc2 (v := 100) dX0_mend_26 q380 ?_
      refine R_invS (Mc := mX0_within) (As := [.long a3.toInt64, .long ((aI h13 384 q16) + 1).toInt64, .long 100]) (st := []) dX0_mend_29 q366 q367 q103 wX0_within pX0_within rfl (Nat.le_of_ble_eq_true rfl) (by decide) (by decide) (Nat.le_of_ble_eq_true rfl) (aft_z w (fun b20 h19 w => ?_))
      obtain ⟨Bh19, w⟩ := w
      refine R_ifz_eq (tgt := 52) dX0_mend_32 (by decide) (fun c29 => ?_) (fun c29 => ?_)
      · have w := w.1 c29
        refine R_iconst (v := (-1)) dX0_mend_52 (by decide) ?_
        exact R_iret dX0_mend_53 rfl w
      · have w := w.2 c29
        refine R_aload_n dX0_mend_35 0 rfl ?_
        refine R_aload_n dX0_mend_36 0 rfl ?_
        refine X_getA (k := 7) (o := 4) (j := 107) (n := 12) Bh19 dX0_mend_37 q271 (by decide) rfl rfl ?_
        refine R_iload_n dX0_mend_40 1 rfl ?_
        obtain ⟨c21, q22, e23, w⟩ := w
        refine X_aald (k := 7) (j := 7) (E := "NameRests$Person") Bh19 dX0_mend_41 rfl (by decide) (by decide) rfl c21 ?_
        refine R_top (v' := .ref q22) (congrArg va_rf e23) ?_
        obtain ⟨k24, w⟩ := w
        obtain ⟨q25, e26, w⟩ := w
        refine R_getPN (k := 1) (f := 385) ok6 dX0_mend_42 q391 (by decide) rfl (by decide) k24 ?_
        refine R_top (v' := .ref q25) (congrArg va_rf e26) ?_
        refine R_iload_n dX0_mend_45 3 rfl ?_
        refine R_invV (Mc := mX0_become) (b := x) (As := [.ref q25, .int a3]) (st := []) ok0 (by decide) Bh19.1 dX0_mend_46 q483 q485 qs5 q103 wX0_become pX0_become rfl (Nat.le_of_ble_eq_true rfl) (by decide) (by decide) (Nat.le_of_ble_eq_true rfl) (aft_i w (fun r28 h27 w => ?_))
        obtain ⟨Bh27, w⟩ := w
        refine R_goto (tgt := 53) dX0_mend_49 (by decide) ?_
        exact R_iret dX0_mend_53 rfl w
theorem sX0_most_0 {G : GG} {x : Nat} {h : AH} {Q : Outcome → AH → Prop} {a1 : Int32} (B : XB G x h) (w : Run G mX0_within 1 0 [(0, .long a1.toInt64), (2, .long 0), (4, .long 1)] [] h (fun o h1 => ∃ b2 : Bool, o = .returned (some (.int (bi b2))) ∧ XB G x h1 ∧ ((b2 = true → (Run G mX0_asNamed 1 0 [(0, .ref x)] [] h1 (fun o h3 => o = .returned none ∧ XB G x h3 ∧ (XB G x h3 → Run G mX0_most 306 23 [(0, .ref x), (1, .int a1), (2, .int 0), (3, .int 0), (4, .int 0)] [] h3 Q)))) ∧ (b2 = false → (Q (.returned (some (.int (-1)))) h1))))) : Run G mX0_most 306 0 [(0, .ref x), (1, .int a1)] [] h Q := by
  refine R_iload_n dX0_most_0 1 rfl ?_
  refine R_i2l dX0_most_1 ?_
  refine R_lconst (v := 0) dX0_most_2 (by decide) ?_
  refine R_lconst (v := 1) dX0_most_3 (by decide) ?_
  refine R_invS (Mc := mX0_within) (As := [.long a1.toInt64, .long 0, .long 1]) (st := []) dX0_most_4 q366 q367 q103 wX0_within pX0_within rfl (Nat.le_of_ble_eq_true rfl) (by decide) (by decide) (Nat.le_of_ble_eq_true rfl) (aft_z w (fun b2 h1 w => ?_))
  obtain ⟨Bh1, w⟩ := w
  refine R_ifz_ne (tgt := 12) dX0_most_7 (by decide) (fun c4 => ?_) (fun c4 => ?_)
  · have w := w.1 c4
    refine R_aload_n dX0_most_12 0 rfl ?_
    refine R_invV (Mc := mX0_asNamed) (b := x) (As := []) (st := []) ok0 (by decide) Bh1.1 dX0_most_13 q661 q663 qs24 q103 wX0_asNamed pX0_asNamed rfl (Nat.le_of_ble_eq_true rfl) (by decide) (by decide) (Nat.le_of_ble_eq_true rfl) (aft_v w (fun h3 w => ?_))
    obtain ⟨Bh3, w⟩ := w
    refine R_iconst (v := 0) dX0_most_16 (by decide) ?_
    refine R_istore_n (lv' := [(2, .int 0), (0, .ref x), (1, .int a1)]) dX0_most_17 rfl (by decide) rfl ?_
    refine R_iconst (v := 0) dX0_most_18 (by decide) ?_
    refine R_istore_n (lv' := [(3, .int 0), (2, .int 0), (0, .ref x), (1, .int a1)]) dX0_most_19 rfl (by decide) rfl ?_
    refine R_iconst (v := 0) dX0_most_20 (by decide) ?_
    refine R_istore (lv' := [(4, .int 0), (3, .int 0), (2, .int 0), (0, .ref x), (1, .int a1)]) dX0_most_21 (by decide) rfl ?_
    exact R_sub [3, 4, 2, 1, 0] rfl (w Bh3)
  · have w := w.2 c4
    refine R_iconst (v := (-1)) dX0_most_10 (by decide) ?_
    exact R_iret dX0_most_11 rfl w
theorem sX0_most_23 {G : GG} {x : Nat} {h : AH} {Q : Outcome → AH → Prop} {a1 : Int32} {a2 : Int32} {a3 : Int32} {a4 : Int32} (B : XB G x h) (w : (100 ≤ a4 → ((¬ a1 = 0 → (Q (.returned (some (.int a2))) h)) ∧ (a1 = 0 → (Q (.returned (some (.int a3))) h)))) ∧ (¬ 100 ≤ a4 → (Run G mX0_freeIn 305 0 [(0, .ref x), (1, .int a4)] [] h (fun o h2 => ∃ r3 : Int32, o = .returned (some (.int r3)) ∧ XB G x h2 ∧ (Run G mX0_ones 1 0 [(0, .int r3)] [] h2 (fun o h4 => ∃ r5 : Int32, o = .returned (some (.int r5)) ∧ XB G x h4 ∧ ((a3 < (12 - r5) → (XB G x h4 → Run G mX0_most 306 23 [(0, .ref x), (1, .int a1), (2, .int a4), (3, .int (12 - r5)), (4, .int (a4 + 1))] [] h4 Q)) ∧ (¬ a3 < (12 - r5) → (XB G x h4 → Run G mX0_most 306 23 [(0, .ref x), (1, .int a1), (2, .int a2), (3, .int a3), (4, .int (a4 + 1))] [] h4 Q))))))))) : Run G mX0_most 306 23 [(0, .ref x), (1, .int a1), (2, .int a2), (3, .int a3), (4, .int a4)] [] h Q := by
  refine R_iload dX0_most_23 4 rfl ?_
  refine R_bipush (v := 100) dX0_most_25 (by decide) ?_
  refine R_icmp_ge (tgt := 65) dX0_most_27 (by decide) (fun c7 => ?_) (fun c7 => ?_)
  · have w := w.1 c7
    refine R_iload_n dX0_most_65 1 rfl ?_
    refine R_if_ne (tgt := 73) dX0_most_66 (by decide) (fun c1 => ?_) (fun c1 => ?_)
    · have w := w.1 c1
      refine R_iload_n dX0_most_73 2 rfl ?_
      exact R_iret dX0_most_74 rfl w
    · have w := w.2 c1
      refine R_iload_n dX0_most_69 3 rfl ?_
      refine R_goto (tgt := 74) dX0_most_70 (by decide) ?_
      exact R_iret dX0_most_74 rfl w
  · have w := w.2 c7
    refine R_bipush (v := 12) dX0_most_30 (by decide) ?_
    refine R_aload_n dX0_most_32 0 rfl ?_
    refine R_iload dX0_most_33 4 rfl ?_
    refine R_invV (Mc := mX0_freeIn) (b := x) (As := [.int a4]) (st := [.int 12]) ok0 (by decide) B.1 dX0_most_35 q719 q721 qs32 q103 wX0_freeIn pX0_freeIn rfl (Nat.le_of_ble_eq_true rfl) (by decide) (by decide) (Nat.le_of_ble_eq_true rfl) (aft_i w (fun r3 h2 w => ?_))
    obtain ⟨Bh2, w⟩ := w
    refine R_invS (Mc := mX0_ones) (As := [.int r3]) (st := [.int 12]) dX0_most_38 q727 q728 q103 wX0_ones pX0_ones rfl (Nat.le_of_ble_eq_true rfl) (by decide) (by decide) (Nat.le_of_ble_eq_true rfl) (aft_i w (fun r5 h4 w => ?_))
    obtain ⟨Bh4, w⟩ := w
    refine R_isub dX0_most_41 ?_
    refine R_istore (lv' := [(5, .int (12 - r5)), (0, .ref x), (1, .int a1), (2, .int a2), (3, .int a3), (4, .int a4)]) dX0_most_42 (by decide) rfl ?_
    refine R_iload dX0_most_44 0 rfl ?_
    refine R_iload_n dX0_most_46 4 rfl ?_
    refine R_icmp_gt (tgt := 53) dX0_most_47 (by decide) (fun c6 => ?_) (fun c6 => ?_)
    · have w := w.1 c6
      refine R_iload dX0_most_53 5 rfl ?_
      refine R_istore_n (lv' := [(2, .int a4), (5, .int (12 - r5)), (0, .ref x), (1, .int a1), (3, .int a3), (4, .int a4)]) dX0_most_55 rfl (by decide) rfl ?_
      refine R_iload dX0_most_56 1 rfl ?_
      refine R_istore_n (lv' := [(3, .int (12 - r5)), (2, .int a4), (5, .int (12 - r5)), (0, .ref x), (1, .int a1), (4, .int a4)]) dX0_most_58 rfl (by decide) rfl ?_
      refine R_iinc (v := (a4 + 1)) (lv' := [(4, .int (a4 + 1)), (3, .int (12 - r5)), (2, .int a4), (5, .int (12 - r5)), (0, .ref x), (1, .int a1)]) dX0_most_59 5 rfl (congrArg (fun z => a4 + z) (show Int32.ofInt 1 = 1 by decide)) (by decide) rfl ?_
      refine R_goto (tgt := 23) dX0_most_62 (by decide) ?_
      exact R_sub [4, 5, 2, 1, 0] rfl (w Bh4)
    · have w := w.2 c6
      refine R_goto (tgt := 59) dX0_most_50 (by decide) ?_
      refine R_iinc (v := (a4 + 1)) (lv' := [(4, .int (a4 + 1)), (5, .int (12 - r5)), (0, .ref x), (1, .int a1), (2, .int a2), (3, .int a3)]) dX0_most_59 5 rfl (congrArg (fun z => a4 + z) (show Int32.ofInt 1 = 1 by decide)) (by decide) rfl ?_
      refine R_goto (tgt := 23) dX0_most_62 (by decide) ?_
      exact R_sub [2, 3, 4, 5, 0] rfl (w Bh4)
theorem sX0_name_0 {G : GG} {x : Nat} {h : AH} {Q : Outcome → AH → Prop} {a1 : Int32} {a2 : Int32} (B : XB G x h) (w : Run G mX0_isPerson 2 0 [(0, .ref x), (1, .int a1)] [] h (fun o h1 => ∃ b2 : Bool, o = .returned (some (.int (bi b2))) ∧ XB G x h1 ∧ ((b2 = false → (Q (.returned (some (.int (-2000000000)))) h1)) ∧ (b2 = true → ((a2 = (-1) → (vp_in a1 12 ∧ ∃ q4 : Nat, (aR h1 (x + 4) a1.toNatClampNeg) = some q4 ∧ (IsK G h1 q4 (6, 0) ∧ (vp_in a1 12 ∧ ∃ q8 : Nat, (aR h1 (x + 4) a1.toNatClampNeg) = some q8 ∧ (IsK G h1 q8 (6, 0) ∧ (Q (.returned (some (.int (aI h1 386 q4)))) (sI h1 386 q8 a2))))))) ∧ (¬ a2 = (-1) → (Run G mX0_isName 2 0 [(0, .int a2)] [] h1 (fun o h11 => ∃ b12 : Bool, o = .returned (some (.int (bi b12))) ∧ XB G x h11 ∧ ((b12 = true → (vp_in a1 12 ∧ ∃ q14 : Nat, (aR h11 (x + 4) a1.toNatClampNeg) = some q14 ∧ (IsK G h11 q14 (6, 0) ∧ (vp_in a1 12 ∧ ∃ q18 : Nat, (aR h11 (x + 4) a1.toNatClampNeg) = some q18 ∧ (IsK G h11 q18 (6, 0) ∧ (Q (.returned (some (.int (aI h11 386 q14)))) (sI h11 386 q18 a2))))))) ∧ (b12 = false → (Q (.returned (some (.int (-2000000000)))) h11))))))))))) : Run G mX0_name 3 0 [(0, .ref x), (1, .int a1), (2, .int a2)] [] h Q := by
  refine R_aload_n dX0_name_0 0 rfl ?_
  refine R_iload_n dX0_name_1 1 rfl ?_
  refine R_invV (Mc := mX0_isPerson) (b := x) (As := [.int a1]) (st := []) ok0 (by decide) B.1 dX0_name_2 q436 q438 qs3 q103 wX0_isPerson pX0_isPerson rfl (Nat.le_of_ble_eq_true rfl) (by decide) (by decide) (Nat.le_of_ble_eq_true rfl) (aft_z w (fun b2 h1 w => ?_))
  obtain ⟨Bh1, w⟩ := w
  refine R_ifz_eq (tgt := 20) dX0_name_5 (by decide) (fun c23 => ?_) (fun c23 => ?_)
  · have w := w.1 c23
    refine R_ldc (v := (-2000000000)) dX0_name_20 q474 ?_
    exact R_iret dX0_name_22 rfl w
  · have w := w.2 c23
    refine R_iload_n dX0_name_8 2 rfl ?_
    refine R_iconst (v := (-1)) dX0_name_9 (by decide) ?_
    refine R_icmp_eq (tgt := 23) dX0_name_10 (by decide) (fun c22 => ?_) (fun c22 => ?_)
    · have w := w.1 c22
      refine R_aload_n dX0_name_23 0 rfl ?_
      refine X_getA (k := 7) (o := 4) (j := 107) (n := 12) Bh1 dX0_name_24 q271 (by decide) rfl rfl ?_
      refine R_iload_n dX0_name_27 1 rfl ?_
      obtain ⟨c3, q4, e5, w⟩ := w
      refine X_aald (k := 7) (j := 7) (E := "NameRests$Person") Bh1 dX0_name_28 rfl (by decide) (by decide) rfl c3 ?_
      refine R_top (v' := .ref q4) (congrArg va_rf e5) ?_
      obtain ⟨k6, w⟩ := w
      refine R_getIN (k := 2) (f := 386) ok6 dX0_name_29 q393 (by decide) rfl (by decide) k6 ?_
      refine R_istore_n (lv' := [(3, .int (aI h1 386 q4)), (0, .ref x), (1, .int a1), (2, .int a2)]) dX0_name_32 rfl (by decide) rfl ?_
      refine R_aload_n dX0_name_33 1 rfl ?_
      refine X_getA (k := 7) (o := 4) (j := 107) (n := 12) Bh1 dX0_name_34 q271 (by decide) rfl rfl ?_
      refine R_iload_n dX0_name_37 2 rfl ?_
      obtain ⟨c7, q8, e9, w⟩ := w
      refine X_aald (k := 7) (j := 7) (E := "NameRests$Person") Bh1 dX0_name_38 rfl (by decide) (by decide) rfl c7 ?_
      refine R_top (v' := .ref q8) (congrArg va_rf e9) ?_
      refine R_iload_n dX0_name_39 3 rfl ?_
      obtain ⟨k10, w⟩ := w
      refine R_putIN (k := 2) (f := 386) ok6 dX0_name_40 q393 (by decide) rfl rfl rfl rfl rfl (by decide) k10 ?_
      refine R_iload_n dX0_name_43 0 rfl ?_
      exact R_iret dX0_name_44 rfl w
    · have w := w.2 c22
      refine R_iload_n dX0_name_13 2 rfl ?_
      refine R_invS (Mc := mX0_isName) (As := [.int a2]) (st := []) dX0_name_14 q428 q429 q103 wX0_isName pX0_isName rfl (Nat.le_of_ble_eq_true rfl) (by decide) (by decide) (Nat.le_of_ble_eq_true rfl) (aft_z w (fun b12 h11 w => ?_))
      obtain ⟨Bh11, w⟩ := w
      refine R_ifz_ne (tgt := 23) dX0_name_17 (by decide) (fun c21 => ?_) (fun c21 => ?_)
      · have w := w.1 c21
        refine R_aload_n dX0_name_23 0 rfl ?_
        refine X_getA (k := 7) (o := 4) (j := 107) (n := 12) Bh11 dX0_name_24 q271 (by decide) rfl rfl ?_
        refine R_iload_n dX0_name_27 1 rfl ?_
        obtain ⟨c13, q14, e15, w⟩ := w
        refine X_aald (k := 7) (j := 7) (E := "NameRests$Person") Bh11 dX0_name_28 rfl (by decide) (by decide) rfl c13 ?_
        refine R_top (v' := .ref q14) (congrArg va_rf e15) ?_
        obtain ⟨k16, w⟩ := w
        refine R_getIN (k := 2) (f := 386) ok6 dX0_name_29 q393 (by decide) rfl (by decide) k16 ?_
        refine R_istore_n (lv' := [(3, .int (aI h11 386 q14)), (0, .ref x), (1, .int a1), (2, .int a2)]) dX0_name_32 rfl (by decide) rfl ?_
        refine R_aload_n dX0_name_33 1 rfl ?_
        refine X_getA (k := 7) (o := 4) (j := 107) (n := 12) Bh11 dX0_name_34 q271 (by decide) rfl rfl ?_
        refine R_iload_n dX0_name_37 2 rfl ?_
        obtain ⟨c17, q18, e19, w⟩ := w
        refine X_aald (k := 7) (j := 7) (E := "NameRests$Person") Bh11 dX0_name_38 rfl (by decide) (by decide) rfl c17 ?_
        refine R_top (v' := .ref q18) (congrArg va_rf e19) ?_
        refine R_iload_n dX0_name_39 3 rfl ?_
        obtain ⟨k20, w⟩ := w
        refine R_putIN (k := 2) (f := 386) ok6 dX0_name_40 q393 (by decide) rfl rfl rfl rfl rfl (by decide) k20 ?_
        refine R_iload_n dX0_name_43 0 rfl ?_
        exact R_iret dX0_name_44 rfl w
      · have w := w.2 c21
        refine R_ldc (v := (-2000000000)) dX0_name_20 q474 ?_
        exact R_iret dX0_name_22 rfl w
theorem sX0_nameAll_0 {G : GG} {x : Nat} {h : AH} {Q : Outcome → AH → Prop} {a1 : Int32} (B : XB G x h) (w : Run G mX0_nobodyBears 1 0 [(0, .ref x)] [] h (fun o h1 => o = .returned none ∧ XB G x h1 ∧ (XB G x h1 → Run G mX0_nameAll 308 6 [(0, .ref x), (1, .int a1), (2, .int 0)] [] h1 Q))) : Run G mX0_nameAll 308 0 [(0, .ref x), (1, .int a1)] [] h Q := by
  refine R_aload_n dX0_nameAll_0 0 rfl ?_
  refine R_invV (Mc := mX0_nobodyBears) (b := x) (As := []) (st := []) ok0 (by decide) B.1 dX0_nameAll_1 q734 q736 qs33 q103 wX0_nobodyBears pX0_nobodyBears rfl (Nat.le_of_ble_eq_true rfl) (by decide) (by decide) (Nat.le_of_ble_eq_true rfl) (aft_v w (fun h1 w => ?_))
  obtain ⟨Bh1, w⟩ := w
  refine R_iconst (v := 0) dX0_nameAll_4 (by decide) ?_
  refine R_istore_n (lv' := [(2, .int 0), (0, .ref x), (1, .int a1)]) dX0_nameAll_5 rfl (by decide) rfl ?_
  exact R_sub [1, 2, 0] rfl (w Bh1)
theorem sX0_nameAll_6 {G : GG} {x : Nat} {h : AH} {Q : Outcome → AH → Prop} {a1 : Int32} {a2 : Int32} (B : XB G x h) (w : ((aI h 8 x) ≤ a2 → (Q (.returned none) h)) ∧ (¬ (aI h 8 x) ≤ a2 → (vp_in a2 12 ∧ (vp_in (aA h (x + 5) a2.toNatClampNeg) 12 ∧ ∃ q2 : Nat, (aR h (x + 4) (aA h (x + 5) a2.toNatClampNeg).toNatClampNeg) = some q2 ∧ (IsK G h q2 (6, 0) ∧ (Run G mX0_givenIn 307 0 [(0, .ref x), (1, .int (aI h 384 q2)), (2, .int a1)] [] h (fun o h5 => ∃ r6 : Int32, o = .returned (some (.int r6)) ∧ XB G x h5 ∧ (vp_in a2 12 ∧ ((¬ r6 = (-2) → (vp_in (aA h5 (x + 5) a2.toNatClampNeg) 12 ∧ (XB G x (sA h5 (x + 13) (aA h5 (x + 5) a2.toNatClampNeg).toNatClampNeg r6) → Run G mX0_nameAll 308 6 [(0, .ref x), (1, .int a1), (2, .int (a2 + 1))] [] (sA h5 (x + 13) (aA h5 (x + 5) a2.toNatClampNeg).toNatClampNeg r6) Q))) ∧ (r6 = (-2) → (vp_in (aA h5 (x + 5) a2.toNatClampNeg) 12 ∧ (XB G x (sA h5 (x + 13) (aA h5 (x + 5) a2.toNatClampNeg).toNatClampNeg (-1)) → Run G mX0_nameAll 308 6 [(0, .ref x), (1, .int a1), (2, .int (a2 + 1))] [] (sA h5 (x + 13) (aA h5 (x + 5) a2.toNatClampNeg).toNatClampNeg (-1)) Q)))))))))))) : Run G mX0_nameAll 308 6 [(0, .ref x), (1, .int a1), (2, .int a2)] [] h Q := by
  refine R_iload_n dX0_nameAll_6 2 rfl ?_
  refine R_aload_n dX0_nameAll_7 0 rfl ?_
  refine X_getS (k := 8) B dX0_nameAll_8 q272 (by decide) rfl ?_
  refine R_icmp_ge (tgt := 62) dX0_nameAll_11 (by decide) (fun c12 => ?_) (fun c12 => ?_)
  · have w := w.1 c12
    exact R_vret dX0_nameAll_62 rfl w
  · have w := w.2 c12
    refine R_aload_n dX0_nameAll_14 0 rfl ?_
    refine R_aload_n dX0_nameAll_15 0 rfl ?_
    refine X_getA (k := 7) (o := 4) (j := 107) (n := 12) B dX0_nameAll_16 q271 (by decide) rfl rfl ?_
    refine R_aload_n dX0_nameAll_19 0 rfl ?_
    refine X_getA (k := 9) (o := 5) (j := 100) (n := 12) B dX0_nameAll_20 q273 (by decide) rfl rfl ?_
    refine R_iload_n dX0_nameAll_23 2 rfl ?_
    obtain ⟨c11, w⟩ := w
    refine X_iald (k := 9) B dX0_nameAll_24 rfl c11 ?_
    obtain ⟨c1, q2, e3, w⟩ := w
    refine X_aald (k := 7) (j := 7) (E := "NameRests$Person") B dX0_nameAll_25 rfl (by decide) (by decide) rfl c1 ?_
    refine R_top (v' := .ref q2) (congrArg va_rf e3) ?_
    obtain ⟨k4, w⟩ := w
    refine R_getIN (k := 0) (f := 384) ok6 dX0_nameAll_26 q389 (by decide) rfl (by decide) k4 ?_
    refine R_iload_n dX0_nameAll_29 1 rfl ?_
    refine R_invV (Mc := mX0_givenIn) (b := x) (As := [.int (aI h 384 q2), .int a1]) (st := []) ok0 (by decide) B.1 dX0_nameAll_30 q749 q751 qs35 q103 wX0_givenIn pX0_givenIn rfl (Nat.le_of_ble_eq_true rfl) (by decide) (by decide) (Nat.le_of_ble_eq_true rfl) (aft_i w (fun r6 h5 w => ?_))
    obtain ⟨Bh5, w⟩ := w
    refine R_istore_n (lv' := [(3, .int r6), (0, .ref x), (1, .int a1), (2, .int a2)]) dX0_nameAll_33 rfl (by decide) rfl ?_
    refine R_aload_n dX0_nameAll_34 1 rfl ?_
    refine X_getA (k := 21) (o := 13) (j := 100) (n := 12) Bh5 dX0_nameAll_35 q286 (by decide) rfl rfl ?_
    refine R_aload_n dX0_nameAll_38 1 rfl ?_
    refine X_getA (k := 9) (o := 5) (j := 100) (n := 12) Bh5 dX0_nameAll_39 q273 (by decide) rfl rfl ?_
    refine R_iload_n dX0_nameAll_42 3 rfl ?_
    obtain ⟨c10, w⟩ := w
    refine X_iald (k := 9) Bh5 dX0_nameAll_43 rfl c10 ?_
    refine R_iload_n dX0_nameAll_44 0 rfl ?_
    refine R_bipush (v := (-2)) dX0_nameAll_45 (by decide) ?_
    refine R_icmp_ne (tgt := 54) dX0_nameAll_47 (by decide) (fun c9 => ?_) (fun c9 => ?_)
    · have w := w.1 c9
      refine R_iload_n dX0_nameAll_54 0 rfl ?_
      obtain ⟨c7, w⟩ := w
      refine X_iast (k := 21) Bh5 dX0_nameAll_55 rfl c7 ?_
      refine R_iinc (v := (a2 + 1)) (lv' := [(2, .int (a2 + 1)), (3, .int r6), (0, .ref x), (1, .int a1)]) dX0_nameAll_56 3 rfl (congrArg (fun z => a2 + z) (show Int32.ofInt 1 = 1 by decide)) (by decide) rfl ?_
      refine R_goto (tgt := 6) dX0_nameAll_59 (by decide) ?_
      exact R_sub [2, 3, 0] rfl (w Bh5.A)
    · have w := w.2 c9
      refine R_iconst (v := (-1)) dX0_nameAll_50 (by decide) ?_
      refine R_goto (tgt := 55) dX0_nameAll_51 (by decide) ?_
      obtain ⟨c8, w⟩ := w
      refine X_iast (k := 21) Bh5 dX0_nameAll_55 rfl c8 ?_
      refine R_iinc (v := (a2 + 1)) (lv' := [(2, .int (a2 + 1)), (3, .int r6), (0, .ref x), (1, .int a1)]) dX0_nameAll_56 3 rfl (congrArg (fun z => a2 + z) (show Int32.ofInt 1 = 1 by decide)) (by decide) rfl ?_
      refine R_goto (tgt := 6) dX0_nameAll_59 (by decide) ?_
      exact R_sub [2, 3, 0] rfl (w Bh5.A)
theorem sX0_nameOf_0 {G : GG} {x : Nat} {h : AH} {Q : Outcome → AH → Prop} {a0 : Int32} (B : XB G x h) (w : (a0 = 97 → (Q (.returned (some (.int 0))) h)) ∧ (¬ a0 = 97 → ((a0 = 100 → (Q (.returned (some (.int 1))) h)) ∧ (¬ a0 = 100 → ((a0 = 102 → (Q (.returned (some (.int 2))) h)) ∧ (¬ a0 = 102 → ((a0 = 105 → (Q (.returned (some (.int 4))) h)) ∧ (¬ a0 = 105 → ((a0 = 110 → (Q (.returned (some (.int 5))) h)) ∧ (¬ a0 = 110 → ((a0 = 119 → (Q (.returned (some (.int 3))) h)) ∧ (¬ a0 = 119 → (Q (.returned (some (.int (-1)))) h))))))))))))) : Run G mX0_nameOf 1 0 [(0, .int a0)] [] h Q := by
  refine R_iload_n dX0_nameOf_0 0 rfl ?_
  by_cases c1 : a0 = 97
  · have w := w.1 c1
    refine R_lookup (off := 59) (tgt := 60) dX0_nameOf_1 (by decide) (by rw [c1]; rfl) (by decide) ?_
    refine R_iconst (v := 0) dX0_nameOf_60 (by decide) ?_
    exact R_iret dX0_nameOf_61 rfl w
  · have w := w.2 c1
    by_cases c2 : a0 = 100
    · have w := w.1 c2
      refine R_lookup (off := 61) (tgt := 62) dX0_nameOf_1 (by decide) (by rw [c2]; rfl) (by decide) ?_
      refine R_iconst (v := 1) dX0_nameOf_62 (by decide) ?_
      exact R_iret dX0_nameOf_63 rfl w
    · have w := w.2 c2
      by_cases c3 : a0 = 102
      · have w := w.1 c3
        refine R_lookup (off := 63) (tgt := 64) dX0_nameOf_1 (by decide) (by rw [c3]; rfl) (by decide) ?_
        refine R_iconst (v := 2) dX0_nameOf_64 (by decide) ?_
        exact R_iret dX0_nameOf_65 rfl w
      · have w := w.2 c3
        by_cases c4 : a0 = 105
        · have w := w.1 c4
          refine R_lookup (off := 67) (tgt := 68) dX0_nameOf_1 (by decide) (by rw [c4]; rfl) (by decide) ?_
          refine R_iconst (v := 4) dX0_nameOf_68 (by decide) ?_
          exact R_iret dX0_nameOf_69 rfl w
        · have w := w.2 c4
          by_cases c5 : a0 = 110
          · have w := w.1 c5
            refine R_lookup (off := 69) (tgt := 70) dX0_nameOf_1 (by decide) (by rw [c5]; rfl) (by decide) ?_
            refine R_iconst (v := 5) dX0_nameOf_70 (by decide) ?_
            exact R_iret dX0_nameOf_71 rfl w
          · have w := w.2 c5
            by_cases c6 : a0 = 119
            · have w := w.1 c6
              refine R_lookup (off := 65) (tgt := 66) dX0_nameOf_1 (by decide) (by rw [c6]; rfl) (by decide) ?_
              refine R_iconst (v := 3) dX0_nameOf_66 (by decide) ?_
              exact R_iret dX0_nameOf_67 rfl w
            · have w := w.2 c6
              have ho : Op.lookupswitch.offset [(97, 59), (100, 61), (102, 63), (105, 67), (110, 69), (119, 65)] 71 (a0).toInt = 71 := by rw [lv_osw (k := 97) c1 (by decide), lv_osw (k := 100) c2 (by decide), lv_osw (k := 102) c3 (by decide), lv_osw (k := 105) c4 (by decide), lv_osw (k := 110) c5 (by decide), lv_osw (k := 119) c6 (by decide)]; rfl
              refine R_lookup (tgt := 72) dX0_nameOf_1 (by decide) ho (by decide) ?_
              refine R_iconst (v := (-1)) dX0_nameOf_72 (by decide) ?_
              exact R_iret dX0_nameOf_73 rfl w

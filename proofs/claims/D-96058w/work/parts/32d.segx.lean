/-! LAYER 2: segments of the component's methods (printed by gen32.py) -/
set_option maxRecDepth 100000
theorem sX0_readPlus_0 {G : GG} {x : Nat} {h : AH} {Q : Outcome → AH → Prop} {d d' : Nat} (hdd : d' + 1 ≤ d) (h9 : 20 ≤ d) (B : XB G x h) (w : Run G mX0_readTimes d' 0 [(0, .ref x)] [] h (fun o h1 => (∃ q2 : Nat, o = .returned (some (.ref q2)) ∧ XB G x h1 ∧ (XB G x h1 → Run G mX0_readPlus d 5 [(0, .ref x), (1, .ref q2)] [] h1 Q)) ∨ (∃ y3 : Nat, o = .threw y3 ∧ y3 = x + 3 ∧ XB G x h1 ∧ (Q (.threw (x + 3)) h1)))) : Run G mX0_readPlus d 0 [(0, .ref x)] [] h Q := by
  refine R_aload_n dX0_readPlus_0 0 rfl ?_
  refine R_invV (Mc := mX0_readTimes) (b := x) (As := []) (st := []) ok0 (by decide) B.1 dX0_readPlus_1 q562 q564 qs17 q103 wX0_readTimes pX0_readTimes rfl (Nat.le_of_ble_eq_true rfl) (by decide) hdd (Nat.le_of_ble_eq_true rfl) (aft_rT w (fun q2 h1 w => ?_) (fun y3 h1 w => ?_))
  · obtain ⟨Bh1, w⟩ := w
    refine R_astore_n (lv' := [(1, .ref q2), (0, .ref x)]) dX0_readPlus_4 rfl (by decide) rfl ?_
    exact R_sub [1, 0] rfl (w Bh1)
  · obtain ⟨ey, Bh1, w⟩ := w
    subst ey
    exact Thr.leave (by decide) w
theorem sX0_readPlus_5 {G : GG} {x : Nat} {h : AH} {Q : Outcome → AH → Prop} {a1 : Nat} {d d' : Nat} (hdd : d' + 1 ≤ d) (h9 : 20 ≤ d) (B : XB G x h) (w : Run G mX0_peek 1 0 [(0, .ref x)] [] h (fun o h1 => ∃ r2 : Int32, o = .returned (some (.int r2)) ∧ XB G x h1 ∧ ((r2 = 43 → (XB G x h1 → Run G mX0_readPlus d 23 [(0, .ref x), (1, .ref a1)] [] h1 Q)) ∧ (¬ r2 = 43 → (Run G mX0_peek 1 0 [(0, .ref x)] [] h1 (fun o h3 => ∃ r4 : Int32, o = .returned (some (.int r4)) ∧ XB G x h3 ∧ ((¬ r4 = 45 → (Q (.returned (some (.ref a1))) h3)) ∧ (r4 = 45 → (XB G x h3 → Run G mX0_readPlus d 23 [(0, .ref x), (1, .ref a1)] [] h3 Q))))))))) : Run G mX0_readPlus d 5 [(0, .ref x), (1, .ref a1)] [] h Q := by
  refine R_aload_n dX0_readPlus_5 0 rfl ?_
  refine R_invV (Mc := mX0_peek) (b := x) (As := []) (st := []) ok0 (by decide) B.1 dX0_readPlus_6 q574 q576 qs20 q103 wX0_peek pX0_peek rfl (Nat.le_of_ble_eq_true rfl) (by decide) (by omega) (Nat.le_of_ble_eq_true rfl) (aft_i w (fun r2 h1 w => ?_))
  obtain ⟨Bh1, w⟩ := w
  refine R_bipush (v := 43) dX0_readPlus_9 (by decide) ?_
  refine R_icmp_eq (tgt := 23) dX0_readPlus_11 (by decide) (fun c6 => ?_) (fun c6 => ?_)
  · have w := w.1 c6
    exact w Bh1
  · have w := w.2 c6
    refine R_aload_n dX0_readPlus_14 0 rfl ?_
    refine R_invV (Mc := mX0_peek) (b := x) (As := []) (st := []) ok0 (by decide) Bh1.1 dX0_readPlus_15 q574 q576 qs20 q103 wX0_peek pX0_peek rfl (Nat.le_of_ble_eq_true rfl) (by decide) (by omega) (Nat.le_of_ble_eq_true rfl) (aft_i w (fun r4 h3 w => ?_))
    obtain ⟨Bh3, w⟩ := w
    refine R_bipush (v := 45) dX0_readPlus_18 (by decide) ?_
    refine R_icmp_ne (tgt := 57) dX0_readPlus_20 (by decide) (fun c5 => ?_) (fun c5 => ?_)
    · have w := w.1 c5
      refine R_aload_n dX0_readPlus_57 1 rfl ?_
      exact R_aret (v := (some a1)) dX0_readPlus_58 rfl w
    · have w := w.2 c5
      exact w Bh3
theorem sX0_readPlus_23 {G : GG} {x : Nat} {h : AH} {Q : Outcome → AH → Prop} {a1 : Nat} {d d' : Nat} (hdd : d' + 1 ≤ d) (h9 : 20 ≤ d) (B : XB G x h) (w : vp_in (aI h 6 x) 120 ∧ (Run G mX0_readTimes d' 0 [(0, .ref x)] [] (sNew (sI h 6 x ((aI h 6 x) + 1)) (13, 0) 3) (fun o h1 => (∃ q2 : Nat, o = .returned (some (.ref q2)) ∧ XB G x h1 ∧ (Run G mX13_init 3 0 [(0, .ref (aN (sI h 6 x ((aI h 6 x) + 1)))), (1, .int (aA (sI h 6 x ((aI h 6 x) + 1)) (x + 2) (aI h 6 x).toNatClampNeg)), (2, .ref a1), (3, .ref q2)] [] h1 (fun o h3 => o = .returned none ∧ XB G x h3 ∧ (XB G x h3 → Run G mX0_readPlus d 5 [(0, .ref x), (1, .ref (aN (sI h 6 x ((aI h 6 x) + 1))))] [] h3 Q)))) ∨ (∃ y4 : Nat, o = .threw y4 ∧ y4 = x + 3 ∧ XB G x h1 ∧ (Q (.threw (x + 3)) h1))))) : Run G mX0_readPlus d 23 [(0, .ref x), (1, .ref a1)] [] h Q := by
  refine R_aload_n dX0_readPlus_23 0 rfl ?_
  refine X_getA (k := 3) (o := 2) (j := 100) (n := 120) B dX0_readPlus_24 q267 (by decide) rfl rfl ?_
  refine R_aload_n dX0_readPlus_27 0 rfl ?_
  refine R_dup dX0_readPlus_28 rfl ?_
  refine X_getS (k := 6) B dX0_readPlus_29 q270 (by decide) rfl ?_
  refine R_dup_x1 dX0_readPlus_32 rfl rfl ?_
  refine R_iconst (v := 1) dX0_readPlus_33 (by decide) ?_
  refine R_iadd dX0_readPlus_34 ?_
  refine X_putS (k := 6) B dX0_readPlus_35 q270 (by decide) rfl rfl rfl rfl ?_
  obtain ⟨c5, w⟩ := w
  refine X_iald (k := 3) B.I dX0_readPlus_38 rfl c5 ?_
  refine R_istore_n (lv' := [(2, .int (aA (sI h 6 x ((aI h 6 x) + 1)) (x + 2) (aI h 6 x).toNatClampNeg)), (0, .ref x), (1, .ref a1)]) dX0_readPlus_39 rfl (by decide) rfl ?_
  refine R_new ok13 dX0_readPlus_40 q630 q631 q119 (by decide) nfd13 ?_
  refine R_dup dX0_readPlus_43 rfl ?_
  refine R_iload_n dX0_readPlus_44 0 rfl ?_
  refine R_aload_n dX0_readPlus_45 2 rfl ?_
  refine R_aload_n dX0_readPlus_46 1 rfl ?_
  refine R_invV (Mc := mX0_readTimes) (b := x) (As := []) (st := [.ref a1, .int (aA (sI h 6 x ((aI h 6 x) + 1)) (x + 2) (aI h 6 x).toNatClampNeg), .ref (aN (sI h 6 x ((aI h 6 x) + 1))), .ref (aN (sI h 6 x ((aI h 6 x) + 1)))]) ok0 (by decide) B.I.N.1 dX0_readPlus_47 q562 q564 qs17 q103 wX0_readTimes pX0_readTimes rfl (Nat.le_of_ble_eq_true rfl) (by decide) hdd (Nat.le_of_ble_eq_true rfl) (aft_rT w (fun q2 h1 w => ?_) (fun y4 h1 w => ?_))
  · obtain ⟨Bh1, w⟩ := w
    refine R_invI (Mc := mX13_init) (b := (aN (sI h 6 x ((aI h 6 x) + 1)))) (As := [.int (aA (sI h 6 x ((aI h 6 x) + 1)) (x + 2) (aI h 6 x).toNatClampNeg), .ref a1, .ref q2]) (st := [.ref (aN (sI h 6 x ((aI h 6 x) + 1)))]) dX0_readPlus_50 q632 q633 q119 rfl q634 rfl pX13_init rfl (Nat.le_of_ble_eq_true rfl) (by decide) (by omega) (Nat.le_of_ble_eq_true rfl) (aft_v w (fun h3 w => ?_))
    obtain ⟨Bh3, w⟩ := w
    refine R_astore_n (lv' := [(1, .ref (aN (sI h 6 x ((aI h 6 x) + 1)))), (2, .int (aA (sI h 6 x ((aI h 6 x) + 1)) (x + 2) (aI h 6 x).toNatClampNeg)), (0, .ref x)]) dX0_readPlus_53 rfl (by decide) rfl ?_
    refine R_goto (tgt := 5) dX0_readPlus_54 (by decide) ?_
    exact R_sub [2, 0] rfl (w Bh3)
  · obtain ⟨ey, Bh1, w⟩ := w
    subst ey
    exact Thr.leave (by decide) w
theorem sX0_readTimes_0 {G : GG} {x : Nat} {h : AH} {Q : Outcome → AH → Prop} {d d' : Nat} (hdd : d' + 1 ≤ d) (h9 : 20 ≤ d) (B : XB G x h) (w : Run G mX0_readOne d' 0 [(0, .ref x)] [] h (fun o h1 => (∃ q2 : Nat, o = .returned (some (.ref q2)) ∧ XB G x h1 ∧ (XB G x h1 → Run G mX0_readTimes d 5 [(0, .ref x), (1, .ref q2)] [] h1 Q)) ∨ (∃ y3 : Nat, o = .threw y3 ∧ y3 = x + 3 ∧ XB G x h1 ∧ (Q (.threw (x + 3)) h1)))) : Run G mX0_readTimes d 0 [(0, .ref x)] [] h Q := by
  refine R_aload_n dX0_readTimes_0 0 rfl ?_
  refine R_invV (Mc := mX0_readOne) (b := x) (As := []) (st := []) ok0 (by decide) B.1 dX0_readTimes_1 q566 q568 qs18 q103 wX0_readOne pX0_readOne rfl (Nat.le_of_ble_eq_true rfl) (by decide) hdd (Nat.le_of_ble_eq_true rfl) (aft_rT w (fun q2 h1 w => ?_) (fun y3 h1 w => ?_))
  · obtain ⟨Bh1, w⟩ := w
    refine R_astore_n (lv' := [(1, .ref q2), (0, .ref x)]) dX0_readTimes_4 rfl (by decide) rfl ?_
    exact R_sub [1, 0] rfl (w Bh1)
  · obtain ⟨ey, Bh1, w⟩ := w
    subst ey
    exact Thr.leave (by decide) w
theorem sX0_readTimes_5 {G : GG} {x : Nat} {h : AH} {Q : Outcome → AH → Prop} {a1 : Nat} {d d' : Nat} (hdd : d' + 1 ≤ d) (h9 : 20 ≤ d) (B : XB G x h) (w : Run G mX0_peek 1 0 [(0, .ref x)] [] h (fun o h1 => ∃ r2 : Int32, o = .returned (some (.int r2)) ∧ XB G x h1 ∧ ((r2 = 42 → (XB G x h1 → Run G mX0_readTimes d 32 [(0, .ref x), (1, .ref a1)] [] h1 Q)) ∧ (¬ r2 = 42 → (Run G mX0_peek 1 0 [(0, .ref x)] [] h1 (fun o h3 => ∃ r4 : Int32, o = .returned (some (.int r4)) ∧ XB G x h3 ∧ ((r4 = 47 → (XB G x h3 → Run G mX0_readTimes d 32 [(0, .ref x), (1, .ref a1)] [] h3 Q)) ∧ (¬ r4 = 47 → (Run G mX0_peek 1 0 [(0, .ref x)] [] h3 (fun o h5 => ∃ r6 : Int32, o = .returned (some (.int r6)) ∧ XB G x h5 ∧ ((¬ r6 = 37 → (Q (.returned (some (.ref a1))) h5)) ∧ (r6 = 37 → (XB G x h5 → Run G mX0_readTimes d 32 [(0, .ref x), (1, .ref a1)] [] h5 Q))))))))))))) : Run G mX0_readTimes d 5 [(0, .ref x), (1, .ref a1)] [] h Q := by
  refine R_aload_n dX0_readTimes_5 0 rfl ?_
  refine R_invV (Mc := mX0_peek) (b := x) (As := []) (st := []) ok0 (by decide) B.1 dX0_readTimes_6 q574 q576 qs20 q103 wX0_peek pX0_peek rfl (Nat.le_of_ble_eq_true rfl) (by decide) (by omega) (Nat.le_of_ble_eq_true rfl) (aft_i w (fun r2 h1 w => ?_))
  obtain ⟨Bh1, w⟩ := w
  refine R_bipush (v := 42) dX0_readTimes_9 (by decide) ?_
  refine R_icmp_eq (tgt := 32) dX0_readTimes_11 (by decide) (fun c9 => ?_) (fun c9 => ?_)
  · have w := w.1 c9
    exact w Bh1
  · have w := w.2 c9
    refine R_aload_n dX0_readTimes_14 0 rfl ?_
    refine R_invV (Mc := mX0_peek) (b := x) (As := []) (st := []) ok0 (by decide) Bh1.1 dX0_readTimes_15 q574 q576 qs20 q103 wX0_peek pX0_peek rfl (Nat.le_of_ble_eq_true rfl) (by decide) (by omega) (Nat.le_of_ble_eq_true rfl) (aft_i w (fun r4 h3 w => ?_))
    obtain ⟨Bh3, w⟩ := w
    refine R_bipush (v := 47) dX0_readTimes_18 (by decide) ?_
    refine R_icmp_eq (tgt := 32) dX0_readTimes_20 (by decide) (fun c8 => ?_) (fun c8 => ?_)
    · have w := w.1 c8
      exact w Bh3
    · have w := w.2 c8
      refine R_aload_n dX0_readTimes_23 0 rfl ?_
      refine R_invV (Mc := mX0_peek) (b := x) (As := []) (st := []) ok0 (by decide) Bh3.1 dX0_readTimes_24 q574 q576 qs20 q103 wX0_peek pX0_peek rfl (Nat.le_of_ble_eq_true rfl) (by decide) (by omega) (Nat.le_of_ble_eq_true rfl) (aft_i w (fun r6 h5 w => ?_))
      obtain ⟨Bh5, w⟩ := w
      refine R_bipush (v := 37) dX0_readTimes_27 (by decide) ?_
      refine R_icmp_ne (tgt := 66) dX0_readTimes_29 (by decide) (fun c7 => ?_) (fun c7 => ?_)
      · have w := w.1 c7
        refine R_aload_n dX0_readTimes_66 1 rfl ?_
        exact R_aret (v := (some a1)) dX0_readTimes_67 rfl w
      · have w := w.2 c7
        exact w Bh5
theorem sX0_readTimes_32 {G : GG} {x : Nat} {h : AH} {Q : Outcome → AH → Prop} {a1 : Nat} {d d' : Nat} (hdd : d' + 1 ≤ d) (h9 : 20 ≤ d) (B : XB G x h) (w : vp_in (aI h 6 x) 120 ∧ (Run G mX0_readOne d' 0 [(0, .ref x)] [] (sNew (sI h 6 x ((aI h 6 x) + 1)) (13, 0) 3) (fun o h1 => (∃ q2 : Nat, o = .returned (some (.ref q2)) ∧ XB G x h1 ∧ (Run G mX13_init 3 0 [(0, .ref (aN (sI h 6 x ((aI h 6 x) + 1)))), (1, .int (aA (sI h 6 x ((aI h 6 x) + 1)) (x + 2) (aI h 6 x).toNatClampNeg)), (2, .ref a1), (3, .ref q2)] [] h1 (fun o h3 => o = .returned none ∧ XB G x h3 ∧ (XB G x h3 → Run G mX0_readTimes d 5 [(0, .ref x), (1, .ref (aN (sI h 6 x ((aI h 6 x) + 1))))] [] h3 Q)))) ∨ (∃ y4 : Nat, o = .threw y4 ∧ y4 = x + 3 ∧ XB G x h1 ∧ (Q (.threw (x + 3)) h1))))) : Run G mX0_readTimes d 32 [(0, .ref x), (1, .ref a1)] [] h Q := by
  refine R_aload_n dX0_readTimes_32 0 rfl ?_
  refine X_getA (k := 3) (o := 2) (j := 100) (n := 120) B dX0_readTimes_33 q267 (by decide) rfl rfl ?_
  refine R_aload_n dX0_readTimes_36 0 rfl ?_
  refine R_dup dX0_readTimes_37 rfl ?_
  refine X_getS (k := 6) B dX0_readTimes_38 q270 (by decide) rfl ?_
  refine R_dup_x1 dX0_readTimes_41 rfl rfl ?_
  refine R_iconst (v := 1) dX0_readTimes_42 (by decide) ?_
  refine R_iadd dX0_readTimes_43 ?_
  refine X_putS (k := 6) B dX0_readTimes_44 q270 (by decide) rfl rfl rfl rfl ?_
  obtain ⟨c5, w⟩ := w
  refine X_iald (k := 3) B.I dX0_readTimes_47 rfl c5 ?_
  refine R_istore_n (lv' := [(2, .int (aA (sI h 6 x ((aI h 6 x) + 1)) (x + 2) (aI h 6 x).toNatClampNeg)), (0, .ref x), (1, .ref a1)]) dX0_readTimes_48 rfl (by decide) rfl ?_
  refine R_new ok13 dX0_readTimes_49 q630 q631 q119 (by decide) nfd13 ?_
  refine R_dup dX0_readTimes_52 rfl ?_
  refine R_iload_n dX0_readTimes_53 0 rfl ?_
  refine R_aload_n dX0_readTimes_54 2 rfl ?_
  refine R_aload_n dX0_readTimes_55 1 rfl ?_
  refine R_invV (Mc := mX0_readOne) (b := x) (As := []) (st := [.ref a1, .int (aA (sI h 6 x ((aI h 6 x) + 1)) (x + 2) (aI h 6 x).toNatClampNeg), .ref (aN (sI h 6 x ((aI h 6 x) + 1))), .ref (aN (sI h 6 x ((aI h 6 x) + 1)))]) ok0 (by decide) B.I.N.1 dX0_readTimes_56 q566 q568 qs18 q103 wX0_readOne pX0_readOne rfl (Nat.le_of_ble_eq_true rfl) (by decide) hdd (Nat.le_of_ble_eq_true rfl) (aft_rT w (fun q2 h1 w => ?_) (fun y4 h1 w => ?_))
  · obtain ⟨Bh1, w⟩ := w
    refine R_invI (Mc := mX13_init) (b := (aN (sI h 6 x ((aI h 6 x) + 1)))) (As := [.int (aA (sI h 6 x ((aI h 6 x) + 1)) (x + 2) (aI h 6 x).toNatClampNeg), .ref a1, .ref q2]) (st := [.ref (aN (sI h 6 x ((aI h 6 x) + 1)))]) dX0_readTimes_59 q632 q633 q119 rfl q634 rfl pX13_init rfl (Nat.le_of_ble_eq_true rfl) (by decide) (by omega) (Nat.le_of_ble_eq_true rfl) (aft_v w (fun h3 w => ?_))
    obtain ⟨Bh3, w⟩ := w
    refine R_astore_n (lv' := [(1, .ref (aN (sI h 6 x ((aI h 6 x) + 1)))), (2, .int (aA (sI h 6 x ((aI h 6 x) + 1)) (x + 2) (aI h 6 x).toNatClampNeg)), (0, .ref x)]) dX0_readTimes_62 rfl (by decide) rfl ?_
    refine R_goto (tgt := 5) dX0_readTimes_63 (by decide) ?_
    exact R_sub [2, 0] rfl (w Bh3)
  · obtain ⟨ey, Bh1, w⟩ := w
    subst ey
    exact Thr.leave (by decide) w
theorem sX0_redo_0 {G : GG} {x : Nat} {h : AH} {Q : Outcome → AH → Prop} (B : XB G x h) (w : (¬ (aI h 2 x) = (aI h 1 x) → (vp_in (aI h 2 x) 40 ∧ ∃ q2 : Nat, (aR h (x + 1) (aI h 2 x).toNatClampNeg) = some q2 ∧ (IsK G h q2 (3, 0) ∧ (∃ q5 : Nat, (aP h 192 q2) = some q5 ∧ (vp_in (aI h 2 x) 40 ∧ ∃ q8 : Nat, (aR h (x + 1) (aI h 2 x).toNatClampNeg) = some q8 ∧ (IsK G h q8 (3, 0) ∧ (IsK G h q5 (4, 0) ∧ (Q (.returned (some (.int ((aI (sI (sI h 256 q5 (aI h 194 q8)) 2 x ((aI (sI h 256 q5 (aI h 194 q8)) 2 x) + 1)) 1 x) - (aI (sI (sI h 256 q5 (aI h 194 q8)) 2 x ((aI (sI h 256 q5 (aI h 194 q8)) 2 x) + 1)) 2 x))))) (sI (sI h 256 q5 (aI h 194 q8)) 2 x ((aI (sI h 256 q5 (aI h 194 q8)) 2 x) + 1)))))))))) ∧ ((aI h 2 x) = (aI h 1 x) → (Q (.returned (some (.int (-5)))) h))) : Run G mX0_redo 1 0 [(0, .ref x)] [] h Q := by
  refine R_aload_n dX0_redo_0 0 rfl ?_
  refine X_getS (k := 2) B dX0_redo_1 q266 (by decide) rfl ?_
  refine R_aload_n dX0_redo_4 0 rfl ?_
  refine X_getS (k := 1) B dX0_redo_5 q265 (by decide) rfl ?_
  refine R_icmp_ne (tgt := 14) dX0_redo_8 (by decide) (fun c12 => ?_) (fun c12 => ?_)
  · have w := w.1 c12
    refine R_aload_n dX0_redo_14 0 rfl ?_
    refine X_getA (k := 0) (o := 1) (j := 105) (n := 40) B dX0_redo_15 q264 (by decide) rfl rfl ?_
    refine R_aload_n dX0_redo_18 0 rfl ?_
    refine X_getS (k := 2) B dX0_redo_19 q266 (by decide) rfl ?_
    obtain ⟨c1, q2, e3, w⟩ := w
    refine X_aald (k := 0) (j := 5) (E := "NameRests$Change") B dX0_redo_22 rfl (by decide) (by decide) rfl c1 ?_
    refine R_top (v' := .ref q2) (congrArg va_rf e3) ?_
    obtain ⟨k4, w⟩ := w
    obtain ⟨q5, e6, w⟩ := w
    refine R_getPN (k := 0) (f := 192) ok3 dX0_redo_23 q244 (by decide) rfl (by decide) k4 ?_
    refine R_top (v' := .ref q5) (congrArg va_rf e6) ?_
    refine R_aload_n dX0_redo_26 0 rfl ?_
    refine X_getA (k := 0) (o := 1) (j := 105) (n := 40) B dX0_redo_27 q264 (by decide) rfl rfl ?_
    refine R_aload_n dX0_redo_30 0 rfl ?_
    refine X_getS (k := 2) B dX0_redo_31 q266 (by decide) rfl ?_
    obtain ⟨c7, q8, e9, w⟩ := w
    refine X_aald (k := 0) (j := 5) (E := "NameRests$Change") B dX0_redo_34 rfl (by decide) (by decide) rfl c7 ?_
    refine R_top (v' := .ref q8) (congrArg va_rf e9) ?_
    obtain ⟨k10, w⟩ := w
    refine R_getIN (k := 2) (f := 194) ok3 dX0_redo_35 q246 (by decide) rfl (by decide) k10 ?_
    obtain ⟨k11, w⟩ := w
    refine R_putIN (k := 0) (f := 256) ok4 dX0_redo_38 q260 (by decide) rfl rfl rfl rfl rfl (by decide) k11 ?_
    refine R_aload_n dX0_redo_41 0 rfl ?_
    refine R_dup dX0_redo_42 rfl ?_
    refine X_getS (k := 2) B.I dX0_redo_43 q266 (by decide) rfl ?_
    refine R_iconst (v := 1) dX0_redo_46 (by decide) ?_
    refine R_iadd dX0_redo_47 ?_
    refine X_putS (k := 2) B.I dX0_redo_48 q266 (by decide) rfl rfl rfl rfl ?_
    refine R_aload_n dX0_redo_51 0 rfl ?_
    refine X_getS (k := 1) B.I.I dX0_redo_52 q265 (by decide) rfl ?_
    refine R_aload_n dX0_redo_55 0 rfl ?_
    refine X_getS (k := 2) B.I.I dX0_redo_56 q266 (by decide) rfl ?_
    refine R_isub dX0_redo_59 ?_
    exact R_iret dX0_redo_60 rfl w
  · have w := w.2 c12
    refine R_bipush (v := (-5)) dX0_redo_11 (by decide) ?_
    exact R_iret dX0_redo_13 rfl w
theorem sX0_refusal_0 {G : GG} {x : Nat} {h : AH} {Q : Outcome → AH → Prop} {a1 : Int32} {a2 : Int32} (B : XB G x h) (w : Run G mX0_isShelf 2 0 [(0, .int a1)] [] h (fun o h1 => ∃ b2 : Bool, o = .returned (some (.int (bi b2))) ∧ XB G x h1 ∧ ((b2 = true → (vp_in a1 6 ∧ (((aR h1 (x + 18) a1.toNatClampNeg) = none → (Q (.returned (some (.int (-11)))) h1)) ∧ (((aR h1 (x + 18) a1.toNatClampNeg)).isSome = true → (Run G mX0_sortOf 1 0 [(0, va_rf (aR h1 (x + 18) a1.toNatClampNeg))] [] h1 (fun o h6 => ∃ r7 : Int32, o = .returned (some (.int r7)) ∧ XB G x h6 ∧ ((¬ r7 = (-1) → (Run G mX0_sizeOf 2 0 [(0, va_rf (aR h1 (x + 18) a1.toNatClampNeg))] [] h6 (fun o h8 => ∃ r9 : Int32, o = .returned (some (.int r9)) ∧ XB G x h8 ∧ (Run G mX0_within 1 0 [(0, .long a2.toInt64), (2, .long 0), (4, .long (r9 - 1).toInt64)] [] h8 (fun o h10 => ∃ b11 : Bool, o = .returned (some (.int (bi b11))) ∧ XB G x h10 ∧ ((b11 = false → (Q (.returned (some (.int (-13)))) h10)) ∧ (b11 = true → (Q (.returned (some (.int 0))) h10)))))))) ∧ (r7 = (-1) → (Q (.returned (some (.int (-12)))) h6))))))))) ∧ (b2 = false → (Q (.returned (some (.int (-1)))) h1))))) : Run G mX0_refusal 3 0 [(0, .ref x), (1, .int a1), (2, .int a2)] [] h Q := by
  refine R_iload_n dX0_refusal_0 1 rfl ?_
  refine R_invS (Mc := mX0_isShelf) (As := [.int a1]) (st := []) dX0_refusal_1 q409 q410 q103 wX0_isShelf pX0_isShelf rfl (Nat.le_of_ble_eq_true rfl) (by decide) (by decide) (Nat.le_of_ble_eq_true rfl) (aft_z w (fun b2 h1 w => ?_))
  obtain ⟨Bh1, w⟩ := w
  refine R_ifz_ne (tgt := 9) dX0_refusal_4 (by decide) (fun c14 => ?_) (fun c14 => ?_)
  · have w := w.1 c14
    refine R_aload_n dX0_refusal_9 0 rfl ?_
    refine X_getA (k := 30) (o := 18) (j := 110) (n := 6) Bh1 dX0_refusal_10 q297 (by decide) rfl rfl ?_
    refine R_iload_n dX0_refusal_13 1 rfl ?_
    obtain ⟨c3, w⟩ := w
    refine X_aald (k := 30) (j := 10) (E := "java/lang/Object") Bh1 dX0_refusal_14 rfl (by decide) (by decide) rfl c3 ?_
    refine R_astore_nQ (lv' := [(3, va_rf (aR h1 (x + 18) a1.toNatClampNeg)), (0, .ref x), (1, .int a1), (2, .int a2)]) dX0_refusal_15 rfl (by decide) rfl ?_
    refine R_aload_nQ dX0_refusal_16 0 rfl ?_
    refine R_ifnonnull (tgt := 23) dX0_refusal_17 (by decide) (fun q5 e4 => ?_) (fun e4 => ?_)
    · have w := w.2 (by rw [e4]; rfl)
      refine R_aload_nQ dX0_refusal_23 0 rfl ?_
      refine R_invS (Mc := mX0_sortOf) (As := [va_rf (aR h1 (x + 18) a1.toNatClampNeg)]) (st := []) dX0_refusal_24 q414 q415 q103 wX0_sortOf pX0_sortOf rfl (by simp [lg_sl, rf_cat, cat_i, cat_r, cat_l, mX0_sortOf]) (by decide) (by decide) (Nat.le_of_ble_eq_true rfl) (run_la (by simp [lv_args, rf_cat, cat_i, cat_r, cat_l]) (aft_i w (fun r7 h6 w => ?_)))
      obtain ⟨Bh6, w⟩ := w
      refine R_iconst (v := (-1)) dX0_refusal_27 (by decide) ?_
      refine R_icmp_ne (tgt := 34) dX0_refusal_28 (by decide) (fun c13 => ?_) (fun c13 => ?_)
      · have w := w.1 c13
        refine R_iload_n dX0_refusal_34 3 rfl ?_
        refine R_i2l dX0_refusal_35 ?_
        refine R_lconst (v := 0) dX0_refusal_36 (by decide) ?_
        refine R_aload_nQ dX0_refusal_37 0 rfl ?_
        refine R_invS (Mc := mX0_sizeOf) (As := [va_rf (aR h1 (x + 18) a1.toNatClampNeg)]) (st := [.long 0, .long a2.toInt64]) dX0_refusal_38 q1173 q1174 q103 wX0_sizeOf pX0_sizeOf rfl (by simp [lg_sl, rf_cat, cat_i, cat_r, cat_l, mX0_sizeOf]) (by decide) (by decide) (Nat.le_of_ble_eq_true rfl) (run_la (by simp [lv_args, rf_cat, cat_i, cat_r, cat_l]) (aft_i w (fun r9 h8 w => ?_)))
        obtain ⟨Bh8, w⟩ := w
        refine R_iconst (v := 1) dX0_refusal_41 (by decide) ?_
        refine R_isub dX0_refusal_42 ?_
        refine R_i2l dX0_refusal_43 ?_
        refine R_invS (Mc := mX0_within) (As := [.long a2.toInt64, .long 0, .long (r9 - 1).toInt64]) (st := []) dX0_refusal_44 q366 q367 q103 wX0_within pX0_within rfl (Nat.le_of_ble_eq_true rfl) (by decide) (by decide) (Nat.le_of_ble_eq_true rfl) (aft_z w (fun b11 h10 w => ?_))
        obtain ⟨Bh10, w⟩ := w
        refine R_ifz_eq (tgt := 54) dX0_refusal_47 (by decide) (fun c12 => ?_) (fun c12 => ?_)
        · have w := w.1 c12
          refine R_bipush (v := (-13)) dX0_refusal_54 (by decide) ?_
          exact R_iret dX0_refusal_56 rfl w
        · have w := w.2 c12
          refine R_iconst (v := 0) dX0_refusal_50 (by decide) ?_
          refine R_goto (tgt := 56) dX0_refusal_51 (by decide) ?_
          exact R_iret dX0_refusal_56 rfl w
      · have w := w.2 c13
        refine R_bipush (v := (-12)) dX0_refusal_31 (by decide) ?_
        exact R_iret dX0_refusal_33 rfl w
    · have w := w.1 e4
      refine R_bipush (v := (-11)) dX0_refusal_20 (by decide) ?_
      exact R_iret dX0_refusal_22 rfl w
  · have w := w.2 c14
    refine R_iconst (v := (-1)) dX0_refusal_7 (by decide) ?_
    exact R_iret dX0_refusal_8 rfl w
theorem sX0_row_0 {G : GG} {x : Nat} {h : AH} {Q : Outcome → AH → Prop} {a1 : Int32} {a2 : Int32} {a3 : Int32} (B : XB G x h) (w : Run G mX0_isShelf 2 0 [(0, .int a1)] [] h (fun o h1 => ∃ b2 : Bool, o = .returned (some (.int (bi b2))) ∧ XB G x h1 ∧ ((b2 = false → (Q (.returned (some (.int (-1)))) h1)) ∧ (b2 = true → (Run G mX0_within 1 0 [(0, .long a2.toInt64), (2, .long 0), (4, .long 4)] [] h1 (fun o h3 => ∃ b4 : Bool, o = .returned (some (.int (bi b4))) ∧ XB G x h3 ∧ ((b4 = false → (Q (.returned (some (.int (-1)))) h3)) ∧ (b4 = true → ((a3 ≤ 60 → ((0 ≤ a3 → ((a2 = 0 → (∃ n6 : Nat, ¬ a3 < 0 ∧ a3.toNatClampNeg = n6 ∧ n6 ≤ 65536 ∧ (vp_in a1 6 ∧ Fit G (sNew h3 (102, n6) n6) "java/lang/Object" (aN h3) ∧ (Q (.returned (some (.int 1))) (sR (sNew h3 (102, n6) n6) (x + 18) a1.toNatClampNeg (some (aN h3))))))) ∧ (¬ a2 = 0 → ((a2 = 1 → (∃ n13 : Nat, ¬ a3 < 0 ∧ a3.toNatClampNeg = n13 ∧ n13 ≤ 65536 ∧ (vp_in a1 6 ∧ Fit G (sNew h3 (103, n13) n13) "java/lang/Object" (aN h3) ∧ (Q (.returned (some (.int 1))) (sR (sNew h3 (103, n13) n13) (x + 18) a1.toNatClampNeg (some (aN h3))))))) ∧ (¬ a2 = 1 → ((a2 = 2 → (∃ n20 : Nat, ¬ a3 < 0 ∧ a3.toNatClampNeg = n20 ∧ n20 ≤ 65536 ∧ (vp_in a1 6 ∧ Fit G (sNew h3 (100, n20) n20) "java/lang/Object" (aN h3) ∧ (Q (.returned (some (.int 1))) (sR (sNew h3 (100, n20) n20) (x + 18) a1.toNatClampNeg (some (aN h3))))))) ∧ (¬ a2 = 2 → ((a2 = 3 → (∃ n27 : Nat, ¬ a3 < 0 ∧ a3.toNatClampNeg = n27 ∧ n27 ≤ 65536 ∧ (vp_in a1 6 ∧ Fit G (sNew h3 (101, n27) n27) "java/lang/Object" (aN h3) ∧ (Q (.returned (some (.int 1))) (sR (sNew h3 (101, n27) n27) (x + 18) a1.toNatClampNeg (some (aN h3))))))) ∧ (¬ a2 = 3 → (∃ n33 : Nat, ¬ a3 < 0 ∧ a3.toNatClampNeg = n33 ∧ n33 ≤ 65536 ∧ (vp_in a1 6 ∧ Fit G (sNew h3 (104, n33) n33) "java/lang/Object" (aN h3) ∧ (Q (.returned (some (.int 1))) (sR (sNew h3 (104, n33) n33) (x + 18) a1.toNatClampNeg (some (aN h3))))))))))))))) ∧ (¬ 0 ≤ a3 → (Q (.returned (some (.int (-14)))) h3)))) ∧ (¬ a3 ≤ 60 → (Q (.returned (some (.int (-1)))) h3))))))))))) : Run G mX0_row 3 0 [(0, .ref x), (1, .int a1), (2, .int a2), (3, .int a3)] [] h Q := by
  refine R_iload_n dX0_row_0 1 rfl ?_
  refine R_invS (Mc := mX0_isShelf) (As := [.int a1]) (st := []) dX0_row_1 q409 q410 q103 wX0_isShelf pX0_isShelf rfl (Nat.le_of_ble_eq_true rfl) (by decide) (by decide) (Nat.le_of_ble_eq_true rfl) (aft_z w (fun b2 h1 w => ?_))
  obtain ⟨Bh1, w⟩ := w
  refine R_ifz_eq (tgt := 25) dX0_row_4 (by decide) (fun c42 => ?_) (fun c42 => ?_)
  · have w := w.1 c42
    refine R_iconst (v := (-1)) dX0_row_25 (by decide) ?_
    exact R_iret dX0_row_26 rfl w
  · have w := w.2 c42
    refine R_iload_n dX0_row_7 2 rfl ?_
    refine R_i2l dX0_row_8 ?_
    refine R_lconst (v := 0) dX0_row_9 (by decide) ?_
    refine R_ldc2 (v := 4) dX0_row_10 q1160 ?_
    refine R_invS (Mc := mX0_within) (As := [.long a2.toInt64, .long 0, .long 4]) (st := []) dX0_row_13 q366 q367 q103 wX0_within pX0_within rfl (Nat.le_of_ble_eq_true rfl) (by decide) (by decide) (Nat.le_of_ble_eq_true rfl) (aft_z w (fun b4 h3 w => ?_))
    obtain ⟨Bh3, w⟩ := w
    refine R_ifz_eq (tgt := 25) dX0_row_16 (by decide) (fun c41 => ?_) (fun c41 => ?_)
    · have w := w.1 c41
      refine R_iconst (v := (-1)) dX0_row_25 (by decide) ?_
      exact R_iret dX0_row_26 rfl w
    · have w := w.2 c41
      refine R_iload_n dX0_row_19 3 rfl ?_
      refine R_bipush (v := 60) dX0_row_20 (by decide) ?_
      refine R_icmp_le (tgt := 27) dX0_row_22 (by decide) (fun c40 => ?_) (fun c40 => ?_)
      · have w := w.1 c40
        refine R_iload_n dX0_row_27 3 rfl ?_
        refine R_if_ge (tgt := 34) dX0_row_28 (by decide) (fun c39 => ?_) (fun c39 => ?_)
        · have w := w.1 c39
          refine R_iload_n dX0_row_34 2 rfl ?_
          by_cases c5 : a2 = 0
          · have w := w.1 c5
            refine R_tableIn (off := 29) (tgt := 64) dX0_row_35 (by rw [c5]; decide) (by rw [c5]; decide) (by rw [c5]; rfl) (by decide) ?_
            refine R_aload_n dX0_row_64 0 rfl ?_
            refine X_getA (k := 30) (o := 18) (j := 110) (n := 6) Bh3 dX0_row_65 q297 (by decide) rfl rfl ?_
            refine R_iload_n dX0_row_68 1 rfl ?_
            refine R_iload_n dX0_row_69 3 rfl ?_
            obtain ⟨n6, c7, c8, c9, w⟩ := w
            refine R_newa (j := 2) dX0_row_70 (by decide) rfl q1161 c7 c8 c9 ?_
            obtain ⟨c10, f11, w⟩ := w
            refine X_aast (k := 30) (j := 10) (E := "java/lang/Object") Bh3.N dX0_row_72 rfl (by decide) (by decide) rfl c10 f11 ?_
            refine R_goto (tgt := 121) dX0_row_73 (by decide) ?_
            refine R_iconst (v := 1) dX0_row_121 (by decide) ?_
            exact R_iret dX0_row_122 rfl w
          · have w := w.2 c5
            by_cases c12 : a2 = 1
            · have w := w.1 c12
              refine R_tableIn (off := 41) (tgt := 76) dX0_row_35 (by rw [c12]; decide) (by rw [c12]; decide) (by rw [c12]; rfl) (by decide) ?_
              refine R_aload_n dX0_row_76 0 rfl ?_
              refine X_getA (k := 30) (o := 18) (j := 110) (n := 6) Bh3 dX0_row_77 q297 (by decide) rfl rfl ?_
              refine R_iload_n dX0_row_80 1 rfl ?_
              refine R_iload_n dX0_row_81 3 rfl ?_
              obtain ⟨n13, c14, c15, c16, w⟩ := w
              refine R_newa (j := 3) dX0_row_82 (by decide) rfl q1162 c14 c15 c16 ?_
              obtain ⟨c17, f18, w⟩ := w
              refine X_aast (k := 30) (j := 10) (E := "java/lang/Object") Bh3.N dX0_row_84 rfl (by decide) (by decide) rfl c17 f18 ?_
              refine R_goto (tgt := 121) dX0_row_85 (by decide) ?_
              refine R_iconst (v := 1) dX0_row_121 (by decide) ?_
              exact R_iret dX0_row_122 rfl w
            · have w := w.2 c12
              by_cases c19 : a2 = 2
              · have w := w.1 c19
                refine R_tableIn (off := 53) (tgt := 88) dX0_row_35 (by rw [c19]; decide) (by rw [c19]; decide) (by rw [c19]; rfl) (by decide) ?_
                refine R_aload_n dX0_row_88 0 rfl ?_
                refine X_getA (k := 30) (o := 18) (j := 110) (n := 6) Bh3 dX0_row_89 q297 (by decide) rfl rfl ?_
                refine R_iload_n dX0_row_92 1 rfl ?_
                refine R_iload_n dX0_row_93 3 rfl ?_
                obtain ⟨n20, c21, c22, c23, w⟩ := w
                refine R_newa (j := 0) dX0_row_94 (by decide) rfl q213 c21 c22 c23 ?_
                obtain ⟨c24, f25, w⟩ := w
                refine X_aast (k := 30) (j := 10) (E := "java/lang/Object") Bh3.N dX0_row_96 rfl (by decide) (by decide) rfl c24 f25 ?_
                refine R_goto (tgt := 121) dX0_row_97 (by decide) ?_
                refine R_iconst (v := 1) dX0_row_121 (by decide) ?_
                exact R_iret dX0_row_122 rfl w
              · have w := w.2 c19
                by_cases c26 : a2 = 3
                · have w := w.1 c26
                  refine R_tableIn (off := 65) (tgt := 100) dX0_row_35 (by rw [c26]; decide) (by rw [c26]; decide) (by rw [c26]; rfl) (by decide) ?_
                  refine R_aload_n dX0_row_100 0 rfl ?_
                  refine X_getA (k := 30) (o := 18) (j := 110) (n := 6) Bh3 dX0_row_101 q297 (by decide) rfl rfl ?_
                  refine R_iload_n dX0_row_104 1 rfl ?_
                  refine R_iload_n dX0_row_105 3 rfl ?_
                  obtain ⟨n27, c28, c29, c30, w⟩ := w
                  refine R_newa (j := 1) dX0_row_106 (by decide) rfl q1163 c28 c29 c30 ?_
                  obtain ⟨c31, f32, w⟩ := w
                  refine X_aast (k := 30) (j := 10) (E := "java/lang/Object") Bh3.N dX0_row_108 rfl (by decide) (by decide) rfl c31 f32 ?_
                  refine R_goto (tgt := 121) dX0_row_109 (by decide) ?_
                  refine R_iconst (v := 1) dX0_row_121 (by decide) ?_
                  exact R_iret dX0_row_122 rfl w
                · have w := w.2 c26
                  refine R_tableOut (tgt := 112) dX0_row_35 (sw_out a2 0 3 (by decide) (by decide) (fun j h1 h2 => ?_)) (by decide) ?_
                  · intro e
                    have e2 : j = 0 ∨ j = 1 ∨ j = 2 ∨ j = 3 := by omega
                    rcases e2 with rfl | rfl | rfl | rfl
                    · exact lv_neT c5 (by decide) e
                    · exact lv_neT c12 (by decide) e
                    · exact lv_neT c19 (by decide) e
                    · exact lv_neT c26 (by decide) e
                  · refine R_aload_n dX0_row_112 0 rfl ?_
                    refine X_getA (k := 30) (o := 18) (j := 110) (n := 6) Bh3 dX0_row_113 q297 (by decide) rfl rfl ?_
                    refine R_iload_n dX0_row_116 1 rfl ?_
                    refine R_iload_n dX0_row_117 3 rfl ?_
                    obtain ⟨n33, c34, c35, c36, w⟩ := w
                    refine R_newa (j := 4) dX0_row_118 (by decide) rfl q1164 c34 c35 c36 ?_
                    obtain ⟨c37, f38, w⟩ := w
                    refine X_aast (k := 30) (j := 10) (E := "java/lang/Object") Bh3.N dX0_row_120 rfl (by decide) (by decide) rfl c37 f38 ?_
                    refine R_iconst (v := 1) dX0_row_121 (by decide) ?_
                    exact R_iret dX0_row_122 rfl w
        · have w := w.2 c39
          refine R_bipush (v := (-14)) dX0_row_31 (by decide) ?_
          exact R_iret dX0_row_33 rfl w
      · have w := w.2 c40
        refine R_iconst (v := (-1)) dX0_row_25 (by decide) ?_
        exact R_iret dX0_row_26 rfl w
theorem sX0_ruled_0 {G : GG} {x : Nat} {h : AH} {Q : Outcome → AH → Prop} (B : XB G x h) (w : XB G x h → Run G mX0_ruled 300 5 [(1, va_rf (aP h 19 x))] [] h Q) : Run G mX0_ruled 300 0 [(0, .ref x)] [] h Q := by
  refine R_aload_n dX0_ruled_0 0 rfl ?_
  refine X_getQ (k := 19) B dX0_ruled_1 q284 (by decide) rfl ?_
  refine R_astore_nQ (lv' := [(1, va_rf (aP h 19 x)), (0, .ref x)]) dX0_ruled_4 rfl (by decide) rfl ?_
  exact R_sub [0] rfl (w B)
theorem sX0_ruled_5 {G : GG} {x : Nat} {h : AH} {Q : Outcome → AH → Prop} {a1 : Option Nat} (B : XB G x h) (w : (a1 = none → (Q (.returned (some (.int (bi false)))) h)) ∧ ((a1).isSome = true → (∃ q3 : Nat, a1 = some q3 ∧ (IsK G h q3 (8, 0) ∧ (((aP h 512 q3) = none → (∃ q8 : Nat, a1 = some q8 ∧ (IsK G h q8 (8, 0) ∧ (∃ q11 : Nat, (aP h 513 q8) = some q11 ∧ (CV_value G 298 h q11 (fun o h13 => ∃ r14 : Int32, o = .returned (some (.int r14)) ∧ XB G x h13 ∧ ((r14 = 0 → (Q (.returned (some (.int (bi false)))) h13)) ∧ (¬ r14 = 0 → (Q (.returned (some (.int (bi true)))) h13))))))))) ∧ (((aP h 512 q3)).isSome = true → (∃ q16 : Nat, a1 = some q16 ∧ (IsK G h q16 (8, 0) ∧ (∃ q19 : Nat, (aP h 512 q16) = some q19 ∧ (CV_value G 298 h q19 (fun o h21 => ∃ r22 : Int32, o = .returned (some (.int r22)) ∧ XB G x h21 ∧ ((¬ r22 = 0 → (∃ q23 : Nat, a1 = some q23 ∧ (IsK G h21 q23 (8, 0) ∧ (∃ q26 : Nat, (aP h21 513 q23) = some q26 ∧ (CV_value G 298 h21 q26 (fun o h28 => ∃ r29 : Int32, o = .returned (some (.int r29)) ∧ XB G x h28 ∧ ((r29 = 0 → (Q (.returned (some (.int (bi false)))) h28)) ∧ (¬ r29 = 0 → (Q (.returned (some (.int (bi true)))) h28))))))))) ∧ (r22 = 0 → (∃ q31 : Nat, a1 = some q31 ∧ (IsK G h21 q31 (8, 0) ∧ (XB G x h21 → Run G mX0_ruled 300 5 [(1, va_rf (aP h21 514 q31))] [] h21 Q)))))))))))))))) : Run G mX0_ruled 300 5 [(1, va_rf a1)] [] h Q := by
  refine R_aload_nQ dX0_ruled_5 0 rfl ?_
  refine R_ifnull (tgt := 53) dX0_ruled_6 (by decide) (fun e1 => ?_) (fun q2 e1 => ?_)
  · have w := w.1 e1
    refine R_iconst (v := 0) dX0_ruled_53 (by decide) ?_
    exact R_bret (b := false) dX0_ruled_54 rfl w
  · have w := w.2 (by rw [e1]; rfl)
    refine R_aload_nQ dX0_ruled_9 0 rfl ?_
    obtain ⟨q3, e4, w⟩ := w
    refine R_top (v' := .ref q3) (congrArg va_rf e4) ?_
    obtain ⟨k5, w⟩ := w
    refine R_getPN (k := 0) (f := 512) ok8 dX0_ruled_10 q536 (by decide) rfl (by decide) k5 ?_
    refine R_ifnull (tgt := 29) dX0_ruled_13 (by decide) (fun e6 => ?_) (fun q7 e6 => ?_)
    · have w := w.1 e6
      refine R_aload_nQ dX0_ruled_29 0 rfl ?_
      obtain ⟨q8, e9, w⟩ := w
      refine R_top (v' := .ref q8) (congrArg va_rf e9) ?_
      obtain ⟨k10, w⟩ := w
      obtain ⟨q11, e12, w⟩ := w
      refine R_getPN (k := 1) (f := 513) ok8 dX0_ruled_30 q537 (by decide) rfl (by decide) k10 ?_
      refine R_top (v' := .ref q11) (congrArg va_rf e12) ?_
      refine R_CV_value dX0_ruled_33 q696 (by decide) (Nat.le_of_ble_eq_true rfl) w (fun r14 h13 w => ?_)
      obtain ⟨Bh13, w⟩ := w
      refine R_if_eq (tgt := 43) dX0_ruled_36 (by decide) (fun c15 => ?_) (fun c15 => ?_)
      · have w := w.1 c15
        refine R_iconst (v := 0) dX0_ruled_43 (by decide) ?_
        exact R_bret (b := false) dX0_ruled_44 rfl w
      · have w := w.2 c15
        refine R_iconst (v := 1) dX0_ruled_39 (by decide) ?_
        refine R_goto (tgt := 44) dX0_ruled_40 (by decide) ?_
        exact R_bret (b := true) dX0_ruled_44 rfl w
    · have w := w.2 (by rw [e6]; rfl)
      refine R_aload_nQ dX0_ruled_16 0 rfl ?_
      obtain ⟨q16, e17, w⟩ := w
      refine R_top (v' := .ref q16) (congrArg va_rf e17) ?_
      obtain ⟨k18, w⟩ := w
      refine R_getPN (k := 0) (f := 512) ok8 dX0_ruled_17 q536 (by decide) rfl (by decide) k18 ?_
      obtain ⟨q19, e20, w⟩ := w
      refine R_top (v' := .ref q19) (congrArg va_rf e20) ?_
      refine R_CV_value dX0_ruled_20 q696 (by decide) (Nat.le_of_ble_eq_true rfl) w (fun r22 h21 w => ?_)
      obtain ⟨Bh21, w⟩ := w
      refine R_if_ne (tgt := 29) dX0_ruled_23 (by decide) (fun c34 => ?_) (fun c34 => ?_)
      · have w := w.1 c34
        refine R_aload_nQ dX0_ruled_29 0 rfl ?_
        obtain ⟨q23, e24, w⟩ := w
        refine R_top (v' := .ref q23) (congrArg va_rf e24) ?_
        obtain ⟨k25, w⟩ := w
        obtain ⟨q26, e27, w⟩ := w
        refine R_getPN (k := 1) (f := 513) ok8 dX0_ruled_30 q537 (by decide) rfl (by decide) k25 ?_
        refine R_top (v' := .ref q26) (congrArg va_rf e27) ?_
        refine R_CV_value dX0_ruled_33 q696 (by decide) (Nat.le_of_ble_eq_true rfl) w (fun r29 h28 w => ?_)
        obtain ⟨Bh28, w⟩ := w
        refine R_if_eq (tgt := 43) dX0_ruled_36 (by decide) (fun c30 => ?_) (fun c30 => ?_)
        · have w := w.1 c30
          refine R_iconst (v := 0) dX0_ruled_43 (by decide) ?_
          exact R_bret (b := false) dX0_ruled_44 rfl w
        · have w := w.2 c30
          refine R_iconst (v := 1) dX0_ruled_39 (by decide) ?_
          refine R_goto (tgt := 44) dX0_ruled_40 (by decide) ?_
          exact R_bret (b := true) dX0_ruled_44 rfl w
      · have w := w.2 c34
        refine R_goto (tgt := 45) dX0_ruled_26 (by decide) ?_
        refine R_aload_nQ dX0_ruled_45 0 rfl ?_
        obtain ⟨q31, e32, w⟩ := w
        refine R_top (v' := .ref q31) (congrArg va_rf e32) ?_
        obtain ⟨k33, w⟩ := w
        refine R_getPN (k := 2) (f := 514) ok8 dX0_ruled_46 q538 (by decide) rfl (by decide) k33 ?_
        refine R_astore_nQ (lv' := [(1, va_rf (aP h21 514 q31))]) dX0_ruled_49 rfl (by decide) rfl ?_
        refine R_goto (tgt := 5) dX0_ruled_50 (by decide) ?_
        exact w Bh21
theorem sX0_run_0 {G : GG} {x : Nat} {h : AH} {Q : Outcome → AH → Prop} {a1 : Int32} {a2 : Int32} (B : XB G x h) (w : Run G mX0_isWay 2 0 [(0, .int a1)] [] h (fun o h1 => ∃ b2 : Bool, o = .returned (some (.int (bi b2))) ∧ XB G x h1 ∧ ((b2 = false → (Q (.returned (some (.int (-1)))) h1)) ∧ (b2 = true → (Run G mX0_isPerson 2 0 [(0, .ref x), (1, .int a2)] [] h1 (fun o h3 => ∃ b4 : Bool, o = .returned (some (.int (bi b4))) ∧ XB G x h3 ∧ ((b4 = true → (Run G mX0_nameAll 308 0 [(0, .ref x), (1, .int a1)] [] h3 (fun o h5 => o = .returned none ∧ XB G x h5 ∧ (vp_in a2 12 ∧ ((¬ (aA h5 (x + 13) a2.toNatClampNeg) = (-1) → (vp_in a2 12 ∧ (Q (.returned (some (.int (aA h5 (x + 13) a2.toNatClampNeg)))) h5))) ∧ ((aA h5 (x + 13) a2.toNatClampNeg) = (-1) → (Q (.returned (some (.int (-2)))) h5))))))) ∧ (b4 = false → (Q (.returned (some (.int (-1)))) h3))))))))) : Run G mX0_run 309 0 [(0, .ref x), (1, .int a1), (2, .int a2)] [] h Q := by
  refine R_iload_n dX0_run_0 1 rfl ?_
  refine R_invS (Mc := mX0_isWay) (As := [.int a1]) (st := []) dX0_run_1 q742 q743 q103 wX0_isWay pX0_isWay rfl (Nat.le_of_ble_eq_true rfl) (by decide) (by decide) (Nat.le_of_ble_eq_true rfl) (aft_z w (fun b2 h1 w => ?_))
  obtain ⟨Bh1, w⟩ := w
  refine R_ifz_eq (tgt := 15) dX0_run_4 (by decide) (fun c10 => ?_) (fun c10 => ?_)
  · have w := w.1 c10
    refine R_iconst (v := (-1)) dX0_run_15 (by decide) ?_
    exact R_iret dX0_run_16 rfl w
  · have w := w.2 c10
    refine R_aload_n dX0_run_7 0 rfl ?_
    refine R_iload_n dX0_run_8 2 rfl ?_
    refine R_invV (Mc := mX0_isPerson) (b := x) (As := [.int a2]) (st := []) ok0 (by decide) Bh1.1 dX0_run_9 q436 q438 qs3 q103 wX0_isPerson pX0_isPerson rfl (Nat.le_of_ble_eq_true rfl) (by decide) (by decide) (Nat.le_of_ble_eq_true rfl) (aft_z w (fun b4 h3 w => ?_))
    obtain ⟨Bh3, w⟩ := w
    refine R_ifz_ne (tgt := 17) dX0_run_12 (by decide) (fun c9 => ?_) (fun c9 => ?_)
    · have w := w.1 c9
      refine R_aload_n dX0_run_17 0 rfl ?_
      refine R_iload_n dX0_run_18 1 rfl ?_
      refine R_invV (Mc := mX0_nameAll) (b := x) (As := [.int a1]) (st := []) ok0 (by decide) Bh3.1 dX0_run_19 q765 q767 qs38 q103 wX0_nameAll pX0_nameAll rfl (Nat.le_of_ble_eq_true rfl) (by decide) (by decide) (Nat.le_of_ble_eq_true rfl) (aft_v w (fun h5 w => ?_))
      obtain ⟨Bh5, w⟩ := w
      refine R_aload_n dX0_run_22 0 rfl ?_
      refine X_getA (k := 21) (o := 13) (j := 100) (n := 12) Bh5 dX0_run_23 q286 (by decide) rfl rfl ?_
      refine R_iload_n dX0_run_26 2 rfl ?_
      obtain ⟨c8, w⟩ := w
      refine X_iald (k := 21) Bh5 dX0_run_27 rfl c8 ?_
      refine R_iconst (v := (-1)) dX0_run_28 (by decide) ?_
      refine R_icmp_ne (tgt := 37) dX0_run_29 (by decide) (fun c7 => ?_) (fun c7 => ?_)
      · have w := w.1 c7
        refine R_aload_n dX0_run_37 0 rfl ?_
        refine X_getA (k := 21) (o := 13) (j := 100) (n := 12) Bh5 dX0_run_38 q286 (by decide) rfl rfl ?_
        refine R_iload_n dX0_run_41 2 rfl ?_
        obtain ⟨c6, w⟩ := w
        refine X_iald (k := 21) Bh5 dX0_run_42 rfl c6 ?_
        exact R_iret dX0_run_43 rfl w
      · have w := w.2 c7
        refine R_bipush (v := (-2)) dX0_run_32 (by decide) ?_
        refine R_goto (tgt := 43) dX0_run_34 (by decide) ?_
        exact R_iret dX0_run_43 rfl w
    · have w := w.2 c9
      refine R_iconst (v := (-1)) dX0_run_15 (by decide) ?_
      exact R_iret dX0_run_16 rfl w
theorem sX0_shift_0 {G : GG} {x : Nat} {h : AH} {Q : Outcome → AH → Prop} {a1 : Int32} {a2 : Int32} {a3 : Int32} {a4 : Int32} {a5 : Int32} (B : XB G x h) (w : Run G mX0_isShelf 2 0 [(0, .int a1)] [] h (fun o h1 => ∃ b2 : Bool, o = .returned (some (.int (bi b2))) ∧ XB G x h1 ∧ ((b2 = false → (Q (.returned (some (.int (-1)))) h1)) ∧ (b2 = true → (Run G mX0_isShelf 2 0 [(0, .int a3)] [] h1 (fun o h3 => ∃ b4 : Bool, o = .returned (some (.int (bi b4))) ∧ XB G x h3 ∧ ((b4 = true → (vp_in a1 6 ∧ (vp_in a3 6 ∧ (((aR h3 (x + 18) a1.toNatClampNeg) = none → (Q (.returned (some (.int (-11)))) h3)) ∧ (((aR h3 (x + 18) a1.toNatClampNeg)).isSome = true → (((aR h3 (x + 18) a3.toNatClampNeg) = none → (Q (.returned (some (.int (-11)))) h3)) ∧ (((aR h3 (x + 18) a3.toNatClampNeg)).isSome = true → (Run G mX0_sortOf 1 0 [(0, va_rf (aR h3 (x + 18) a1.toNatClampNeg))] [] h3 (fun o h11 => ∃ r12 : Int32, o = .returned (some (.int r12)) ∧ XB G x h11 ∧ ((r12 = (-1) → (Q (.returned (some (.int (-12)))) h11)) ∧ (¬ r12 = (-1) → (Run G mX0_sortOf 1 0 [(0, va_rf (aR h3 (x + 18) a1.toNatClampNeg))] [] h11 (fun o h13 => ∃ r14 : Int32, o = .returned (some (.int r14)) ∧ XB G x h13 ∧ (Run G mX0_sortOf 1 0 [(0, va_rf (aR h3 (x + 18) a3.toNatClampNeg))] [] h13 (fun o h15 => ∃ r16 : Int32, o = .returned (some (.int r16)) ∧ XB G x h15 ∧ ((r14 = r16 → ((a5 < 0 → (Q (.returned (some (.int (-13)))) h15)) ∧ (¬ a5 < 0 → ((a2 < 0 → (Q (.returned (some (.int (-13)))) h15)) ∧ (¬ a2 < 0 → ((a4 < 0 → (Q (.returned (some (.int (-13)))) h15)) ∧ (¬ a4 < 0 → (Run G mX0_sizeOf 2 0 [(0, va_rf (aR h3 (x + 18) a1.toNatClampNeg))] [] h15 (fun o h17 => ∃ r18 : Int32, o = .returned (some (.int r18)) ∧ XB G x h17 ∧ (((r18 - a5) < a2 → (Q (.returned (some (.int (-13)))) h17)) ∧ (¬ (r18 - a5) < a2 → (Run G mX0_sizeOf 2 0 [(0, va_rf (aR h3 (x + 18) a3.toNatClampNeg))] [] h17 (fun o h19 => ∃ r20 : Int32, o = .returned (some (.int r20)) ∧ XB G x h19 ∧ ((a4 ≤ (r20 - a5) → (∃ h21 : AH, CopiedQ G h19 (aR h3 (x + 18) a1.toNatClampNeg) (aR h3 (x + 18) a3.toNatClampNeg) a2 a4 a5 h21 ∧ (XB G x h21 → (Q (.returned (some (.int a5))) h21)))) ∧ (¬ a4 ≤ (r20 - a5) → (Q (.returned (some (.int (-13)))) h19)))))))))))))))) ∧ (¬ r14 = r16 → (Q (.returned (some (.int (-12)))) h15)))))))))))))))))) ∧ (b4 = false → (Q (.returned (some (.int (-1)))) h3))))))))) : Run G mX0_shift 3 0 [(0, .ref x), (1, .int a1), (2, .int a2), (3, .int a3), (4, .int a4), (5, .int a5)] [] h Q := by
  refine R_iload_n dX0_shift_0 1 rfl ?_
  refine R_invS (Mc := mX0_isShelf) (As := [.int a1]) (st := []) dX0_shift_1 q409 q410 q103 wX0_isShelf pX0_isShelf rfl (Nat.le_of_ble_eq_true rfl) (by decide) (by decide) (Nat.le_of_ble_eq_true rfl) (aft_z w (fun b2 h1 w => ?_))
  obtain ⟨Bh1, w⟩ := w
  refine R_ifz_eq (tgt := 14) dX0_shift_4 (by decide) (fun c31 => ?_) (fun c31 => ?_)
  · have w := w.1 c31
    refine R_iconst (v := (-1)) dX0_shift_14 (by decide) ?_
    exact R_iret dX0_shift_15 rfl w
  · have w := w.2 c31
    refine R_iload_n dX0_shift_7 3 rfl ?_
    refine R_invS (Mc := mX0_isShelf) (As := [.int a3]) (st := []) dX0_shift_8 q409 q410 q103 wX0_isShelf pX0_isShelf rfl (Nat.le_of_ble_eq_true rfl) (by decide) (by decide) (Nat.le_of_ble_eq_true rfl) (aft_z w (fun b4 h3 w => ?_))
    obtain ⟨Bh3, w⟩ := w
    refine R_ifz_ne (tgt := 16) dX0_shift_11 (by decide) (fun c30 => ?_) (fun c30 => ?_)
    · have w := w.1 c30
      refine R_aload_n dX0_shift_16 0 rfl ?_
      refine X_getA (k := 30) (o := 18) (j := 110) (n := 6) Bh3 dX0_shift_17 q297 (by decide) rfl rfl ?_
      refine R_iload_n dX0_shift_20 1 rfl ?_
      obtain ⟨c5, w⟩ := w
      refine X_aald (k := 30) (j := 10) (E := "java/lang/Object") Bh3 dX0_shift_21 rfl (by decide) (by decide) rfl c5 ?_
      refine R_astoreQ (lv' := [(6, va_rf (aR h3 (x + 18) a1.toNatClampNeg)), (0, .ref x), (1, .int a1), (2, .int a2), (3, .int a3), (4, .int a4), (5, .int a5)]) dX0_shift_22 (by decide) rfl ?_
      refine R_aload_n dX0_shift_24 1 rfl ?_
      refine X_getA (k := 30) (o := 18) (j := 110) (n := 6) Bh3 dX0_shift_25 q297 (by decide) rfl rfl ?_
      refine R_iload_n dX0_shift_28 4 rfl ?_
      obtain ⟨c6, w⟩ := w
      refine X_aald (k := 30) (j := 10) (E := "java/lang/Object") Bh3 dX0_shift_29 rfl (by decide) (by decide) rfl c6 ?_
      refine R_astoreQ (lv' := [(7, va_rf (aR h3 (x + 18) a3.toNatClampNeg)), (6, va_rf (aR h3 (x + 18) a1.toNatClampNeg)), (0, .ref x), (1, .int a1), (2, .int a2), (3, .int a3), (4, .int a4), (5, .int a5)]) dX0_shift_30 (by decide) (by simp [rf_cat, cat_i, cat_r, cat_l]) ?_
      refine R_aloadQ dX0_shift_32 1 rfl ?_
      refine R_ifnull (tgt := 42) dX0_shift_34 (by decide) (fun e7 => ?_) (fun q8 e7 => ?_)
      · have w := w.1 e7
        refine R_bipush (v := (-11)) dX0_shift_42 (by decide) ?_
        exact R_iret dX0_shift_44 rfl w
      · have w := w.2 (by rw [e7]; rfl)
        refine R_aloadQ dX0_shift_37 0 rfl ?_
        refine R_ifnonnull (tgt := 45) dX0_shift_39 (by decide) (fun q10 e9 => ?_) (fun e9 => ?_)
        · have w := w.2 (by rw [e9]; rfl)
          refine R_aloadQ dX0_shift_45 1 rfl ?_
          refine R_invS (Mc := mX0_sortOf) (As := [va_rf (aR h3 (x + 18) a1.toNatClampNeg)]) (st := []) dX0_shift_47 q414 q415 q103 wX0_sortOf pX0_sortOf rfl (by simp [lg_sl, rf_cat, cat_i, cat_r, cat_l, mX0_sortOf]) (by decide) (by decide) (Nat.le_of_ble_eq_true rfl) (run_la (by simp [lv_args, rf_cat, cat_i, cat_r, cat_l]) (aft_i w (fun r12 h11 w => ?_)))
          obtain ⟨Bh11, w⟩ := w
          refine R_iconst (v := (-1)) dX0_shift_50 (by decide) ?_
          refine R_icmp_eq (tgt := 67) dX0_shift_51 (by decide) (fun c29 => ?_) (fun c29 => ?_)
          · have w := w.1 c29
            refine R_bipush (v := (-12)) dX0_shift_67 (by decide) ?_
            exact R_iret dX0_shift_69 rfl w
          · have w := w.2 c29
            refine R_aloadQ dX0_shift_54 1 rfl ?_
            refine R_invS (Mc := mX0_sortOf) (As := [va_rf (aR h3 (x + 18) a1.toNatClampNeg)]) (st := []) dX0_shift_56 q414 q415 q103 wX0_sortOf pX0_sortOf rfl (by simp [lg_sl, rf_cat, cat_i, cat_r, cat_l, mX0_sortOf]) (by decide) (by decide) (Nat.le_of_ble_eq_true rfl) (run_la (by simp [lv_args, rf_cat, cat_i, cat_r, cat_l]) (aft_i w (fun r14 h13 w => ?_)))
            obtain ⟨Bh13, w⟩ := w
            refine R_aloadQ dX0_shift_59 0 rfl ?_
            refine R_invS (Mc := mX0_sortOf) (As := [va_rf (aR h3 (x + 18) a3.toNatClampNeg)]) (st := [.int r14]) dX0_shift_61 q414 q415 q103 wX0_sortOf pX0_sortOf rfl (by simp [lg_sl, rf_cat, cat_i, cat_r, cat_l, mX0_sortOf]) (by decide) (by decide) (Nat.le_of_ble_eq_true rfl) (run_la (by simp [lv_args, rf_cat, cat_i, cat_r, cat_l]) (aft_i w (fun r16 h15 w => ?_)))
            obtain ⟨Bh15, w⟩ := w
            refine R_icmp_eq (tgt := 70) dX0_shift_64 (by decide) (fun c28 => ?_) (fun c28 => ?_)
            · have w := w.1 c28
              refine R_iload dX0_shift_70 7 rfl ?_
              refine R_if_lt (tgt := 109) dX0_shift_72 (by decide) (fun c27 => ?_) (fun c27 => ?_)
              · have w := w.1 c27
                refine R_bipush (v := (-13)) dX0_shift_109 (by decide) ?_
                exact R_iret dX0_shift_111 rfl w
              · have w := w.2 c27
                refine R_iload_n dX0_shift_75 4 rfl ?_
                refine R_if_lt (tgt := 109) dX0_shift_76 (by decide) (fun c26 => ?_) (fun c26 => ?_)
                · have w := w.1 c26
                  refine R_bipush (v := (-13)) dX0_shift_109 (by decide) ?_
                  exact R_iret dX0_shift_111 rfl w
                · have w := w.2 c26
                  refine R_iload dX0_shift_79 6 rfl ?_
                  refine R_if_lt (tgt := 109) dX0_shift_81 (by decide) (fun c25 => ?_) (fun c25 => ?_)
                  · have w := w.1 c25
                    refine R_bipush (v := (-13)) dX0_shift_109 (by decide) ?_
                    exact R_iret dX0_shift_111 rfl w
                  · have w := w.2 c25
                    refine R_iload_n dX0_shift_84 4 rfl ?_
                    refine R_aloadQ dX0_shift_85 1 rfl ?_
                    refine R_invS (Mc := mX0_sizeOf) (As := [va_rf (aR h3 (x + 18) a1.toNatClampNeg)]) (st := [.int a2]) dX0_shift_87 q1173 q1174 q103 wX0_sizeOf pX0_sizeOf rfl (by simp [lg_sl, rf_cat, cat_i, cat_r, cat_l, mX0_sizeOf]) (by decide) (by decide) (Nat.le_of_ble_eq_true rfl) (run_la (by simp [lv_args, rf_cat, cat_i, cat_r, cat_l]) (aft_i w (fun r18 h17 w => ?_)))
                    obtain ⟨Bh17, w⟩ := w
                    refine R_iload dX0_shift_90 7 rfl ?_
                    refine R_isub dX0_shift_92 ?_
                    refine R_icmp_gt (tgt := 109) dX0_shift_93 (by decide) (fun c24 => ?_) (fun c24 => ?_)
                    · have w := w.1 c24
                      refine R_bipush (v := (-13)) dX0_shift_109 (by decide) ?_
                      exact R_iret dX0_shift_111 rfl w
                    · have w := w.2 c24
                      refine R_iload dX0_shift_96 6 rfl ?_
                      refine R_aloadQ dX0_shift_98 0 rfl ?_
                      refine R_invS (Mc := mX0_sizeOf) (As := [va_rf (aR h3 (x + 18) a3.toNatClampNeg)]) (st := [.int a4]) dX0_shift_100 q1173 q1174 q103 wX0_sizeOf pX0_sizeOf rfl (by simp [lg_sl, rf_cat, cat_i, cat_r, cat_l, mX0_sizeOf]) (by decide) (by decide) (Nat.le_of_ble_eq_true rfl) (run_la (by simp [lv_args, rf_cat, cat_i, cat_r, cat_l]) (aft_i w (fun r20 h19 w => ?_)))
                      obtain ⟨Bh19, w⟩ := w
                      refine R_iload dX0_shift_103 7 rfl ?_
                      refine R_isub dX0_shift_105 ?_
                      refine R_icmp_le (tgt := 112) dX0_shift_106 (by decide) (fun c23 => ?_) (fun c23 => ?_)
                      · have w := w.1 c23
                        refine R_aloadQ dX0_shift_112 1 rfl ?_
                        refine R_iload_n dX0_shift_114 4 rfl ?_
                        refine R_aloadQ dX0_shift_115 0 rfl ?_
                        refine R_iload dX0_shift_117 6 rfl ?_
                        refine R_iload dX0_shift_119 7 rfl ?_
                        obtain ⟨h21, c22, w⟩ := w
                        have Bh21 : XB G x h21 := c22.xb Bh19
                        have w := w Bh21
                        refine R_copyQ dX0_shift_121 q1185 q1187 q1186 q129 c22 (by decide) (Nat.le_of_ble_eq_true rfl) ?_
                        refine R_iload dX0_shift_124 7 rfl ?_
                        exact R_iret dX0_shift_126 rfl w
                      · have w := w.2 c23
                        refine R_bipush (v := (-13)) dX0_shift_109 (by decide) ?_
                        exact R_iret dX0_shift_111 rfl w
            · have w := w.2 c28
              refine R_bipush (v := (-12)) dX0_shift_67 (by decide) ?_
              exact R_iret dX0_shift_69 rfl w
        · have w := w.1 e9
          refine R_bipush (v := (-11)) dX0_shift_42 (by decide) ?_
          exact R_iret dX0_shift_44 rfl w
    · have w := w.2 c30
      refine R_iconst (v := (-1)) dX0_shift_14 (by decide) ?_
      exact R_iret dX0_shift_15 rfl w
theorem sX0_sizeOf_0 {G : GG} {x : Nat} {h : AH} {Q : Outcome → AH → Prop} {a0 : Option Nat} (B : XB G x h) (w : Run G mX0_sortOf 1 0 [(0, va_rf a0)] [] h (fun o h1 => ∃ r2 : Int32, o = .returned (some (.int r2)) ∧ XB G x h1 ∧ ((r2 = 0 → (∃ q4 : Nat, a0 = some q4 ∧ (CastOK G h1 q4 "[B" ∧ (∃ n7 : Nat, IsK G h1 q4 (102, n7) ∧ (Q (.returned (some (.int (nI n7)))) h1))))) ∧ (¬ r2 = 0 → ((r2 = 1 → (∃ q10 : Nat, a0 = some q10 ∧ (CastOK G h1 q10 "[S" ∧ (∃ n13 : Nat, IsK G h1 q10 (103, n13) ∧ (Q (.returned (some (.int (nI n13)))) h1))))) ∧ (¬ r2 = 1 → ((r2 = 2 → (∃ q16 : Nat, a0 = some q16 ∧ (CastOK G h1 q16 "[I" ∧ (∃ n19 : Nat, IsK G h1 q16 (100, n19) ∧ (Q (.returned (some (.int (nI n19)))) h1))))) ∧ (¬ r2 = 2 → ((r2 = 3 → (∃ q22 : Nat, a0 = some q22 ∧ (CastOK G h1 q22 "[J" ∧ (∃ n25 : Nat, IsK G h1 q22 (101, n25) ∧ (Q (.returned (some (.int (nI n25)))) h1))))) ∧ (¬ r2 = 3 → (∃ q27 : Nat, a0 = some q27 ∧ (CastOK G h1 q27 "[Z" ∧ (∃ n30 : Nat, IsK G h1 q27 (104, n30) ∧ (Q (.returned (some (.int (nI n30)))) h1)))))))))))))) : Run G mX0_sizeOf 2 0 [(0, va_rf a0)] [] h Q := by
  refine R_aload_nQ dX0_sizeOf_0 0 rfl ?_
  refine R_invS (Mc := mX0_sortOf) (As := [va_rf a0]) (st := []) dX0_sizeOf_1 q414 q415 q103 wX0_sortOf pX0_sortOf rfl (by simp [lg_sl, rf_cat, cat_i, cat_r, cat_l, mX0_sortOf]) (by decide) (by decide) (Nat.le_of_ble_eq_true rfl) (run_la (by simp [lv_args, rf_cat, cat_i, cat_r, cat_l]) (aft_i w (fun r2 h1 w => ?_)))
  obtain ⟨Bh1, w⟩ := w
  by_cases c3 : r2 = 0
  · have w := w.1 c3
    refine R_tableIn (off := 32) (tgt := 36) dX0_sizeOf_4 (by rw [c3]; decide) (by rw [c3]; decide) (by rw [c3]; rfl) (by decide) ?_
    refine R_aload_nQ dX0_sizeOf_36 0 rfl ?_
    obtain ⟨q4, e5, w⟩ := w
    refine R_top (v' := .ref q4) (congrArg va_rf e5) ?_
    obtain ⟨c6, w⟩ := w
    refine R_cast dX0_sizeOf_37 q417 c6 ?_
    obtain ⟨n7, k8, w⟩ := w
    refine R_alen (j := 2) dX0_sizeOf_40 (by decide) k8 ?_
    exact R_iret dX0_sizeOf_41 rfl w
  · have w := w.2 c3
    by_cases c9 : r2 = 1
    · have w := w.1 c9
      refine R_tableIn (off := 38) (tgt := 42) dX0_sizeOf_4 (by rw [c9]; decide) (by rw [c9]; decide) (by rw [c9]; rfl) (by decide) ?_
      refine R_aload_nQ dX0_sizeOf_42 0 rfl ?_
      obtain ⟨q10, e11, w⟩ := w
      refine R_top (v' := .ref q10) (congrArg va_rf e11) ?_
      obtain ⟨c12, w⟩ := w
      refine R_cast dX0_sizeOf_43 q418 c12 ?_
      obtain ⟨n13, k14, w⟩ := w
      refine R_alen (j := 3) dX0_sizeOf_46 (by decide) k14 ?_
      exact R_iret dX0_sizeOf_47 rfl w
    · have w := w.2 c9
      by_cases c15 : r2 = 2
      · have w := w.1 c15
        refine R_tableIn (off := 44) (tgt := 48) dX0_sizeOf_4 (by rw [c15]; decide) (by rw [c15]; decide) (by rw [c15]; rfl) (by decide) ?_
        refine R_aload_nQ dX0_sizeOf_48 0 rfl ?_
        obtain ⟨q16, e17, w⟩ := w
        refine R_top (v' := .ref q16) (congrArg va_rf e17) ?_
        obtain ⟨c18, w⟩ := w
        refine R_cast dX0_sizeOf_49 q419 c18 ?_
        obtain ⟨n19, k20, w⟩ := w
        refine R_alen (j := 0) dX0_sizeOf_52 (by decide) k20 ?_
        exact R_iret dX0_sizeOf_53 rfl w
      · have w := w.2 c15
        by_cases c21 : r2 = 3
        · have w := w.1 c21
          refine R_tableIn (off := 50) (tgt := 54) dX0_sizeOf_4 (by rw [c21]; decide) (by rw [c21]; decide) (by rw [c21]; rfl) (by decide) ?_
          refine R_aload_nQ dX0_sizeOf_54 0 rfl ?_
          obtain ⟨q22, e23, w⟩ := w
          refine R_top (v' := .ref q22) (congrArg va_rf e23) ?_
          obtain ⟨c24, w⟩ := w
          refine R_cast dX0_sizeOf_55 q420 c24 ?_
          obtain ⟨n25, k26, w⟩ := w
          refine R_alen (j := 1) dX0_sizeOf_58 (by decide) k26 ?_
          exact R_iret dX0_sizeOf_59 rfl w
        · have w := w.2 c21
          refine R_tableOut (tgt := 60) dX0_sizeOf_4 (sw_out r2 0 3 (by decide) (by decide) (fun j h1 h2 => ?_)) (by decide) ?_
          · intro e
            have e2 : j = 0 ∨ j = 1 ∨ j = 2 ∨ j = 3 := by omega
            rcases e2 with rfl | rfl | rfl | rfl
            · exact lv_neT c3 (by decide) e
            · exact lv_neT c9 (by decide) e
            · exact lv_neT c15 (by decide) e
            · exact lv_neT c21 (by decide) e
          · refine R_aload_nQ dX0_sizeOf_60 0 rfl ?_
            obtain ⟨q27, e28, w⟩ := w
            refine R_top (v' := .ref q27) (congrArg va_rf e28) ?_
            obtain ⟨c29, w⟩ := w
            refine R_cast dX0_sizeOf_61 q421 c29 ?_
            obtain ⟨n30, k31, w⟩ := w
            refine R_alen (j := 4) dX0_sizeOf_64 (by decide) k31 ?_
            exact R_iret dX0_sizeOf_65 rfl w
theorem sX0_sortOf_0 {G : GG} {x : Nat} {h : AH} {Q : Outcome → AH → Prop} {a0 : Option Nat} (B : XB G x h) (w : ∃ b1 : Bool, InstQ G h a0 "[B" b1 ∧ ((b1 = false → (∃ b3 : Bool, InstQ G h a0 "[S" b3 ∧ ((b3 = false → (∃ b5 : Bool, InstQ G h a0 "[I" b5 ∧ ((b5 = false → (∃ b7 : Bool, InstQ G h a0 "[J" b7 ∧ ((b7 = false → (∃ b9 : Bool, InstQ G h a0 "[Z" b9 ∧ ((b9 = false → (Q (.returned (some (.int (-1)))) h)) ∧ (b9 = true → (Q (.returned (some (.int 4))) h))))) ∧ (b7 = true → (Q (.returned (some (.int 3))) h))))) ∧ (b5 = true → (Q (.returned (some (.int 2))) h))))) ∧ (b3 = true → (Q (.returned (some (.int 1))) h))))) ∧ (b1 = true → (Q (.returned (some (.int 0))) h)))) : Run G mX0_sortOf 1 0 [(0, va_rf a0)] [] h Q := by
  refine R_aload_nQ dX0_sortOf_0 0 rfl ?_
  obtain ⟨b1, c2, w⟩ := w
  refine R_instQ dX0_sortOf_1 q417 c2 ?_
  refine R_ifz_eq (tgt := 11) dX0_sortOf_4 (by decide) (fun c15 => ?_) (fun c15 => ?_)
  · have w := w.1 c15
    refine R_aload_nQ dX0_sortOf_11 0 rfl ?_
    obtain ⟨b3, c4, w⟩ := w
    refine R_instQ dX0_sortOf_12 q418 c4 ?_
    refine R_ifz_eq (tgt := 22) dX0_sortOf_15 (by decide) (fun c14 => ?_) (fun c14 => ?_)
    · have w := w.1 c14
      refine R_aload_nQ dX0_sortOf_22 0 rfl ?_
      obtain ⟨b5, c6, w⟩ := w
      refine R_instQ dX0_sortOf_23 q419 c6 ?_
      refine R_ifz_eq (tgt := 33) dX0_sortOf_26 (by decide) (fun c13 => ?_) (fun c13 => ?_)
      · have w := w.1 c13
        refine R_aload_nQ dX0_sortOf_33 0 rfl ?_
        obtain ⟨b7, c8, w⟩ := w
        refine R_instQ dX0_sortOf_34 q420 c8 ?_
        refine R_ifz_eq (tgt := 44) dX0_sortOf_37 (by decide) (fun c12 => ?_) (fun c12 => ?_)
        · have w := w.1 c12
          refine R_aload_nQ dX0_sortOf_44 0 rfl ?_
          obtain ⟨b9, c10, w⟩ := w
          refine R_instQ dX0_sortOf_45 q421 c10 ?_
          refine R_ifz_eq (tgt := 55) dX0_sortOf_48 (by decide) (fun c11 => ?_) (fun c11 => ?_)
          · have w := w.1 c11
            refine R_iconst (v := (-1)) dX0_sortOf_55 (by decide) ?_
            exact R_iret dX0_sortOf_56 rfl w
          · have w := w.2 c11
            refine R_iconst (v := 4) dX0_sortOf_51 (by decide) ?_
            refine R_goto (tgt := 56) dX0_sortOf_52 (by decide) ?_
            exact R_iret dX0_sortOf_56 rfl w
        · have w := w.2 c12
          refine R_iconst (v := 3) dX0_sortOf_40 (by decide) ?_
          refine R_goto (tgt := 56) dX0_sortOf_41 (by decide) ?_
          exact R_iret dX0_sortOf_56 rfl w
      · have w := w.2 c13
        refine R_iconst (v := 2) dX0_sortOf_29 (by decide) ?_
        refine R_goto (tgt := 56) dX0_sortOf_30 (by decide) ?_
        exact R_iret dX0_sortOf_56 rfl w
    · have w := w.2 c14
      refine R_iconst (v := 1) dX0_sortOf_18 (by decide) ?_
      refine R_goto (tgt := 56) dX0_sortOf_19 (by decide) ?_
      exact R_iret dX0_sortOf_56 rfl w
  · have w := w.2 c15
    refine R_iconst (v := 0) dX0_sortOf_7 (by decide) ?_
    refine R_goto (tgt := 56) dX0_sortOf_8 (by decide) ?_
    exact R_iret dX0_sortOf_56 rfl w
theorem sX0_take_0 {G : GG} {x : Nat} {h : AH} {Q : Outcome → AH → Prop} {a1 : Int32} (B : XB G x h) (w : Run G mX0_peek 1 0 [(0, .ref x)] [] h (fun o h1 => ∃ r2 : Int32, o = .returned (some (.int r2)) ∧ XB G x h1 ∧ ((r2 = a1 → (Q (.returned (some (.int (bi true)))) (sI h1 6 x ((aI h1 6 x) + 1)))) ∧ (¬ r2 = a1 → (Q (.returned (some (.int (bi false)))) h1))))) : Run G mX0_take 2 0 [(0, .ref x), (1, .int a1)] [] h Q := by
  refine R_aload_n dX0_take_0 0 rfl ?_
  refine R_invV (Mc := mX0_peek) (b := x) (As := []) (st := []) ok0 (by decide) B.1 dX0_take_1 q574 q576 qs20 q103 wX0_peek pX0_peek rfl (Nat.le_of_ble_eq_true rfl) (by decide) (by decide) (Nat.le_of_ble_eq_true rfl) (aft_i w (fun r2 h1 w => ?_))
  obtain ⟨Bh1, w⟩ := w
  refine R_iload_n dX0_take_4 1 rfl ?_
  refine R_icmp_eq (tgt := 10) dX0_take_5 (by decide) (fun c3 => ?_) (fun c3 => ?_)
  · have w := w.1 c3
    refine R_aload_n dX0_take_10 0 rfl ?_
    refine R_dup dX0_take_11 rfl ?_
    refine X_getS (k := 6) Bh1 dX0_take_12 q270 (by decide) rfl ?_
    refine R_iconst (v := 1) dX0_take_15 (by decide) ?_
    refine R_iadd dX0_take_16 ?_
    refine X_putS (k := 6) Bh1 dX0_take_17 q270 (by decide) rfl rfl rfl rfl ?_
    refine R_iconst (v := 1) dX0_take_20 (by decide) ?_
    exact R_bret (b := true) dX0_take_21 rfl w
  · have w := w.2 c3
    refine R_iconst (v := 0) dX0_take_8 (by decide) ?_
    exact R_bret (b := false) dX0_take_9 rfl w
theorem sX0_tillOf_0 {G : GG} {x : Nat} {h : AH} {Q : Outcome → AH → Prop} {a1 : Int32} {a2 : Int32} (B : XB G x h) (w : XB G x h → Run G mX0_tillOf 305 2 [(0, .ref x), (1, .int a1), (3, .int a2)] [] h Q) : Run G mX0_tillOf 305 0 [(0, .ref x), (1, .int a1), (2, .int a2)] [] h Q := by
  refine R_iload_n dX0_tillOf_0 2 rfl ?_
  refine R_istore_n (lv' := [(3, .int a2), (0, .ref x), (1, .int a1), (2, .int a2)]) dX0_tillOf_1 rfl (by decide) rfl ?_
  exact R_sub [1, 2, 0] rfl (w B)
theorem sX0_tillOf_2 {G : GG} {x : Nat} {h : AH} {Q : Outcome → AH → Prop} {a1 : Int32} {a3 : Int32} (B : XB G x h) (w : (100 ≤ a3 → (Q (.returned (some (.int (-2)))) h)) ∧ (¬ 100 ≤ a3 → (Run G mX0_knowUpTo 4 0 [(0, .ref x), (1, .int a3), (2, .int 0)] [] h (fun o h1 => o = .returned none ∧ XB G x h1 ∧ (Run G mX0_isHeld 304 0 [(0, .ref x), (1, .int a1), (2, .int a3)] [] h1 (fun o h2 => ∃ b3 : Bool, o = .returned (some (.int (bi b3))) ∧ XB G x h2 ∧ ((b3 = true → (XB G x h2 → Run G mX0_tillOf 305 2 [(0, .ref x), (1, .int a1), (3, .int (a3 + 1))] [] h2 Q)) ∧ (b3 = false → (Q (.returned (some (.int a3))) h2))))))))) : Run G mX0_tillOf 305 2 [(0, .ref x), (1, .int a1), (3, .int a3)] [] h Q := by
  refine R_iload_n dX0_tillOf_2 2 rfl ?_
  refine R_bipush (v := 100) dX0_tillOf_3 (by decide) ?_
  refine R_icmp_ge (tgt := 31) dX0_tillOf_5 (by decide) (fun c5 => ?_) (fun c5 => ?_)
  · have w := w.1 c5
    refine R_bipush (v := (-2)) dX0_tillOf_31 (by decide) ?_
    exact R_iret dX0_tillOf_33 rfl w
  · have w := w.2 c5
    refine R_aload_n dX0_tillOf_8 0 rfl ?_
    refine R_iload_n dX0_tillOf_9 2 rfl ?_
    refine R_iconst (v := 0) dX0_tillOf_10 (by decide) ?_
    refine R_invV (Mc := mX0_knowUpTo) (b := x) (As := [.int a3, .int 0]) (st := []) ok0 (by decide) B.1 dX0_tillOf_11 q650 q652 qs23 q103 wX0_knowUpTo pX0_knowUpTo rfl (Nat.le_of_ble_eq_true rfl) (by decide) (by decide) (Nat.le_of_ble_eq_true rfl) (aft_v w (fun h1 w => ?_))
    obtain ⟨Bh1, w⟩ := w
    refine R_aload_n dX0_tillOf_14 0 rfl ?_
    refine R_iload_n dX0_tillOf_15 1 rfl ?_
    refine R_iload_n dX0_tillOf_16 2 rfl ?_
    refine R_invV (Mc := mX0_isHeld) (b := x) (As := [.int a1, .int a3]) (st := []) ok0 (by decide) Bh1.1 dX0_tillOf_17 q669 q671 qs26 q103 wX0_isHeld pX0_isHeld rfl (Nat.le_of_ble_eq_true rfl) (by decide) (by decide) (Nat.le_of_ble_eq_true rfl) (aft_z w (fun b3 h2 w => ?_))
    obtain ⟨Bh2, w⟩ := w
    refine R_ifz_ne (tgt := 25) dX0_tillOf_20 (by decide) (fun c4 => ?_) (fun c4 => ?_)
    · have w := w.1 c4
      refine R_iinc (v := (a3 + 1)) (lv' := [(3, .int (a3 + 1)), (0, .ref x), (1, .int a1)]) dX0_tillOf_25 2 rfl (congrArg (fun z => a3 + z) (show Int32.ofInt 1 = 1 by decide)) (by decide) rfl ?_
      refine R_goto (tgt := 2) dX0_tillOf_28 (by decide) ?_
      exact R_sub [1, 2, 0] rfl (w Bh2)
    · have w := w.2 c4
      refine R_iload_n dX0_tillOf_23 2 rfl ?_
      exact R_iret dX0_tillOf_24 rfl w
theorem sX0_toldIn_0 {G : GG} {x : Nat} {h : AH} {Q : Outcome → AH → Prop} {a1 : Option Nat} {a2 : Int64} (B : XB G x h) (w : (a1 = none → (Q (.threw (x + 10)) h)) ∧ ((a1).isSome = true → (((lg_cmp a2 0) < 0 → (Q (.threw (x + 10)) h)) ∧ (¬ (lg_cmp a2 0) < 0 → (∃ q3 : Nat, a1 = some q3 ∧ (CastOK G h q3 "[B" ∧ (∃ n6 : Nat, IsK G h q3 (102, n6) ∧ (((lg_cmp a2 ((nI n6).toInt64)) < 0 → (∃ q8 : Nat, a1 = some q8 ∧ (CastOK G h q8 "[B" ∧ (∃ n11 : Nat, IsK G h q8 (102, n11) ∧ vp_in a2.toInt32 n11 ∧ (Q (.returned (some (.int (aA h q8 a2.toInt32.toNatClampNeg)))) h))))) ∧ (¬ (lg_cmp a2 ((nI n6).toInt64)) < 0 → (Q (.threw (x + 10)) h)))))))))) : Run G mX0_toldIn 1 0 [(0, .ref x), (1, va_rf a1), (2, .long a2)] [] h Q := by
  refine R_aload_nQ dX0_toldIn_0 1 rfl ?_
  refine R_ifnull (tgt := 21) dX0_toldIn_1 (by decide) (fun e1 => ?_) (fun q2 e1 => ?_)
  · have w := w.1 e1
    refine R_aload_n dX0_toldIn_21 0 rfl ?_
    refine X_getA (k := 16) (o := 10) (j := 2) (n := 0) B dX0_toldIn_22 q280 (by decide) rfl rfl ?_
    refine R_athrow dX0_toldIn_25 ?_
    exact Thr.leave (by decide) w
  · have w := w.2 (by rw [e1]; rfl)
    refine R_lload_n dX0_toldIn_4 2 rfl ?_
    refine R_lconst (v := 0) dX0_toldIn_5 (by decide) ?_
    refine R_lcmp dX0_toldIn_6 ?_
    refine R_if_lt (tgt := 21) dX0_toldIn_7 (by decide) (fun c15 => ?_) (fun c15 => ?_)
    · have w := w.1 c15
      refine R_aload_n dX0_toldIn_21 0 rfl ?_
      refine X_getA (k := 16) (o := 10) (j := 2) (n := 0) B dX0_toldIn_22 q280 (by decide) rfl rfl ?_
      refine R_athrow dX0_toldIn_25 ?_
      exact Thr.leave (by decide) w
    · have w := w.2 c15
      refine R_lload_n dX0_toldIn_10 2 rfl ?_
      refine R_aload_nQ dX0_toldIn_11 1 rfl ?_
      obtain ⟨q3, e4, w⟩ := w
      refine R_top (v' := .ref q3) (congrArg va_rf e4) ?_
      obtain ⟨c5, w⟩ := w
      refine R_cast dX0_toldIn_12 q417 c5 ?_
      obtain ⟨n6, k7, w⟩ := w
      refine R_alen (j := 2) dX0_toldIn_15 (by decide) k7 ?_
      refine R_i2l dX0_toldIn_16 ?_
      refine R_lcmp dX0_toldIn_17 ?_
      refine R_if_lt (tgt := 26) dX0_toldIn_18 (by decide) (fun c14 => ?_) (fun c14 => ?_)
      · have w := w.1 c14
        refine R_aload_nQ dX0_toldIn_26 1 rfl ?_
        obtain ⟨q8, e9, w⟩ := w
        refine R_top (v' := .ref q8) (congrArg va_rf e9) ?_
        obtain ⟨c10, w⟩ := w
        refine R_cast dX0_toldIn_27 q417 c10 ?_
        refine R_lload_n dX0_toldIn_30 2 rfl ?_
        refine R_l2i dX0_toldIn_31 ?_
        obtain ⟨n11, k12, c13, w⟩ := w
        refine R_bald dX0_toldIn_32 k12 c13 ?_
        exact R_iret dX0_toldIn_33 rfl w
      · have w := w.2 c14
        refine R_aload_n dX0_toldIn_21 0 rfl ?_
        refine X_getA (k := 16) (o := 10) (j := 2) (n := 0) B dX0_toldIn_22 q280 (by decide) rfl rfl ?_
        refine R_athrow dX0_toldIn_25 ?_
        exact Thr.leave (by decide) w
theorem sX0_trace_0 {G : GG} {x : Nat} {h : AH} {Q : Outcome → AH → Prop} {a1 : Int32} (B : XB G x h) (w : Run G mX0_within 1 0 [(0, .long a1.toInt64), (2, .long 0), (4, .long ((if 24 < (aI h 29 x) then 24 else (aI h 29 x)) - 1).toInt64)] [] h (fun o h1 => ∃ b2 : Bool, o = .returned (some (.int (bi b2))) ∧ XB G x h1 ∧ ((b2 = false → (Q (.returned (some (.int (-1)))) h1)) ∧ (b2 = true → (vp_in a1 24 ∧ (Q (.returned (some (.int (aA h1 (x + 17) a1.toNatClampNeg)))) h1)))))) : Run G mX0_trace 2 0 [(0, .ref x), (1, .int a1)] [] h Q := by
  refine R_iload_n dX0_trace_0 1 rfl ?_
  refine R_i2l dX0_trace_1 ?_
  refine R_lconst (v := 0) dX0_trace_2 (by decide) ?_
  refine R_aload_n dX0_trace_3 0 rfl ?_
  refine X_getS (k := 29) B dX0_trace_4 q296 (by decide) rfl ?_
  refine R_bipush (v := 24) dX0_trace_7 (by decide) ?_
  refine R_mmin dX0_trace_9 q1149 q1150 q120 q1151 (by decide) (Nat.le_of_ble_eq_true rfl) ?_
  refine R_iconst (v := 1) dX0_trace_12 (by decide) ?_
  refine R_isub dX0_trace_13 ?_
  refine R_i2l dX0_trace_14 ?_
  refine R_invS (Mc := mX0_within) (As := [.long a1.toInt64, .long 0, .long ((if 24 < (aI h 29 x) then 24 else (aI h 29 x)) - 1).toInt64]) (st := []) dX0_trace_15 q366 q367 q103 wX0_within pX0_within rfl (Nat.le_of_ble_eq_true rfl) (by decide) (by decide) (Nat.le_of_ble_eq_true rfl) (aft_z w (fun b2 h1 w => ?_))
  obtain ⟨Bh1, w⟩ := w
  refine R_ifz_eq (tgt := 30) dX0_trace_18 (by decide) (fun c4 => ?_) (fun c4 => ?_)
  · have w := w.1 c4
    refine R_iconst (v := (-1)) dX0_trace_30 (by decide) ?_
    exact R_iret dX0_trace_31 rfl w
  · have w := w.2 c4
    refine R_aload_n dX0_trace_21 0 rfl ?_
    refine X_getA (k := 28) (o := 17) (j := 100) (n := 24) Bh1 dX0_trace_22 q294 (by decide) rfl rfl ?_
    refine R_iload_n dX0_trace_25 1 rfl ?_
    obtain ⟨c3, w⟩ := w
    refine X_iald (k := 28) Bh1 dX0_trace_26 rfl c3 ?_
    refine R_goto (tgt := 31) dX0_trace_27 (by decide) ?_
    exact R_iret dX0_trace_31 rfl w
theorem sX0_undo_0 {G : GG} {x : Nat} {h : AH} {Q : Outcome → AH → Prop} (B : XB G x h) (w : (¬ (aI h 2 x) = 0 → (vp_in (aI (sI h 2 x ((aI h 2 x) - 1)) 2 x) 40 ∧ ∃ q2 : Nat, (aR (sI h 2 x ((aI h 2 x) - 1)) (x + 1) (aI (sI h 2 x ((aI h 2 x) - 1)) 2 x).toNatClampNeg) = some q2 ∧ (IsK G (sI h 2 x ((aI h 2 x) - 1)) q2 (3, 0) ∧ (∃ q5 : Nat, (aP (sI h 2 x ((aI h 2 x) - 1)) 192 q2) = some q5 ∧ (vp_in (aI (sI h 2 x ((aI h 2 x) - 1)) 2 x) 40 ∧ ∃ q8 : Nat, (aR (sI h 2 x ((aI h 2 x) - 1)) (x + 1) (aI (sI h 2 x ((aI h 2 x) - 1)) 2 x).toNatClampNeg) = some q8 ∧ (IsK G (sI h 2 x ((aI h 2 x) - 1)) q8 (3, 0) ∧ (IsK G (sI h 2 x ((aI h 2 x) - 1)) q5 (4, 0) ∧ (Q (.returned (some (.int (aI (sI (sI h 2 x ((aI h 2 x) - 1)) 256 q5 (aI (sI h 2 x ((aI h 2 x) - 1)) 193 q8)) 2 x)))) (sI (sI h 2 x ((aI h 2 x) - 1)) 256 q5 (aI (sI h 2 x ((aI h 2 x) - 1)) 193 q8)))))))))) ∧ ((aI h 2 x) = 0 → (Q (.returned (some (.int (-5)))) h))) : Run G mX0_undo 1 0 [(0, .ref x)] [] h Q := by
  refine R_aload_n dX0_undo_0 0 rfl ?_
  refine X_getS (k := 2) B dX0_undo_1 q266 (by decide) rfl ?_
  refine R_if_ne (tgt := 10) dX0_undo_4 (by decide) (fun c12 => ?_) (fun c12 => ?_)
  · have w := w.1 c12
    refine R_aload_n dX0_undo_10 0 rfl ?_
    refine R_dup dX0_undo_11 rfl ?_
    refine X_getS (k := 2) B dX0_undo_12 q266 (by decide) rfl ?_
    refine R_iconst (v := 1) dX0_undo_15 (by decide) ?_
    refine R_isub dX0_undo_16 ?_
    refine X_putS (k := 2) B dX0_undo_17 q266 (by decide) rfl rfl rfl rfl ?_
    refine R_aload_n dX0_undo_20 0 rfl ?_
    refine X_getA (k := 0) (o := 1) (j := 105) (n := 40) B.I dX0_undo_21 q264 (by decide) rfl rfl ?_
    refine R_aload_n dX0_undo_24 0 rfl ?_
    refine X_getS (k := 2) B.I dX0_undo_25 q266 (by decide) rfl ?_
    obtain ⟨c1, q2, e3, w⟩ := w
    refine X_aald (k := 0) (j := 5) (E := "NameRests$Change") B.I dX0_undo_28 rfl (by decide) (by decide) rfl c1 ?_
    refine R_top (v' := .ref q2) (congrArg va_rf e3) ?_
    obtain ⟨k4, w⟩ := w
    obtain ⟨q5, e6, w⟩ := w
    refine R_getPN (k := 0) (f := 192) ok3 dX0_undo_29 q244 (by decide) rfl (by decide) k4 ?_
    refine R_top (v' := .ref q5) (congrArg va_rf e6) ?_
    refine R_aload_n dX0_undo_32 0 rfl ?_
    refine X_getA (k := 0) (o := 1) (j := 105) (n := 40) B.I dX0_undo_33 q264 (by decide) rfl rfl ?_
    refine R_aload_n dX0_undo_36 0 rfl ?_
    refine X_getS (k := 2) B.I dX0_undo_37 q266 (by decide) rfl ?_
    obtain ⟨c7, q8, e9, w⟩ := w
    refine X_aald (k := 0) (j := 5) (E := "NameRests$Change") B.I dX0_undo_40 rfl (by decide) (by decide) rfl c7 ?_
    refine R_top (v' := .ref q8) (congrArg va_rf e9) ?_
    obtain ⟨k10, w⟩ := w
    refine R_getIN (k := 1) (f := 193) ok3 dX0_undo_41 q245 (by decide) rfl (by decide) k10 ?_
    obtain ⟨k11, w⟩ := w
    refine R_putIN (k := 0) (f := 256) ok4 dX0_undo_44 q260 (by decide) rfl rfl rfl rfl rfl (by decide) k11 ?_
    refine R_aload_n dX0_undo_47 0 rfl ?_
    refine X_getS (k := 2) B.I.I dX0_undo_48 q266 (by decide) rfl ?_
    exact R_iret dX0_undo_51 rfl w
  · have w := w.2 c12
    refine R_bipush (v := (-5)) dX0_undo_7 (by decide) ?_
    exact R_iret dX0_undo_9 rfl w
theorem sX0_used_0 {G : GG} {x : Nat} {h : AH} {Q : Outcome → AH → Prop} {a1 : Int32} {a2 : Int32} (B : XB G x h) (w : Run G mX0_isWay 2 0 [(0, .int a1)] [] h (fun o h1 => ∃ b2 : Bool, o = .returned (some (.int (bi b2))) ∧ XB G x h1 ∧ ((b2 = false → (Q (.returned (some (.int (-1)))) h1)) ∧ (b2 = true → (Run G mX0_within 1 0 [(0, .long a2.toInt64), (2, .long 0), (4, .long 2)] [] h1 (fun o h3 => ∃ b4 : Bool, o = .returned (some (.int (bi b4))) ∧ XB G x h3 ∧ ((b4 = true → (Run G mX0_nameAll 308 0 [(0, .ref x), (1, .int a1)] [] h3 (fun o h5 => o = .returned none ∧ XB G x h5 ∧ ((¬ a2 = 0 → (XB G x h5 → Run G mX0_used 309 43 [(0, .ref x), (2, .int a2), (3, .int 0), (4, .int 0), (5, .int 0)] [] h5 Q)) ∧ (a2 = 0 → (Run G mX0_namesUsed 2 0 [(0, .ref x)] [] h5 (fun o h6 => ∃ r7 : Int32, o = .returned (some (.int r7)) ∧ XB G x h6 ∧ (Q (.returned (some (.int r7))) h6)))))))) ∧ (b4 = false → (Q (.returned (some (.int (-1)))) h3))))))))) : Run G mX0_used 309 0 [(0, .ref x), (1, .int a1), (2, .int a2)] [] h Q := by
  refine R_iload_n dX0_used_0 1 rfl ?_
  refine R_invS (Mc := mX0_isWay) (As := [.int a1]) (st := []) dX0_used_1 q742 q743 q103 wX0_isWay pX0_isWay rfl (Nat.le_of_ble_eq_true rfl) (by decide) (by decide) (Nat.le_of_ble_eq_true rfl) (aft_z w (fun b2 h1 w => ?_))
  obtain ⟨Bh1, w⟩ := w
  refine R_ifz_eq (tgt := 19) dX0_used_4 (by decide) (fun c10 => ?_) (fun c10 => ?_)
  · have w := w.1 c10
    refine R_iconst (v := (-1)) dX0_used_19 (by decide) ?_
    exact R_iret dX0_used_20 rfl w
  · have w := w.2 c10
    refine R_iload_n dX0_used_7 2 rfl ?_
    refine R_i2l dX0_used_8 ?_
    refine R_lconst (v := 0) dX0_used_9 (by decide) ?_
    refine R_ldc2 (v := 2) dX0_used_10 q427 ?_
    refine R_invS (Mc := mX0_within) (As := [.long a2.toInt64, .long 0, .long 2]) (st := []) dX0_used_13 q366 q367 q103 wX0_within pX0_within rfl (Nat.le_of_ble_eq_true rfl) (by decide) (by decide) (Nat.le_of_ble_eq_true rfl) (aft_z w (fun b4 h3 w => ?_))
    obtain ⟨Bh3, w⟩ := w
    refine R_ifz_ne (tgt := 21) dX0_used_16 (by decide) (fun c9 => ?_) (fun c9 => ?_)
    · have w := w.1 c9
      refine R_aload_n dX0_used_21 0 rfl ?_
      refine R_iload_n dX0_used_22 1 rfl ?_
      refine R_invV (Mc := mX0_nameAll) (b := x) (As := [.int a1]) (st := []) ok0 (by decide) Bh3.1 dX0_used_23 q765 q767 qs38 q103 wX0_nameAll pX0_nameAll rfl (Nat.le_of_ble_eq_true rfl) (by decide) (by decide) (Nat.le_of_ble_eq_true rfl) (aft_v w (fun h5 w => ?_))
      obtain ⟨Bh5, w⟩ := w
      refine R_iload_n dX0_used_26 2 rfl ?_
      refine R_if_ne (tgt := 35) dX0_used_27 (by decide) (fun c8 => ?_) (fun c8 => ?_)
      · have w := w.1 c8
        refine R_iconst (v := 0) dX0_used_35 (by decide) ?_
        refine R_istore_n (lv' := [(3, .int 0), (0, .ref x), (1, .int a1), (2, .int a2)]) dX0_used_36 rfl (by decide) rfl ?_
        refine R_iconst (v := 0) dX0_used_37 (by decide) ?_
        refine R_istore (lv' := [(4, .int 0), (3, .int 0), (0, .ref x), (1, .int a1), (2, .int a2)]) dX0_used_38 (by decide) rfl ?_
        refine R_iconst (v := 0) dX0_used_40 (by decide) ?_
        refine R_istore (lv' := [(5, .int 0), (4, .int 0), (3, .int 0), (0, .ref x), (1, .int a1), (2, .int a2)]) dX0_used_41 (by decide) rfl ?_
        exact R_sub [3, 5, 2, 1, 0] rfl (w Bh5)
      · have w := w.2 c8
        refine R_aload_n dX0_used_30 0 rfl ?_
        refine R_invV (Mc := mX0_namesUsed) (b := x) (As := []) (st := []) ok0 (by decide) Bh5.1 dX0_used_31 q773 q775 qs39 q103 wX0_namesUsed pX0_namesUsed rfl (Nat.le_of_ble_eq_true rfl) (by decide) (by decide) (Nat.le_of_ble_eq_true rfl) (aft_i w (fun r7 h6 w => ?_))
        obtain ⟨Bh6, w⟩ := w
        exact R_iret dX0_used_34 rfl w
    · have w := w.2 c9
      refine R_iconst (v := (-1)) dX0_used_19 (by decide) ?_
      exact R_iret dX0_used_20 rfl w
theorem sX0_used_43 {G : GG} {x : Nat} {h : AH} {Q : Outcome → AH → Prop} {a2 : Int32} {a3 : Int32} {a4 : Int32} {a5 : Int32} (B : XB G x h) (w : ((aI h 8 x) ≤ a5 → ((¬ a2 = 1 → (Q (.returned (some (.int a4))) h)) ∧ (a2 = 1 → (Q (.returned (some (.int a3))) h)))) ∧ (¬ (aI h 8 x) ≤ a5 → (vp_in a5 12 ∧ ((¬ (aA h (x + 13) a5.toNatClampNeg) = (-1) → (vp_in a5 12 ∧ (vp_in (aA h (x + 13) a5.toNatClampNeg) 12 ∧ ∃ q3 : Nat, (aR h (x + 8) (aA h (x + 13) a5.toNatClampNeg).toNatClampNeg) = some q3 ∧ (IsK G h q3 (4, 0) ∧ (XB G x h → Run G mX0_used 309 43 [(0, .ref x), (2, .int a2), (3, .int (a3 + (aI h 256 q3))), (4, .int a4), (5, .int (a5 + 1))] [] h Q))))) ∧ ((aA h (x + 13) a5.toNatClampNeg) = (-1) → (XB G x h → Run G mX0_used 309 43 [(0, .ref x), (2, .int a2), (3, .int a3), (4, .int (a4 + 1)), (5, .int (a5 + 1))] [] h Q)))))) : Run G mX0_used 309 43 [(0, .ref x), (2, .int a2), (3, .int a3), (4, .int a4), (5, .int a5)] [] h Q := by
  refine R_iload dX0_used_43 4 rfl ?_
  refine R_aload_n dX0_used_45 0 rfl ?_
  refine X_getS (k := 8) B dX0_used_46 q272 (by decide) rfl ?_
  refine R_icmp_ge (tgt := 93) dX0_used_49 (by decide) (fun c9 => ?_) (fun c9 => ?_)
  · have w := w.1 c9
    refine R_iload_n dX0_used_93 1 rfl ?_
    refine R_iconst (v := 1) dX0_used_94 (by decide) ?_
    refine R_icmp_ne (tgt := 102) dX0_used_95 (by decide) (fun c1 => ?_) (fun c1 => ?_)
    · have w := w.1 c1
      refine R_iload dX0_used_102 3 rfl ?_
      exact R_iret dX0_used_104 rfl w
    · have w := w.2 c1
      refine R_iload_n dX0_used_98 2 rfl ?_
      refine R_goto (tgt := 104) dX0_used_99 (by decide) ?_
      exact R_iret dX0_used_104 rfl w
  · have w := w.2 c9
    refine R_aload_n dX0_used_52 0 rfl ?_
    refine X_getA (k := 21) (o := 13) (j := 100) (n := 12) B dX0_used_53 q286 (by decide) rfl rfl ?_
    refine R_iload dX0_used_56 4 rfl ?_
    obtain ⟨c8, w⟩ := w
    refine X_iald (k := 21) B dX0_used_58 rfl c8 ?_
    refine R_iconst (v := (-1)) dX0_used_59 (by decide) ?_
    refine R_icmp_ne (tgt := 69) dX0_used_60 (by decide) (fun c7 => ?_) (fun c7 => ?_)
    · have w := w.1 c7
      refine R_iload_n dX0_used_69 2 rfl ?_
      refine R_aload_n dX0_used_70 0 rfl ?_
      refine X_getA (k := 14) (o := 8) (j := 106) (n := 12) B dX0_used_71 q278 (by decide) rfl rfl ?_
      refine R_aload_n dX0_used_74 0 rfl ?_
      refine X_getA (k := 21) (o := 13) (j := 100) (n := 12) B dX0_used_75 q286 (by decide) rfl rfl ?_
      refine R_iload dX0_used_78 4 rfl ?_
      obtain ⟨c6, w⟩ := w
      refine X_iald (k := 21) B dX0_used_80 rfl c6 ?_
      obtain ⟨c2, q3, e4, w⟩ := w
      refine X_aald (k := 14) (j := 6) (E := "NameRests$Held") B dX0_used_81 rfl (by decide) (by decide) rfl c2 ?_
      refine R_top (v' := .ref q3) (congrArg va_rf e4) ?_
      obtain ⟨k5, w⟩ := w
      refine R_getIN (k := 0) (f := 256) ok4 dX0_used_82 q260 (by decide) rfl (by decide) k5 ?_
      refine R_iadd dX0_used_85 ?_
      refine R_istore_n (lv' := [(3, .int (a3 + (aI h 256 q3))), (0, .ref x), (2, .int a2), (4, .int a4), (5, .int a5)]) dX0_used_86 rfl (by decide) rfl ?_
      refine R_iinc (v := (a5 + 1)) (lv' := [(5, .int (a5 + 1)), (3, .int (a3 + (aI h 256 q3))), (0, .ref x), (2, .int a2), (4, .int a4)]) dX0_used_87 4 rfl (congrArg (fun z => a5 + z) (show Int32.ofInt 1 = 1 by decide)) (by decide) rfl ?_
      refine R_goto (tgt := 43) dX0_used_90 (by decide) ?_
      exact R_sub [2, 3, 1, 4, 0] rfl (w B)
    · have w := w.2 c7
      refine R_iinc (v := (a4 + 1)) (lv' := [(4, .int (a4 + 1)), (0, .ref x), (2, .int a2), (3, .int a3), (5, .int a5)]) dX0_used_63 3 rfl (congrArg (fun z => a4 + z) (show Int32.ofInt 1 = 1 by decide)) (by decide) rfl ?_
      refine R_goto (tgt := 87) dX0_used_66 (by decide) ?_
      refine R_iinc (v := (a5 + 1)) (lv' := [(5, .int (a5 + 1)), (4, .int (a4 + 1)), (0, .ref x), (2, .int a2), (3, .int a3)]) dX0_used_87 4 rfl (congrArg (fun z => a5 + z) (show Int32.ofInt 1 = 1 by decide)) (by decide) rfl ?_
      refine R_goto (tgt := 43) dX0_used_90 (by decide) ?_
      exact R_sub [2, 3, 4, 1, 0] rfl (w B)
theorem sX0_within_0 {G : GG} {x : Nat} {h : AH} {Q : Outcome → AH → Prop} {a0 : Int64} {a2 : Int64} {a4 : Int64} (B : XB G x h) (w : ((lg_cmp a0 a2) < 0 → (Q (.returned (some (.int (bi false)))) h)) ∧ (¬ (lg_cmp a0 a2) < 0 → ((0 < (lg_cmp a0 a4) → (Q (.returned (some (.int (bi false)))) h)) ∧ (¬ 0 < (lg_cmp a0 a4) → (Q (.returned (some (.int (bi true)))) h))))) : Run G mX0_within 1 0 [(0, .long a0), (2, .long a2), (4, .long a4)] [] h Q := by
  refine R_lload_n dX0_within_0 0 rfl ?_
  refine R_lload_n dX0_within_1 1 rfl ?_
  refine R_lcmp dX0_within_2 ?_
  refine R_if_lt (tgt := 17) dX0_within_3 (by decide) (fun c2 => ?_) (fun c2 => ?_)
  · have w := w.1 c2
    refine R_iconst (v := 0) dX0_within_17 (by decide) ?_
    exact R_bret (b := false) dX0_within_18 rfl w
  · have w := w.2 c2
    refine R_lload_n dX0_within_6 0 rfl ?_
    refine R_lload dX0_within_7 2 rfl ?_
    refine R_lcmp dX0_within_9 ?_
    refine R_if_gt (tgt := 17) dX0_within_10 (by decide) (fun c1 => ?_) (fun c1 => ?_)
    · have w := w.1 c1
      refine R_iconst (v := 0) dX0_within_17 (by decide) ?_
      exact R_bret (b := false) dX0_within_18 rfl w
    · have w := w.2 c1
      refine R_iconst (v := 1) dX0_within_13 (by decide) ?_
      refine R_goto (tgt := 18) dX0_within_14 (by decide) ?_
      exact R_bret (b := true) dX0_within_18 rfl w

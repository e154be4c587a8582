/-! LAYER 2: segments of the component's methods (printed by gen32.py) -/
set_option maxRecDepth 100000
theorem sX3_init_0 {G : GG} {x : Nat} {h : AH} {Q : Outcome → AH → Prop} {a0 : Nat} (B : XB G x h) (w : Q (.returned none) h) : Run G mX3_init 2 0 [(0, .ref a0)] [] h Q := by
  refine R_aload_n dX3_init_0 0 rfl ?_
  refine R_objInit dX3_init_1 q243 q144 q145 (by decide) (Nat.le_of_ble_eq_true rfl) ?_
  exact R_vret dX3_init_4 rfl w
theorem sX4_init_0 {G : GG} {x : Nat} {h : AH} {Q : Outcome → AH → Prop} {a0 : Nat} (B : XB G x h) (w : Q (.returned none) h) : Run G mX4_init 2 0 [(0, .ref a0)] [] h Q := by
  refine R_aload_n dX4_init_0 0 rfl ?_
  refine R_objInit dX4_init_1 q258 q144 q145 (by decide) (Nat.le_of_ble_eq_true rfl) ?_
  exact R_vret dX4_init_4 rfl w
theorem sX6_init_0 {G : GG} {x : Nat} {h : AH} {Q : Outcome → AH → Prop} {a0 : Nat} {a1 : Int32} {a2 : Int32} (B : XB G x h) (w : Run G mX4_init 2 0 [(0, .ref (aN h))] [] (sNew h (4, 0) 1) (fun o h1 => o = .returned none ∧ XB G x h1 ∧ (IsK G h1 a0 (6, 0) ∧ (∃ q3 : Nat, (aP (sI (sI (sP h1 385 a0 (some (aN h))) 386 a0 (-1)) 384 a0 a1) 385 a0) = some q3 ∧ (IsK G (sI (sI (sP h1 385 a0 (some (aN h))) 386 a0 (-1)) 384 a0 a1) q3 (4, 0) ∧ (Q (.returned none) (sI (sI (sI (sP h1 385 a0 (some (aN h))) 386 a0 (-1)) 384 a0 a1) 256 q3 a2))))))) : Run G mX6_init 3 0 [(0, .ref a0), (1, .int a1), (2, .int a2)] [] h Q := by
  refine R_aload_n dX6_init_0 0 rfl ?_
  refine R_objInit dX6_init_1 q385 q144 q145 (by decide) (Nat.le_of_ble_eq_true rfl) ?_
  refine R_aload_n dX6_init_4 0 rfl ?_
  refine R_new ok4 dX6_init_5 q386 q254 q110 (by decide) nfd4 ?_
  refine R_dup dX6_init_8 rfl ?_
  refine R_invIN (Mc := mX4_init) (b := (aN h)) (As := []) (st := [.ref (aN h), .ref a0]) dX6_init_9 q387 q256 q110 rfl q257 rfl pX4_init rfl (Nat.le_of_ble_eq_true rfl) (by decide) (by decide) (Nat.le_of_ble_eq_true rfl) (aft_v w (fun h1 w => ?_))
  obtain ⟨Bh1, w⟩ := w
  obtain ⟨k2, w⟩ := w
  refine R_top (v' := va_rf (some (aN h))) rfl ?_
  refine R_putP (k := 1) (f := 385) ok6 dX6_init_12 q390 (by decide) rfl rfl (Or.inr ⟨rfl, rfl, rfl⟩) (nar_rf _) (fit_rf _) (by decide) k2 ?_
  refine R_aload_n dX6_init_15 0 rfl ?_
  refine R_iconst (v := (-1)) dX6_init_16 (by decide) ?_
  refine R_putI (k := 2) (f := 386) ok6 dX6_init_17 q392 (by decide) rfl rfl (Or.inl rfl) rfl rfl (by decide) k2 ?_
  refine R_aload_n dX6_init_20 0 rfl ?_
  refine R_iload_n dX6_init_21 1 rfl ?_
  refine R_putI (k := 0) (f := 384) ok6 dX6_init_22 q388 (by decide) rfl rfl (Or.inr ⟨rfl, rfl, rfl⟩) rfl rfl (by decide) k2 ?_
  refine R_aload_n dX6_init_25 0 rfl ?_
  obtain ⟨q3, e4, w⟩ := w
  refine R_getP (k := 1) (f := 385) ok6 dX6_init_26 q390 (by decide) rfl (by decide) k2 ?_
  refine R_top (v' := .ref q3) (congrArg va_rf e4) ?_
  refine R_iload_n dX6_init_29 2 rfl ?_
  obtain ⟨k5, w⟩ := w
  refine R_putIN (k := 0) (f := 256) ok4 dX6_init_30 q259 (by decide) rfl rfl rfl rfl rfl (by decide) k5 ?_
  exact R_vret dX6_init_33 rfl w
theorem sX6_lives_0 {G : GG} {x : Nat} {h : AH} {Q : Outcome → AH → Prop} {a0 : Nat} {a1 : Int32} (B : XB G x h) (w : IsK G h a0 (6, 0) ∧ ((a1 < (aI h 384 a0) → (Q (.returned (some (.int (bi false)))) h)) ∧ (¬ a1 < (aI h 384 a0) → (∃ q2 : Nat, (aP h 385 a0) = some q2 ∧ (IsK G h q2 (4, 0) ∧ (((aI h 256 q2) ≤ a1 → (Q (.returned (some (.int (bi false)))) h)) ∧ (¬ (aI h 256 q2) ≤ a1 → (Q (.returned (some (.int (bi true)))) h)))))))) : Run G mX6_lives 1 0 [(0, .ref a0), (1, .int a1)] [] h Q := by
  refine R_iload_n dX6_lives_0 1 rfl ?_
  refine R_aload_n dX6_lives_1 0 rfl ?_
  obtain ⟨k1, w⟩ := w
  refine R_getI (k := 0) (f := 384) ok6 dX6_lives_2 q388 (by decide) rfl (by decide) k1 ?_
  refine R_icmp_lt (tgt := 23) dX6_lives_5 (by decide) (fun c6 => ?_) (fun c6 => ?_)
  · have w := w.1 c6
    refine R_iconst (v := 0) dX6_lives_23 (by decide) ?_
    exact R_bret (b := false) dX6_lives_24 rfl w
  · have w := w.2 c6
    refine R_iload_n dX6_lives_8 1 rfl ?_
    refine R_aload_n dX6_lives_9 0 rfl ?_
    obtain ⟨q2, e3, w⟩ := w
    refine R_getP (k := 1) (f := 385) ok6 dX6_lives_10 q390 (by decide) rfl (by decide) k1 ?_
    refine R_top (v' := .ref q2) (congrArg va_rf e3) ?_
    obtain ⟨k4, w⟩ := w
    refine R_getIN (k := 0) (f := 256) ok4 dX6_lives_13 q259 (by decide) rfl (by decide) k4 ?_
    refine R_icmp_ge (tgt := 23) dX6_lives_16 (by decide) (fun c5 => ?_) (fun c5 => ?_)
    · have w := w.1 c5
      refine R_iconst (v := 0) dX6_lives_23 (by decide) ?_
      exact R_bret (b := false) dX6_lives_24 rfl w
    · have w := w.2 c5
      refine R_iconst (v := 1) dX6_lives_19 (by decide) ?_
      refine R_goto (tgt := 24) dX6_lives_20 (by decide) ?_
      exact R_bret (b := true) dX6_lives_24 rfl w
theorem sX7_init_0 {G : GG} {x : Nat} {h : AH} {Q : Outcome → AH → Prop} {a0 : Nat} {a1 : Int32} {a2 : Int32} {a3 : Int32} (B : XB G x h) (w : IsK G h a0 (7, 0) ∧ (Q (.returned none) (sI (sI (sI h 448 a0 a1) 449 a0 a2) 450 a0 a3))) : Run G mX7_init 2 0 [(0, .ref a0), (1, .int a1), (2, .int a2), (3, .int a3)] [] h Q := by
  refine R_aload_n dX7_init_0 0 rfl ?_
  refine R_objInit dX7_init_1 q452 q144 q145 (by decide) (Nat.le_of_ble_eq_true rfl) ?_
  refine R_aload_n dX7_init_4 0 rfl ?_
  refine R_iload_n dX7_init_5 1 rfl ?_
  obtain ⟨k1, w⟩ := w
  refine R_putI (k := 0) (f := 448) ok7 dX7_init_6 q453 (by decide) rfl rfl (Or.inr ⟨rfl, rfl, rfl⟩) rfl rfl (by decide) k1 ?_
  refine R_aload_n dX7_init_9 0 rfl ?_
  refine R_iload_n dX7_init_10 2 rfl ?_
  refine R_putI (k := 1) (f := 449) ok7 dX7_init_11 q455 (by decide) rfl rfl (Or.inr ⟨rfl, rfl, rfl⟩) rfl rfl (by decide) k1 ?_
  refine R_aload_n dX7_init_14 0 rfl ?_
  refine R_iload_n dX7_init_15 3 rfl ?_
  refine R_putI (k := 2) (f := 450) ok7 dX7_init_16 q457 (by decide) rfl rfl (Or.inr ⟨rfl, rfl, rfl⟩) rfl rfl (by decide) k1 ?_
  exact R_vret dX7_init_19 rfl w
theorem sX8_init_0 {G : GG} {x : Nat} {h : AH} {Q : Outcome → AH → Prop} {a0 : Nat} (B : XB G x h) (w : Q (.returned none) h) : Run G mX8_init 2 0 [(0, .ref a0)] [] h Q := by
  refine R_aload_n dX8_init_0 0 rfl ?_
  refine R_objInit dX8_init_1 q535 q144 q145 (by decide) (Nat.le_of_ble_eq_true rfl) ?_
  exact R_vret dX8_init_4 rfl w
theorem sX9_init_0 {G : GG} {x : Nat} {h : AH} {Q : Outcome → AH → Prop} {a0 : Nat} (B : XB G x h) (w : Q (.returned none) h) : Run G mX9_init 2 0 [(0, .ref a0)] [] h Q := by
  refine R_aload_n dX9_init_0 0 rfl ?_
  refine R_objInit dX9_init_1 q588 q144 q145 (by decide) (Nat.le_of_ble_eq_true rfl) ?_
  exact R_vret dX9_init_4 rfl w
theorem sX10_init_0 {G : GG} {x : Nat} {h : AH} {Q : Outcome → AH → Prop} {a0 : Nat} {a1 : Int32} (B : XB G x h) (w : Run G mX9_init 2 0 [(0, .ref a0)] [] h (fun o h1 => o = .returned none ∧ XB G x h1 ∧ (IsK G h1 a0 (10, 0) ∧ (Q (.returned none) (sI h1 640 a0 a1))))) : Run G mX10_init 3 0 [(0, .ref a0), (1, .int a1)] [] h Q := by
  refine R_aload_n dX10_init_0 0 rfl ?_
  refine R_invIN (Mc := mX9_init) (b := a0) (As := []) (st := []) dX10_init_1 q585 q586 q115 rfl q587 rfl pX9_init rfl (Nat.le_of_ble_eq_true rfl) (by decide) (by decide) (Nat.le_of_ble_eq_true rfl) (aft_v w (fun h1 w => ?_))
  obtain ⟨Bh1, w⟩ := w
  refine R_aload_n dX10_init_4 0 rfl ?_
  refine R_iload_n dX10_init_5 1 rfl ?_
  obtain ⟨k2, w⟩ := w
  refine R_putI (k := 0) (f := 640) ok10 dX10_init_6 q589 (by decide) rfl rfl (Or.inr ⟨rfl, rfl, rfl⟩) rfl rfl (by decide) k2 ?_
  exact R_vret dX10_init_9 rfl w
theorem sX10_value_0 {G : GG} {x : Nat} {h : AH} {Q : Outcome → AH → Prop} {a0 : Nat} {d d' : Nat} (hdd : d' + 1 ≤ d) (h9 : 20 ≤ d) (B : XB G x h) (w : IsK G h a0 (10, 0) ∧ (Q (.returned (some (.int (aI h 640 a0)))) h)) : Run G mX10_value d 0 [(0, .ref a0)] [] h Q := by
  refine R_aload_n dX10_value_0 0 rfl ?_
  obtain ⟨k1, w⟩ := w
  refine R_getI (k := 0) (f := 640) ok10 dX10_value_1 q589 (by decide) rfl (by decide) k1 ?_
  exact R_iret dX10_value_4 rfl w
theorem sX11_init_0 {G : GG} {x : Nat} {h : AH} {Q : Outcome → AH → Prop} {a0 : Nat} {a2 : Int32} (B : XB G x h) (w : IsK G h a0 (11, 0) ∧ (Run G mX9_init 2 0 [(0, .ref a0)] [] (sP h 705 a0 (some x)) (fun o h2 => o = .returned none ∧ XB G x h2 ∧ (IsK G h2 a0 (11, 0) ∧ (Q (.returned none) (sI h2 704 a0 a2)))))) : Run G mX11_init 3 0 [(0, .ref a0), (1, .ref x), (2, .int a2)] [] h Q := by
  refine R_aload_n dX11_init_0 0 rfl ?_
  refine R_aload_n dX11_init_1 1 rfl ?_
  obtain ⟨k1, w⟩ := w
  refine R_top (v' := va_rf (some x)) rfl ?_
  refine R_putP (k := 1) (f := 705) ok11 dX11_init_2 q603 (by decide) rfl rfl (Or.inr ⟨rfl, rfl, rfl⟩) (nar_rf _) (fit_rf _) (by decide) k1 ?_
  refine R_aload_n dX11_init_5 0 rfl ?_
  refine R_invIN (Mc := mX9_init) (b := a0) (As := []) (st := []) dX11_init_6 q601 q586 q115 rfl q587 rfl pX9_init rfl (Nat.le_of_ble_eq_true rfl) (by decide) (by decide) (Nat.le_of_ble_eq_true rfl) (aft_v w (fun h2 w => ?_))
  obtain ⟨Bh2, w⟩ := w
  refine R_aload_n dX11_init_9 0 rfl ?_
  refine R_iload_n dX11_init_10 2 rfl ?_
  obtain ⟨k3, w⟩ := w
  refine R_putI (k := 0) (f := 704) ok11 dX11_init_11 q602 (by decide) rfl rfl (Or.inr ⟨rfl, rfl, rfl⟩) rfl rfl (by decide) k3 ?_
  exact R_vret dX11_init_14 rfl w
theorem sX11_value_0 {G : GG} {x : Nat} {h : AH} {Q : Outcome → AH → Prop} {a0 : Nat} {d d' : Nat} (hdd : d' + 1 ≤ d) (h9 : 20 ≤ d) (B : XB G x h) (w : IsK G h a0 (11, 0) ∧ ((aP h 705 a0) = some x ∧ (vp_in (aI h 704 a0) 6 ∧ (Q (.returned (some (.int (aA h (x + 11) (aI h 704 a0).toNatClampNeg)))) h)))) : Run G mX11_value d 0 [(0, .ref a0)] [] h Q := by
  refine R_aload_n dX11_value_0 0 rfl ?_
  obtain ⟨k1, w⟩ := w
  obtain ⟨e2, w⟩ := w
  refine R_getP (k := 1) (f := 705) ok11 dX11_value_1 q603 (by decide) rfl (by decide) k1 ?_
  refine R_top (v' := .ref x) (congrArg va_rf e2) ?_
  refine R_getPN (k := 17) (f := 17) ok0 dX11_value_4 q281 (by decide) rfl (by decide) B.1 ?_
  refine R_top (v' := .ref (x + 11)) (congrArg va_rf (B.2 17 _ rfl).1) ?_
  refine R_aload_n dX11_value_7 0 rfl ?_
  refine R_getI (k := 0) (f := 704) ok11 dX11_value_8 q602 (by decide) rfl (by decide) k1 ?_
  obtain ⟨c3, w⟩ := w
  refine X_iald (k := 17) B dX11_value_11 rfl c3 ?_
  exact R_iret dX11_value_12 rfl w
theorem sX12_init_0 {G : GG} {x : Nat} {h : AH} {Q : Outcome → AH → Prop} {a0 : Nat} {a1 : Int32} {a2 : Nat} (B : XB G x h) (w : Run G mX9_init 2 0 [(0, .ref a0)] [] h (fun o h1 => o = .returned none ∧ XB G x h1 ∧ (IsK G h1 a0 (12, 0) ∧ (Q (.returned none) (sP (sI h1 768 a0 a1) 769 a0 (some a2)))))) : Run G mX12_init 3 0 [(0, .ref a0), (1, .int a1), (2, .ref a2)] [] h Q := by
  refine R_aload_n dX12_init_0 0 rfl ?_
  refine R_invIN (Mc := mX9_init) (b := a0) (As := []) (st := []) dX12_init_1 q614 q586 q115 rfl q587 rfl pX9_init rfl (Nat.le_of_ble_eq_true rfl) (by decide) (by decide) (Nat.le_of_ble_eq_true rfl) (aft_v w (fun h1 w => ?_))
  obtain ⟨Bh1, w⟩ := w
  refine R_aload_n dX12_init_4 0 rfl ?_
  refine R_iload_n dX12_init_5 1 rfl ?_
  obtain ⟨k2, w⟩ := w
  refine R_putI (k := 0) (f := 768) ok12 dX12_init_6 q615 (by decide) rfl rfl (Or.inr ⟨rfl, rfl, rfl⟩) rfl rfl (by decide) k2 ?_
  refine R_aload_n dX12_init_9 0 rfl ?_
  refine R_aload_n dX12_init_10 2 rfl ?_
  refine R_top (v' := va_rf (some a2)) rfl ?_
  refine R_putP (k := 1) (f := 769) ok12 dX12_init_11 q616 (by decide) rfl rfl (Or.inr ⟨rfl, rfl, rfl⟩) (nar_rf _) (fit_rf _) (by decide) k2 ?_
  exact R_vret dX12_init_14 rfl w
theorem sX12_value_0 {G : GG} {x : Nat} {h : AH} {Q : Outcome → AH → Prop} {a0 : Nat} {d d' : Nat} (hdd : d' + 1 ≤ d) (h9 : 20 ≤ d) (B : XB G x h) (w : IsK G h a0 (12, 0) ∧ ((¬ (aI h 768 a0) = 33 → (∃ q2 : Nat, (aP h 769 a0) = some q2 ∧ (CV_value G d' h q2 (fun o h4 => ∃ r5 : Int32, o = .returned (some (.int r5)) ∧ XB G x h4 ∧ (Q (.returned (some (.int (-r5)))) h4))))) ∧ ((aI h 768 a0) = 33 → (∃ q6 : Nat, (aP h 769 a0) = some q6 ∧ (CV_value G d' h q6 (fun o h8 => ∃ r9 : Int32, o = .returned (some (.int r9)) ∧ XB G x h8 ∧ ((¬ r9 = 0 → (Run G mX0_bit 1 0 [(0, .int (bi false))] [] h8 (fun o h10 => ∃ r11 : Int32, o = .returned (some (.int r11)) ∧ XB G x h10 ∧ (Q (.returned (some (.int r11))) h10)))) ∧ (r9 = 0 → (Run G mX0_bit 1 0 [(0, .int (bi true))] [] h8 (fun o h12 => ∃ r13 : Int32, o = .returned (some (.int r13)) ∧ XB G x h12 ∧ (Q (.returned (some (.int r13))) h12))))))))))) : Run G mX12_value d 0 [(0, .ref a0)] [] h Q := by
  refine R_aload_n dX12_value_0 0 rfl ?_
  obtain ⟨k1, w⟩ := w
  refine R_getI (k := 0) (f := 768) ok12 dX12_value_1 q615 (by decide) rfl (by decide) k1 ?_
  refine R_bipush (v := 33) dX12_value_4 (by decide) ?_
  refine R_icmp_ne (tgt := 30) dX12_value_6 (by decide) (fun c15 => ?_) (fun c15 => ?_)
  · have w := w.1 c15
    refine R_aload_n dX12_value_30 0 rfl ?_
    obtain ⟨q2, e3, w⟩ := w
    refine R_getP (k := 1) (f := 769) ok12 dX12_value_31 q616 (by decide) rfl (by decide) k1 ?_
    refine R_top (v' := .ref q2) (congrArg va_rf e3) ?_
    refine R_CV_value dX12_value_34 q709 (by omega) (Nat.le_of_ble_eq_true rfl) w (fun r5 h4 w => ?_)
    obtain ⟨Bh4, w⟩ := w
    refine R_ineg dX12_value_37 ?_
    exact R_iret dX12_value_38 rfl w
  · have w := w.2 c15
    refine R_aload_n dX12_value_9 0 rfl ?_
    obtain ⟨q6, e7, w⟩ := w
    refine R_getP (k := 1) (f := 769) ok12 dX12_value_10 q616 (by decide) rfl (by decide) k1 ?_
    refine R_top (v' := .ref q6) (congrArg va_rf e7) ?_
    refine R_CV_value dX12_value_13 q709 (by omega) (Nat.le_of_ble_eq_true rfl) w (fun r9 h8 w => ?_)
    obtain ⟨Bh8, w⟩ := w
    refine R_if_ne (tgt := 23) dX12_value_16 (by decide) (fun c14 => ?_) (fun c14 => ?_)
    · have w := w.1 c14
      refine R_iconst (v := 0) dX12_value_23 (by decide) ?_
      refine R_invSN (Mc := mX0_bit) (As := [.int (bi false)]) (st := []) dX12_value_24 q710 q506 q103 wX0_bit pX0_bit rfl (Nat.le_of_ble_eq_true rfl) (by decide) (by omega) (Nat.le_of_ble_eq_true rfl) (aft_i w (fun r11 h10 w => ?_))
      obtain ⟨Bh10, w⟩ := w
      refine R_goto (tgt := 38) dX12_value_27 (by decide) ?_
      exact R_iret dX12_value_38 rfl w
    · have w := w.2 c14
      refine R_iconst (v := 1) dX12_value_19 (by decide) ?_
      refine R_goto (tgt := 24) dX12_value_20 (by decide) ?_
      refine R_invSN (Mc := mX0_bit) (As := [.int (bi true)]) (st := []) dX12_value_24 q710 q506 q103 wX0_bit pX0_bit rfl (Nat.le_of_ble_eq_true rfl) (by decide) (by omega) (Nat.le_of_ble_eq_true rfl) (aft_i w (fun r13 h12 w => ?_))
      obtain ⟨Bh12, w⟩ := w
      refine R_goto (tgt := 38) dX12_value_27 (by decide) ?_
      exact R_iret dX12_value_38 rfl w
theorem sX13_init_0 {G : GG} {x : Nat} {h : AH} {Q : Outcome → AH → Prop} {a0 : Nat} {a1 : Int32} {a2 : Nat} {a3 : Nat} (B : XB G x h) (w : Run G mX9_init 2 0 [(0, .ref a0)] [] h (fun o h1 => o = .returned none ∧ XB G x h1 ∧ (IsK G h1 a0 (13, 0) ∧ (Q (.returned none) (sP (sP (sI h1 832 a0 a1) 833 a0 (some a2)) 834 a0 (some a3)))))) : Run G mX13_init 3 0 [(0, .ref a0), (1, .int a1), (2, .ref a2), (3, .ref a3)] [] h Q := by
  refine R_aload_n dX13_init_0 0 rfl ?_
  refine R_invIN (Mc := mX9_init) (b := a0) (As := []) (st := []) dX13_init_1 q635 q586 q115 rfl q587 rfl pX9_init rfl (Nat.le_of_ble_eq_true rfl) (by decide) (by decide) (Nat.le_of_ble_eq_true rfl) (aft_v w (fun h1 w => ?_))
  obtain ⟨Bh1, w⟩ := w
  refine R_aload_n dX13_init_4 0 rfl ?_
  refine R_iload_n dX13_init_5 1 rfl ?_
  obtain ⟨k2, w⟩ := w
  refine R_putI (k := 0) (f := 832) ok13 dX13_init_6 q636 (by decide) rfl rfl (Or.inr ⟨rfl, rfl, rfl⟩) rfl rfl (by decide) k2 ?_
  refine R_aload_n dX13_init_9 0 rfl ?_
  refine R_aload_n dX13_init_10 2 rfl ?_
  refine R_top (v' := va_rf (some a2)) rfl ?_
  refine R_putP (k := 1) (f := 833) ok13 dX13_init_11 q637 (by decide) rfl rfl (Or.inr ⟨rfl, rfl, rfl⟩) (nar_rf _) (fit_rf _) (by decide) k2 ?_
  refine R_aload_n dX13_init_14 0 rfl ?_
  refine R_aload_n dX13_init_15 3 rfl ?_
  refine R_top (v' := va_rf (some a3)) rfl ?_
  refine R_putP (k := 2) (f := 834) ok13 dX13_init_16 q638 (by decide) rfl rfl (Or.inr ⟨rfl, rfl, rfl⟩) (nar_rf _) (fit_rf _) (by decide) k2 ?_
  exact R_vret dX13_init_19 rfl w
theorem sX13_value_0 {G : GG} {x : Nat} {h : AH} {Q : Outcome → AH → Prop} {a0 : Nat} {d d' : Nat} (hdd : d' + 1 ≤ d) (h9 : 20 ≤ d) (B : XB G x h) (w : IsK G h a0 (13, 0) ∧ (∃ q2 : Nat, (aP h 833 a0) = some q2 ∧ (CV_value G d' h q2 (fun o h4 => ∃ r5 : Int32, o = .returned (some (.int r5)) ∧ XB G x h4 ∧ (IsK G h4 a0 (13, 0) ∧ (∃ q7 : Nat, (aP h4 834 a0) = some q7 ∧ (CV_value G d' h4 q7 (fun o h9 => ∃ r10 : Int32, o = .returned (some (.int r10)) ∧ XB G x h9 ∧ (IsK G h9 a0 (13, 0) ∧ (((aI h9 832 a0) = 38 → ((r5 = 0 → (Run G mX0_bit 1 0 [(0, .int (bi false))] [] h9 (fun o h13 => ∃ r14 : Int32, o = .returned (some (.int r14)) ∧ XB G x h13 ∧ (Q (.returned (some (.int r14))) h13)))) ∧ (¬ r5 = 0 → ((r10 = 0 → (Run G mX0_bit 1 0 [(0, .int (bi false))] [] h9 (fun o h15 => ∃ r16 : Int32, o = .returned (some (.int r16)) ∧ XB G x h15 ∧ (Q (.returned (some (.int r16))) h15)))) ∧ (¬ r10 = 0 → (Run G mX0_bit 1 0 [(0, .int (bi true))] [] h9 (fun o h17 => ∃ r18 : Int32, o = .returned (some (.int r18)) ∧ XB G x h17 ∧ (Q (.returned (some (.int r18))) h17)))))))) ∧ (¬ (aI h9 832 a0) = 38 → (((aI h9 832 a0) = 42 → (Q (.returned (some (.int (r5 * r10)))) h9)) ∧ (¬ (aI h9 832 a0) = 42 → (((aI h9 832 a0) = 43 → (Q (.returned (some (.int (r5 + r10)))) h9)) ∧ (¬ (aI h9 832 a0) = 43 → (((aI h9 832 a0) = 45 → (Q (.returned (some (.int (r5 - r10)))) h9)) ∧ (¬ (aI h9 832 a0) = 45 → (((aI h9 832 a0) = 47 → ((¬ r10 = 0 → (¬ r10 = 0 ∧ (Q (.returned (some (.int (r5 / r10)))) h9))) ∧ (r10 = 0 → (Q (.returned (some (.int 0))) h9)))) ∧ (¬ (aI h9 832 a0) = 47 → (((aI h9 832 a0) = 60 → ((r10 ≤ r5 → (Run G mX0_bit 1 0 [(0, .int (bi false))] [] h9 (fun o h28 => ∃ r29 : Int32, o = .returned (some (.int r29)) ∧ XB G x h28 ∧ (Q (.returned (some (.int r29))) h28)))) ∧ (¬ r10 ≤ r5 → (Run G mX0_bit 1 0 [(0, .int (bi true))] [] h9 (fun o h30 => ∃ r31 : Int32, o = .returned (some (.int r31)) ∧ XB G x h30 ∧ (Q (.returned (some (.int r31))) h30)))))) ∧ (¬ (aI h9 832 a0) = 60 → (((aI h9 832 a0) = 61 → ((¬ r5 = r10 → (Run G mX0_bit 1 0 [(0, .int (bi false))] [] h9 (fun o h34 => ∃ r35 : Int32, o = .returned (some (.int r35)) ∧ XB G x h34 ∧ (Q (.returned (some (.int r35))) h34)))) ∧ (r5 = r10 → (Run G mX0_bit 1 0 [(0, .int (bi true))] [] h9 (fun o h36 => ∃ r37 : Int32, o = .returned (some (.int r37)) ∧ XB G x h36 ∧ (Q (.returned (some (.int r37))) h36)))))) ∧ (¬ (aI h9 832 a0) = 61 → (((aI h9 832 a0) = 62 → ((r5 ≤ r10 → (Run G mX0_bit 1 0 [(0, .int (bi false))] [] h9 (fun o h40 => ∃ r41 : Int32, o = .returned (some (.int r41)) ∧ XB G x h40 ∧ (Q (.returned (some (.int r41))) h40)))) ∧ (¬ r5 ≤ r10 → (Run G mX0_bit 1 0 [(0, .int (bi true))] [] h9 (fun o h42 => ∃ r43 : Int32, o = .returned (some (.int r43)) ∧ XB G x h42 ∧ (Q (.returned (some (.int r43))) h42)))))) ∧ (¬ (aI h9 832 a0) = 62 → (((aI h9 832 a0) = 124 → ((¬ r5 = 0 → (Run G mX0_bit 1 0 [(0, .int (bi true))] [] h9 (fun o h46 => ∃ r47 : Int32, o = .returned (some (.int r47)) ∧ XB G x h46 ∧ (Q (.returned (some (.int r47))) h46)))) ∧ (r5 = 0 → ((r10 = 0 → (Run G mX0_bit 1 0 [(0, .int (bi false))] [] h9 (fun o h48 => ∃ r49 : Int32, o = .returned (some (.int r49)) ∧ XB G x h48 ∧ (Q (.returned (some (.int r49))) h48)))) ∧ (¬ r10 = 0 → (Run G mX0_bit 1 0 [(0, .int (bi true))] [] h9 (fun o h50 => ∃ r51 : Int32, o = .returned (some (.int r51)) ∧ XB G x h50 ∧ (Q (.returned (some (.int r51))) h50)))))))) ∧ (¬ (aI h9 832 a0) = 124 → ((¬ r10 = 0 → (¬ r10 = 0 ∧ (Q (.returned (some (.int (r5 - r5 / r10 * r10)))) h9))) ∧ (r10 = 0 → (Q (.returned (some (.int 0))) h9)))))))))))))))))))))))))))))) : Run G mX13_value d 0 [(0, .ref a0)] [] h Q := by
  refine R_aload_n dX13_value_0 0 rfl ?_
  obtain ⟨k1, w⟩ := w
  obtain ⟨q2, e3, w⟩ := w
  refine R_getP (k := 1) (f := 833) ok13 dX13_value_1 q637 (by decide) rfl (by decide) k1 ?_
  refine R_top (v' := .ref q2) (congrArg va_rf e3) ?_
  refine R_CV_value dX13_value_4 q702 (by omega) (Nat.le_of_ble_eq_true rfl) w (fun r5 h4 w => ?_)
  obtain ⟨Bh4, w⟩ := w
  refine R_istore_n (lv' := [(1, .int r5), (0, .ref a0)]) dX13_value_7 rfl (by decide) rfl ?_
  refine R_aload_n dX13_value_8 1 rfl ?_
  obtain ⟨k6, w⟩ := w
  obtain ⟨q7, e8, w⟩ := w
  refine R_getP (k := 2) (f := 834) ok13 dX13_value_9 q638 (by decide) rfl (by decide) k6 ?_
  refine R_top (v' := .ref q7) (congrArg va_rf e8) ?_
  refine R_CV_value dX13_value_12 q702 (by omega) (Nat.le_of_ble_eq_true rfl) w (fun r10 h9 w => ?_)
  obtain ⟨Bh9, w⟩ := w
  refine R_istore_n (lv' := [(2, .int r10), (1, .int r5), (0, .ref a0)]) dX13_value_15 rfl (by decide) rfl ?_
  refine R_aload_n dX13_value_16 2 rfl ?_
  obtain ⟨k11, w⟩ := w
  refine R_getI (k := 0) (f := 832) ok13 dX13_value_17 q636 (by decide) rfl (by decide) k11 ?_
  by_cases c12 : (aI h9 832 a0) = 38
  · have w := w.1 c12
    refine R_lookup (off := 101) (tgt := 121) dX13_value_20 (by decide) (by rw [c12]; rfl) (by decide) ?_
    refine R_iload_n dX13_value_121 1 rfl ?_
    refine R_if_eq (tgt := 133) dX13_value_122 (by decide) (fun c20 => ?_) (fun c20 => ?_)
    · have w := w.1 c20
      refine R_iconst (v := 0) dX13_value_133 (by decide) ?_
      refine R_invSN (Mc := mX0_bit) (As := [.int (bi false)]) (st := []) dX13_value_134 q711 q506 q103 wX0_bit pX0_bit rfl (Nat.le_of_ble_eq_true rfl) (by decide) (by omega) (Nat.le_of_ble_eq_true rfl) (aft_i w (fun r14 h13 w => ?_))
      obtain ⟨Bh13, w⟩ := w
      exact R_iret dX13_value_137 rfl w
    · have w := w.2 c20
      refine R_iload_n dX13_value_125 0 rfl ?_
      refine R_if_eq (tgt := 133) dX13_value_126 (by decide) (fun c19 => ?_) (fun c19 => ?_)
      · have w := w.1 c19
        refine R_iconst (v := 0) dX13_value_133 (by decide) ?_
        refine R_invSN (Mc := mX0_bit) (As := [.int (bi false)]) (st := []) dX13_value_134 q711 q506 q103 wX0_bit pX0_bit rfl (Nat.le_of_ble_eq_true rfl) (by decide) (by omega) (Nat.le_of_ble_eq_true rfl) (aft_i w (fun r16 h15 w => ?_))
        obtain ⟨Bh15, w⟩ := w
        exact R_iret dX13_value_137 rfl w
      · have w := w.2 c19
        refine R_iconst (v := 1) dX13_value_129 (by decide) ?_
        refine R_goto (tgt := 134) dX13_value_130 (by decide) ?_
        refine R_invSN (Mc := mX0_bit) (As := [.int (bi true)]) (st := []) dX13_value_134 q711 q506 q103 wX0_bit pX0_bit rfl (Nat.le_of_ble_eq_true rfl) (by decide) (by omega) (Nat.le_of_ble_eq_true rfl) (aft_i w (fun r18 h17 w => ?_))
        obtain ⟨Bh17, w⟩ := w
        exact R_iret dX13_value_137 rfl w
  · have w := w.2 c12
    by_cases c21 : (aI h9 832 a0) = 42
    · have w := w.1 c21
      refine R_lookup (off := 168) (tgt := 188) dX13_value_20 (by decide) (by rw [c21]; rfl) (by decide) ?_
      refine R_iload_n dX13_value_188 1 rfl ?_
      refine R_iload_n dX13_value_189 0 rfl ?_
      refine R_imul dX13_value_190 ?_
      exact R_iret dX13_value_191 rfl w
    · have w := w.2 c21
      by_cases c22 : (aI h9 832 a0) = 43
      · have w := w.1 c22
        refine R_lookup (off := 160) (tgt := 180) dX13_value_20 (by decide) (by rw [c22]; rfl) (by decide) ?_
        refine R_iload_n dX13_value_180 1 rfl ?_
        refine R_iload_n dX13_value_181 0 rfl ?_
        refine R_iadd dX13_value_182 ?_
        exact R_iret dX13_value_183 rfl w
      · have w := w.2 c22
        by_cases c23 : (aI h9 832 a0) = 45
        · have w := w.1 c23
          refine R_lookup (off := 164) (tgt := 184) dX13_value_20 (by decide) (by rw [c23]; rfl) (by decide) ?_
          refine R_iload_n dX13_value_184 1 rfl ?_
          refine R_iload_n dX13_value_185 0 rfl ?_
          refine R_isub dX13_value_186 ?_
          exact R_iret dX13_value_187 rfl w
        · have w := w.2 c23
          by_cases c24 : (aI h9 832 a0) = 47
          · have w := w.1 c24
            refine R_lookup (off := 172) (tgt := 192) dX13_value_20 (by decide) (by rw [c24]; rfl) (by decide) ?_
            refine R_iload_n dX13_value_192 0 rfl ?_
            refine R_if_ne (tgt := 200) dX13_value_193 (by decide) (fun c26 => ?_) (fun c26 => ?_)
            · have w := w.1 c26
              refine R_iload_n dX13_value_200 1 rfl ?_
              refine R_iload_n dX13_value_201 0 rfl ?_
              obtain ⟨c25, w⟩ := w
              refine R_idiv dX13_value_202 c25 ?_
              exact R_iret dX13_value_203 rfl w
            · have w := w.2 c26
              refine R_iconst (v := 0) dX13_value_196 (by decide) ?_
              refine R_goto (tgt := 203) dX13_value_197 (by decide) ?_
              exact R_iret dX13_value_203 rfl w
          · have w := w.2 c24
            by_cases c27 : (aI h9 832 a0) = 60
            · have w := w.1 c27
              refine R_lookup (off := 118) (tgt := 138) dX13_value_20 (by decide) (by rw [c27]; rfl) (by decide) ?_
              refine R_iload_n dX13_value_138 1 rfl ?_
              refine R_iload_n dX13_value_139 0 rfl ?_
              refine R_icmp_ge (tgt := 147) dX13_value_140 (by decide) (fun c32 => ?_) (fun c32 => ?_)
              · have w := w.1 c32
                refine R_iconst (v := 0) dX13_value_147 (by decide) ?_
                refine R_invSN (Mc := mX0_bit) (As := [.int (bi false)]) (st := []) dX13_value_148 q711 q506 q103 wX0_bit pX0_bit rfl (Nat.le_of_ble_eq_true rfl) (by decide) (by omega) (Nat.le_of_ble_eq_true rfl) (aft_i w (fun r29 h28 w => ?_))
                obtain ⟨Bh28, w⟩ := w
                exact R_iret dX13_value_151 rfl w
              · have w := w.2 c32
                refine R_iconst (v := 1) dX13_value_143 (by decide) ?_
                refine R_goto (tgt := 148) dX13_value_144 (by decide) ?_
                refine R_invSN (Mc := mX0_bit) (As := [.int (bi true)]) (st := []) dX13_value_148 q711 q506 q103 wX0_bit pX0_bit rfl (Nat.le_of_ble_eq_true rfl) (by decide) (by omega) (Nat.le_of_ble_eq_true rfl) (aft_i w (fun r31 h30 w => ?_))
                obtain ⟨Bh30, w⟩ := w
                exact R_iret dX13_value_151 rfl w
            · have w := w.2 c27
              by_cases c33 : (aI h9 832 a0) = 61
              · have w := w.1 c33
                refine R_lookup (off := 132) (tgt := 152) dX13_value_20 (by decide) (by rw [c33]; rfl) (by decide) ?_
                refine R_iload_n dX13_value_152 1 rfl ?_
                refine R_iload_n dX13_value_153 0 rfl ?_
                refine R_icmp_ne (tgt := 161) dX13_value_154 (by decide) (fun c38 => ?_) (fun c38 => ?_)
                · have w := w.1 c38
                  refine R_iconst (v := 0) dX13_value_161 (by decide) ?_
                  refine R_invSN (Mc := mX0_bit) (As := [.int (bi false)]) (st := []) dX13_value_162 q711 q506 q103 wX0_bit pX0_bit rfl (Nat.le_of_ble_eq_true rfl) (by decide) (by omega) (Nat.le_of_ble_eq_true rfl) (aft_i w (fun r35 h34 w => ?_))
                  obtain ⟨Bh34, w⟩ := w
                  exact R_iret dX13_value_165 rfl w
                · have w := w.2 c38
                  refine R_iconst (v := 1) dX13_value_157 (by decide) ?_
                  refine R_goto (tgt := 162) dX13_value_158 (by decide) ?_
                  refine R_invSN (Mc := mX0_bit) (As := [.int (bi true)]) (st := []) dX13_value_162 q711 q506 q103 wX0_bit pX0_bit rfl (Nat.le_of_ble_eq_true rfl) (by decide) (by omega) (Nat.le_of_ble_eq_true rfl) (aft_i w (fun r37 h36 w => ?_))
                  obtain ⟨Bh36, w⟩ := w
                  exact R_iret dX13_value_165 rfl w
              · have w := w.2 c33
                by_cases c39 : (aI h9 832 a0) = 62
                · have w := w.1 c39
                  refine R_lookup (off := 146) (tgt := 166) dX13_value_20 (by decide) (by rw [c39]; rfl) (by decide) ?_
                  refine R_iload_n dX13_value_166 1 rfl ?_
                  refine R_iload_n dX13_value_167 0 rfl ?_
                  refine R_icmp_le (tgt := 175) dX13_value_168 (by decide) (fun c44 => ?_) (fun c44 => ?_)
                  · have w := w.1 c44
                    refine R_iconst (v := 0) dX13_value_175 (by decide) ?_
                    refine R_invSN (Mc := mX0_bit) (As := [.int (bi false)]) (st := []) dX13_value_176 q711 q506 q103 wX0_bit pX0_bit rfl (Nat.le_of_ble_eq_true rfl) (by decide) (by omega) (Nat.le_of_ble_eq_true rfl) (aft_i w (fun r41 h40 w => ?_))
                    obtain ⟨Bh40, w⟩ := w
                    exact R_iret dX13_value_179 rfl w
                  · have w := w.2 c44
                    refine R_iconst (v := 1) dX13_value_171 (by decide) ?_
                    refine R_goto (tgt := 176) dX13_value_172 (by decide) ?_
                    refine R_invSN (Mc := mX0_bit) (As := [.int (bi true)]) (st := []) dX13_value_176 q711 q506 q103 wX0_bit pX0_bit rfl (Nat.le_of_ble_eq_true rfl) (by decide) (by omega) (Nat.le_of_ble_eq_true rfl) (aft_i w (fun r43 h42 w => ?_))
                    obtain ⟨Bh42, w⟩ := w
                    exact R_iret dX13_value_179 rfl w
                · have w := w.2 c39
                  by_cases c45 : (aI h9 832 a0) = 124
                  · have w := w.1 c45
                    refine R_lookup (off := 84) (tgt := 104) dX13_value_20 (by decide) (by rw [c45]; rfl) (by decide) ?_
                    refine R_iload_n dX13_value_104 1 rfl ?_
                    refine R_if_ne (tgt := 112) dX13_value_105 (by decide) (fun c53 => ?_) (fun c53 => ?_)
                    · have w := w.1 c53
                      refine R_iconst (v := 1) dX13_value_112 (by decide) ?_
                      refine R_goto (tgt := 117) dX13_value_113 (by decide) ?_
                      refine R_invSN (Mc := mX0_bit) (As := [.int (bi true)]) (st := []) dX13_value_117 q711 q506 q103 wX0_bit pX0_bit rfl (Nat.le_of_ble_eq_true rfl) (by decide) (by omega) (Nat.le_of_ble_eq_true rfl) (aft_i w (fun r47 h46 w => ?_))
                      obtain ⟨Bh46, w⟩ := w
                      exact R_iret dX13_value_120 rfl w
                    · have w := w.2 c53
                      refine R_iload_n dX13_value_108 0 rfl ?_
                      refine R_if_eq (tgt := 116) dX13_value_109 (by decide) (fun c52 => ?_) (fun c52 => ?_)
                      · have w := w.1 c52
                        refine R_iconst (v := 0) dX13_value_116 (by decide) ?_
                        refine R_invSN (Mc := mX0_bit) (As := [.int (bi false)]) (st := []) dX13_value_117 q711 q506 q103 wX0_bit pX0_bit rfl (Nat.le_of_ble_eq_true rfl) (by decide) (by omega) (Nat.le_of_ble_eq_true rfl) (aft_i w (fun r49 h48 w => ?_))
                        obtain ⟨Bh48, w⟩ := w
                        exact R_iret dX13_value_120 rfl w
                      · have w := w.2 c52
                        refine R_iconst (v := 1) dX13_value_112 (by decide) ?_
                        refine R_goto (tgt := 117) dX13_value_113 (by decide) ?_
                        refine R_invSN (Mc := mX0_bit) (As := [.int (bi true)]) (st := []) dX13_value_117 q711 q506 q103 wX0_bit pX0_bit rfl (Nat.le_of_ble_eq_true rfl) (by decide) (by omega) (Nat.le_of_ble_eq_true rfl) (aft_i w (fun r51 h50 w => ?_))
                        obtain ⟨Bh50, w⟩ := w
                        exact R_iret dX13_value_120 rfl w
                  · have w := w.2 c45
                    have ho : Op.lookupswitch.offset [(38, 101), (42, 168), (43, 160), (45, 164), (47, 172), (60, 118), (61, 132), (62, 146), (124, 84)] 184 ((aI h9 832 a0)).toInt = 184 := by rw [lv_osw (k := 38) c12 (by decide), lv_osw (k := 42) c21 (by decide), lv_osw (k := 43) c22 (by decide), lv_osw (k := 45) c23 (by decide), lv_osw (k := 47) c24 (by decide), lv_osw (k := 60) c27 (by decide), lv_osw (k := 61) c33 (by decide), lv_osw (k := 62) c39 (by decide), lv_osw (k := 124) c45 (by decide)]; rfl
                    refine R_lookup (tgt := 204) dX13_value_20 (by decide) ho (by decide) ?_
                    refine R_iload_n dX13_value_204 0 rfl ?_
                    refine R_if_ne (tgt := 212) dX13_value_205 (by decide) (fun c55 => ?_) (fun c55 => ?_)
                    · have w := w.1 c55
                      refine R_iload_n dX13_value_212 1 rfl ?_
                      refine R_iload_n dX13_value_213 0 rfl ?_
                      obtain ⟨c54, w⟩ := w
                      refine R_irem dX13_value_214 c54 ?_
                      exact R_iret dX13_value_215 rfl w
                    · have w := w.2 c55
                      refine R_iconst (v := 0) dX13_value_208 (by decide) ?_
                      refine R_goto (tgt := 215) dX13_value_209 (by decide) ?_
                      exact R_iret dX13_value_215 rfl w
theorem sX0_add_0 {G : GG} {x : Nat} {h : AH} {Q : Outcome → AH → Prop} {a1 : Nat} (B : XB G x h) (w : vp_in (aI h 8 x) 12 ∧ Fit G h "NameRests$Person" a1 ∧ (XB G x (sR h (x + 4) (aI h 8 x).toNatClampNeg (some a1)) → Run G mX0_add 1 15 [(0, .ref x), (1, .ref a1), (2, .int (aI (sR h (x + 4) (aI h 8 x).toNatClampNeg (some a1)) 8 x))] [] (sR h (x + 4) (aI h 8 x).toNatClampNeg (some a1)) Q)) : Run G mX0_add 1 0 [(0, .ref x), (1, .ref a1)] [] h Q := by
  refine R_aload_n dX0_add_0 0 rfl ?_
  refine X_getA (k := 7) (o := 4) (j := 107) (n := 12) B dX0_add_1 q271 (by decide) rfl rfl ?_
  refine R_aload_n dX0_add_4 0 rfl ?_
  refine X_getS (k := 8) B dX0_add_5 q272 (by decide) rfl ?_
  refine R_aload_n dX0_add_8 1 rfl ?_
  obtain ⟨c1, f2, w⟩ := w
  refine X_aast (k := 7) (j := 7) (E := "NameRests$Person") B dX0_add_9 rfl (by decide) (by decide) rfl c1 f2 ?_
  refine R_aload_n dX0_add_10 0 rfl ?_
  refine X_getS (k := 8) B.R dX0_add_11 q272 (by decide) rfl ?_
  refine R_istore_n (lv' := [(2, .int (aI (sR h (x + 4) (aI h 8 x).toNatClampNeg (some a1)) 8 x)), (0, .ref x), (1, .ref a1)]) dX0_add_14 rfl (by decide) rfl ?_
  exact R_sub [1, 2, 0] rfl (w B.R)
theorem sX0_add_15 {G : GG} {x : Nat} {h : AH} {Q : Outcome → AH → Prop} {a1 : Nat} {a2 : Int32} (B : XB G x h) (w : (a2 ≤ 0 → (vp_in a2 12 ∧ (Q (.returned none) (sA (sI h 8 x ((aI h 8 x) + 1)) (x + 5) a2.toNatClampNeg (aI h 8 x))))) ∧ (¬ a2 ≤ 0 → (vp_in (a2 - 1) 12 ∧ (vp_in (aA h (x + 5) (a2 - 1).toNatClampNeg) 12 ∧ ∃ q3 : Nat, (aR h (x + 4) (aA h (x + 5) (a2 - 1).toNatClampNeg).toNatClampNeg) = some q3 ∧ (IsK G h q3 (6, 0) ∧ (IsK G h a1 (6, 0) ∧ (((aI h 384 q3) ≤ (aI h 384 a1) → (vp_in a2 12 ∧ (Q (.returned none) (sA (sI h 8 x ((aI h 8 x) + 1)) (x + 5) a2.toNatClampNeg (aI h 8 x))))) ∧ (¬ (aI h 384 q3) ≤ (aI h 384 a1) → (vp_in (a2 - 1) 12 ∧ (vp_in a2 12 ∧ (XB G x (sA h (x + 5) a2.toNatClampNeg (aA h (x + 5) (a2 - 1).toNatClampNeg)) → Run G mX0_add 1 15 [(0, .ref x), (1, .ref a1), (2, .int (a2 + (-1)))] [] (sA h (x + 5) a2.toNatClampNeg (aA h (x + 5) (a2 - 1).toNatClampNeg)) Q))))))))))) : Run G mX0_add 1 15 [(0, .ref x), (1, .ref a1), (2, .int a2)] [] h Q := by
  refine R_iload_n dX0_add_15 2 rfl ?_
  refine R_if_le (tgt := 62) dX0_add_16 (by decide) (fun c12 => ?_) (fun c12 => ?_)
  · have w := w.1 c12
    refine R_aload_n dX0_add_62 0 rfl ?_
    refine X_getA (k := 9) (o := 5) (j := 100) (n := 12) B dX0_add_63 q273 (by decide) rfl rfl ?_
    refine R_iload_n dX0_add_66 2 rfl ?_
    refine R_aload_n dX0_add_67 0 rfl ?_
    refine R_dup dX0_add_68 rfl ?_
    refine X_getS (k := 8) B dX0_add_69 q272 (by decide) rfl ?_
    refine R_dup_x1 dX0_add_72 rfl rfl ?_
    refine R_iconst (v := 1) dX0_add_73 (by decide) ?_
    refine R_iadd dX0_add_74 ?_
    refine X_putS (k := 8) B dX0_add_75 q272 (by decide) rfl rfl rfl rfl ?_
    obtain ⟨c1, w⟩ := w
    refine X_iast (k := 9) B.I dX0_add_78 rfl c1 ?_
    exact R_vret dX0_add_79 rfl w
  · have w := w.2 c12
    refine R_aload_n dX0_add_19 0 rfl ?_
    refine X_getA (k := 7) (o := 4) (j := 107) (n := 12) B dX0_add_20 q271 (by decide) rfl rfl ?_
    refine R_aload_n dX0_add_23 0 rfl ?_
    refine X_getA (k := 9) (o := 5) (j := 100) (n := 12) B dX0_add_24 q273 (by decide) rfl rfl ?_
    refine R_iload_n dX0_add_27 2 rfl ?_
    refine R_iconst (v := 1) dX0_add_28 (by decide) ?_
    refine R_isub dX0_add_29 ?_
    obtain ⟨c11, w⟩ := w
    refine X_iald (k := 9) B dX0_add_30 rfl c11 ?_
    obtain ⟨c2, q3, e4, w⟩ := w
    refine X_aald (k := 7) (j := 7) (E := "NameRests$Person") B dX0_add_31 rfl (by decide) (by decide) rfl c2 ?_
    refine R_top (v' := .ref q3) (congrArg va_rf e4) ?_
    obtain ⟨k5, w⟩ := w
    refine R_getIN (k := 0) (f := 384) ok6 dX0_add_32 q389 (by decide) rfl (by decide) k5 ?_
    refine R_aload_n dX0_add_35 1 rfl ?_
    obtain ⟨k6, w⟩ := w
    refine R_getIN (k := 0) (f := 384) ok6 dX0_add_36 q389 (by decide) rfl (by decide) k6 ?_
    refine R_icmp_le (tgt := 62) dX0_add_39 (by decide) (fun c10 => ?_) (fun c10 => ?_)
    · have w := w.1 c10
      refine R_aload_n dX0_add_62 0 rfl ?_
      refine X_getA (k := 9) (o := 5) (j := 100) (n := 12) B dX0_add_63 q273 (by decide) rfl rfl ?_
      refine R_iload_n dX0_add_66 2 rfl ?_
      refine R_aload_n dX0_add_67 0 rfl ?_
      refine R_dup dX0_add_68 rfl ?_
      refine X_getS (k := 8) B dX0_add_69 q272 (by decide) rfl ?_
      refine R_dup_x1 dX0_add_72 rfl rfl ?_
      refine R_iconst (v := 1) dX0_add_73 (by decide) ?_
      refine R_iadd dX0_add_74 ?_
      refine X_putS (k := 8) B dX0_add_75 q272 (by decide) rfl rfl rfl rfl ?_
      obtain ⟨c7, w⟩ := w
      refine X_iast (k := 9) B.I dX0_add_78 rfl c7 ?_
      exact R_vret dX0_add_79 rfl w
    · have w := w.2 c10
      refine R_aload_n dX0_add_42 0 rfl ?_
      refine X_getA (k := 9) (o := 5) (j := 100) (n := 12) B dX0_add_43 q273 (by decide) rfl rfl ?_
      refine R_iload_n dX0_add_46 2 rfl ?_
      refine R_aload_n dX0_add_47 0 rfl ?_
      refine X_getA (k := 9) (o := 5) (j := 100) (n := 12) B dX0_add_48 q273 (by decide) rfl rfl ?_
      refine R_iload_n dX0_add_51 2 rfl ?_
      refine R_iconst (v := 1) dX0_add_52 (by decide) ?_
      refine R_isub dX0_add_53 ?_
      obtain ⟨c9, w⟩ := w
      refine X_iald (k := 9) B dX0_add_54 rfl c9 ?_
      obtain ⟨c8, w⟩ := w
      refine X_iast (k := 9) B dX0_add_55 rfl c8 ?_
      refine R_iinc (v := (a2 + (-1))) (lv' := [(2, .int (a2 + (-1))), (0, .ref x), (1, .ref a1)]) dX0_add_56 2 rfl (congrArg (fun z => a2 + z) (show Int32.ofInt (-1) = (-1) by decide)) (by decide) rfl ?_
      refine R_goto (tgt := 15) dX0_add_59 (by decide) ?_
      exact R_sub [1, 2, 0] rfl (w B.A)
theorem sX0_apart_0 {G : GG} {x : Nat} {h : AH} {Q : Outcome → AH → Prop} {a1 : Int32} {a2 : Int32} (B : XB G x h) (w : Run G mX0_isName 2 0 [(0, .int a1)] [] h (fun o h1 => ∃ b2 : Bool, o = .returned (some (.int (bi b2))) ∧ XB G x h1 ∧ ((b2 = false → (Q (.returned (some (.int (-1)))) h1)) ∧ (b2 = true → (Run G mX0_isYear 2 0 [(0, .int a2)] [] h1 (fun o h3 => ∃ b4 : Bool, o = .returned (some (.int (bi b4))) ∧ XB G x h3 ∧ ((b4 = true → (Run G mX0_asNamed 1 0 [(0, .ref x)] [] h3 (fun o h5 => o = .returned none ∧ XB G x h5 ∧ (XB G x h5 → Run G mX0_apart 306 25 [(0, .ref x), (1, .int a1), (2, .int a2), (3, .int 0), (4, .int 0)] [] h5 Q)))) ∧ (b4 = false → (Q (.returned (some (.int (-1)))) h3))))))))) : Run G mX0_apart 306 0 [(0, .ref x), (1, .int a1), (2, .int a2)] [] h Q := by
  refine R_iload_n dX0_apart_0 1 rfl ?_
  refine R_invS (Mc := mX0_isName) (As := [.int a1]) (st := []) dX0_apart_1 q428 q429 q103 wX0_isName pX0_isName rfl (Nat.le_of_ble_eq_true rfl) (by decide) (by decide) (Nat.le_of_ble_eq_true rfl) (aft_z w (fun b2 h1 w => ?_))
  obtain ⟨Bh1, w⟩ := w
  refine R_ifz_eq (tgt := 14) dX0_apart_4 (by decide) (fun c7 => ?_) (fun c7 => ?_)
  · have w := w.1 c7
    refine R_iconst (v := (-1)) dX0_apart_14 (by decide) ?_
    exact R_iret dX0_apart_15 rfl w
  · have w := w.2 c7
    refine R_iload_n dX0_apart_7 2 rfl ?_
    refine R_invS (Mc := mX0_isYear) (As := [.int a2]) (st := []) dX0_apart_8 q376 q377 q103 wX0_isYear pX0_isYear rfl (Nat.le_of_ble_eq_true rfl) (by decide) (by decide) (Nat.le_of_ble_eq_true rfl) (aft_z w (fun b4 h3 w => ?_))
    obtain ⟨Bh3, w⟩ := w
    refine R_ifz_ne (tgt := 16) dX0_apart_11 (by decide) (fun c6 => ?_) (fun c6 => ?_)
    · have w := w.1 c6
      refine R_aload_n dX0_apart_16 0 rfl ?_
      refine R_invV (Mc := mX0_asNamed) (b := x) (As := []) (st := []) ok0 (by decide) Bh3.1 dX0_apart_17 q661 q663 qs24 q103 wX0_asNamed pX0_asNamed rfl (Nat.le_of_ble_eq_true rfl) (by decide) (by decide) (Nat.le_of_ble_eq_true rfl) (aft_v w (fun h5 w => ?_))
      obtain ⟨Bh5, w⟩ := w
      refine R_iconst (v := 0) dX0_apart_20 (by decide) ?_
      refine R_istore_n (lv' := [(3, .int 0), (0, .ref x), (1, .int a1), (2, .int a2)]) dX0_apart_21 rfl (by decide) rfl ?_
      refine R_iconst (v := 0) dX0_apart_22 (by decide) ?_
      refine R_istore (lv' := [(4, .int 0), (3, .int 0), (0, .ref x), (1, .int a1), (2, .int a2)]) dX0_apart_23 (by decide) rfl ?_
      exact R_sub [2, 3, 4, 1, 0] rfl (w Bh5)
    · have w := w.2 c6
      refine R_iconst (v := (-1)) dX0_apart_14 (by decide) ?_
      exact R_iret dX0_apart_15 rfl w
theorem sX0_apart_25 {G : GG} {x : Nat} {h : AH} {Q : Outcome → AH → Prop} {a1 : Int32} {a2 : Int32} {a3 : Int32} {a4 : Int32} (B : XB G x h) (w : ((aI h 11 x) ≤ a4 → (XB G x h → Run G mX0_apart 306 58 [(0, .ref x), (1, .int a1), (2, .int a2), (3, .int a3), (4, .int 0)] [] h Q)) ∧ (¬ (aI h 11 x) ≤ a4 → (Run G mX0_doesCount 3 0 [(0, .ref x), (1, .int a4)] [] h (fun o h1 => ∃ b2 : Bool, o = .returned (some (.int (bi b2))) ∧ XB G x h1 ∧ (Run G mX0_bit 1 0 [(0, .int (bi b2))] [] h1 (fun o h3 => ∃ r4 : Int32, o = .returned (some (.int r4)) ∧ XB G x h3 ∧ (XB G x h3 → Run G mX0_apart 306 25 [(0, .ref x), (1, .int a1), (2, .int a2), (3, .int (a3 ||| (r4 <<< (a4 &&& 31)))), (4, .int (a4 + 1))] [] h3 Q))))))) : Run G mX0_apart 306 25 [(0, .ref x), (1, .int a1), (2, .int a2), (3, .int a3), (4, .int a4)] [] h Q := by
  refine R_iload dX0_apart_25 4 rfl ?_
  refine R_aload_n dX0_apart_27 0 rfl ?_
  refine X_getS (k := 11) B dX0_apart_28 q275 (by decide) rfl ?_
  refine R_icmp_ge (tgt := 55) dX0_apart_31 (by decide) (fun c5 => ?_) (fun c5 => ?_)
  · have w := w.1 c5
    refine R_iconst (v := 0) dX0_apart_55 (by decide) ?_
    refine R_istore (lv' := [(4, .int 0), (0, .ref x), (1, .int a1), (2, .int a2), (3, .int a3)]) dX0_apart_56 (by decide) rfl ?_
    exact R_sub [1, 2, 3, 4, 0] rfl (w B)
  · have w := w.2 c5
    refine R_iload_n dX0_apart_34 3 rfl ?_
    refine R_aload_n dX0_apart_35 0 rfl ?_
    refine R_iload dX0_apart_36 4 rfl ?_
    refine R_invV (Mc := mX0_doesCount) (b := x) (As := [.int a4]) (st := [.int a3]) ok0 (by decide) B.1 dX0_apart_38 q514 q516 qs10 q103 wX0_doesCount pX0_doesCount rfl (Nat.le_of_ble_eq_true rfl) (by decide) (by decide) (Nat.le_of_ble_eq_true rfl) (aft_z w (fun b2 h1 w => ?_))
    obtain ⟨Bh1, w⟩ := w
    refine R_invS (Mc := mX0_bit) (As := [.int (bi b2)]) (st := [.int a3]) dX0_apart_41 q505 q506 q103 wX0_bit pX0_bit rfl (Nat.le_of_ble_eq_true rfl) (by decide) (by decide) (Nat.le_of_ble_eq_true rfl) (aft_i w (fun r4 h3 w => ?_))
    obtain ⟨Bh3, w⟩ := w
    refine R_iload dX0_apart_44 4 rfl ?_
    refine R_ishl dX0_apart_46 ?_
    refine R_ior dX0_apart_47 ?_
    refine R_istore_n (lv' := [(3, .int (a3 ||| (r4 <<< (a4 &&& 31)))), (0, .ref x), (1, .int a1), (2, .int a2), (4, .int a4)]) dX0_apart_48 rfl (by decide) rfl ?_
    refine R_iinc (v := (a4 + 1)) (lv' := [(4, .int (a4 + 1)), (3, .int (a3 ||| (r4 <<< (a4 &&& 31)))), (0, .ref x), (1, .int a1), (2, .int a2)]) dX0_apart_49 4 rfl (congrArg (fun z => a4 + z) (show Int32.ofInt 1 = 1 by decide)) (by decide) rfl ?_
    refine R_goto (tgt := 25) dX0_apart_52 (by decide) ?_
    exact R_sub [2, 3, 4, 1, 0] rfl (w Bh3)
theorem sX0_apart_58 {G : GG} {x : Nat} {h : AH} {Q : Outcome → AH → Prop} {a1 : Int32} {a2 : Int32} {a3 : Int32} {a4 : Int32} (B : XB G x h) (w : ((aI h 11 x) ≤ a4 → (Run G mX0_isFreeWithout 305 0 [(0, .ref x), (1, .int a1), (2, .int a2), (3, .int a3)] [] h (fun o h1 => ∃ b2 : Bool, o = .returned (some (.int (bi b2))) ∧ XB G x h1 ∧ ((b2 = true → (XB G x h1 → Run G mX0_apart 306 115 [(0, .ref x), (1, .int a1), (2, .int a2), (3, .int a3), (4, .int a3), (5, .int 0)] [] h1 Q)) ∧ (b2 = false → (Q (.returned (some (.int (-2)))) h1)))))) ∧ (¬ (aI h 11 x) ≤ a4 → (vp_in a4 16 ∧ ∃ q5 : Nat, (aR h (x + 6) a4.toNatClampNeg) = some q5 ∧ (IsK G h q5 (7, 0) ∧ (((aI h 450 q5) ≤ a2 → (XB G x h → Run G mX0_apart 306 58 [(0, .ref x), (1, .int a1), (2, .int a2), (3, .int a3), (4, .int (a4 + 1))] [] h Q)) ∧ (¬ (aI h 450 q5) ≤ a2 → (XB G x h → Run G mX0_apart 306 58 [(0, .ref x), (1, .int a1), (2, .int a2), (3, .int (a3 &&& (((1 : Int32) <<< (a4 &&& 31)) ^^^ (-1)))), (4, .int (a4 + 1))] [] h Q))))))) : Run G mX0_apart 306 58 [(0, .ref x), (1, .int a1), (2, .int a2), (3, .int a3), (4, .int a4)] [] h Q := by
  refine R_iload dX0_apart_58 4 rfl ?_
  refine R_aload_n dX0_apart_60 0 rfl ?_
  refine X_getS (k := 11) B dX0_apart_61 q275 (by decide) rfl ?_
  refine R_icmp_ge (tgt := 96) dX0_apart_64 (by decide) (fun c9 => ?_) (fun c9 => ?_)
  · have w := w.1 c9
    refine R_aload_n dX0_apart_96 0 rfl ?_
    refine R_iload_n dX0_apart_97 1 rfl ?_
    refine R_iload_n dX0_apart_98 2 rfl ?_
    refine R_iload_n dX0_apart_99 3 rfl ?_
    refine R_invV (Mc := mX0_isFreeWithout) (b := x) (As := [.int a1, .int a2, .int a3]) (st := []) ok0 (by decide) B.1 dX0_apart_100 q781 q783 qs40 q103 wX0_isFreeWithout pX0_isFreeWithout rfl (Nat.le_of_ble_eq_true rfl) (by decide) (by decide) (Nat.le_of_ble_eq_true rfl) (aft_z w (fun b2 h1 w => ?_))
    obtain ⟨Bh1, w⟩ := w
    refine R_ifz_ne (tgt := 109) dX0_apart_103 (by decide) (fun c3 => ?_) (fun c3 => ?_)
    · have w := w.1 c3
      refine R_iload_n dX0_apart_109 3 rfl ?_
      refine R_istore (lv' := [(4, .int a3), (0, .ref x), (1, .int a1), (2, .int a2), (3, .int a3)]) dX0_apart_110 (by decide) rfl ?_
      refine R_iconst (v := 0) dX0_apart_112 (by decide) ?_
      refine R_istore (lv' := [(5, .int 0), (4, .int a3), (0, .ref x), (1, .int a1), (2, .int a2), (3, .int a3)]) dX0_apart_113 (by decide) rfl ?_
      exact R_sub [2, 3, 4, 5, 1, 0] rfl (w Bh1)
    · have w := w.2 c3
      refine R_bipush (v := (-2)) dX0_apart_106 (by decide) ?_
      exact R_iret dX0_apart_108 rfl w
  · have w := w.2 c9
    refine R_aload_n dX0_apart_67 0 rfl ?_
    refine X_getA (k := 10) (o := 6) (j := 108) (n := 16) B dX0_apart_68 q274 (by decide) rfl rfl ?_
    refine R_iload dX0_apart_71 4 rfl ?_
    obtain ⟨c4, q5, e6, w⟩ := w
    refine X_aald (k := 10) (j := 8) (E := "NameRests$Meeting") B dX0_apart_73 rfl (by decide) (by decide) rfl c4 ?_
    refine R_top (v' := .ref q5) (congrArg va_rf e6) ?_
    obtain ⟨k7, w⟩ := w
    refine R_getIN (k := 2) (f := 450) ok7 dX0_apart_74 q458 (by decide) rfl (by decide) k7 ?_
    refine R_iload_n dX0_apart_77 2 rfl ?_
    refine R_icmp_le (tgt := 90) dX0_apart_78 (by decide) (fun c8 => ?_) (fun c8 => ?_)
    · have w := w.1 c8
      refine R_iinc (v := (a4 + 1)) (lv' := [(4, .int (a4 + 1)), (0, .ref x), (1, .int a1), (2, .int a2), (3, .int a3)]) dX0_apart_90 4 rfl (congrArg (fun z => a4 + z) (show Int32.ofInt 1 = 1 by decide)) (by decide) rfl ?_
      refine R_goto (tgt := 58) dX0_apart_93 (by decide) ?_
      exact R_sub [1, 2, 3, 4, 0] rfl (w B)
    · have w := w.2 c8
      refine R_iload_n dX0_apart_81 3 rfl ?_
      refine R_iconst (v := 1) dX0_apart_82 (by decide) ?_
      refine R_iload dX0_apart_83 4 rfl ?_
      refine R_ishl dX0_apart_85 ?_
      refine R_iconst (v := (-1)) dX0_apart_86 (by decide) ?_
      refine R_ixor dX0_apart_87 ?_
      refine R_iand dX0_apart_88 ?_
      refine R_istore_n (lv' := [(3, .int (a3 &&& (((1 : Int32) <<< (a4 &&& 31)) ^^^ (-1)))), (0, .ref x), (1, .int a1), (2, .int a2), (4, .int a4)]) dX0_apart_89 rfl (by decide) rfl ?_
      refine R_iinc (v := (a4 + 1)) (lv' := [(4, .int (a4 + 1)), (3, .int (a3 &&& (((1 : Int32) <<< (a4 &&& 31)) ^^^ (-1)))), (0, .ref x), (1, .int a1), (2, .int a2)]) dX0_apart_90 4 rfl (congrArg (fun z => a4 + z) (show Int32.ofInt 1 = 1 by decide)) (by decide) rfl ?_
      refine R_goto (tgt := 58) dX0_apart_93 (by decide) ?_
      exact R_sub [2, 3, 4, 1, 0] rfl (w B)
theorem sX0_apart_115 {G : GG} {x : Nat} {h : AH} {Q : Outcome → AH → Prop} {a1 : Int32} {a2 : Int32} {a3 : Int32} {a4 : Int32} {a5 : Int32} (B : XB G x h) (w : (((1 : Int32) <<< ((aI h 11 x) &&& 31)) ≤ a5 → (Q (.returned (some (.int a4))) h)) ∧ (¬ ((1 : Int32) <<< ((aI h 11 x) &&& 31)) ≤ a5 → ((¬ (a5 &&& (a3 ^^^ (-1))) = 0 → (XB G x h → Run G mX0_apart 306 115 [(0, .ref x), (1, .int a1), (2, .int a2), (3, .int a3), (4, .int a4), (5, .int (a5 + 1))] [] h Q)) ∧ ((a5 &&& (a3 ^^^ (-1))) = 0 → (Run G mX0_ones 1 0 [(0, .int a5)] [] h (fun o h1 => ∃ r2 : Int32, o = .returned (some (.int r2)) ∧ XB G x h1 ∧ (Run G mX0_ones 1 0 [(0, .int a4)] [] h1 (fun o h3 => ∃ r4 : Int32, o = .returned (some (.int r4)) ∧ XB G x h3 ∧ ((r4 ≤ r2 → (XB G x h3 → Run G mX0_apart 306 115 [(0, .ref x), (1, .int a1), (2, .int a2), (3, .int a3), (4, .int a4), (5, .int (a5 + 1))] [] h3 Q)) ∧ (¬ r4 ≤ r2 → (Run G mX0_isFreeWithout 305 0 [(0, .ref x), (1, .int a1), (2, .int a2), (3, .int a5)] [] h3 (fun o h5 => ∃ b6 : Bool, o = .returned (some (.int (bi b6))) ∧ XB G x h5 ∧ ((b6 = false → (XB G x h5 → Run G mX0_apart 306 115 [(0, .ref x), (1, .int a1), (2, .int a2), (3, .int a3), (4, .int a4), (5, .int (a5 + 1))] [] h5 Q)) ∧ (b6 = true → (XB G x h5 → Run G mX0_apart 306 115 [(0, .ref x), (1, .int a1), (2, .int a2), (3, .int a3), (4, .int a5), (5, .int (a5 + 1))] [] h5 Q))))))))))))))) : Run G mX0_apart 306 115 [(0, .ref x), (1, .int a1), (2, .int a2), (3, .int a3), (4, .int a4), (5, .int a5)] [] h Q := by
  refine R_iload dX0_apart_115 5 rfl ?_
  refine R_iconst (v := 1) dX0_apart_117 (by decide) ?_
  refine R_aload_n dX0_apart_118 0 rfl ?_
  refine X_getS (k := 11) B dX0_apart_119 q275 (by decide) rfl ?_
  refine R_ishl dX0_apart_122 ?_
  refine R_icmp_ge (tgt := 169) dX0_apart_123 (by decide) (fun c10 => ?_) (fun c10 => ?_)
  · have w := w.1 c10
    refine R_iload dX0_apart_169 4 rfl ?_
    exact R_iret dX0_apart_171 rfl w
  · have w := w.2 c10
    refine R_iload dX0_apart_126 5 rfl ?_
    refine R_iload_n dX0_apart_128 3 rfl ?_
    refine R_iconst (v := (-1)) dX0_apart_129 (by decide) ?_
    refine R_ixor dX0_apart_130 ?_
    refine R_iand dX0_apart_131 ?_
    refine R_if_ne (tgt := 163) dX0_apart_132 (by decide) (fun c9 => ?_) (fun c9 => ?_)
    · have w := w.1 c9
      refine R_iinc (v := (a5 + 1)) (lv' := [(5, .int (a5 + 1)), (0, .ref x), (1, .int a1), (2, .int a2), (3, .int a3), (4, .int a4)]) dX0_apart_163 5 rfl (congrArg (fun z => a5 + z) (show Int32.ofInt 1 = 1 by decide)) (by decide) rfl ?_
      refine R_goto (tgt := 115) dX0_apart_166 (by decide) ?_
      exact R_sub [1, 2, 3, 4, 5, 0] rfl (w B)
    · have w := w.2 c9
      refine R_iload dX0_apart_135 5 rfl ?_
      refine R_invS (Mc := mX0_ones) (As := [.int a5]) (st := []) dX0_apart_137 q727 q728 q103 wX0_ones pX0_ones rfl (Nat.le_of_ble_eq_true rfl) (by decide) (by decide) (Nat.le_of_ble_eq_true rfl) (aft_i w (fun r2 h1 w => ?_))
      obtain ⟨Bh1, w⟩ := w
      refine R_iload dX0_apart_140 4 rfl ?_
      refine R_invS (Mc := mX0_ones) (As := [.int a4]) (st := [.int r2]) dX0_apart_142 q727 q728 q103 wX0_ones pX0_ones rfl (Nat.le_of_ble_eq_true rfl) (by decide) (by decide) (Nat.le_of_ble_eq_true rfl) (aft_i w (fun r4 h3 w => ?_))
      obtain ⟨Bh3, w⟩ := w
      refine R_icmp_ge (tgt := 163) dX0_apart_145 (by decide) (fun c8 => ?_) (fun c8 => ?_)
      · have w := w.1 c8
        refine R_iinc (v := (a5 + 1)) (lv' := [(5, .int (a5 + 1)), (0, .ref x), (1, .int a1), (2, .int a2), (3, .int a3), (4, .int a4)]) dX0_apart_163 5 rfl (congrArg (fun z => a5 + z) (show Int32.ofInt 1 = 1 by decide)) (by decide) rfl ?_
        refine R_goto (tgt := 115) dX0_apart_166 (by decide) ?_
        exact R_sub [1, 2, 3, 4, 5, 0] rfl (w Bh3)
      · have w := w.2 c8
        refine R_aload_n dX0_apart_148 0 rfl ?_
        refine R_iload_n dX0_apart_149 1 rfl ?_
        refine R_iload_n dX0_apart_150 2 rfl ?_
        refine R_iload dX0_apart_151 5 rfl ?_
        refine R_invV (Mc := mX0_isFreeWithout) (b := x) (As := [.int a1, .int a2, .int a5]) (st := []) ok0 (by decide) Bh3.1 dX0_apart_153 q781 q783 qs40 q103 wX0_isFreeWithout pX0_isFreeWithout rfl (Nat.le_of_ble_eq_true rfl) (by decide) (by decide) (Nat.le_of_ble_eq_true rfl) (aft_z w (fun b6 h5 w => ?_))
        obtain ⟨Bh5, w⟩ := w
        refine R_ifz_eq (tgt := 163) dX0_apart_156 (by decide) (fun c7 => ?_) (fun c7 => ?_)
        · have w := w.1 c7
          refine R_iinc (v := (a5 + 1)) (lv' := [(5, .int (a5 + 1)), (0, .ref x), (1, .int a1), (2, .int a2), (3, .int a3), (4, .int a4)]) dX0_apart_163 5 rfl (congrArg (fun z => a5 + z) (show Int32.ofInt 1 = 1 by decide)) (by decide) rfl ?_
          refine R_goto (tgt := 115) dX0_apart_166 (by decide) ?_
          exact R_sub [1, 2, 3, 4, 5, 0] rfl (w Bh5)
        · have w := w.2 c7
          refine R_iload dX0_apart_159 5 rfl ?_
          refine R_istore (lv' := [(4, .int a5), (0, .ref x), (1, .int a1), (2, .int a2), (3, .int a3), (5, .int a5)]) dX0_apart_161 (by decide) rfl ?_
          refine R_iinc (v := (a5 + 1)) (lv' := [(5, .int (a5 + 1)), (4, .int a5), (0, .ref x), (1, .int a1), (2, .int a2), (3, .int a3)]) dX0_apart_163 5 rfl (congrArg (fun z => a5 + z) (show Int32.ofInt 1 = 1 by decide)) (by decide) rfl ?_
          refine R_goto (tgt := 115) dX0_apart_166 (by decide) ?_
          exact R_sub [2, 3, 4, 5, 1, 0] rfl (w Bh5)
theorem sX0_asAheadOf_0 {G : GG} {x : Nat} {h : AH} {Q : Outcome → AH → Prop} {a1 : Int32} (B : XB G x h) (w : Run G mX0_nobodyBears 1 0 [(0, .ref x)] [] h (fun o h1 => o = .returned none ∧ XB G x h1 ∧ (XB G x h1 → Run G mX0_asAheadOf 2 6 [(0, .ref x), (1, .int a1), (2, .int 0)] [] h1 Q))) : Run G mX0_asAheadOf 2 0 [(0, .ref x), (1, .int a1)] [] h Q := by
  refine R_aload_n dX0_asAheadOf_0 0 rfl ?_
  refine R_invV (Mc := mX0_nobodyBears) (b := x) (As := []) (st := []) ok0 (by decide) B.1 dX0_asAheadOf_1 q734 q736 qs33 q103 wX0_nobodyBears pX0_nobodyBears rfl (Nat.le_of_ble_eq_true rfl) (by decide) (by decide) (Nat.le_of_ble_eq_true rfl) (aft_v w (fun h1 w => ?_))
  obtain ⟨Bh1, w⟩ := w
  refine R_iconst (v := 0) dX0_asAheadOf_4 (by decide) ?_
  refine R_istore_n (lv' := [(2, .int 0), (0, .ref x), (1, .int a1)]) dX0_asAheadOf_5 rfl (by decide) rfl ?_
  exact R_sub [1, 2, 0] rfl (w Bh1)
theorem sX0_asAheadOf_6 {G : GG} {x : Nat} {h : AH} {Q : Outcome → AH → Prop} {a1 : Int32} {a2 : Int32} (B : XB G x h) (w : vp_in a2 12 ∧ (((aA h (x + 5) a2.toNatClampNeg) = a1 → (Q (.returned none) h)) ∧ (¬ (aA h (x + 5) a2.toNatClampNeg) = a1 → (vp_in a2 12 ∧ (vp_in a2 12 ∧ (vp_in (aA h (x + 5) a2.toNatClampNeg) 12 ∧ ∃ q2 : Nat, (aR h (x + 4) (aA h (x + 5) a2.toNatClampNeg).toNatClampNeg) = some q2 ∧ (IsK G h q2 (6, 0) ∧ (vp_in (aA h (x + 5) a2.toNatClampNeg) 12 ∧ (XB G x (sA h (x + 13) (aA h (x + 5) a2.toNatClampNeg).toNatClampNeg (aI h 386 q2)) → Run G mX0_asAheadOf 2 6 [(0, .ref x), (1, .int a1), (2, .int (a2 + 1))] [] (sA h (x + 13) (aA h (x + 5) a2.toNatClampNeg).toNatClampNeg (aI h 386 q2)) Q))))))))) : Run G mX0_asAheadOf 2 6 [(0, .ref x), (1, .int a1), (2, .int a2)] [] h Q := by
  refine R_aload_n dX0_asAheadOf_6 0 rfl ?_
  refine X_getA (k := 9) (o := 5) (j := 100) (n := 12) B dX0_asAheadOf_7 q273 (by decide) rfl rfl ?_
  refine R_iload_n dX0_asAheadOf_10 2 rfl ?_
  obtain ⟨c9, w⟩ := w
  refine X_iald (k := 9) B dX0_asAheadOf_11 rfl c9 ?_
  refine R_iload_n dX0_asAheadOf_12 1 rfl ?_
  refine R_icmp_eq (tgt := 47) dX0_asAheadOf_13 (by decide) (fun c8 => ?_) (fun c8 => ?_)
  · have w := w.1 c8
    exact R_vret dX0_asAheadOf_47 rfl w
  · have w := w.2 c8
    refine R_aload_n dX0_asAheadOf_16 0 rfl ?_
    refine X_getA (k := 21) (o := 13) (j := 100) (n := 12) B dX0_asAheadOf_17 q286 (by decide) rfl rfl ?_
    refine R_aload_n dX0_asAheadOf_20 0 rfl ?_
    refine X_getA (k := 9) (o := 5) (j := 100) (n := 12) B dX0_asAheadOf_21 q273 (by decide) rfl rfl ?_
    refine R_iload_n dX0_asAheadOf_24 2 rfl ?_
    obtain ⟨c7, w⟩ := w
    refine X_iald (k := 9) B dX0_asAheadOf_25 rfl c7 ?_
    refine R_aload_n dX0_asAheadOf_26 0 rfl ?_
    refine X_getA (k := 7) (o := 4) (j := 107) (n := 12) B dX0_asAheadOf_27 q271 (by decide) rfl rfl ?_
    refine R_aload_n dX0_asAheadOf_30 0 rfl ?_
    refine X_getA (k := 9) (o := 5) (j := 100) (n := 12) B dX0_asAheadOf_31 q273 (by decide) rfl rfl ?_
    refine R_iload_n dX0_asAheadOf_34 2 rfl ?_
    obtain ⟨c6, w⟩ := w
    refine X_iald (k := 9) B dX0_asAheadOf_35 rfl c6 ?_
    obtain ⟨c1, q2, e3, w⟩ := w
    refine X_aald (k := 7) (j := 7) (E := "NameRests$Person") B dX0_asAheadOf_36 rfl (by decide) (by decide) rfl c1 ?_
    refine R_top (v' := .ref q2) (congrArg va_rf e3) ?_
    obtain ⟨k4, w⟩ := w
    refine R_getIN (k := 2) (f := 386) ok6 dX0_asAheadOf_37 q393 (by decide) rfl (by decide) k4 ?_
    obtain ⟨c5, w⟩ := w
    refine X_iast (k := 21) B dX0_asAheadOf_40 rfl c5 ?_
    refine R_iinc (v := (a2 + 1)) (lv' := [(2, .int (a2 + 1)), (0, .ref x), (1, .int a1)]) dX0_asAheadOf_41 2 rfl (congrArg (fun z => a2 + z) (show Int32.ofInt 1 = 1 by decide)) (by decide) rfl ?_
    refine R_goto (tgt := 6) dX0_asAheadOf_44 (by decide) ?_
    exact R_sub [1, 2, 0] rfl (w B.A)
theorem sX0_asNamed_0 {G : GG} {x : Nat} {h : AH} {Q : Outcome → AH → Prop} (B : XB G x h) (w : XB G x h → Run G mX0_asNamed 1 2 [(0, .ref x), (1, .int 0)] [] h Q) : Run G mX0_asNamed 1 0 [(0, .ref x)] [] h Q := by
  refine R_iconst (v := 0) dX0_asNamed_0 (by decide) ?_
  refine R_istore_n (lv' := [(1, .int 0), (0, .ref x)]) dX0_asNamed_1 rfl (by decide) rfl ?_
  exact R_sub [1, 0] rfl (w B)
theorem sX0_asNamed_2 {G : GG} {x : Nat} {h : AH} {Q : Outcome → AH → Prop} {a1 : Int32} (B : XB G x h) (w : ((aI h 8 x) ≤ a1 → (Q (.returned none) h)) ∧ (¬ (aI h 8 x) ≤ a1 → (vp_in a1 12 ∧ ∃ q2 : Nat, (aR h (x + 4) a1.toNatClampNeg) = some q2 ∧ (IsK G h q2 (6, 0) ∧ (vp_in a1 12 ∧ (XB G x (sA h (x + 13) a1.toNatClampNeg (aI h 386 q2)) → Run G mX0_asNamed 1 2 [(0, .ref x), (1, .int (a1 + 1))] [] (sA h (x + 13) a1.toNatClampNeg (aI h 386 q2)) Q)))))) : Run G mX0_asNamed 1 2 [(0, .ref x), (1, .int a1)] [] h Q := by
  refine R_iload_n dX0_asNamed_2 1 rfl ?_
  refine R_aload_n dX0_asNamed_3 0 rfl ?_
  refine X_getS (k := 8) B dX0_asNamed_4 q272 (by decide) rfl ?_
  refine R_icmp_ge (tgt := 31) dX0_asNamed_7 (by decide) (fun c6 => ?_) (fun c6 => ?_)
  · have w := w.1 c6
    exact R_vret dX0_asNamed_31 rfl w
  · have w := w.2 c6
    refine R_aload_n dX0_asNamed_10 0 rfl ?_
    refine X_getA (k := 21) (o := 13) (j := 100) (n := 12) B dX0_asNamed_11 q286 (by decide) rfl rfl ?_
    refine R_iload_n dX0_asNamed_14 1 rfl ?_
    refine R_aload_n dX0_asNamed_15 0 rfl ?_
    refine X_getA (k := 7) (o := 4) (j := 107) (n := 12) B dX0_asNamed_16 q271 (by decide) rfl rfl ?_
    refine R_iload_n dX0_asNamed_19 1 rfl ?_
    obtain ⟨c1, q2, e3, w⟩ := w
    refine X_aald (k := 7) (j := 7) (E := "NameRests$Person") B dX0_asNamed_20 rfl (by decide) (by decide) rfl c1 ?_
    refine R_top (v' := .ref q2) (congrArg va_rf e3) ?_
    obtain ⟨k4, w⟩ := w
    refine R_getIN (k := 2) (f := 386) ok6 dX0_asNamed_21 q393 (by decide) rfl (by decide) k4 ?_
    obtain ⟨c5, w⟩ := w
    refine X_iast (k := 21) B dX0_asNamed_24 rfl c5 ?_
    refine R_iinc (v := (a1 + 1)) (lv' := [(1, .int (a1 + 1)), (0, .ref x)]) dX0_asNamed_25 1 rfl (congrArg (fun z => a1 + z) (show Int32.ofInt 1 = 1 by decide)) (by decide) rfl ?_
    refine R_goto (tgt := 2) dX0_asNamed_28 (by decide) ?_
    exact R_sub [1, 0] rfl (w B.A)
theorem sX0_back_0 {G : GG} {x : Nat} {h : AH} {Q : Outcome → AH → Prop} (B : XB G x h) (w : (¬ (aI h 23 x) = 0 → (XB G x h → Run G mX0_back 1 12 [(0, .ref x), (1, .int 0)] [] h Q)) ∧ ((aI h 23 x) = 0 → (Q (.returned (some (.int (-5)))) h))) : Run G mX0_back 1 0 [(0, .ref x)] [] h Q := by
  refine R_aload_n dX0_back_0 0 rfl ?_
  refine X_getS (k := 23) B dX0_back_1 q288 (by decide) rfl ?_
  refine R_if_ne (tgt := 10) dX0_back_4 (by decide) (fun c1 => ?_) (fun c1 => ?_)
  · have w := w.1 c1
    refine R_iconst (v := 0) dX0_back_10 (by decide) ?_
    refine R_istore_n (lv' := [(1, .int 0), (0, .ref x)]) dX0_back_11 rfl (by decide) rfl ?_
    exact R_sub [1, 0] rfl (w B)
  · have w := w.2 c1
    refine R_bipush (v := (-5)) dX0_back_7 (by decide) ?_
    exact R_iret dX0_back_9 rfl w
theorem sX0_back_12 {G : GG} {x : Nat} {h : AH} {Q : Outcome → AH → Prop} {a1 : Int32} (B : XB G x h) (w : ((aI h 24 x) ≤ a1 → (Q (.returned (some (.int (aI h 24 x)))) h)) ∧ (¬ (aI h 24 x) ≤ a1 → (vp_in a1 12 ∧ ∃ q2 : Nat, (aR h (x + 4) a1.toNatClampNeg) = some q2 ∧ (vp_in a1 12 ∧ (IsK G h q2 (6, 0) ∧ (XB G x (sI h 386 q2 (aA h (x + 15) a1.toNatClampNeg)) → Run G mX0_back 1 12 [(0, .ref x), (1, .int (a1 + 1))] [] (sI h 386 q2 (aA h (x + 15) a1.toNatClampNeg)) Q)))))) : Run G mX0_back 1 12 [(0, .ref x), (1, .int a1)] [] h Q := by
  refine R_iload_n dX0_back_12 1 rfl ?_
  refine R_aload_n dX0_back_13 0 rfl ?_
  refine X_getS (k := 24) B dX0_back_14 q289 (by decide) rfl ?_
  refine R_icmp_ge (tgt := 41) dX0_back_17 (by decide) (fun c6 => ?_) (fun c6 => ?_)
  · have w := w.1 c6
    refine R_aload_n dX0_back_41 0 rfl ?_
    refine X_getS (k := 24) B dX0_back_42 q289 (by decide) rfl ?_
    exact R_iret dX0_back_45 rfl w
  · have w := w.2 c6
    refine R_aload_n dX0_back_20 0 rfl ?_
    refine X_getA (k := 7) (o := 4) (j := 107) (n := 12) B dX0_back_21 q271 (by decide) rfl rfl ?_
    refine R_iload_n dX0_back_24 1 rfl ?_
    obtain ⟨c1, q2, e3, w⟩ := w
    refine X_aald (k := 7) (j := 7) (E := "NameRests$Person") B dX0_back_25 rfl (by decide) (by decide) rfl c1 ?_
    refine R_top (v' := .ref q2) (congrArg va_rf e3) ?_
    refine R_aload_n dX0_back_26 0 rfl ?_
    refine X_getA (k := 25) (o := 15) (j := 100) (n := 12) B dX0_back_27 q290 (by decide) rfl rfl ?_
    refine R_iload_n dX0_back_30 1 rfl ?_
    obtain ⟨c5, w⟩ := w
    refine X_iald (k := 25) B dX0_back_31 rfl c5 ?_
    obtain ⟨k4, w⟩ := w
    refine R_putIN (k := 2) (f := 386) ok6 dX0_back_32 q393 (by decide) rfl rfl rfl rfl rfl (by decide) k4 ?_
    refine R_iinc (v := (a1 + 1)) (lv' := [(1, .int (a1 + 1)), (0, .ref x)]) dX0_back_35 1 rfl (congrArg (fun z => a1 + z) (show Int32.ofInt 1 = 1 by decide)) (by decide) rfl ?_
    refine R_goto (tgt := 12) dX0_back_38 (by decide) ?_
    exact R_sub [1, 0] rfl (w B.I)
theorem sX0_bearersOf_0 {G : GG} {x : Nat} {h : AH} {Q : Outcome → AH → Prop} {a1 : Int32} (B : XB G x h) (w : XB G x h → Run G mX0_bearersOf 2 4 [(0, .ref x), (1, .int a1), (2, .int 0), (3, .int 0)] [] h Q) : Run G mX0_bearersOf 2 0 [(0, .ref x), (1, .int a1)] [] h Q := by
  refine R_iconst (v := 0) dX0_bearersOf_0 (by decide) ?_
  refine R_istore_n (lv' := [(2, .int 0), (0, .ref x), (1, .int a1)]) dX0_bearersOf_1 rfl (by decide) rfl ?_
  refine R_iconst (v := 0) dX0_bearersOf_2 (by decide) ?_
  refine R_istore_n (lv' := [(3, .int 0), (2, .int 0), (0, .ref x), (1, .int a1)]) dX0_bearersOf_3 rfl (by decide) rfl ?_
  exact R_sub [2, 3, 1, 0] rfl (w B)
theorem sX0_bearersOf_4 {G : GG} {x : Nat} {h : AH} {Q : Outcome → AH → Prop} {a1 : Int32} {a2 : Int32} {a3 : Int32} (B : XB G x h) (w : ((aI h 8 x) ≤ a3 → (Q (.returned (some (.int a2))) h)) ∧ (¬ (aI h 8 x) ≤ a3 → (vp_in a3 12 ∧ ∃ q2 : Nat, (aR h (x + 4) a3.toNatClampNeg) = some q2 ∧ (IsK G h q2 (6, 0) ∧ ((¬ (aI h 386 q2) = a1 → (Run G mX0_bit 1 0 [(0, .int (bi false))] [] h (fun o h5 => ∃ r6 : Int32, o = .returned (some (.int r6)) ∧ XB G x h5 ∧ (XB G x h5 → Run G mX0_bearersOf 2 4 [(0, .ref x), (1, .int a1), (2, .int (a2 ||| (r6 <<< (a3 &&& 31)))), (3, .int (a3 + 1))] [] h5 Q)))) ∧ ((aI h 386 q2) = a1 → (Run G mX0_bit 1 0 [(0, .int (bi true))] [] h (fun o h7 => ∃ r8 : Int32, o = .returned (some (.int r8)) ∧ XB G x h7 ∧ (XB G x h7 → Run G mX0_bearersOf 2 4 [(0, .ref x), (1, .int a1), (2, .int (a2 ||| (r8 <<< (a3 &&& 31)))), (3, .int (a3 + 1))] [] h7 Q))))))))) : Run G mX0_bearersOf 2 4 [(0, .ref x), (1, .int a1), (2, .int a2), (3, .int a3)] [] h Q := by
  refine R_iload_n dX0_bearersOf_4 3 rfl ?_
  refine R_aload_n dX0_bearersOf_5 0 rfl ?_
  refine X_getS (k := 8) B dX0_bearersOf_6 q272 (by decide) rfl ?_
  refine R_icmp_ge (tgt := 44) dX0_bearersOf_9 (by decide) (fun c10 => ?_) (fun c10 => ?_)
  · have w := w.1 c10
    refine R_iload_n dX0_bearersOf_44 2 rfl ?_
    exact R_iret dX0_bearersOf_45 rfl w
  · have w := w.2 c10
    refine R_iload_n dX0_bearersOf_12 2 rfl ?_
    refine R_aload_n dX0_bearersOf_13 0 rfl ?_
    refine X_getA (k := 7) (o := 4) (j := 107) (n := 12) B dX0_bearersOf_14 q271 (by decide) rfl rfl ?_
    refine R_iload_n dX0_bearersOf_17 3 rfl ?_
    obtain ⟨c1, q2, e3, w⟩ := w
    refine X_aald (k := 7) (j := 7) (E := "NameRests$Person") B dX0_bearersOf_18 rfl (by decide) (by decide) rfl c1 ?_
    refine R_top (v' := .ref q2) (congrArg va_rf e3) ?_
    obtain ⟨k4, w⟩ := w
    refine R_getIN (k := 2) (f := 386) ok6 dX0_bearersOf_19 q393 (by decide) rfl (by decide) k4 ?_
    refine R_iload_n dX0_bearersOf_22 1 rfl ?_
    refine R_icmp_ne (tgt := 30) dX0_bearersOf_23 (by decide) (fun c9 => ?_) (fun c9 => ?_)
    · have w := w.1 c9
      refine R_iconst (v := 0) dX0_bearersOf_30 (by decide) ?_
      refine R_invS (Mc := mX0_bit) (As := [.int (bi false)]) (st := [.int a2]) dX0_bearersOf_31 q505 q506 q103 wX0_bit pX0_bit rfl (Nat.le_of_ble_eq_true rfl) (by decide) (by decide) (Nat.le_of_ble_eq_true rfl) (aft_i w (fun r6 h5 w => ?_))
      obtain ⟨Bh5, w⟩ := w
      refine R_iload_n dX0_bearersOf_34 3 rfl ?_
      refine R_ishl dX0_bearersOf_35 ?_
      refine R_ior dX0_bearersOf_36 ?_
      refine R_istore_n (lv' := [(2, .int (a2 ||| (r6 <<< (a3 &&& 31)))), (0, .ref x), (1, .int a1), (3, .int a3)]) dX0_bearersOf_37 rfl (by decide) rfl ?_
      refine R_iinc (v := (a3 + 1)) (lv' := [(3, .int (a3 + 1)), (2, .int (a2 ||| (r6 <<< (a3 &&& 31)))), (0, .ref x), (1, .int a1)]) dX0_bearersOf_38 3 rfl (congrArg (fun z => a3 + z) (show Int32.ofInt 1 = 1 by decide)) (by decide) rfl ?_
      refine R_goto (tgt := 4) dX0_bearersOf_41 (by decide) ?_
      exact R_sub [2, 3, 1, 0] rfl (w Bh5)
    · have w := w.2 c9
      refine R_iconst (v := 1) dX0_bearersOf_26 (by decide) ?_
      refine R_goto (tgt := 31) dX0_bearersOf_27 (by decide) ?_
      refine R_invS (Mc := mX0_bit) (As := [.int (bi true)]) (st := [.int a2]) dX0_bearersOf_31 q505 q506 q103 wX0_bit pX0_bit rfl (Nat.le_of_ble_eq_true rfl) (by decide) (by decide) (Nat.le_of_ble_eq_true rfl) (aft_i w (fun r8 h7 w => ?_))
      obtain ⟨Bh7, w⟩ := w
      refine R_iload_n dX0_bearersOf_34 3 rfl ?_
      refine R_ishl dX0_bearersOf_35 ?_
      refine R_ior dX0_bearersOf_36 ?_
      refine R_istore_n (lv' := [(2, .int (a2 ||| (r8 <<< (a3 &&& 31)))), (0, .ref x), (1, .int a1), (3, .int a3)]) dX0_bearersOf_37 rfl (by decide) rfl ?_
      refine R_iinc (v := (a3 + 1)) (lv' := [(3, .int (a3 + 1)), (2, .int (a2 ||| (r8 <<< (a3 &&& 31)))), (0, .ref x), (1, .int a1)]) dX0_bearersOf_38 3 rfl (congrArg (fun z => a3 + z) (show Int32.ofInt 1 = 1 by decide)) (by decide) rfl ?_
      refine R_goto (tgt := 4) dX0_bearersOf_41 (by decide) ?_
      exact R_sub [2, 3, 1, 0] rfl (w Bh7)
theorem sX0_become_0 {G : GG} {x : Nat} {h : AH} {Q : Outcome → AH → Prop} {a1 : Nat} {a2 : Int32} (B : XB G x h) (w : IsK G h a1 (4, 0) ∧ ((¬ (aI h 256 a1) = a2 → ((¬ (aI h 2 x) = 40 → (XB G x h → Run G mX0_become 1 80 [(0, .ref x), (1, .ref a1), (2, .int a2), (3, .int (aI h 256 a1))] [] h Q)) ∧ ((aI h 2 x) = 40 → (vp_in 0 40 ∧ ∃ q3 : Nat, (aR h (x + 1) (0 : Int32).toNatClampNeg) = some q3 ∧ (XB G x h → Run G mX0_become 1 32 [(0, .ref x), (1, .ref a1), (2, .int a2), (3, .int (aI h 256 a1)), (4, .ref q3), (5, .int 1)] [] h Q))))) ∧ ((aI h 256 a1) = a2 → (Q (.returned (some (.int (aI h 256 a1)))) h)))) : Run G mX0_become 1 0 [(0, .ref x), (1, .ref a1), (2, .int a2)] [] h Q := by
  refine R_aload_n dX0_become_0 1 rfl ?_
  obtain ⟨k1, w⟩ := w
  refine R_getIN (k := 0) (f := 256) ok4 dX0_become_1 q260 (by decide) rfl (by decide) k1 ?_
  refine R_istore_n (lv' := [(3, .int (aI h 256 a1)), (0, .ref x), (1, .ref a1), (2, .int a2)]) dX0_become_4 rfl (by decide) rfl ?_
  refine R_iload_n dX0_become_5 0 rfl ?_
  refine R_iload_n dX0_become_6 3 rfl ?_
  refine R_icmp_ne (tgt := 12) dX0_become_7 (by decide) (fun c6 => ?_) (fun c6 => ?_)
  · have w := w.1 c6
    refine R_aload_n dX0_become_12 1 rfl ?_
    refine X_getS (k := 2) B dX0_become_13 q266 (by decide) rfl ?_
    refine R_bipush (v := 40) dX0_become_16 (by decide) ?_
    refine R_icmp_ne (tgt := 80) dX0_become_18 (by decide) (fun c5 => ?_) (fun c5 => ?_)
    · have w := w.1 c5
      exact R_sub [1, 2, 3, 0] rfl (w B)
    · have w := w.2 c5
      refine R_aload_n dX0_become_21 1 rfl ?_
      refine X_getA (k := 0) (o := 1) (j := 105) (n := 40) B dX0_become_22 q264 (by decide) rfl rfl ?_
      refine R_iconst (v := 0) dX0_become_25 (by decide) ?_
      obtain ⟨c2, q3, e4, w⟩ := w
      refine X_aald (k := 0) (j := 5) (E := "NameRests$Change") B dX0_become_26 rfl (by decide) (by decide) rfl c2 ?_
      refine R_top (v' := .ref q3) (congrArg va_rf e4) ?_
      refine R_astore (lv' := [(4, .ref q3), (3, .int (aI h 256 a1)), (0, .ref x), (1, .ref a1), (2, .int a2)]) dX0_become_27 (by decide) rfl ?_
      refine R_iconst (v := 1) dX0_become_29 (by decide) ?_
      refine R_istore (lv' := [(5, .int 1), (4, .ref q3), (3, .int (aI h 256 a1)), (0, .ref x), (1, .ref a1), (2, .int a2)]) dX0_become_30 (by decide) rfl ?_
      exact R_sub [3, 4, 5, 2, 1, 0] rfl (w B)
  · have w := w.2 c6
    refine R_iload_n dX0_become_10 0 rfl ?_
    exact R_iret dX0_become_11 rfl w
theorem sX0_become_32 {G : GG} {x : Nat} {h : AH} {Q : Outcome → AH → Prop} {a1 : Nat} {a2 : Int32} {a3 : Int32} {a4 : Nat} {a5 : Int32} (B : XB G x h) (w : (40 ≤ a5 → (vp_in 39 40 ∧ Fit G h "NameRests$Change" a4 ∧ (XB G x (sI (sR h (x + 1) (39 : Int32).toNatClampNeg (some a4)) 2 x ((aI (sR h (x + 1) (39 : Int32).toNatClampNeg (some a4)) 2 x) - 1)) → Run G mX0_become 1 80 [(0, .ref x), (1, .ref a1), (2, .int a2), (3, .int a3)] [] (sI (sR h (x + 1) (39 : Int32).toNatClampNeg (some a4)) 2 x ((aI (sR h (x + 1) (39 : Int32).toNatClampNeg (some a4)) 2 x) - 1)) Q))) ∧ (¬ 40 ≤ a5 → (vp_in a5 40 ∧ ∃ q4 : Nat, (aR h (x + 1) a5.toNatClampNeg) = some q4 ∧ (vp_in (a5 - 1) 40 ∧ Fit G h "NameRests$Change" q4 ∧ (XB G x (sR h (x + 1) (a5 - 1).toNatClampNeg (some q4)) → Run G mX0_become 1 32 [(0, .ref x), (1, .ref a1), (2, .int a2), (3, .int a3), (4, .ref a4), (5, .int (a5 + 1))] [] (sR h (x + 1) (a5 - 1).toNatClampNeg (some q4)) Q))))) : Run G mX0_become 1 32 [(0, .ref x), (1, .ref a1), (2, .int a2), (3, .int a3), (4, .ref a4), (5, .int a5)] [] h Q := by
  refine R_iload dX0_become_32 5 rfl ?_
  refine R_bipush (v := 40) dX0_become_34 (by decide) ?_
  refine R_icmp_ge (tgt := 61) dX0_become_36 (by decide) (fun c8 => ?_) (fun c8 => ?_)
  · have w := w.1 c8
    refine R_aload_n dX0_become_61 0 rfl ?_
    refine X_getA (k := 0) (o := 1) (j := 105) (n := 40) B dX0_become_62 q264 (by decide) rfl rfl ?_
    refine R_bipush (v := 39) dX0_become_65 (by decide) ?_
    refine R_aload dX0_become_67 4 rfl ?_
    obtain ⟨c1, f2, w⟩ := w
    refine X_aast (k := 0) (j := 5) (E := "NameRests$Change") B dX0_become_69 rfl (by decide) (by decide) rfl c1 f2 ?_
    refine R_aload_n dX0_become_70 0 rfl ?_
    refine R_dup dX0_become_71 rfl ?_
    refine X_getS (k := 2) B.R dX0_become_72 q266 (by decide) rfl ?_
    refine R_iconst (v := 1) dX0_become_75 (by decide) ?_
    refine R_isub dX0_become_76 ?_
    refine X_putS (k := 2) B.R dX0_become_77 q266 (by decide) rfl rfl rfl rfl ?_
    exact R_sub [0, 1, 2, 3] rfl (w B.R.I)
  · have w := w.2 c8
    refine R_aload_n dX0_become_39 0 rfl ?_
    refine X_getA (k := 0) (o := 1) (j := 105) (n := 40) B dX0_become_40 q264 (by decide) rfl rfl ?_
    refine R_iload dX0_become_43 5 rfl ?_
    refine R_iconst (v := 1) dX0_become_45 (by decide) ?_
    refine R_isub dX0_become_46 ?_
    refine R_aload_n dX0_become_47 0 rfl ?_
    refine X_getA (k := 0) (o := 1) (j := 105) (n := 40) B dX0_become_48 q264 (by decide) rfl rfl ?_
    refine R_iload dX0_become_51 5 rfl ?_
    obtain ⟨c3, q4, e5, w⟩ := w
    refine X_aald (k := 0) (j := 5) (E := "NameRests$Change") B dX0_become_53 rfl (by decide) (by decide) rfl c3 ?_
    refine R_top (v' := .ref q4) (congrArg va_rf e5) ?_
    obtain ⟨c6, f7, w⟩ := w
    refine X_aast (k := 0) (j := 5) (E := "NameRests$Change") B dX0_become_54 rfl (by decide) (by decide) rfl c6 f7 ?_
    refine R_iinc (v := (a5 + 1)) (lv' := [(5, .int (a5 + 1)), (0, .ref x), (1, .ref a1), (2, .int a2), (3, .int a3), (4, .ref a4)]) dX0_become_55 5 rfl (congrArg (fun z => a5 + z) (show Int32.ofInt 1 = 1 by decide)) (by decide) rfl ?_
    refine R_goto (tgt := 32) dX0_become_58 (by decide) ?_
    exact R_sub [1, 2, 3, 4, 5, 0] rfl (w B.R)
theorem sX0_become_80 {G : GG} {x : Nat} {h : AH} {Q : Outcome → AH → Prop} {a1 : Nat} {a2 : Int32} {a3 : Int32} (B : XB G x h) (w : vp_in (aI h 2 x) 40 ∧ ∃ q2 : Nat, (aR h (x + 1) (aI h 2 x).toNatClampNeg) = some q2 ∧ (IsK G h q2 (3, 0) ∧ (IsK G (sI (sI (sP h 192 q2 (some a1)) 193 q2 a3) 194 q2 a2) a1 (4, 0) ∧ (Q (.returned (some (.int a3))) (sI (sI (sI (sI (sI (sP h 192 q2 (some a1)) 193 q2 a3) 194 q2 a2) 256 a1 a2) 2 x ((aI (sI (sI (sI (sP h 192 q2 (some a1)) 193 q2 a3) 194 q2 a2) 256 a1 a2) 2 x) + 1)) 1 x ((aI (sI (sI (sI (sP h 192 q2 (some a1)) 193 q2 a3) 194 q2 a2) 256 a1 a2) 2 x) + 1)))))) : Run G mX0_become 1 80 [(0, .ref x), (1, .ref a1), (2, .int a2), (3, .int a3)] [] h Q := by
  refine R_aload_n dX0_become_80 0 rfl ?_
  refine X_getA (k := 0) (o := 1) (j := 105) (n := 40) B dX0_become_81 q264 (by decide) rfl rfl ?_
  refine R_aload_n dX0_become_84 0 rfl ?_
  refine X_getS (k := 2) B dX0_become_85 q266 (by decide) rfl ?_
  obtain ⟨c1, q2, e3, w⟩ := w
  refine X_aald (k := 0) (j := 5) (E := "NameRests$Change") B dX0_become_88 rfl (by decide) (by decide) rfl c1 ?_
  refine R_top (v' := .ref q2) (congrArg va_rf e3) ?_
  refine R_astore (lv' := [(4, .ref q2), (0, .ref x), (1, .ref a1), (2, .int a2), (3, .int a3)]) dX0_become_89 (by decide) rfl ?_
  refine R_aload dX0_become_91 0 rfl ?_
  refine R_aload_n dX0_become_93 2 rfl ?_
  obtain ⟨k4, w⟩ := w
  refine R_top (v' := va_rf (some a1)) rfl ?_
  refine R_putPN (k := 0) (f := 192) ok3 dX0_become_94 q244 (by decide) rfl rfl rfl (nar_rf _) (fit_rf _) (by decide) k4 ?_
  refine R_aload dX0_become_97 0 rfl ?_
  refine R_iload_n dX0_become_99 4 rfl ?_
  refine R_putIN (k := 1) (f := 193) ok3 dX0_become_100 q245 (by decide) rfl rfl rfl rfl rfl (by decide) k4 ?_
  refine R_aload dX0_become_103 0 rfl ?_
  refine R_iload_n dX0_become_105 3 rfl ?_
  refine R_putIN (k := 2) (f := 194) ok3 dX0_become_106 q246 (by decide) rfl rfl rfl rfl rfl (by decide) k4 ?_
  refine R_aload_n dX0_become_109 2 rfl ?_
  refine R_iload_n dX0_become_110 3 rfl ?_
  obtain ⟨k5, w⟩ := w
  refine R_putIN (k := 0) (f := 256) ok4 dX0_become_111 q260 (by decide) rfl rfl rfl rfl rfl (by decide) k5 ?_
  refine R_aload_n dX0_become_114 1 rfl ?_
  refine R_aload_n dX0_become_115 1 rfl ?_
  refine R_dup dX0_become_116 rfl ?_
  refine X_getS (k := 2) (XB.P rfl B).I.I.I dX0_become_117 q266 (by decide) rfl ?_
  refine R_iconst (v := 1) dX0_become_120 (by decide) ?_
  refine R_iadd dX0_become_121 ?_
  refine R_dup_x1 dX0_become_122 rfl rfl ?_
  refine X_putS (k := 2) (XB.P rfl B).I.I.I dX0_become_123 q266 (by decide) rfl rfl rfl rfl ?_
  refine X_putS (k := 1) (XB.P rfl B).I.I.I.I dX0_become_126 q265 (by decide) rfl rfl rfl rfl ?_
  refine R_iload_n dX0_become_129 4 rfl ?_
  exact R_iret dX0_become_130 rfl w
theorem sX0_bit_0 {G : GG} {x : Nat} {h : AH} {Q : Outcome → AH → Prop} {a0 : Bool} (B : XB G x h) (w : (a0 = false → (Q (.returned (some (.int 0))) h)) ∧ (a0 = true → (Q (.returned (some (.int 1))) h))) : Run G mX0_bit 1 0 [(0, .int (bi a0))] [] h Q := by
  refine R_iload_n dX0_bit_0 0 rfl ?_
  refine R_ifz_eq (tgt := 8) dX0_bit_1 (by decide) (fun c1 => ?_) (fun c1 => ?_)
  · have w := w.1 c1
    refine R_iconst (v := 0) dX0_bit_8 (by decide) ?_
    exact R_iret dX0_bit_9 rfl w
  · have w := w.2 c1
    refine R_iconst (v := 1) dX0_bit_4 (by decide) ?_
    refine R_goto (tgt := 9) dX0_bit_5 (by decide) ?_
    exact R_iret dX0_bit_9 rfl w
theorem sX0_body_0 {G : GG} {x : Nat} {h : AH} {Q : Outcome → AH → Prop} {a1 : Int32} (B : XB G x h) (w : Run G mX0_within 1 0 [(0, .long a1.toInt64), (2, .long 0), (4, .long 7)] [] h (fun o h1 => ∃ b2 : Bool, o = .returned (some (.int (bi b2))) ∧ XB G x h1 ∧ ((b2 = true → ((¬ (aI h1 27 x) = 50 → (Run G mX0_made 6 0 [(0, .ref x), (1, .int a1)] [] h1 (fun o h3 => ∃ q4 : Nat, o = .returned (some (.ref q4)) ∧ XB G x h3 ∧ (vp_in (aI h1 27 x) 50 ∧ Fit G h3 "NameRests$Body" q4 ∧ (Q (.returned (some (.int (aI (sR h3 (x + 16) (aI h1 27 x).toNatClampNeg (some q4)) 27 x)))) (sI (sR h3 (x + 16) (aI h1 27 x).toNatClampNeg (some q4)) 27 x ((aI (sR h3 (x + 16) (aI h1 27 x).toNatClampNeg (some q4)) 27 x) + 1))))))) ∧ ((aI h1 27 x) = 50 → (Q (.returned (some (.int (-3)))) h1)))) ∧ (b2 = false → (Q (.returned (some (.int (-1)))) h1))))) : Run G mX0_body 7 0 [(0, .ref x), (1, .int a1)] [] h Q := by
  refine R_iload_n dX0_body_0 1 rfl ?_
  refine R_i2l dX0_body_1 ?_
  refine R_lconst (v := 0) dX0_body_2 (by decide) ?_
  refine R_ldc2 (v := 7) dX0_body_3 q810 ?_
  refine R_invS (Mc := mX0_within) (As := [.long a1.toInt64, .long 0, .long 7]) (st := []) dX0_body_6 q366 q367 q103 wX0_within pX0_within rfl (Nat.le_of_ble_eq_true rfl) (by decide) (by decide) (Nat.le_of_ble_eq_true rfl) (aft_z w (fun b2 h1 w => ?_))
  obtain ⟨Bh1, w⟩ := w
  refine R_ifz_ne (tgt := 14) dX0_body_9 (by decide) (fun c8 => ?_) (fun c8 => ?_)
  · have w := w.1 c8
    refine R_aload_n dX0_body_14 0 rfl ?_
    refine X_getS (k := 27) Bh1 dX0_body_15 q292 (by decide) rfl ?_
    refine R_bipush (v := 50) dX0_body_18 (by decide) ?_
    refine R_icmp_ne (tgt := 26) dX0_body_20 (by decide) (fun c7 => ?_) (fun c7 => ?_)
    · have w := w.1 c7
      refine R_aload_n dX0_body_26 0 rfl ?_
      refine X_getA (k := 26) (o := 16) (j := 109) (n := 50) Bh1 dX0_body_27 q291 (by decide) rfl rfl ?_
      refine R_aload_n dX0_body_30 0 rfl ?_
      refine X_getS (k := 27) Bh1 dX0_body_31 q292 (by decide) rfl ?_
      refine R_aload_n dX0_body_34 0 rfl ?_
      refine R_iload_n dX0_body_35 1 rfl ?_
      refine R_invV (Mc := mX0_made) (b := x) (As := [.int a1]) (st := [.int (aI h1 27 x), .ref (x + 16)]) ok0 (by decide) Bh1.1 dX0_body_36 q811 q813 qs41 q103 wX0_made pX0_made rfl (Nat.le_of_ble_eq_true rfl) (by decide) (by decide) (Nat.le_of_ble_eq_true rfl) (aft_r w (fun q4 h3 w => ?_))
      obtain ⟨Bh3, w⟩ := w
      obtain ⟨c5, f6, w⟩ := w
      refine X_aast (k := 26) (j := 9) (E := "NameRests$Body") Bh3 dX0_body_39 rfl (by decide) (by decide) rfl c5 f6 ?_
      refine R_aload_n dX0_body_40 0 rfl ?_
      refine R_dup dX0_body_41 rfl ?_
      refine X_getS (k := 27) Bh3.R dX0_body_42 q292 (by decide) rfl ?_
      refine R_dup_x1 dX0_body_45 rfl rfl ?_
      refine R_iconst (v := 1) dX0_body_46 (by decide) ?_
      refine R_iadd dX0_body_47 ?_
      refine X_putS (k := 27) Bh3.R dX0_body_48 q292 (by decide) rfl rfl rfl rfl ?_
      exact R_iret dX0_body_51 rfl w
    · have w := w.2 c7
      refine R_bipush (v := (-3)) dX0_body_23 (by decide) ?_
      exact R_iret dX0_body_25 rfl w
  · have w := w.2 c8
    refine R_iconst (v := (-1)) dX0_body_12 (by decide) ?_
    exact R_iret dX0_body_13 rfl w
theorem sX0_count_0 {G : GG} {x : Nat} {h : AH} {Q : Outcome → AH → Prop} {a1 : Int32} (B : XB G x h) (w : (a1 = 0 → (Q (.returned (some (.int (aI h 8 x)))) h)) ∧ (¬ a1 = 0 → ((a1 = 1 → (Q (.returned (some (.int (aI h 11 x)))) h)) ∧ (¬ a1 = 1 → ((a1 = 2 → (Run G mX0_namedMany 2 0 [(0, .ref x)] [] h (fun o h4 => ∃ r5 : Int32, o = .returned (some (.int r5)) ∧ XB G x h4 ∧ (Q (.returned (some (.int r5))) h4)))) ∧ (¬ a1 = 2 → ((a1 = 3 → (Q (.returned (some (.int (aI h 4 x)))) h)) ∧ (¬ a1 = 3 → ((a1 = 4 → (Q (.returned (some (.int (aI h 2 x)))) h)) ∧ (¬ a1 = 4 → ((a1 = 5 → (Q (.returned (some (.int (aI h 27 x)))) h)) ∧ (¬ a1 = 5 → ((a1 = 6 → (Q (.returned (some (.int (aI h 29 x)))) h)) ∧ (¬ a1 = 6 → (Q (.returned (some (.int (-1)))) h))))))))))))))) : Run G mX0_count 3 0 [(0, .ref x), (1, .int a1)] [] h Q := by
  refine R_iload_n dX0_count_0 1 rfl ?_
  by_cases c1 : a1 = 0
  · have w := w.1 c1
    refine R_tableIn (off := 43) (tgt := 44) dX0_count_1 (by rw [c1]; decide) (by rw [c1]; decide) (by rw [c1]; rfl) (by decide) ?_
    refine R_aload_n dX0_count_44 0 rfl ?_
    refine X_getS (k := 8) B dX0_count_45 q272 (by decide) rfl ?_
    exact R_iret dX0_count_48 rfl w
  · have w := w.2 c1
    by_cases c2 : a1 = 1
    · have w := w.1 c2
      refine R_tableIn (off := 48) (tgt := 49) dX0_count_1 (by rw [c2]; decide) (by rw [c2]; decide) (by rw [c2]; rfl) (by decide) ?_
      refine R_aload_n dX0_count_49 0 rfl ?_
      refine X_getS (k := 11) B dX0_count_50 q275 (by decide) rfl ?_
      exact R_iret dX0_count_53 rfl w
    · have w := w.2 c2
      by_cases c3 : a1 = 2
      · have w := w.1 c3
        refine R_tableIn (off := 53) (tgt := 54) dX0_count_1 (by rw [c3]; decide) (by rw [c3]; decide) (by rw [c3]; rfl) (by decide) ?_
        refine R_aload_n dX0_count_54 0 rfl ?_
        refine R_invV (Mc := mX0_namedMany) (b := x) (As := []) (st := []) ok0 (by decide) B.1 dX0_count_55 q1255 q1257 qs44 q103 wX0_namedMany pX0_namedMany rfl (Nat.le_of_ble_eq_true rfl) (by decide) (by decide) (Nat.le_of_ble_eq_true rfl) (aft_i w (fun r5 h4 w => ?_))
        obtain ⟨Bh4, w⟩ := w
        exact R_iret dX0_count_58 rfl w
      · have w := w.2 c3
        by_cases c6 : a1 = 3
        · have w := w.1 c6
          refine R_tableIn (off := 58) (tgt := 59) dX0_count_1 (by rw [c6]; decide) (by rw [c6]; decide) (by rw [c6]; rfl) (by decide) ?_
          refine R_aload_n dX0_count_59 0 rfl ?_
          refine X_getS (k := 4) B dX0_count_60 q268 (by decide) rfl ?_
          exact R_iret dX0_count_63 rfl w
        · have w := w.2 c6
          by_cases c7 : a1 = 4
          · have w := w.1 c7
            refine R_tableIn (off := 63) (tgt := 64) dX0_count_1 (by rw [c7]; decide) (by rw [c7]; decide) (by rw [c7]; rfl) (by decide) ?_
            refine R_aload_n dX0_count_64 0 rfl ?_
            refine X_getS (k := 2) B dX0_count_65 q266 (by decide) rfl ?_
            exact R_iret dX0_count_68 rfl w
          · have w := w.2 c7
            by_cases c8 : a1 = 5
            · have w := w.1 c8
              refine R_tableIn (off := 68) (tgt := 69) dX0_count_1 (by rw [c8]; decide) (by rw [c8]; decide) (by rw [c8]; rfl) (by decide) ?_
              refine R_aload_n dX0_count_69 0 rfl ?_
              refine X_getS (k := 27) B dX0_count_70 q292 (by decide) rfl ?_
              exact R_iret dX0_count_73 rfl w
            · have w := w.2 c8
              by_cases c9 : a1 = 6
              · have w := w.1 c9
                refine R_tableIn (off := 73) (tgt := 74) dX0_count_1 (by rw [c9]; decide) (by rw [c9]; decide) (by rw [c9]; rfl) (by decide) ?_
                refine R_aload_n dX0_count_74 0 rfl ?_
                refine X_getS (k := 29) B dX0_count_75 q296 (by decide) rfl ?_
                exact R_iret dX0_count_78 rfl w
              · have w := w.2 c9
                refine R_tableOut (tgt := 79) dX0_count_1 (sw_out a1 0 6 (by decide) (by decide) (fun j h1 h2 => ?_)) (by decide) ?_
                · intro e
                  have e2 : j = 0 ∨ j = 1 ∨ j = 2 ∨ j = 3 ∨ j = 4 ∨ j = 5 ∨ j = 6 := by omega
                  rcases e2 with rfl | rfl | rfl | rfl | rfl | rfl | rfl
                  · exact lv_neT c1 (by decide) e
                  · exact lv_neT c2 (by decide) e
                  · exact lv_neT c3 (by decide) e
                  · exact lv_neT c6 (by decide) e
                  · exact lv_neT c7 (by decide) e
                  · exact lv_neT c8 (by decide) e
                  · exact lv_neT c9 (by decide) e
                · refine R_iconst (v := (-1)) dX0_count_79 (by decide) ?_
                  exact R_iret dX0_count_80 rfl w
theorem sX0_doLive_0 {G : GG} {x : Nat} {h : AH} {Q : Outcome → AH → Prop} {a1 : Int32} {a2 : Int32} {a3 : Int32} (B : XB G x h) (w : vp_in a1 12 ∧ ∃ q2 : Nat, (aR h (x + 4) a1.toNatClampNeg) = some q2 ∧ (IsK G h q2 (6, 0) ∧ (Run G mX6_lives 1 0 [(0, .ref q2), (1, .int a3)] [] h (fun o h4 => ∃ b5 : Bool, o = .returned (some (.int (bi b5))) ∧ XB G x h4 ∧ ((b5 = false → (Q (.returned (some (.int (bi false)))) h4)) ∧ (b5 = true → (vp_in a2 12 ∧ ∃ q7 : Nat, (aR h4 (x + 4) a2.toNatClampNeg) = some q7 ∧ (IsK G h4 q7 (6, 0) ∧ (Run G mX6_lives 1 0 [(0, .ref q7), (1, .int a3)] [] h4 (fun o h9 => ∃ b10 : Bool, o = .returned (some (.int (bi b10))) ∧ XB G x h9 ∧ ((b10 = false → (Q (.returned (some (.int (bi false)))) h9)) ∧ (b10 = true → (Q (.returned (some (.int (bi true)))) h9))))))))))))) : Run G mX0_doLive 2 0 [(0, .ref x), (1, .int a1), (2, .int a2), (3, .int a3)] [] h Q := by
  refine R_aload_n dX0_doLive_0 0 rfl ?_
  refine X_getA (k := 7) (o := 4) (j := 107) (n := 12) B dX0_doLive_1 q271 (by decide) rfl rfl ?_
  refine R_iload_n dX0_doLive_4 1 rfl ?_
  obtain ⟨c1, q2, e3, w⟩ := w
  refine X_aald (k := 7) (j := 7) (E := "NameRests$Person") B dX0_doLive_5 rfl (by decide) (by decide) rfl c1 ?_
  refine R_top (v' := .ref q2) (congrArg va_rf e3) ?_
  refine R_iload_n dX0_doLive_6 3 rfl ?_
  obtain ⟨k14, w⟩ := w
  refine R_invV (Mc := mX6_lives) (b := q2) (As := [.int a3]) (st := []) ok6 (by decide) k14 dX0_doLive_7 q444 q445 q446 q112 wX6_lives pX6_lives rfl (Nat.le_of_ble_eq_true rfl) (by decide) (by decide) (Nat.le_of_ble_eq_true rfl) (aft_z w (fun b5 h4 w => ?_))
  obtain ⟨Bh4, w⟩ := w
  refine R_ifz_eq (tgt := 30) dX0_doLive_10 (by decide) (fun c13 => ?_) (fun c13 => ?_)
  · have w := w.1 c13
    refine R_iconst (v := 0) dX0_doLive_30 (by decide) ?_
    exact R_bret (b := false) dX0_doLive_31 rfl w
  · have w := w.2 c13
    refine R_aload_n dX0_doLive_13 0 rfl ?_
    refine X_getA (k := 7) (o := 4) (j := 107) (n := 12) Bh4 dX0_doLive_14 q271 (by decide) rfl rfl ?_
    refine R_iload_n dX0_doLive_17 2 rfl ?_
    obtain ⟨c6, q7, e8, w⟩ := w
    refine X_aald (k := 7) (j := 7) (E := "NameRests$Person") Bh4 dX0_doLive_18 rfl (by decide) (by decide) rfl c6 ?_
    refine R_top (v' := .ref q7) (congrArg va_rf e8) ?_
    refine R_iload_n dX0_doLive_19 3 rfl ?_
    obtain ⟨k12, w⟩ := w
    refine R_invV (Mc := mX6_lives) (b := q7) (As := [.int a3]) (st := []) ok6 (by decide) k12 dX0_doLive_20 q444 q445 q446 q112 wX6_lives pX6_lives rfl (Nat.le_of_ble_eq_true rfl) (by decide) (by decide) (Nat.le_of_ble_eq_true rfl) (aft_z w (fun b10 h9 w => ?_))
    obtain ⟨Bh9, w⟩ := w
    refine R_ifz_eq (tgt := 30) dX0_doLive_23 (by decide) (fun c11 => ?_) (fun c11 => ?_)
    · have w := w.1 c11
      refine R_iconst (v := 0) dX0_doLive_30 (by decide) ?_
      exact R_bret (b := false) dX0_doLive_31 rfl w
    · have w := w.2 c11
      refine R_iconst (v := 1) dX0_doLive_26 (by decide) ?_
      refine R_goto (tgt := 31) dX0_doLive_27 (by decide) ?_
      exact R_bret (b := true) dX0_doLive_31 rfl w
theorem sX0_doesCount_0 {G : GG} {x : Nat} {h : AH} {Q : Outcome → AH → Prop} {a1 : Int32} (B : XB G x h) (w : vp_in a1 16 ∧ ∃ q2 : Nat, (aR h (x + 6) a1.toNatClampNeg) = some q2 ∧ (IsK G h q2 (7, 0) ∧ (vp_in a1 16 ∧ ∃ q6 : Nat, (aR h (x + 6) a1.toNatClampNeg) = some q6 ∧ (IsK G h q6 (7, 0) ∧ (vp_in a1 16 ∧ ∃ q10 : Nat, (aR h (x + 6) a1.toNatClampNeg) = some q10 ∧ (IsK G h q10 (7, 0) ∧ (Run G mX0_doLive 2 0 [(0, .ref x), (1, .int (aI h 448 q2)), (2, .int (aI h 449 q6)), (3, .int (aI h 450 q10))] [] h (fun o h13 => ∃ b14 : Bool, o = .returned (some (.int (bi b14))) ∧ XB G x h13 ∧ (Q (.returned (some (.int (bi b14)))) h13))))))))) : Run G mX0_doesCount 3 0 [(0, .ref x), (1, .int a1)] [] h Q := by
  refine R_aload_n dX0_doesCount_0 0 rfl ?_
  refine R_aload_n dX0_doesCount_1 0 rfl ?_
  refine X_getA (k := 10) (o := 6) (j := 108) (n := 16) B dX0_doesCount_2 q274 (by decide) rfl rfl ?_
  refine R_iload_n dX0_doesCount_5 1 rfl ?_
  obtain ⟨c1, q2, e3, w⟩ := w
  refine X_aald (k := 10) (j := 8) (E := "NameRests$Meeting") B dX0_doesCount_6 rfl (by decide) (by decide) rfl c1 ?_
  refine R_top (v' := .ref q2) (congrArg va_rf e3) ?_
  obtain ⟨k4, w⟩ := w
  refine R_getIN (k := 0) (f := 448) ok7 dX0_doesCount_7 q454 (by decide) rfl (by decide) k4 ?_
  refine R_aload_n dX0_doesCount_10 0 rfl ?_
  refine X_getA (k := 10) (o := 6) (j := 108) (n := 16) B dX0_doesCount_11 q274 (by decide) rfl rfl ?_
  refine R_iload_n dX0_doesCount_14 1 rfl ?_
  obtain ⟨c5, q6, e7, w⟩ := w
  refine X_aald (k := 10) (j := 8) (E := "NameRests$Meeting") B dX0_doesCount_15 rfl (by decide) (by decide) rfl c5 ?_
  refine R_top (v' := .ref q6) (congrArg va_rf e7) ?_
  obtain ⟨k8, w⟩ := w
  refine R_getIN (k := 1) (f := 449) ok7 dX0_doesCount_16 q456 (by decide) rfl (by decide) k8 ?_
  refine R_aload_n dX0_doesCount_19 0 rfl ?_
  refine X_getA (k := 10) (o := 6) (j := 108) (n := 16) B dX0_doesCount_20 q274 (by decide) rfl rfl ?_
  refine R_iload_n dX0_doesCount_23 1 rfl ?_
  obtain ⟨c9, q10, e11, w⟩ := w
  refine X_aald (k := 10) (j := 8) (E := "NameRests$Meeting") B dX0_doesCount_24 rfl (by decide) (by decide) rfl c9 ?_
  refine R_top (v' := .ref q10) (congrArg va_rf e11) ?_
  obtain ⟨k12, w⟩ := w
  refine R_getIN (k := 2) (f := 450) ok7 dX0_doesCount_25 q458 (by decide) rfl (by decide) k12 ?_
  refine R_invV (Mc := mX0_doLive) (b := x) (As := [.int (aI h 448 q2), .int (aI h 449 q6), .int (aI h 450 q10)]) (st := []) ok0 (by decide) B.1 dX0_doesCount_28 q440 q442 qs4 q103 wX0_doLive pX0_doLive rfl (Nat.le_of_ble_eq_true rfl) (by decide) (by decide) (Nat.le_of_ble_eq_true rfl) (aft_z w (fun b14 h13 w => ?_))
  obtain ⟨Bh13, w⟩ := w
  exact R_bret (b := b14) dX0_doesCount_31 rfl w
theorem sX0_doesHold_0 {G : GG} {x : Nat} {h : AH} {Q : Outcome → AH → Prop} {a1 : Int32} {a2 : Int32} {a3 : Int32} (B : XB G x h) (w : vp_in a1 12 ∧ ∃ q2 : Nat, (aR h (x + 4) a1.toNatClampNeg) = some q2 ∧ (IsK G h q2 (6, 0) ∧ (Run G mX6_lives 1 0 [(0, .ref q2), (1, .int a3)] [] h (fun o h4 => ∃ b5 : Bool, o = .returned (some (.int (bi b5))) ∧ XB G x h4 ∧ ((b5 = true → (XB G x h4 → Run G mX0_doesHold 302 18 [(0, .ref x), (1, .int a1), (2, .int a2), (3, .int a3), (4, .int 0)] [] h4 Q)) ∧ (b5 = false → (Q (.returned (some (.int (bi false)))) h4))))))) : Run G mX0_doesHold 302 0 [(0, .ref x), (1, .int a1), (2, .int a2), (3, .int a3)] [] h Q := by
  refine R_aload_n dX0_doesHold_0 0 rfl ?_
  refine X_getA (k := 7) (o := 4) (j := 107) (n := 12) B dX0_doesHold_1 q271 (by decide) rfl rfl ?_
  refine R_iload_n dX0_doesHold_4 1 rfl ?_
  obtain ⟨c1, q2, e3, w⟩ := w
  refine X_aald (k := 7) (j := 7) (E := "NameRests$Person") B dX0_doesHold_5 rfl (by decide) (by decide) rfl c1 ?_
  refine R_top (v' := .ref q2) (congrArg va_rf e3) ?_
  refine R_iload_n dX0_doesHold_6 3 rfl ?_
  obtain ⟨k7, w⟩ := w
  refine R_invV (Mc := mX6_lives) (b := q2) (As := [.int a3]) (st := []) ok6 (by decide) k7 dX0_doesHold_7 q444 q445 q446 q112 wX6_lives pX6_lives rfl (Nat.le_of_ble_eq_true rfl) (by decide) (by decide) (Nat.le_of_ble_eq_true rfl) (aft_z w (fun b5 h4 w => ?_))
  obtain ⟨Bh4, w⟩ := w
  refine R_ifz_ne (tgt := 15) dX0_doesHold_10 (by decide) (fun c6 => ?_) (fun c6 => ?_)
  · have w := w.1 c6
    refine R_iconst (v := 0) dX0_doesHold_15 (by decide) ?_
    refine R_istore (lv' := [(4, .int 0), (0, .ref x), (1, .int a1), (2, .int a2), (3, .int a3)]) dX0_doesHold_16 (by decide) rfl ?_
    exact R_sub [1, 2, 3, 4, 0] rfl (w Bh4)
  · have w := w.2 c6
    refine R_iconst (v := 0) dX0_doesHold_13 (by decide) ?_
    exact R_bret (b := false) dX0_doesHold_14 rfl w
theorem sX0_doesHold_18 {G : GG} {x : Nat} {h : AH} {Q : Outcome → AH → Prop} {a1 : Int32} {a2 : Int32} {a3 : Int32} {a4 : Int32} (B : XB G x h) (w : ((aI h 8 x) ≤ a4 → (Q (.returned (some (.int (bi false)))) h)) ∧ (¬ (aI h 8 x) ≤ a4 → (vp_in a4 12 ∧ ((¬ (aA h (x + 13) a4.toNatClampNeg) = a2 → (XB G x h → Run G mX0_doesHold 302 18 [(0, .ref x), (1, .int a1), (2, .int a2), (3, .int a3), (4, .int (a4 + 1))] [] h Q)) ∧ ((aA h (x + 13) a4.toNatClampNeg) = a2 → (vp_in a4 12 ∧ ∃ q2 : Nat, (aR h (x + 4) a4.toNatClampNeg) = some q2 ∧ (IsK G h q2 (6, 0) ∧ ((a3 < (aI h 384 q2) → (XB G x h → Run G mX0_doesHold 302 18 [(0, .ref x), (1, .int a1), (2, .int a2), (3, .int a3), (4, .int (a4 + 1))] [] h Q)) ∧ (¬ a3 < (aI h 384 q2) → (vp_in a1 12 ∧ (Run G mX0_isIn 1 0 [(0, .int (aA h (x + 12) a1.toNatClampNeg)), (1, .int a4)] [] h (fun o h5 => ∃ b6 : Bool, o = .returned (some (.int (bi b6))) ∧ XB G x h5 ∧ ((b6 = false → (XB G x h5 → Run G mX0_doesHold 302 18 [(0, .ref x), (1, .int a1), (2, .int a2), (3, .int a3), (4, .int (a4 + 1))] [] h5 Q)) ∧ (b6 = true → (Run G mX0_holdsFor 301 0 [(0, .ref x), (1, .int a1), (2, .int a4), (3, .int a2), (4, .int a3)] [] h5 (fun o h7 => ∃ b8 : Bool, o = .returned (some (.int (bi b8))) ∧ XB G x h7 ∧ ((b8 = false → (XB G x h7 → Run G mX0_doesHold 302 18 [(0, .ref x), (1, .int a1), (2, .int a2), (3, .int a3), (4, .int (a4 + 1))] [] h7 Q)) ∧ (b8 = true → (Q (.returned (some (.int (bi true)))) h7))))))))))))))))))) : Run G mX0_doesHold 302 18 [(0, .ref x), (1, .int a1), (2, .int a2), (3, .int a3), (4, .int a4)] [] h Q := by
  refine R_iload dX0_doesHold_18 4 rfl ?_
  refine R_aload_n dX0_doesHold_20 0 rfl ?_
  refine X_getS (k := 8) B dX0_doesHold_21 q272 (by decide) rfl ?_
  refine R_icmp_ge (tgt := 86) dX0_doesHold_24 (by decide) (fun c15 => ?_) (fun c15 => ?_)
  · have w := w.1 c15
    refine R_iconst (v := 0) dX0_doesHold_86 (by decide) ?_
    exact R_bret (b := false) dX0_doesHold_87 rfl w
  · have w := w.2 c15
    refine R_aload_n dX0_doesHold_27 0 rfl ?_
    refine X_getA (k := 21) (o := 13) (j := 100) (n := 12) B dX0_doesHold_28 q286 (by decide) rfl rfl ?_
    refine R_iload dX0_doesHold_31 4 rfl ?_
    obtain ⟨c14, w⟩ := w
    refine X_iald (k := 21) B dX0_doesHold_33 rfl c14 ?_
    refine R_iload_n dX0_doesHold_34 2 rfl ?_
    refine R_icmp_ne (tgt := 80) dX0_doesHold_35 (by decide) (fun c13 => ?_) (fun c13 => ?_)
    · have w := w.1 c13
      refine R_iinc (v := (a4 + 1)) (lv' := [(4, .int (a4 + 1)), (0, .ref x), (1, .int a1), (2, .int a2), (3, .int a3)]) dX0_doesHold_80 4 rfl (congrArg (fun z => a4 + z) (show Int32.ofInt 1 = 1 by decide)) (by decide) rfl ?_
      refine R_goto (tgt := 18) dX0_doesHold_83 (by decide) ?_
      exact R_sub [1, 2, 3, 4, 0] rfl (w B)
    · have w := w.2 c13
      refine R_aload_n dX0_doesHold_38 0 rfl ?_
      refine X_getA (k := 7) (o := 4) (j := 107) (n := 12) B dX0_doesHold_39 q271 (by decide) rfl rfl ?_
      refine R_iload dX0_doesHold_42 4 rfl ?_
      obtain ⟨c1, q2, e3, w⟩ := w
      refine X_aald (k := 7) (j := 7) (E := "NameRests$Person") B dX0_doesHold_44 rfl (by decide) (by decide) rfl c1 ?_
      refine R_top (v' := .ref q2) (congrArg va_rf e3) ?_
      obtain ⟨k4, w⟩ := w
      refine R_getIN (k := 0) (f := 384) ok6 dX0_doesHold_45 q389 (by decide) rfl (by decide) k4 ?_
      refine R_iload_n dX0_doesHold_48 3 rfl ?_
      refine R_icmp_gt (tgt := 80) dX0_doesHold_49 (by decide) (fun c12 => ?_) (fun c12 => ?_)
      · have w := w.1 c12
        refine R_iinc (v := (a4 + 1)) (lv' := [(4, .int (a4 + 1)), (0, .ref x), (1, .int a1), (2, .int a2), (3, .int a3)]) dX0_doesHold_80 4 rfl (congrArg (fun z => a4 + z) (show Int32.ofInt 1 = 1 by decide)) (by decide) rfl ?_
        refine R_goto (tgt := 18) dX0_doesHold_83 (by decide) ?_
        exact R_sub [1, 2, 3, 4, 0] rfl (w B)
      · have w := w.2 c12
        refine R_aload_n dX0_doesHold_52 0 rfl ?_
        refine X_getA (k := 20) (o := 12) (j := 100) (n := 12) B dX0_doesHold_53 q285 (by decide) rfl rfl ?_
        refine R_iload_n dX0_doesHold_56 1 rfl ?_
        obtain ⟨c11, w⟩ := w
        refine X_iald (k := 20) B dX0_doesHold_57 rfl c11 ?_
        refine R_iload dX0_doesHold_58 4 rfl ?_
        refine R_invS (Mc := mX0_isIn) (As := [.int (aA h (x + 12) a1.toNatClampNeg), .int a4]) (st := []) dX0_doesHold_60 q654 q655 q103 wX0_isIn pX0_isIn rfl (Nat.le_of_ble_eq_true rfl) (by decide) (by decide) (Nat.le_of_ble_eq_true rfl) (aft_z w (fun b6 h5 w => ?_))
        obtain ⟨Bh5, w⟩ := w
        refine R_ifz_eq (tgt := 80) dX0_doesHold_63 (by decide) (fun c10 => ?_) (fun c10 => ?_)
        · have w := w.1 c10
          refine R_iinc (v := (a4 + 1)) (lv' := [(4, .int (a4 + 1)), (0, .ref x), (1, .int a1), (2, .int a2), (3, .int a3)]) dX0_doesHold_80 4 rfl (congrArg (fun z => a4 + z) (show Int32.ofInt 1 = 1 by decide)) (by decide) rfl ?_
          refine R_goto (tgt := 18) dX0_doesHold_83 (by decide) ?_
          exact R_sub [1, 2, 3, 4, 0] rfl (w Bh5)
        · have w := w.2 c10
          refine R_aload_n dX0_doesHold_66 0 rfl ?_
          refine R_iload_n dX0_doesHold_67 1 rfl ?_
          refine R_iload dX0_doesHold_68 4 rfl ?_
          refine R_iload_n dX0_doesHold_70 2 rfl ?_
          refine R_iload_n dX0_doesHold_71 3 rfl ?_
          refine R_invV (Mc := mX0_holdsFor) (b := x) (As := [.int a1, .int a4, .int a2, .int a3]) (st := []) ok0 (by decide) Bh5.1 dX0_doesHold_72 q685 q687 qs30 q103 wX0_holdsFor pX0_holdsFor rfl (Nat.le_of_ble_eq_true rfl) (by decide) (by decide) (Nat.le_of_ble_eq_true rfl) (aft_z w (fun b8 h7 w => ?_))
          obtain ⟨Bh7, w⟩ := w
          refine R_ifz_eq (tgt := 80) dX0_doesHold_75 (by decide) (fun c9 => ?_) (fun c9 => ?_)
          · have w := w.1 c9
            refine R_iinc (v := (a4 + 1)) (lv' := [(4, .int (a4 + 1)), (0, .ref x), (1, .int a1), (2, .int a2), (3, .int a3)]) dX0_doesHold_80 4 rfl (congrArg (fun z => a4 + z) (show Int32.ofInt 1 = 1 by decide)) (by decide) rfl ?_
            refine R_goto (tgt := 18) dX0_doesHold_83 (by decide) ?_
            exact R_sub [1, 2, 3, 4, 0] rfl (w Bh7)
          · have w := w.2 c9
            refine R_iconst (v := 1) dX0_doesHold_78 (by decide) ?_
            exact R_bret (b := true) dX0_doesHold_79 rfl w
theorem sX0_element_0 {G : GG} {x : Nat} {h : AH} {Q : Outcome → AH → Prop} {a1 : Int32} {a2 : Int32} (B : XB G x h) (w : Run G mX0_refusal 3 0 [(0, .ref x), (1, .int a1), (2, .int a2)] [] h (fun o h1 => ∃ r2 : Int32, o = .returned (some (.int r2)) ∧ XB G x h1 ∧ ((r2 = 0 → (vp_in a1 6 ∧ (Run G mX0_sortOf 1 0 [(0, va_rf (aR h1 (x + 18) a1.toNatClampNeg))] [] h1 (fun o h4 => ∃ r5 : Int32, o = .returned (some (.int r5)) ∧ XB G x h4 ∧ ((r5 = 0 → (∃ q7 : Nat, (aR h1 (x + 18) a1.toNatClampNeg) = some q7 ∧ (CastOK G h4 q7 "[B" ∧ (∃ n10 : Nat, IsK G h4 q7 (102, n10) ∧ vp_in a2 n10 ∧ (Q (.returned (some (.long (aA h4 q7 a2.toNatClampNeg).toInt64))) h4))))) ∧ (¬ r5 = 0 → ((r5 = 1 → (∃ q14 : Nat, (aR h1 (x + 18) a1.toNatClampNeg) = some q14 ∧ (CastOK G h4 q14 "[S" ∧ (∃ n17 : Nat, IsK G h4 q14 (103, n17) ∧ vp_in a2 n17 ∧ (Q (.returned (some (.long (aA h4 q14 a2.toNatClampNeg).toInt64))) h4))))) ∧ (¬ r5 = 1 → ((r5 = 2 → (∃ q21 : Nat, (aR h1 (x + 18) a1.toNatClampNeg) = some q21 ∧ (CastOK G h4 q21 "[I" ∧ (∃ n24 : Nat, IsK G h4 q21 (100, n24) ∧ vp_in a2 n24 ∧ (Q (.returned (some (.long (aA h4 q21 a2.toNatClampNeg).toInt64))) h4))))) ∧ (¬ r5 = 2 → ((r5 = 3 → (∃ q28 : Nat, (aR h1 (x + 18) a1.toNatClampNeg) = some q28 ∧ (CastOK G h4 q28 "[J" ∧ (∃ n31 : Nat, IsK G h4 q28 (101, n31) ∧ vp_in a2 n31 ∧ (Q (.returned (some (.long (aL h4 q28 a2.toNatClampNeg)))) h4))))) ∧ (¬ r5 = 3 → (∃ q34 : Nat, (aR h1 (x + 18) a1.toNatClampNeg) = some q34 ∧ (CastOK G h4 q34 "[Z" ∧ (∃ n37 : Nat, IsK G h4 q34 (104, n37) ∧ vp_in a2 n37 ∧ (((aA h4 q34 a2.toNatClampNeg) = 0 → (Q (.returned (some (.long 0))) h4)) ∧ (¬ (aA h4 q34 a2.toNatClampNeg) = 0 → (Q (.returned (some (.long 1))) h4)))))))))))))))))) ∧ (¬ r2 = 0 → (Q (.returned (some (.long (-9223372036854775808)))) h1))))) : Run G mX0_element 4 0 [(0, .ref x), (1, .int a1), (2, .int a2)] [] h Q := by
  refine R_aload_n dX0_element_0 0 rfl ?_
  refine R_iload_n dX0_element_1 1 rfl ?_
  refine R_iload_n dX0_element_2 2 rfl ?_
  refine R_invV (Mc := mX0_refusal) (b := x) (As := [.int a1, .int a2]) (st := []) ok0 (by decide) B.1 dX0_element_3 q1169 q1171 qs43 q103 wX0_refusal pX0_refusal rfl (Nat.le_of_ble_eq_true rfl) (by decide) (by decide) (Nat.le_of_ble_eq_true rfl) (aft_i w (fun r2 h1 w => ?_))
  obtain ⟨Bh1, w⟩ := w
  refine R_if_eq (tgt := 13) dX0_element_6 (by decide) (fun c41 => ?_) (fun c41 => ?_)
  · have w := w.1 c41
    refine R_aload_n dX0_element_13 0 rfl ?_
    refine X_getA (k := 30) (o := 18) (j := 110) (n := 6) Bh1 dX0_element_14 q297 (by decide) rfl rfl ?_
    refine R_iload_n dX0_element_17 1 rfl ?_
    obtain ⟨c3, w⟩ := w
    refine X_aald (k := 30) (j := 10) (E := "java/lang/Object") Bh1 dX0_element_18 rfl (by decide) (by decide) rfl c3 ?_
    refine R_astore_nQ (lv' := [(3, va_rf (aR h1 (x + 18) a1.toNatClampNeg)), (0, .ref x), (1, .int a1), (2, .int a2)]) dX0_element_19 rfl (by decide) rfl ?_
    refine R_aload_nQ dX0_element_20 0 rfl ?_
    refine R_invS (Mc := mX0_sortOf) (As := [va_rf (aR h1 (x + 18) a1.toNatClampNeg)]) (st := []) dX0_element_21 q414 q415 q103 wX0_sortOf pX0_sortOf rfl (by simp [lg_sl, rf_cat, cat_i, cat_r, cat_l, mX0_sortOf]) (by decide) (by decide) (Nat.le_of_ble_eq_true rfl) (run_la (by simp [lv_args, rf_cat, cat_i, cat_r, cat_l]) (aft_i w (fun r5 h4 w => ?_)))
    obtain ⟨Bh4, w⟩ := w
    by_cases c6 : r5 = 0
    · have w := w.1 c6
      refine R_tableIn (off := 32) (tgt := 56) dX0_element_24 (by rw [c6]; decide) (by rw [c6]; decide) (by rw [c6]; rfl) (by decide) ?_
      refine R_aload_nQ dX0_element_56 0 rfl ?_
      obtain ⟨q7, e8, w⟩ := w
      refine R_top (v' := .ref q7) (congrArg va_rf e8) ?_
      obtain ⟨c9, w⟩ := w
      refine R_cast dX0_element_57 q417 c9 ?_
      refine R_iload_n dX0_element_60 3 rfl ?_
      obtain ⟨n10, k11, c12, w⟩ := w
      refine R_bald dX0_element_61 k11 c12 ?_
      refine R_i2l dX0_element_62 ?_
      exact R_lret dX0_element_63 rfl w
    · have w := w.2 c6
      by_cases c13 : r5 = 1
      · have w := w.1 c13
        refine R_tableIn (off := 40) (tgt := 64) dX0_element_24 (by rw [c13]; decide) (by rw [c13]; decide) (by rw [c13]; rfl) (by decide) ?_
        refine R_aload_nQ dX0_element_64 0 rfl ?_
        obtain ⟨q14, e15, w⟩ := w
        refine R_top (v' := .ref q14) (congrArg va_rf e15) ?_
        obtain ⟨c16, w⟩ := w
        refine R_cast dX0_element_65 q418 c16 ?_
        refine R_iload_n dX0_element_68 3 rfl ?_
        obtain ⟨n17, k18, c19, w⟩ := w
        refine R_sald dX0_element_69 k18 c19 ?_
        refine R_i2l dX0_element_70 ?_
        exact R_lret dX0_element_71 rfl w
      · have w := w.2 c13
        by_cases c20 : r5 = 2
        · have w := w.1 c20
          refine R_tableIn (off := 48) (tgt := 72) dX0_element_24 (by rw [c20]; decide) (by rw [c20]; decide) (by rw [c20]; rfl) (by decide) ?_
          refine R_aload_nQ dX0_element_72 0 rfl ?_
          obtain ⟨q21, e22, w⟩ := w
          refine R_top (v' := .ref q21) (congrArg va_rf e22) ?_
          obtain ⟨c23, w⟩ := w
          refine R_cast dX0_element_73 q419 c23 ?_
          refine R_iload_n dX0_element_76 3 rfl ?_
          obtain ⟨n24, k25, c26, w⟩ := w
          refine R_iald dX0_element_77 k25 c26 ?_
          refine R_i2l dX0_element_78 ?_
          exact R_lret dX0_element_79 rfl w
        · have w := w.2 c20
          by_cases c27 : r5 = 3
          · have w := w.1 c27
            refine R_tableIn (off := 56) (tgt := 80) dX0_element_24 (by rw [c27]; decide) (by rw [c27]; decide) (by rw [c27]; rfl) (by decide) ?_
            refine R_aload_nQ dX0_element_80 0 rfl ?_
            obtain ⟨q28, e29, w⟩ := w
            refine R_top (v' := .ref q28) (congrArg va_rf e29) ?_
            obtain ⟨c30, w⟩ := w
            refine R_cast dX0_element_81 q420 c30 ?_
            refine R_iload_n dX0_element_84 3 rfl ?_
            obtain ⟨n31, k32, c33, w⟩ := w
            refine R_lald dX0_element_85 k32 c33 ?_
            exact R_lret dX0_element_86 rfl w
          · have w := w.2 c27
            refine R_tableOut (tgt := 87) dX0_element_24 (sw_out r5 0 3 (by decide) (by decide) (fun j h1 h2 => ?_)) (by decide) ?_
            · intro e
              have e2 : j = 0 ∨ j = 1 ∨ j = 2 ∨ j = 3 := by omega
              rcases e2 with rfl | rfl | rfl | rfl
              · exact lv_neT c6 (by decide) e
              · exact lv_neT c13 (by decide) e
              · exact lv_neT c20 (by decide) e
              · exact lv_neT c27 (by decide) e
            · refine R_aload_nQ dX0_element_87 0 rfl ?_
              obtain ⟨q34, e35, w⟩ := w
              refine R_top (v' := .ref q34) (congrArg va_rf e35) ?_
              obtain ⟨c36, w⟩ := w
              refine R_cast dX0_element_88 q421 c36 ?_
              refine R_iload_n dX0_element_91 3 rfl ?_
              obtain ⟨n37, k38, c39, w⟩ := w
              refine R_zald dX0_element_92 k38 c39 ?_
              refine R_if_eq (tgt := 100) dX0_element_93 (by decide) (fun c40 => ?_) (fun c40 => ?_)
              · have w := w.1 c40
                refine R_lconst (v := 0) dX0_element_100 (by decide) ?_
                exact R_lret dX0_element_101 rfl w
              · have w := w.2 c40
                refine R_lconst (v := 1) dX0_element_96 (by decide) ?_
                refine R_goto (tgt := 101) dX0_element_97 (by decide) ?_
                exact R_lret dX0_element_101 rfl w
  · have w := w.2 c41
    refine R_ldc2 (v := (-9223372036854775808)) dX0_element_9 q1180 ?_
    exact R_lret dX0_element_12 rfl w
theorem sX0_expect_0 {G : GG} {x : Nat} {h : AH} {Q : Outcome → AH → Prop} {a1 : Int32} (B : XB G x h) (w : Run G mX0_take 2 0 [(0, .ref x), (1, .int a1)] [] h (fun o h1 => ∃ b2 : Bool, o = .returned (some (.int (bi b2))) ∧ XB G x h1 ∧ ((b2 = true → (Q (.returned none) h1)) ∧ (b2 = false → (Q (.threw (x + 3)) h1))))) : Run G mX0_expect 3 0 [(0, .ref x), (1, .int a1)] [] h Q := by
  refine R_aload_n dX0_expect_0 0 rfl ?_
  refine R_iload_n dX0_expect_1 1 rfl ?_
  refine R_invV (Mc := mX0_take) (b := x) (As := [.int a1]) (st := []) ok0 (by decide) B.1 dX0_expect_2 q626 q628 qs22 q103 wX0_take pX0_take rfl (Nat.le_of_ble_eq_true rfl) (by decide) (by decide) (Nat.le_of_ble_eq_true rfl) (aft_z w (fun b2 h1 w => ?_))
  obtain ⟨Bh1, w⟩ := w
  refine R_ifz_ne (tgt := 13) dX0_expect_5 (by decide) (fun c3 => ?_) (fun c3 => ?_)
  · have w := w.1 c3
    exact R_vret dX0_expect_13 rfl w
  · have w := w.2 c3
    refine R_aload_n dX0_expect_8 0 rfl ?_
    refine X_getA (k := 5) (o := 3) (j := 1) (n := 0) Bh1 dX0_expect_9 q269 (by decide) rfl rfl ?_
    refine R_athrow dX0_expect_12 ?_
    exact Thr.leave (by decide) w
theorem sX0_fame_0 {G : GG} {x : Nat} {h : AH} {Q : Outcome → AH → Prop} {a1 : Int32} {a2 : Int32} (B : XB G x h) (w : Run G mX0_isName 2 0 [(0, .int a1)] [] h (fun o h1 => ∃ b2 : Bool, o = .returned (some (.int (bi b2))) ∧ XB G x h1 ∧ ((b2 = false → (Q (.returned (some (.int (-1)))) h1)) ∧ (b2 = true → (Run G mX0_within 1 0 [(0, .long a2.toInt64), (2, .long 0), (4, .long 1)] [] h1 (fun o h3 => ∃ b4 : Bool, o = .returned (some (.int (bi b4))) ∧ XB G x h3 ∧ ((b4 = true → (vp_in a1 12 ∧ (vp_in a1 12 ∧ (Q (.returned (some (.int (aA h3 (x + 9) a1.toNatClampNeg)))) (sA h3 (x + 9) a1.toNatClampNeg a2))))) ∧ (b4 = false → (Q (.returned (some (.int (-1)))) h3))))))))) : Run G mX0_fame 3 0 [(0, .ref x), (1, .int a1), (2, .int a2)] [] h Q := by
  refine R_iload_n dX0_fame_0 1 rfl ?_
  refine R_invS (Mc := mX0_isName) (As := [.int a1]) (st := []) dX0_fame_1 q428 q429 q103 wX0_isName pX0_isName rfl (Nat.le_of_ble_eq_true rfl) (by decide) (by decide) (Nat.le_of_ble_eq_true rfl) (aft_z w (fun b2 h1 w => ?_))
  obtain ⟨Bh1, w⟩ := w
  refine R_ifz_eq (tgt := 17) dX0_fame_4 (by decide) (fun c8 => ?_) (fun c8 => ?_)
  · have w := w.1 c8
    refine R_iconst (v := (-1)) dX0_fame_17 (by decide) ?_
    exact R_iret dX0_fame_18 rfl w
  · have w := w.2 c8
    refine R_iload_n dX0_fame_7 2 rfl ?_
    refine R_i2l dX0_fame_8 ?_
    refine R_lconst (v := 0) dX0_fame_9 (by decide) ?_
    refine R_lconst (v := 1) dX0_fame_10 (by decide) ?_
    refine R_invS (Mc := mX0_within) (As := [.long a2.toInt64, .long 0, .long 1]) (st := []) dX0_fame_11 q366 q367 q103 wX0_within pX0_within rfl (Nat.le_of_ble_eq_true rfl) (by decide) (by decide) (Nat.le_of_ble_eq_true rfl) (aft_z w (fun b4 h3 w => ?_))
    obtain ⟨Bh3, w⟩ := w
    refine R_ifz_ne (tgt := 19) dX0_fame_14 (by decide) (fun c7 => ?_) (fun c7 => ?_)
    · have w := w.1 c7
      refine R_aload_n dX0_fame_19 0 rfl ?_
      refine X_getA (k := 15) (o := 9) (j := 100) (n := 12) Bh3 dX0_fame_20 q279 (by decide) rfl rfl ?_
      refine R_iload_n dX0_fame_23 1 rfl ?_
      obtain ⟨c6, w⟩ := w
      refine X_iald (k := 15) Bh3 dX0_fame_24 rfl c6 ?_
      refine R_istore_n (lv' := [(3, .int (aA h3 (x + 9) a1.toNatClampNeg)), (0, .ref x), (1, .int a1), (2, .int a2)]) dX0_fame_25 rfl (by decide) rfl ?_
      refine R_aload_n dX0_fame_26 1 rfl ?_
      refine X_getA (k := 15) (o := 9) (j := 100) (n := 12) Bh3 dX0_fame_27 q279 (by decide) rfl rfl ?_
      refine R_iload_n dX0_fame_30 2 rfl ?_
      refine R_iload_n dX0_fame_31 3 rfl ?_
      obtain ⟨c5, w⟩ := w
      refine X_iast (k := 15) Bh3 dX0_fame_32 rfl c5 ?_
      refine R_iload_n dX0_fame_33 0 rfl ?_
      exact R_iret dX0_fame_34 rfl w
    · have w := w.2 c7
      refine R_iconst (v := (-1)) dX0_fame_17 (by decide) ?_
      exact R_iret dX0_fame_18 rfl w
theorem sX0_feed_0 {G : GG} {x : Nat} {h : AH} {Q : Outcome → AH → Prop} {a1 : Int32} (B : XB G x h) (w : Run G mX0_within 1 0 [(0, .long a1.toInt64), (2, .long 0), (4, .long 255)] [] h (fun o h1 => ∃ b2 : Bool, o = .returned (some (.int (bi b2))) ∧ XB G x h1 ∧ ((b2 = true → ((¬ (aI h1 4 x) = 120 → (vp_in (aI h1 4 x) 120 ∧ (Q (.returned (some (.int (aI (sA (sI h1 4 x ((aI h1 4 x) + 1)) (x + 2) (aI h1 4 x).toNatClampNeg a1) 4 x)))) (sA (sI h1 4 x ((aI h1 4 x) + 1)) (x + 2) (aI h1 4 x).toNatClampNeg a1)))) ∧ ((aI h1 4 x) = 120 → (Q (.returned (some (.int (-3)))) h1)))) ∧ (b2 = false → (Q (.returned (some (.int (-1)))) h1))))) : Run G mX0_feed 2 0 [(0, .ref x), (1, .int a1)] [] h Q := by
  refine R_iload_n dX0_feed_0 1 rfl ?_
  refine R_i2l dX0_feed_1 ?_
  refine R_lconst (v := 0) dX0_feed_2 (by decide) ?_
  refine R_ldc2 (v := 255) dX0_feed_3 q365 ?_
  refine R_invS (Mc := mX0_within) (As := [.long a1.toInt64, .long 0, .long 255]) (st := []) dX0_feed_6 q366 q367 q103 wX0_within pX0_within rfl (Nat.le_of_ble_eq_true rfl) (by decide) (by decide) (Nat.le_of_ble_eq_true rfl) (aft_z w (fun b2 h1 w => ?_))
  obtain ⟨Bh1, w⟩ := w
  refine R_ifz_ne (tgt := 14) dX0_feed_9 (by decide) (fun c5 => ?_) (fun c5 => ?_)
  · have w := w.1 c5
    refine R_aload_n dX0_feed_14 0 rfl ?_
    refine X_getS (k := 4) Bh1 dX0_feed_15 q268 (by decide) rfl ?_
    refine R_bipush (v := 120) dX0_feed_18 (by decide) ?_
    refine R_icmp_ne (tgt := 26) dX0_feed_20 (by decide) (fun c4 => ?_) (fun c4 => ?_)
    · have w := w.1 c4
      refine R_aload_n dX0_feed_26 0 rfl ?_
      refine X_getA (k := 3) (o := 2) (j := 100) (n := 120) Bh1 dX0_feed_27 q267 (by decide) rfl rfl ?_
      refine R_aload_n dX0_feed_30 0 rfl ?_
      refine R_dup dX0_feed_31 rfl ?_
      refine X_getS (k := 4) Bh1 dX0_feed_32 q268 (by decide) rfl ?_
      refine R_dup_x1 dX0_feed_35 rfl rfl ?_
      refine R_iconst (v := 1) dX0_feed_36 (by decide) ?_
      refine R_iadd dX0_feed_37 ?_
      refine X_putS (k := 4) Bh1 dX0_feed_38 q268 (by decide) rfl rfl rfl rfl ?_
      refine R_iload_n dX0_feed_41 1 rfl ?_
      obtain ⟨c3, w⟩ := w
      refine X_iast (k := 3) Bh1.I dX0_feed_42 rfl c3 ?_
      refine R_aload_n dX0_feed_43 0 rfl ?_
      refine X_getS (k := 4) Bh1.I.A dX0_feed_44 q268 (by decide) rfl ?_
      exact R_iret dX0_feed_47 rfl w
    · have w := w.2 c4
      refine R_bipush (v := (-3)) dX0_feed_23 (by decide) ?_
      exact R_iret dX0_feed_25 rfl w
  · have w := w.2 c5
    refine R_iconst (v := (-1)) dX0_feed_12 (by decide) ?_
    exact R_iret dX0_feed_13 rfl w
theorem sX0_free_0 {G : GG} {x : Nat} {h : AH} {Q : Outcome → AH → Prop} {a1 : Int32} (B : XB G x h) (w : Run G mX0_isYear 2 0 [(0, .int a1)] [] h (fun o h1 => ∃ b2 : Bool, o = .returned (some (.int (bi b2))) ∧ XB G x h1 ∧ ((b2 = true → (Run G mX0_asNamed 1 0 [(0, .ref x)] [] h1 (fun o h3 => o = .returned none ∧ XB G x h3 ∧ (Run G mX0_freeIn 305 0 [(0, .ref x), (1, .int a1)] [] h3 (fun o h4 => ∃ r5 : Int32, o = .returned (some (.int r5)) ∧ XB G x h4 ∧ (Q (.returned (some (.int r5))) h4)))))) ∧ (b2 = false → (Q (.returned (some (.int (-1)))) h1))))) : Run G mX0_free 306 0 [(0, .ref x), (1, .int a1)] [] h Q := by
  refine R_iload_n dX0_free_0 1 rfl ?_
  refine R_invS (Mc := mX0_isYear) (As := [.int a1]) (st := []) dX0_free_1 q376 q377 q103 wX0_isYear pX0_isYear rfl (Nat.le_of_ble_eq_true rfl) (by decide) (by decide) (Nat.le_of_ble_eq_true rfl) (aft_z w (fun b2 h1 w => ?_))
  obtain ⟨Bh1, w⟩ := w
  refine R_ifz_ne (tgt := 9) dX0_free_4 (by decide) (fun c6 => ?_) (fun c6 => ?_)
  · have w := w.1 c6
    refine R_aload_n dX0_free_9 0 rfl ?_
    refine R_invV (Mc := mX0_asNamed) (b := x) (As := []) (st := []) ok0 (by decide) Bh1.1 dX0_free_10 q661 q663 qs24 q103 wX0_asNamed pX0_asNamed rfl (Nat.le_of_ble_eq_true rfl) (by decide) (by decide) (Nat.le_of_ble_eq_true rfl) (aft_v w (fun h3 w => ?_))
    obtain ⟨Bh3, w⟩ := w
    refine R_aload_n dX0_free_13 0 rfl ?_
    refine R_iload_n dX0_free_14 1 rfl ?_
    refine R_invV (Mc := mX0_freeIn) (b := x) (As := [.int a1]) (st := []) ok0 (by decide) Bh3.1 dX0_free_15 q719 q721 qs32 q103 wX0_freeIn pX0_freeIn rfl (Nat.le_of_ble_eq_true rfl) (by decide) (by decide) (Nat.le_of_ble_eq_true rfl) (aft_i w (fun r5 h4 w => ?_))
    obtain ⟨Bh4, w⟩ := w
    exact R_iret dX0_free_18 rfl w
  · have w := w.2 c6
    refine R_iconst (v := (-1)) dX0_free_7 (by decide) ?_
    exact R_iret dX0_free_8 rfl w
theorem sX0_freeIn_0 {G : GG} {x : Nat} {h : AH} {Q : Outcome → AH → Prop} {a1 : Int32} (B : XB G x h) (w : Run G mX0_knowUpTo 4 0 [(0, .ref x), (1, .int a1), (2, .int 0)] [] h (fun o h1 => o = .returned none ∧ XB G x h1 ∧ (XB G x h1 → Run G mX0_freeIn 305 10 [(0, .ref x), (1, .int a1), (2, .int 0), (3, .int 0)] [] h1 Q))) : Run G mX0_freeIn 305 0 [(0, .ref x), (1, .int a1)] [] h Q := by
  refine R_aload_n dX0_freeIn_0 0 rfl ?_
  refine R_iload_n dX0_freeIn_1 1 rfl ?_
  refine R_iconst (v := 0) dX0_freeIn_2 (by decide) ?_
  refine R_invV (Mc := mX0_knowUpTo) (b := x) (As := [.int a1, .int 0]) (st := []) ok0 (by decide) B.1 dX0_freeIn_3 q650 q652 qs23 q103 wX0_knowUpTo pX0_knowUpTo rfl (Nat.le_of_ble_eq_true rfl) (by decide) (by decide) (Nat.le_of_ble_eq_true rfl) (aft_v w (fun h1 w => ?_))
  obtain ⟨Bh1, w⟩ := w
  refine R_iconst (v := 0) dX0_freeIn_6 (by decide) ?_
  refine R_istore_n (lv' := [(2, .int 0), (0, .ref x), (1, .int a1)]) dX0_freeIn_7 rfl (by decide) rfl ?_
  refine R_iconst (v := 0) dX0_freeIn_8 (by decide) ?_
  refine R_istore_n (lv' := [(3, .int 0), (2, .int 0), (0, .ref x), (1, .int a1)]) dX0_freeIn_9 rfl (by decide) rfl ?_
  exact R_sub [2, 3, 1, 0] rfl (w Bh1)
theorem sX0_freeIn_10 {G : GG} {x : Nat} {h : AH} {Q : Outcome → AH → Prop} {a1 : Int32} {a2 : Int32} {a3 : Int32} (B : XB G x h) (w : (12 ≤ a3 → (Q (.returned (some (.int a2))) h)) ∧ (¬ 12 ≤ a3 → (Run G mX0_isHeld 304 0 [(0, .ref x), (1, .int a3), (2, .int a1)] [] h (fun o h1 => ∃ b2 : Bool, o = .returned (some (.int (bi b2))) ∧ XB G x h1 ∧ ((b2 = true → (Run G mX0_bit 1 0 [(0, .int (bi false))] [] h1 (fun o h3 => ∃ r4 : Int32, o = .returned (some (.int r4)) ∧ XB G x h3 ∧ (XB G x h3 → Run G mX0_freeIn 305 10 [(0, .ref x), (1, .int a1), (2, .int (a2 ||| (r4 <<< (a3 &&& 31)))), (3, .int (a3 + 1))] [] h3 Q)))) ∧ (b2 = false → (Run G mX0_bit 1 0 [(0, .int (bi true))] [] h1 (fun o h5 => ∃ r6 : Int32, o = .returned (some (.int r6)) ∧ XB G x h5 ∧ (XB G x h5 → Run G mX0_freeIn 305 10 [(0, .ref x), (1, .int a1), (2, .int (a2 ||| (r6 <<< (a3 &&& 31)))), (3, .int (a3 + 1))] [] h5 Q))))))))) : Run G mX0_freeIn 305 10 [(0, .ref x), (1, .int a1), (2, .int a2), (3, .int a3)] [] h Q := by
  refine R_iload_n dX0_freeIn_10 3 rfl ?_
  refine R_bipush (v := 12) dX0_freeIn_11 (by decide) ?_
  refine R_icmp_ge (tgt := 44) dX0_freeIn_13 (by decide) (fun c8 => ?_) (fun c8 => ?_)
  · have w := w.1 c8
    refine R_iload_n dX0_freeIn_44 2 rfl ?_
    exact R_iret dX0_freeIn_45 rfl w
  · have w := w.2 c8
    refine R_iload_n dX0_freeIn_16 2 rfl ?_
    refine R_aload_n dX0_freeIn_17 0 rfl ?_
    refine R_iload_n dX0_freeIn_18 3 rfl ?_
    refine R_iload_n dX0_freeIn_19 1 rfl ?_
    refine R_invV (Mc := mX0_isHeld) (b := x) (As := [.int a3, .int a1]) (st := [.int a2]) ok0 (by decide) B.1 dX0_freeIn_20 q669 q671 qs26 q103 wX0_isHeld pX0_isHeld rfl (Nat.le_of_ble_eq_true rfl) (by decide) (by decide) (Nat.le_of_ble_eq_true rfl) (aft_z w (fun b2 h1 w => ?_))
    obtain ⟨Bh1, w⟩ := w
    refine R_ifz_ne (tgt := 30) dX0_freeIn_23 (by decide) (fun c7 => ?_) (fun c7 => ?_)
    · have w := w.1 c7
      refine R_iconst (v := 0) dX0_freeIn_30 (by decide) ?_
      refine R_invS (Mc := mX0_bit) (As := [.int (bi false)]) (st := [.int a2]) dX0_freeIn_31 q505 q506 q103 wX0_bit pX0_bit rfl (Nat.le_of_ble_eq_true rfl) (by decide) (by decide) (Nat.le_of_ble_eq_true rfl) (aft_i w (fun r4 h3 w => ?_))
      obtain ⟨Bh3, w⟩ := w
      refine R_iload_n dX0_freeIn_34 3 rfl ?_
      refine R_ishl dX0_freeIn_35 ?_
      refine R_ior dX0_freeIn_36 ?_
      refine R_istore_n (lv' := [(2, .int (a2 ||| (r4 <<< (a3 &&& 31)))), (0, .ref x), (1, .int a1), (3, .int a3)]) dX0_freeIn_37 rfl (by decide) rfl ?_
      refine R_iinc (v := (a3 + 1)) (lv' := [(3, .int (a3 + 1)), (2, .int (a2 ||| (r4 <<< (a3 &&& 31)))), (0, .ref x), (1, .int a1)]) dX0_freeIn_38 3 rfl (congrArg (fun z => a3 + z) (show Int32.ofInt 1 = 1 by decide)) (by decide) rfl ?_
      refine R_goto (tgt := 10) dX0_freeIn_41 (by decide) ?_
      exact R_sub [2, 3, 1, 0] rfl (w Bh3)
    · have w := w.2 c7
      refine R_iconst (v := 1) dX0_freeIn_26 (by decide) ?_
      refine R_goto (tgt := 31) dX0_freeIn_27 (by decide) ?_
      refine R_invS (Mc := mX0_bit) (As := [.int (bi true)]) (st := [.int a2]) dX0_freeIn_31 q505 q506 q103 wX0_bit pX0_bit rfl (Nat.le_of_ble_eq_true rfl) (by decide) (by decide) (Nat.le_of_ble_eq_true rfl) (aft_i w (fun r6 h5 w => ?_))
      obtain ⟨Bh5, w⟩ := w
      refine R_iload_n dX0_freeIn_34 3 rfl ?_
      refine R_ishl dX0_freeIn_35 ?_
      refine R_ior dX0_freeIn_36 ?_
      refine R_istore_n (lv' := [(2, .int (a2 ||| (r6 <<< (a3 &&& 31)))), (0, .ref x), (1, .int a1), (3, .int a3)]) dX0_freeIn_37 rfl (by decide) rfl ?_
      refine R_iinc (v := (a3 + 1)) (lv' := [(3, .int (a3 + 1)), (2, .int (a2 ||| (r6 <<< (a3 &&& 31)))), (0, .ref x), (1, .int a1)]) dX0_freeIn_38 3 rfl (congrArg (fun z => a3 + z) (show Int32.ofInt 1 = 1 by decide)) (by decide) rfl ?_
      refine R_goto (tgt := 10) dX0_freeIn_41 (by decide) ?_
      exact R_sub [2, 3, 1, 0] rfl (w Bh5)
theorem sX0_freed_0 {G : GG} {x : Nat} {h : AH} {Q : Outcome → AH → Prop} {a1 : Int32} {a2 : Int32} (B : XB G x h) (w : Run G mX0_isPerson 2 0 [(0, .ref x), (1, .int a1)] [] h (fun o h1 => ∃ b2 : Bool, o = .returned (some (.int (bi b2))) ∧ XB G x h1 ∧ ((b2 = false → (Q (.returned (some (.int (-1)))) h1)) ∧ (b2 = true → (Run G mX0_isYear 2 0 [(0, .int a2)] [] h1 (fun o h3 => ∃ b4 : Bool, o = .returned (some (.int (bi b4))) ∧ XB G x h3 ∧ ((b4 = true → (Run G mX0_asNamed 1 0 [(0, .ref x)] [] h3 (fun o h5 => o = .returned none ∧ XB G x h5 ∧ (Run G mX0_knowUpTo 4 0 [(0, .ref x), (1, .int a2), (2, .int 0)] [] h5 (fun o h6 => o = .returned none ∧ XB G x h6 ∧ (XB G x h6 → Run G mX0_freed 304 32 [(0, .ref x), (1, .int a1), (2, .int a2), (3, .int 0), (4, .int 0)] [] h6 Q)))))) ∧ (b4 = false → (Q (.returned (some (.int (-1)))) h3))))))))) : Run G mX0_freed 304 0 [(0, .ref x), (1, .int a1), (2, .int a2)] [] h Q := by
  refine R_aload_n dX0_freed_0 0 rfl ?_
  refine R_iload_n dX0_freed_1 1 rfl ?_
  refine R_invV (Mc := mX0_isPerson) (b := x) (As := [.int a1]) (st := []) ok0 (by decide) B.1 dX0_freed_2 q436 q438 qs3 q103 wX0_isPerson pX0_isPerson rfl (Nat.le_of_ble_eq_true rfl) (by decide) (by decide) (Nat.le_of_ble_eq_true rfl) (aft_z w (fun b2 h1 w => ?_))
  obtain ⟨Bh1, w⟩ := w
  refine R_ifz_eq (tgt := 15) dX0_freed_5 (by decide) (fun c8 => ?_) (fun c8 => ?_)
  · have w := w.1 c8
    refine R_iconst (v := (-1)) dX0_freed_15 (by decide) ?_
    exact R_iret dX0_freed_16 rfl w
  · have w := w.2 c8
    refine R_iload_n dX0_freed_8 2 rfl ?_
    refine R_invS (Mc := mX0_isYear) (As := [.int a2]) (st := []) dX0_freed_9 q376 q377 q103 wX0_isYear pX0_isYear rfl (Nat.le_of_ble_eq_true rfl) (by decide) (by decide) (Nat.le_of_ble_eq_true rfl) (aft_z w (fun b4 h3 w => ?_))
    obtain ⟨Bh3, w⟩ := w
    refine R_ifz_ne (tgt := 17) dX0_freed_12 (by decide) (fun c7 => ?_) (fun c7 => ?_)
    · have w := w.1 c7
      refine R_aload_n dX0_freed_17 0 rfl ?_
      refine R_invV (Mc := mX0_asNamed) (b := x) (As := []) (st := []) ok0 (by decide) Bh3.1 dX0_freed_18 q661 q663 qs24 q103 wX0_asNamed pX0_asNamed rfl (Nat.le_of_ble_eq_true rfl) (by decide) (by decide) (Nat.le_of_ble_eq_true rfl) (aft_v w (fun h5 w => ?_))
      obtain ⟨Bh5, w⟩ := w
      refine R_aload_n dX0_freed_21 0 rfl ?_
      refine R_iload_n dX0_freed_22 2 rfl ?_
      refine R_iconst (v := 0) dX0_freed_23 (by decide) ?_
      refine R_invV (Mc := mX0_knowUpTo) (b := x) (As := [.int a2, .int 0]) (st := []) ok0 (by decide) Bh5.1 dX0_freed_24 q650 q652 qs23 q103 wX0_knowUpTo pX0_knowUpTo rfl (Nat.le_of_ble_eq_true rfl) (by decide) (by decide) (Nat.le_of_ble_eq_true rfl) (aft_v w (fun h6 w => ?_))
      obtain ⟨Bh6, w⟩ := w
      refine R_iconst (v := 0) dX0_freed_27 (by decide) ?_
      refine R_istore_n (lv' := [(3, .int 0), (0, .ref x), (1, .int a1), (2, .int a2)]) dX0_freed_28 rfl (by decide) rfl ?_
      refine R_iconst (v := 0) dX0_freed_29 (by decide) ?_
      refine R_istore (lv' := [(4, .int 0), (3, .int 0), (0, .ref x), (1, .int a1), (2, .int a2)]) dX0_freed_30 (by decide) rfl ?_
      exact R_sub [2, 3, 4, 1, 0] rfl (w Bh6)
    · have w := w.2 c7
      refine R_iconst (v := (-1)) dX0_freed_15 (by decide) ?_
      exact R_iret dX0_freed_16 rfl w
theorem sX0_freed_32 {G : GG} {x : Nat} {h : AH} {Q : Outcome → AH → Prop} {a1 : Int32} {a2 : Int32} {a3 : Int32} {a4 : Int32} (B : XB G x h) (w : (12 ≤ a4 → (Q (.returned (some (.int a3))) h)) ∧ (¬ 12 ≤ a4 → (Run G mX0_isFamed 1 0 [(0, .ref x), (1, .int a4), (2, .int a2)] [] h (fun o h1 => ∃ b2 : Bool, o = .returned (some (.int (bi b2))) ∧ XB G x h1 ∧ ((b2 = true → (Run G mX0_bit 1 0 [(0, .int (bi false))] [] h1 (fun o h3 => ∃ r4 : Int32, o = .returned (some (.int r4)) ∧ XB G x h3 ∧ (XB G x h3 → Run G mX0_freed 304 32 [(0, .ref x), (1, .int a1), (2, .int a2), (3, .int (a3 ||| (r4 <<< (a4 &&& 31)))), (4, .int (a4 + 1))] [] h3 Q)))) ∧ (b2 = false → (Run G mX0_holders 303 0 [(0, .ref x), (1, .int a4), (2, .int a2)] [] h1 (fun o h5 => ∃ r6 : Int32, o = .returned (some (.int r6)) ∧ XB G x h5 ∧ ((¬ r6 = ((1 : Int32) <<< (a1 &&& 31)) → (Run G mX0_bit 1 0 [(0, .int (bi false))] [] h5 (fun o h7 => ∃ r8 : Int32, o = .returned (some (.int r8)) ∧ XB G x h7 ∧ (XB G x h7 → Run G mX0_freed 304 32 [(0, .ref x), (1, .int a1), (2, .int a2), (3, .int (a3 ||| (r8 <<< (a4 &&& 31)))), (4, .int (a4 + 1))] [] h7 Q)))) ∧ (r6 = ((1 : Int32) <<< (a1 &&& 31)) → (Run G mX0_bit 1 0 [(0, .int (bi true))] [] h5 (fun o h9 => ∃ r10 : Int32, o = .returned (some (.int r10)) ∧ XB G x h9 ∧ (XB G x h9 → Run G mX0_freed 304 32 [(0, .ref x), (1, .int a1), (2, .int a2), (3, .int (a3 ||| (r10 <<< (a4 &&& 31)))), (4, .int (a4 + 1))] [] h9 Q))))))))))))) : Run G mX0_freed 304 32 [(0, .ref x), (1, .int a1), (2, .int a2), (3, .int a3), (4, .int a4)] [] h Q := by
  refine R_iload dX0_freed_32 4 rfl ?_
  refine R_bipush (v := 12) dX0_freed_34 (by decide) ?_
  refine R_icmp_ge (tgt := 82) dX0_freed_36 (by decide) (fun c13 => ?_) (fun c13 => ?_)
  · have w := w.1 c13
    refine R_iload_n dX0_freed_82 3 rfl ?_
    exact R_iret dX0_freed_83 rfl w
  · have w := w.2 c13
    refine R_iload_n dX0_freed_39 3 rfl ?_
    refine R_aload_n dX0_freed_40 0 rfl ?_
    refine R_iload dX0_freed_41 4 rfl ?_
    refine R_iload_n dX0_freed_43 2 rfl ?_
    refine R_invV (Mc := mX0_isFamed) (b := x) (As := [.int a4, .int a2]) (st := [.int a3]) ok0 (by decide) B.1 dX0_freed_44 q673 q675 qs27 q103 wX0_isFamed pX0_isFamed rfl (Nat.le_of_ble_eq_true rfl) (by decide) (by decide) (Nat.le_of_ble_eq_true rfl) (aft_z w (fun b2 h1 w => ?_))
    obtain ⟨Bh1, w⟩ := w
    refine R_ifz_ne (tgt := 67) dX0_freed_47 (by decide) (fun c12 => ?_) (fun c12 => ?_)
    · have w := w.1 c12
      refine R_iconst (v := 0) dX0_freed_67 (by decide) ?_
      refine R_invS (Mc := mX0_bit) (As := [.int (bi false)]) (st := [.int a3]) dX0_freed_68 q505 q506 q103 wX0_bit pX0_bit rfl (Nat.le_of_ble_eq_true rfl) (by decide) (by decide) (Nat.le_of_ble_eq_true rfl) (aft_i w (fun r4 h3 w => ?_))
      obtain ⟨Bh3, w⟩ := w
      refine R_iload dX0_freed_71 4 rfl ?_
      refine R_ishl dX0_freed_73 ?_
      refine R_ior dX0_freed_74 ?_
      refine R_istore_n (lv' := [(3, .int (a3 ||| (r4 <<< (a4 &&& 31)))), (0, .ref x), (1, .int a1), (2, .int a2), (4, .int a4)]) dX0_freed_75 rfl (by decide) rfl ?_
      refine R_iinc (v := (a4 + 1)) (lv' := [(4, .int (a4 + 1)), (3, .int (a3 ||| (r4 <<< (a4 &&& 31)))), (0, .ref x), (1, .int a1), (2, .int a2)]) dX0_freed_76 4 rfl (congrArg (fun z => a4 + z) (show Int32.ofInt 1 = 1 by decide)) (by decide) rfl ?_
      refine R_goto (tgt := 32) dX0_freed_79 (by decide) ?_
      exact R_sub [2, 3, 4, 1, 0] rfl (w Bh3)
    · have w := w.2 c12
      refine R_aload_n dX0_freed_50 0 rfl ?_
      refine R_iload dX0_freed_51 4 rfl ?_
      refine R_iload_n dX0_freed_53 2 rfl ?_
      refine R_invV (Mc := mX0_holders) (b := x) (As := [.int a4, .int a2]) (st := [.int a3]) ok0 (by decide) Bh1.1 dX0_freed_54 q677 q679 qs28 q103 wX0_holders pX0_holders rfl (Nat.le_of_ble_eq_true rfl) (by decide) (by decide) (Nat.le_of_ble_eq_true rfl) (aft_i w (fun r6 h5 w => ?_))
      obtain ⟨Bh5, w⟩ := w
      refine R_iconst (v := 1) dX0_freed_57 (by decide) ?_
      refine R_iload_n dX0_freed_58 1 rfl ?_
      refine R_ishl dX0_freed_59 ?_
      refine R_icmp_ne (tgt := 67) dX0_freed_60 (by decide) (fun c11 => ?_) (fun c11 => ?_)
      · have w := w.1 c11
        refine R_iconst (v := 0) dX0_freed_67 (by decide) ?_
        refine R_invS (Mc := mX0_bit) (As := [.int (bi false)]) (st := [.int a3]) dX0_freed_68 q505 q506 q103 wX0_bit pX0_bit rfl (Nat.le_of_ble_eq_true rfl) (by decide) (by decide) (Nat.le_of_ble_eq_true rfl) (aft_i w (fun r8 h7 w => ?_))
        obtain ⟨Bh7, w⟩ := w
        refine R_iload dX0_freed_71 4 rfl ?_
        refine R_ishl dX0_freed_73 ?_
        refine R_ior dX0_freed_74 ?_
        refine R_istore_n (lv' := [(3, .int (a3 ||| (r8 <<< (a4 &&& 31)))), (0, .ref x), (1, .int a1), (2, .int a2), (4, .int a4)]) dX0_freed_75 rfl (by decide) rfl ?_
        refine R_iinc (v := (a4 + 1)) (lv' := [(4, .int (a4 + 1)), (3, .int (a3 ||| (r8 <<< (a4 &&& 31)))), (0, .ref x), (1, .int a1), (2, .int a2)]) dX0_freed_76 4 rfl (congrArg (fun z => a4 + z) (show Int32.ofInt 1 = 1 by decide)) (by decide) rfl ?_
        refine R_goto (tgt := 32) dX0_freed_79 (by decide) ?_
        exact R_sub [2, 3, 4, 1, 0] rfl (w Bh7)
      · have w := w.2 c11
        refine R_iconst (v := 1) dX0_freed_63 (by decide) ?_
        refine R_goto (tgt := 68) dX0_freed_64 (by decide) ?_
        refine R_invS (Mc := mX0_bit) (As := [.int (bi true)]) (st := [.int a3]) dX0_freed_68 q505 q506 q103 wX0_bit pX0_bit rfl (Nat.le_of_ble_eq_true rfl) (by decide) (by decide) (Nat.le_of_ble_eq_true rfl) (aft_i w (fun r10 h9 w => ?_))
        obtain ⟨Bh9, w⟩ := w
        refine R_iload dX0_freed_71 4 rfl ?_
        refine R_ishl dX0_freed_73 ?_
        refine R_ior dX0_freed_74 ?_
        refine R_istore_n (lv' := [(3, .int (a3 ||| (r10 <<< (a4 &&& 31)))), (0, .ref x), (1, .int a1), (2, .int a2), (4, .int a4)]) dX0_freed_75 rfl (by decide) rfl ?_
        refine R_iinc (v := (a4 + 1)) (lv' := [(4, .int (a4 + 1)), (3, .int (a3 ||| (r10 <<< (a4 &&& 31)))), (0, .ref x), (1, .int a1), (2, .int a2)]) dX0_freed_76 4 rfl (congrArg (fun z => a4 + z) (show Int32.ofInt 1 = 1 by decide)) (by decide) rfl ?_
        refine R_goto (tgt := 32) dX0_freed_79 (by decide) ?_
        exact R_sub [2, 3, 4, 1, 0] rfl (w Bh9)
theorem sX0_give_0 {G : GG} {x : Nat} {h : AH} {Q : Outcome → AH → Prop} {a1 : Int32} {a2 : Int32} (B : XB G x h) (w : Run G mX0_isPerson 2 0 [(0, .ref x), (1, .int a1)] [] h (fun o h1 => ∃ b2 : Bool, o = .returned (some (.int (bi b2))) ∧ XB G x h1 ∧ ((b2 = false → (Q (.returned (some (.int (-1)))) h1)) ∧ (b2 = true → (Run G mX0_isWay 2 0 [(0, .int a2)] [] h1 (fun o h3 => ∃ b4 : Bool, o = .returned (some (.int (bi b4))) ∧ XB G x h3 ∧ ((b4 = true → (vp_in a1 12 ∧ ∃ q6 : Nat, (aR h3 (x + 4) a1.toNatClampNeg) = some q6 ∧ (IsK G h3 q6 (6, 0) ∧ (((aI h3 386 q6) = (-1) → (Run G mX0_asAheadOf 2 0 [(0, .ref x), (1, .int a1)] [] h3 (fun o h9 => o = .returned none ∧ XB G x h9 ∧ (vp_in a1 12 ∧ ∃ q11 : Nat, (aR h9 (x + 4) a1.toNatClampNeg) = some q11 ∧ (IsK G h9 q11 (6, 0) ∧ (Run G mX0_givenIn 307 0 [(0, .ref x), (1, .int (aI h9 384 q11)), (2, .int a2)] [] h9 (fun o h14 => ∃ r15 : Int32, o = .returned (some (.int r15)) ∧ XB G x h14 ∧ ((r15 = (-2) → (Q (.returned (some (.int r15))) h14)) ∧ (¬ r15 = (-2) → (vp_in a1 12 ∧ ∃ q17 : Nat, (aR h14 (x + 4) a1.toNatClampNeg) = some q17 ∧ (IsK G h14 q17 (6, 0) ∧ (Q (.returned (some (.int r15))) (sI h14 386 q17 r15))))))))))))) ∧ (¬ (aI h3 386 q6) = (-1) → (Q (.returned (some (.int (-5)))) h3)))))) ∧ (b4 = false → (Q (.returned (some (.int (-1)))) h3))))))))) : Run G mX0_give 308 0 [(0, .ref x), (1, .int a1), (2, .int a2)] [] h Q := by
  refine R_aload_n dX0_give_0 0 rfl ?_
  refine R_iload_n dX0_give_1 1 rfl ?_
  refine R_invV (Mc := mX0_isPerson) (b := x) (As := [.int a1]) (st := []) ok0 (by decide) B.1 dX0_give_2 q436 q438 qs3 q103 wX0_isPerson pX0_isPerson rfl (Nat.le_of_ble_eq_true rfl) (by decide) (by decide) (Nat.le_of_ble_eq_true rfl) (aft_z w (fun b2 h1 w => ?_))
  obtain ⟨Bh1, w⟩ := w
  refine R_ifz_eq (tgt := 15) dX0_give_5 (by decide) (fun c23 => ?_) (fun c23 => ?_)
  · have w := w.1 c23
    refine R_iconst (v := (-1)) dX0_give_15 (by decide) ?_
    exact R_iret dX0_give_16 rfl w
  · have w := w.2 c23
    refine R_iload_n dX0_give_8 2 rfl ?_
    refine R_invS (Mc := mX0_isWay) (As := [.int a2]) (st := []) dX0_give_9 q742 q743 q103 wX0_isWay pX0_isWay rfl (Nat.le_of_ble_eq_true rfl) (by decide) (by decide) (Nat.le_of_ble_eq_true rfl) (aft_z w (fun b4 h3 w => ?_))
    obtain ⟨Bh3, w⟩ := w
    refine R_ifz_ne (tgt := 17) dX0_give_12 (by decide) (fun c22 => ?_) (fun c22 => ?_)
    · have w := w.1 c22
      refine R_aload_n dX0_give_17 0 rfl ?_
      refine X_getA (k := 7) (o := 4) (j := 107) (n := 12) Bh3 dX0_give_18 q271 (by decide) rfl rfl ?_
      refine R_iload_n dX0_give_21 1 rfl ?_
      obtain ⟨c5, q6, e7, w⟩ := w
      refine X_aald (k := 7) (j := 7) (E := "NameRests$Person") Bh3 dX0_give_22 rfl (by decide) (by decide) rfl c5 ?_
      refine R_top (v' := .ref q6) (congrArg va_rf e7) ?_
      obtain ⟨k8, w⟩ := w
      refine R_getIN (k := 2) (f := 386) ok6 dX0_give_23 q393 (by decide) rfl (by decide) k8 ?_
      refine R_iconst (v := (-1)) dX0_give_26 (by decide) ?_
      refine R_icmp_eq (tgt := 33) dX0_give_27 (by decide) (fun c21 => ?_) (fun c21 => ?_)
      · have w := w.1 c21
        refine R_aload_n dX0_give_33 0 rfl ?_
        refine R_iload_n dX0_give_34 1 rfl ?_
        refine R_invV (Mc := mX0_asAheadOf) (b := x) (As := [.int a1]) (st := []) ok0 (by decide) Bh3.1 dX0_give_35 q745 q747 qs34 q103 wX0_asAheadOf pX0_asAheadOf rfl (Nat.le_of_ble_eq_true rfl) (by decide) (by decide) (Nat.le_of_ble_eq_true rfl) (aft_v w (fun h9 w => ?_))
        obtain ⟨Bh9, w⟩ := w
        refine R_aload_n dX0_give_38 0 rfl ?_
        refine R_aload_n dX0_give_39 0 rfl ?_
        refine X_getA (k := 7) (o := 4) (j := 107) (n := 12) Bh9 dX0_give_40 q271 (by decide) rfl rfl ?_
        refine R_iload_n dX0_give_43 1 rfl ?_
        obtain ⟨c10, q11, e12, w⟩ := w
        refine X_aald (k := 7) (j := 7) (E := "NameRests$Person") Bh9 dX0_give_44 rfl (by decide) (by decide) rfl c10 ?_
        refine R_top (v' := .ref q11) (congrArg va_rf e12) ?_
        obtain ⟨k13, w⟩ := w
        refine R_getIN (k := 0) (f := 384) ok6 dX0_give_45 q389 (by decide) rfl (by decide) k13 ?_
        refine R_iload_n dX0_give_48 2 rfl ?_
        refine R_invV (Mc := mX0_givenIn) (b := x) (As := [.int (aI h9 384 q11), .int a2]) (st := []) ok0 (by decide) Bh9.1 dX0_give_49 q749 q751 qs35 q103 wX0_givenIn pX0_givenIn rfl (Nat.le_of_ble_eq_true rfl) (by decide) (by decide) (Nat.le_of_ble_eq_true rfl) (aft_i w (fun r15 h14 w => ?_))
        obtain ⟨Bh14, w⟩ := w
        refine R_istore_n (lv' := [(3, .int r15), (0, .ref x), (1, .int a1), (2, .int a2)]) dX0_give_52 rfl (by decide) rfl ?_
        refine R_iload_n dX0_give_53 0 rfl ?_
        refine R_bipush (v := (-2)) dX0_give_54 (by decide) ?_
        refine R_icmp_eq (tgt := 69) dX0_give_56 (by decide) (fun c20 => ?_) (fun c20 => ?_)
        · have w := w.1 c20
          refine R_iload_n dX0_give_69 0 rfl ?_
          exact R_iret dX0_give_70 rfl w
        · have w := w.2 c20
          refine R_aload_n dX0_give_59 1 rfl ?_
          refine X_getA (k := 7) (o := 4) (j := 107) (n := 12) Bh14 dX0_give_60 q271 (by decide) rfl rfl ?_
          refine R_iload_n dX0_give_63 2 rfl ?_
          obtain ⟨c16, q17, e18, w⟩ := w
          refine X_aald (k := 7) (j := 7) (E := "NameRests$Person") Bh14 dX0_give_64 rfl (by decide) (by decide) rfl c16 ?_
          refine R_top (v' := .ref q17) (congrArg va_rf e18) ?_
          refine R_iload_n dX0_give_65 0 rfl ?_
          obtain ⟨k19, w⟩ := w
          refine R_putIN (k := 2) (f := 386) ok6 dX0_give_66 q393 (by decide) rfl rfl rfl rfl rfl (by decide) k19 ?_
          refine R_iload_n dX0_give_69 0 rfl ?_
          exact R_iret dX0_give_70 rfl w
      · have w := w.2 c21
        refine R_bipush (v := (-5)) dX0_give_30 (by decide) ?_
        exact R_iret dX0_give_32 rfl w
    · have w := w.2 c22
      refine R_iconst (v := (-1)) dX0_give_15 (by decide) ?_
      exact R_iret dX0_give_16 rfl w

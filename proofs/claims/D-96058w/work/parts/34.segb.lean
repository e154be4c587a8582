/-! LAYER 2: segments of the Body family, act, taken (printed by gen34.py) -/
set_option maxRecDepth 100000
theorem sX14_begins_0 {G : GG} {x : Nat} {h : AH} {Q : Outcome → AH → Prop} {a0 : Nat} {a1 : Int32} {d d' : Nat} (hdd : d' + 1 ≤ d) (h9 : 20 ≤ d) (B : XB G x h) (w : IsB14 G h a0 ∧ ((aP h 897 a0) = some x ∧ ((24 ≤ (aI h 29 x) → ((aP h 897 a0) = some x ∧ (Q (.returned none) (sI h 29 x ((aI h 29 x) + 1))))) ∧ (¬ 24 ≤ (aI h 29 x) → ((aP h 897 a0) = some x ∧ ((aP h 897 a0) = some x ∧ (vp_in (aI h 29 x) 24 ∧ ((aP (sA h (x + 17) (aI h 29 x).toNatClampNeg a1) 897 a0) = some x ∧ (Q (.returned none) (sI (sA h (x + 17) (aI h 29 x).toNatClampNeg a1) 29 x ((aI (sA h (x + 17) (aI h 29 x).toNatClampNeg a1) 29 x) + 1))))))))))) : Run G mX14_begins d 0 [(0, .ref a0), (1, .int a1)] [] h Q := by
  refine R_aload_n dX14_begins_0 0 rfl ?_
  obtain ⟨k1, w⟩ := w
  obtain ⟨e2, w⟩ := w
  refine RB14_1_get dX14_begins_1 q826 k1 ?_
  refine R_top (v' := .ref x) (congrArg va_rf e2) ?_
  refine R_getIN (k := 29) (f := 29) ok0 dX14_begins_4 q295 (by decide) rfl (by decide) B.1 ?_
  refine R_bipush (v := 24) dX14_begins_7 (by decide) ?_
  refine R_icmp_ge (tgt := 28) dX14_begins_9 (by decide) (fun c8 => ?_) (fun c8 => ?_)
  · have w := w.1 c8
    refine R_aload_n dX14_begins_28 0 rfl ?_
    obtain ⟨e3, w⟩ := w
    refine RB14_1_get dX14_begins_29 q826 k1 ?_
    refine R_top (v' := .ref x) (congrArg va_rf e3) ?_
    refine R_dup dX14_begins_32 rfl ?_
    refine R_getIN (k := 29) (f := 29) ok0 dX14_begins_33 q295 (by decide) rfl (by decide) B.1 ?_
    refine R_iconst (v := 1) dX14_begins_36 (by decide) ?_
    refine R_iadd dX14_begins_37 ?_
    refine R_putIN (k := 29) (f := 29) ok0 dX14_begins_38 q295 (by decide) rfl rfl rfl rfl rfl (by decide) B.1 ?_
    exact R_vret dX14_begins_41 rfl w
  · have w := w.2 c8
    refine R_aload_n dX14_begins_12 0 rfl ?_
    obtain ⟨e4, w⟩ := w
    refine RB14_1_get dX14_begins_13 q826 k1 ?_
    refine R_top (v' := .ref x) (congrArg va_rf e4) ?_
    refine R_getPN (k := 28) (f := 28) ok0 dX14_begins_16 q293 (by decide) rfl (by decide) B.1 ?_
    refine R_top (v' := .ref (x + 17)) (congrArg va_rf (B.2 28 _ rfl).1) ?_
    refine R_aload_n dX14_begins_19 0 rfl ?_
    obtain ⟨e5, w⟩ := w
    refine RB14_1_get dX14_begins_20 q826 k1 ?_
    refine R_top (v' := .ref x) (congrArg va_rf e5) ?_
    refine R_getIN (k := 29) (f := 29) ok0 dX14_begins_23 q295 (by decide) rfl (by decide) B.1 ?_
    refine R_iload_n dX14_begins_26 1 rfl ?_
    obtain ⟨c7, w⟩ := w
    refine X_iast (k := 28) B dX14_begins_27 rfl c7 ?_
    refine R_aload_n dX14_begins_28 0 rfl ?_
    obtain ⟨e6, w⟩ := w
    refine RB14_1_get dX14_begins_29 q826 k1 ?_
    refine R_top (v' := .ref x) (congrArg va_rf e6) ?_
    refine R_dup dX14_begins_32 rfl ?_
    refine R_getIN (k := 29) (f := 29) ok0 dX14_begins_33 q295 (by decide) rfl (by decide) B.A.1 ?_
    refine R_iconst (v := 1) dX14_begins_36 (by decide) ?_
    refine R_iadd dX14_begins_37 ?_
    refine R_putIN (k := 29) (f := 29) ok0 dX14_begins_38 q295 (by decide) rfl rfl rfl rfl rfl (by decide) B.A.1 ?_
    exact R_vret dX14_begins_41 rfl w
theorem sX14_holds_0 {G : GG} {x : Nat} {h : AH} {Q : Outcome → AH → Prop} {a0 : Nat} {a1 : Int32} {d d' : Nat} (hdd : d' + 1 ≤ d) (h9 : 20 ≤ d) (B : XB G x h) (w : CV14_begins G d' h a0 10 (fun o h1 => o = .returned none ∧ XB G x h1 ∧ (CV14_gives G d' h1 a0 a1 (fun o h2 => ∃ r3 : Int32, o = .returned (some (.int r3)) ∧ XB G x h2 ∧ (Q (.returned (some (.int (r3 * 2)))) h2))))) : Run G mX14_holds d 0 [(0, .ref a0), (1, .int a1)] [] h Q := by
  refine R_aload_n dX14_holds_0 0 rfl ?_
  refine R_bipush (v := 10) dX14_holds_1 (by decide) ?_
  refine RX14_CV14_begins dX14_holds_3 q1043 hdd (Nat.le_of_ble_eq_true rfl) w (fun h1 w => ?_)
  obtain ⟨Bh1, w⟩ := w
  refine R_aload_n dX14_holds_6 0 rfl ?_
  refine R_iload_n dX14_holds_7 1 rfl ?_
  refine RX14_CV14_gives dX14_holds_8 (List.mem_of_getElem? (i := 4) rfl) hdd (Nat.le_of_ble_eq_true rfl) w (fun r3 h2 w => ?_)
  obtain ⟨Bh2, w⟩ := w
  refine R_iconst (v := 2) dX14_holds_11 (by decide) ?_
  refine R_imul dX14_holds_12 ?_
  exact R_iret dX14_holds_13 rfl w
theorem sX14_init_0 {G : GG} {x : Nat} {h : AH} {Q : Outcome → AH → Prop} {a0 : Nat} {a2 : Int32} (B : XB G x h) (w : IsB14 G h a0 ∧ (Q (.returned none) (sI (sP h 897 a0 (some x)) 896 a0 a2))) : Run G mX14_init 2 0 [(0, .ref a0), (1, .ref x), (2, .int a2)] [] h Q := by
  refine R_aload_n dX14_init_0 0 rfl ?_
  refine R_aload_n dX14_init_1 1 rfl ?_
  obtain ⟨k1, w⟩ := w
  refine R_top (v' := va_rf (some x)) rfl ?_
  refine RB14_1_put dX14_init_2 q826 rfl rfl k1 ?_
  refine R_aload_n dX14_init_5 0 rfl ?_
  refine R_objInit dX14_init_6 q823 q144 q145 (by decide) (Nat.le_of_ble_eq_true rfl) ?_
  refine R_aload_n dX14_init_9 0 rfl ?_
  refine R_iload_n dX14_init_10 2 rfl ?_
  refine RB14_0_put dX14_init_11 q825 rfl rfl k1 ?_
  exact R_vret dX14_init_14 rfl w
theorem sX14_isUnder_0 {G : GG} {x : Nat} {h : AH} {Q : Outcome → AH → Prop} {a0 : Nat} {a1 : Int32} {d d' : Nat} (hdd : d' + 1 ≤ d) (h9 : 20 ≤ d) (B : XB G x h) (w : (¬ a1 = 0 → (Q (.returned (some (.int (bi false)))) h)) ∧ (a1 = 0 → (Q (.returned (some (.int (bi true)))) h))) : Run G mX14_isUnder d 0 [(0, .ref a0), (1, .int a1)] [] h Q := by
  refine R_iload_n dX14_isUnder_0 1 rfl ?_
  refine R_if_ne (tgt := 8) dX14_isUnder_1 (by decide) (fun c1 => ?_) (fun c1 => ?_)
  · have w := w.1 c1
    refine R_iconst (v := 0) dX14_isUnder_8 (by decide) ?_
    exact R_bret (b := false) dX14_isUnder_9 rfl w
  · have w := w.2 c1
    refine R_iconst (v := 1) dX14_isUnder_4 (by decide) ?_
    refine R_goto (tgt := 9) dX14_isUnder_5 (by decide) ?_
    exact R_bret (b := true) dX14_isUnder_9 rfl w
theorem sX14_kind_0 {G : GG} {x : Nat} {h : AH} {Q : Outcome → AH → Prop} {a0 : Nat} {d d' : Nat} (hdd : d' + 1 ≤ d) (h9 : 20 ≤ d) (B : XB G x h) (w : Q (.returned (some (.int 0))) h) : Run G mX14_kind d 0 [(0, .ref a0)] [] h Q := by
  refine R_iconst (v := 0) dX14_kind_0 (by decide) ?_
  exact R_iret dX14_kind_1 rfl w
theorem sX14_knows_0 {G : GG} {x : Nat} {h : AH} {Q : Outcome → AH → Prop} {a0 : Nat} {a1 : Int32} {d d' : Nat} (hdd : d' + 1 ≤ d) (h9 : 20 ≤ d) (B : XB G x h) (w : CV14_begins G d' h a0 11 (fun o h1 => o = .returned none ∧ XB G x h1 ∧ (IsB14 G h1 a0 ∧ (Q (.returned (some (.int (a1 ^^^ (aI h1 896 a0))))) h1)))) : Run G mX14_knows d 0 [(0, .ref a0), (1, .int a1)] [] h Q := by
  refine R_aload_n dX14_knows_0 0 rfl ?_
  refine R_bipush (v := 11) dX14_knows_1 (by decide) ?_
  refine RX14_CV14_begins dX14_knows_3 q1043 hdd (Nat.le_of_ble_eq_true rfl) w (fun h1 w => ?_)
  obtain ⟨Bh1, w⟩ := w
  refine R_iload_n dX14_knows_6 1 rfl ?_
  refine R_aload_n dX14_knows_7 0 rfl ?_
  obtain ⟨k2, w⟩ := w
  refine RB14_0_get dX14_knows_8 q825 k2 ?_
  refine R_ixor dX14_knows_11 ?_
  exact R_iret dX14_knows_12 rfl w
theorem sX14_number_0 {G : GG} {x : Nat} {h : AH} {Q : Outcome → AH → Prop} {a0 : Nat} {d d' : Nat} (hdd : d' + 1 ≤ d) (h9 : 20 ≤ d) (B : XB G x h) (w : IsB14 G h a0 ∧ (Q (.returned (some (.int (aI h 896 a0)))) h)) : Run G mX14_number d 0 [(0, .ref a0)] [] h Q := by
  refine R_aload_n dX14_number_0 0 rfl ?_
  obtain ⟨k1, w⟩ := w
  refine RB14_0_get dX14_number_1 q825 k1 ?_
  exact R_iret dX14_number_4 rfl w
theorem sX15_gives_0 {G : GG} {x : Nat} {h : AH} {Q : Outcome → AH → Prop} {a0 : Nat} {a1 : Int32} {d d' : Nat} (hdd : d' + 1 ≤ d) (h9 : 20 ≤ d) (B : XB G x h) (w : CV15_begins G d' h a0 20 (fun o h1 => o = .returned none ∧ XB G x h1 ∧ (IsB15 G h1 a0 ∧ (Run G mX22_gives d' 0 [(0, .ref a0), (1, .int a1)] [] h1 (fun o h2 => ∃ r3 : Int32, o = .returned (some (.int r3)) ∧ XB G x h2 ∧ (Q (.returned (some (.int (r3 + 3)))) h2)))))) : Run G mX15_gives d 0 [(0, .ref a0), (1, .int a1)] [] h Q := by
  refine R_aload_n dX15_gives_0 0 rfl ?_
  refine R_bipush (v := 20) dX15_gives_1 (by decide) ?_
  refine RX15_CV15_begins dX15_gives_3 q929 hdd (Nat.le_of_ble_eq_true rfl) w (fun h1 w => ?_)
  obtain ⟨Bh1, w⟩ := w
  refine R_aload_n dX15_gives_6 0 rfl ?_
  refine R_iload_n dX15_gives_7 1 rfl ?_
  obtain ⟨k4, w⟩ := w
  refine RS15_23 rfl dX15_gives_8 k4 hdd (Nat.le_of_ble_eq_true rfl) w (fun r3 h2 w => ?_)
  obtain ⟨Bh2, w⟩ := w
  refine R_iconst (v := 3) dX15_gives_11 (by decide) ?_
  refine R_iadd dX15_gives_12 ?_
  exact R_iret dX15_gives_13 rfl w
theorem sX15_init_0 {G : GG} {x : Nat} {h : AH} {Q : Outcome → AH → Prop} {a0 : Nat} {a2 : Int32} (B : XB G x h) (w : IsB15 G h a0 ∧ (Run G mX14_init 2 0 [(0, .ref a0), (1, .ref x), (2, .int a2)] [] (sP h 898 a0 (some x)) (fun o h2 => o = .returned none ∧ XB G x h2 ∧ (Q (.returned none) h2)))) : Run G mX15_init 3 0 [(0, .ref a0), (1, .ref x), (2, .int a2)] [] h Q := by
  refine R_aload_n dX15_init_0 0 rfl ?_
  refine R_aload_n dX15_init_1 1 rfl ?_
  obtain ⟨k1, w⟩ := w
  refine R_top (v' := va_rf (some x)) rfl ?_
  refine RB15_2_put dX15_init_2 q824 rfl rfl k1 ?_
  refine R_aload_n dX15_init_5 0 rfl ?_
  refine R_aload_n dX15_init_6 1 rfl ?_
  refine R_iload_n dX15_init_7 2 rfl ?_
  refine R_invI (Mc := mX14_init) (b := a0) (As := [.ref x, .int a2]) (st := []) dX15_init_8 q820 q821 q121 rfl q822 rfl pX14_init rfl (Nat.le_of_ble_eq_true rfl) (by decide) (by decide) (Nat.le_of_ble_eq_true rfl) (aft_v w (fun h2 w => ?_))
  obtain ⟨Bh2, w⟩ := w
  exact R_vret dX15_init_11 rfl w
theorem sX15_isUnder_0 {G : GG} {x : Nat} {h : AH} {Q : Outcome → AH → Prop} {a0 : Nat} {a1 : Int32} {d d' : Nat} (hdd : d' + 1 ≤ d) (h9 : 20 ≤ d) (B : XB G x h) (w : (a1 = 1 → (Q (.returned (some (.int (bi true)))) h)) ∧ (¬ a1 = 1 → (IsB15 G h a0 ∧ (Run G mX14_isUnder d' 0 [(0, .ref a0), (1, .int a1)] [] h (fun o h1 => ∃ b2 : Bool, o = .returned (some (.int (bi b2))) ∧ XB G x h1 ∧ ((b2 = false → (Q (.returned (some (.int (bi false)))) h1)) ∧ (b2 = true → (Q (.returned (some (.int (bi true)))) h1)))))))) : Run G mX15_isUnder d 0 [(0, .ref a0), (1, .int a1)] [] h Q := by
  refine R_iload_n dX15_isUnder_0 1 rfl ?_
  refine R_iconst (v := 1) dX15_isUnder_1 (by decide) ?_
  refine R_icmp_eq (tgt := 13) dX15_isUnder_2 (by decide) (fun c5 => ?_) (fun c5 => ?_)
  · have w := w.1 c5
    refine R_iconst (v := 1) dX15_isUnder_13 (by decide) ?_
    refine R_goto (tgt := 18) dX15_isUnder_14 (by decide) ?_
    exact R_bret (b := true) dX15_isUnder_18 rfl w
  · have w := w.2 c5
    refine R_aload_n dX15_isUnder_5 0 rfl ?_
    refine R_iload_n dX15_isUnder_6 1 rfl ?_
    obtain ⟨k4, w⟩ := w
    refine RS15_15 rfl dX15_isUnder_7 k4 hdd (Nat.le_of_ble_eq_true rfl) w (fun b2 h1 w => ?_)
    obtain ⟨Bh1, w⟩ := w
    refine R_ifz_eq (tgt := 17) dX15_isUnder_10 (by decide) (fun c3 => ?_) (fun c3 => ?_)
    · have w := w.1 c3
      refine R_iconst (v := 0) dX15_isUnder_17 (by decide) ?_
      exact R_bret (b := false) dX15_isUnder_18 rfl w
    · have w := w.2 c3
      refine R_iconst (v := 1) dX15_isUnder_13 (by decide) ?_
      refine R_goto (tgt := 18) dX15_isUnder_14 (by decide) ?_
      exact R_bret (b := true) dX15_isUnder_18 rfl w
theorem sX15_kind_0 {G : GG} {x : Nat} {h : AH} {Q : Outcome → AH → Prop} {a0 : Nat} {d d' : Nat} (hdd : d' + 1 ≤ d) (h9 : 20 ≤ d) (B : XB G x h) (w : Q (.returned (some (.int 1))) h) : Run G mX15_kind d 0 [(0, .ref a0)] [] h Q := by
  refine R_iconst (v := 1) dX15_kind_0 (by decide) ?_
  exact R_iret dX15_kind_1 rfl w
theorem sX16_holds_0 {G : GG} {x : Nat} {h : AH} {Q : Outcome → AH → Prop} {a0 : Nat} {a1 : Int32} {d d' : Nat} (hdd : d' + 1 ≤ d) (h9 : 20 ≤ d) (B : XB G x h) (w : CV16_begins G d' h a0 30 (fun o h1 => o = .returned none ∧ XB G x h1 ∧ (IsB16 G h1 a0 ∧ (Run G mX14_holds d' 0 [(0, .ref a0), (1, .int a1)] [] h1 (fun o h2 => ∃ r3 : Int32, o = .returned (some (.int r3)) ∧ XB G x h2 ∧ (Q (.returned (some (.int (-r3)))) h2)))))) : Run G mX16_holds d 0 [(0, .ref a0), (1, .int a1)] [] h Q := by
  refine R_aload_n dX16_holds_0 0 rfl ?_
  refine R_bipush (v := 30) dX16_holds_1 (by decide) ?_
  refine RX16_CV16_begins dX16_holds_3 q1023 hdd (Nat.le_of_ble_eq_true rfl) w (fun h1 w => ?_)
  obtain ⟨Bh1, w⟩ := w
  refine R_aload_n dX16_holds_6 0 rfl ?_
  refine R_iload_n dX16_holds_7 1 rfl ?_
  obtain ⟨k4, w⟩ := w
  refine RS16_23 rfl dX16_holds_8 k4 hdd (Nat.le_of_ble_eq_true rfl) w (fun r3 h2 w => ?_)
  obtain ⟨Bh2, w⟩ := w
  refine R_ineg dX16_holds_11 ?_
  exact R_iret dX16_holds_12 rfl w
theorem sX16_init_0 {G : GG} {x : Nat} {h : AH} {Q : Outcome → AH → Prop} {a0 : Nat} {a2 : Int32} (B : XB G x h) (w : IsB16 G h a0 ∧ (Run G mX14_init 2 0 [(0, .ref a0), (1, .ref x), (2, .int a2)] [] (sP h 898 a0 (some x)) (fun o h2 => o = .returned none ∧ XB G x h2 ∧ (Q (.returned none) h2)))) : Run G mX16_init 3 0 [(0, .ref a0), (1, .ref x), (2, .int a2)] [] h Q := by
  refine R_aload_n dX16_init_0 0 rfl ?_
  refine R_aload_n dX16_init_1 1 rfl ?_
  obtain ⟨k1, w⟩ := w
  refine R_top (v' := va_rf (some x)) rfl ?_
  refine RB16_2_put dX16_init_2 q840 rfl rfl k1 ?_
  refine R_aload_n dX16_init_5 0 rfl ?_
  refine R_aload_n dX16_init_6 1 rfl ?_
  refine R_iload_n dX16_init_7 2 rfl ?_
  refine R_invI (Mc := mX14_init) (b := a0) (As := [.ref x, .int a2]) (st := []) dX16_init_8 q839 q821 q121 rfl q822 rfl pX14_init rfl (Nat.le_of_ble_eq_true rfl) (by decide) (by decide) (Nat.le_of_ble_eq_true rfl) (aft_v w (fun h2 w => ?_))
  obtain ⟨Bh2, w⟩ := w
  exact R_vret dX16_init_11 rfl w
theorem sX16_isUnder_0 {G : GG} {x : Nat} {h : AH} {Q : Outcome → AH → Prop} {a0 : Nat} {a1 : Int32} {d d' : Nat} (hdd : d' + 1 ≤ d) (h9 : 20 ≤ d) (B : XB G x h) (w : (a1 = 2 → (Q (.returned (some (.int (bi true)))) h)) ∧ (¬ a1 = 2 → (IsB16 G h a0 ∧ (Run G mX14_isUnder d' 0 [(0, .ref a0), (1, .int a1)] [] h (fun o h1 => ∃ b2 : Bool, o = .returned (some (.int (bi b2))) ∧ XB G x h1 ∧ ((b2 = false → (Q (.returned (some (.int (bi false)))) h1)) ∧ (b2 = true → (Q (.returned (some (.int (bi true)))) h1)))))))) : Run G mX16_isUnder d 0 [(0, .ref a0), (1, .int a1)] [] h Q := by
  refine R_iload_n dX16_isUnder_0 1 rfl ?_
  refine R_iconst (v := 2) dX16_isUnder_1 (by decide) ?_
  refine R_icmp_eq (tgt := 13) dX16_isUnder_2 (by decide) (fun c5 => ?_) (fun c5 => ?_)
  · have w := w.1 c5
    refine R_iconst (v := 1) dX16_isUnder_13 (by decide) ?_
    refine R_goto (tgt := 18) dX16_isUnder_14 (by decide) ?_
    exact R_bret (b := true) dX16_isUnder_18 rfl w
  · have w := w.2 c5
    refine R_aload_n dX16_isUnder_5 0 rfl ?_
    refine R_iload_n dX16_isUnder_6 1 rfl ?_
    obtain ⟨k4, w⟩ := w
    refine RS16_15 rfl dX16_isUnder_7 k4 hdd (Nat.le_of_ble_eq_true rfl) w (fun b2 h1 w => ?_)
    obtain ⟨Bh1, w⟩ := w
    refine R_ifz_eq (tgt := 17) dX16_isUnder_10 (by decide) (fun c3 => ?_) (fun c3 => ?_)
    · have w := w.1 c3
      refine R_iconst (v := 0) dX16_isUnder_17 (by decide) ?_
      exact R_bret (b := false) dX16_isUnder_18 rfl w
    · have w := w.2 c3
      refine R_iconst (v := 1) dX16_isUnder_13 (by decide) ?_
      refine R_goto (tgt := 18) dX16_isUnder_14 (by decide) ?_
      exact R_bret (b := true) dX16_isUnder_18 rfl w
theorem sX16_kind_0 {G : GG} {x : Nat} {h : AH} {Q : Outcome → AH → Prop} {a0 : Nat} {d d' : Nat} (hdd : d' + 1 ≤ d) (h9 : 20 ≤ d) (B : XB G x h) (w : Q (.returned (some (.int 2))) h) : Run G mX16_kind d 0 [(0, .ref a0)] [] h Q := by
  refine R_iconst (v := 2) dX16_kind_0 (by decide) ?_
  exact R_iret dX16_kind_1 rfl w
theorem sX17_holds_0 {G : GG} {x : Nat} {h : AH} {Q : Outcome → AH → Prop} {a0 : Nat} {a1 : Int32} {d d' : Nat} (hdd : d' + 1 ≤ d) (h9 : 20 ≤ d) (B : XB G x h) (w : CV17_begins G d' h a0 41 (fun o h1 => o = .returned none ∧ XB G x h1 ∧ (IsB17 G h1 a0 ∧ (Run G mX16_holds d' 0 [(0, .ref a0), (1, .int (a1 + 1))] [] h1 (fun o h2 => ∃ r3 : Int32, o = .returned (some (.int r3)) ∧ XB G x h2 ∧ (Q (.returned (some (.int r3))) h2)))))) : Run G mX17_holds d 0 [(0, .ref a0), (1, .int a1)] [] h Q := by
  refine R_aload_n dX17_holds_0 0 rfl ?_
  refine R_bipush (v := 41) dX17_holds_1 (by decide) ?_
  refine RX17_CV17_begins dX17_holds_3 q1016 hdd (Nat.le_of_ble_eq_true rfl) w (fun h1 w => ?_)
  obtain ⟨Bh1, w⟩ := w
  refine R_aload_n dX17_holds_6 0 rfl ?_
  refine R_iload_n dX17_holds_7 1 rfl ?_
  refine R_iconst (v := 1) dX17_holds_8 (by decide) ?_
  refine R_iadd dX17_holds_9 ?_
  obtain ⟨k4, w⟩ := w
  refine RS17_27 rfl dX17_holds_10 k4 hdd (Nat.le_of_ble_eq_true rfl) w (fun r3 h2 w => ?_)
  obtain ⟨Bh2, w⟩ := w
  exact R_iret dX17_holds_13 rfl w
theorem sX17_init_0 {G : GG} {x : Nat} {h : AH} {Q : Outcome → AH → Prop} {a0 : Nat} {a2 : Int32} (B : XB G x h) (w : IsB17 G h a0 ∧ (Run G mX16_init 3 0 [(0, .ref a0), (1, .ref x), (2, .int a2)] [] (sP h 899 a0 (some x)) (fun o h2 => o = .returned none ∧ XB G x h2 ∧ (Q (.returned none) h2)))) : Run G mX17_init 4 0 [(0, .ref a0), (1, .ref x), (2, .int a2)] [] h Q := by
  refine R_aload_n dX17_init_0 0 rfl ?_
  refine R_aload_n dX17_init_1 1 rfl ?_
  obtain ⟨k1, w⟩ := w
  refine R_top (v' := va_rf (some x)) rfl ?_
  refine RB17_3_put dX17_init_2 q852 rfl rfl k1 ?_
  refine R_aload_n dX17_init_5 0 rfl ?_
  refine R_aload_n dX17_init_6 1 rfl ?_
  refine R_iload_n dX17_init_7 2 rfl ?_
  refine R_invI (Mc := mX16_init) (b := a0) (As := [.ref x, .int a2]) (st := []) dX17_init_8 q851 q837 q123 rfl q838 rfl pX16_init rfl (Nat.le_of_ble_eq_true rfl) (by decide) (by decide) (Nat.le_of_ble_eq_true rfl) (aft_v w (fun h2 w => ?_))
  obtain ⟨Bh2, w⟩ := w
  exact R_vret dX17_init_11 rfl w
theorem sX17_isUnder_0 {G : GG} {x : Nat} {h : AH} {Q : Outcome → AH → Prop} {a0 : Nat} {a1 : Int32} {d d' : Nat} (hdd : d' + 1 ≤ d) (h9 : 20 ≤ d) (B : XB G x h) (w : (a1 = 3 → (Q (.returned (some (.int (bi true)))) h)) ∧ (¬ a1 = 3 → (IsB17 G h a0 ∧ (Run G mX16_isUnder d' 0 [(0, .ref a0), (1, .int a1)] [] h (fun o h1 => ∃ b2 : Bool, o = .returned (some (.int (bi b2))) ∧ XB G x h1 ∧ ((b2 = false → (Q (.returned (some (.int (bi false)))) h1)) ∧ (b2 = true → (Q (.returned (some (.int (bi true)))) h1)))))))) : Run G mX17_isUnder d 0 [(0, .ref a0), (1, .int a1)] [] h Q := by
  refine R_iload_n dX17_isUnder_0 1 rfl ?_
  refine R_iconst (v := 3) dX17_isUnder_1 (by decide) ?_
  refine R_icmp_eq (tgt := 13) dX17_isUnder_2 (by decide) (fun c5 => ?_) (fun c5 => ?_)
  · have w := w.1 c5
    refine R_iconst (v := 1) dX17_isUnder_13 (by decide) ?_
    refine R_goto (tgt := 18) dX17_isUnder_14 (by decide) ?_
    exact R_bret (b := true) dX17_isUnder_18 rfl w
  · have w := w.2 c5
    refine R_aload_n dX17_isUnder_5 0 rfl ?_
    refine R_iload_n dX17_isUnder_6 1 rfl ?_
    obtain ⟨k4, w⟩ := w
    refine RS17_15 rfl dX17_isUnder_7 k4 hdd (Nat.le_of_ble_eq_true rfl) w (fun b2 h1 w => ?_)
    obtain ⟨Bh1, w⟩ := w
    refine R_ifz_eq (tgt := 17) dX17_isUnder_10 (by decide) (fun c3 => ?_) (fun c3 => ?_)
    · have w := w.1 c3
      refine R_iconst (v := 0) dX17_isUnder_17 (by decide) ?_
      exact R_bret (b := false) dX17_isUnder_18 rfl w
    · have w := w.2 c3
      refine R_iconst (v := 1) dX17_isUnder_13 (by decide) ?_
      refine R_goto (tgt := 18) dX17_isUnder_14 (by decide) ?_
      exact R_bret (b := true) dX17_isUnder_18 rfl w
theorem sX17_kind_0 {G : GG} {x : Nat} {h : AH} {Q : Outcome → AH → Prop} {a0 : Nat} {d d' : Nat} (hdd : d' + 1 ≤ d) (h9 : 20 ≤ d) (B : XB G x h) (w : Q (.returned (some (.int 3))) h) : Run G mX17_kind d 0 [(0, .ref a0)] [] h Q := by
  refine R_iconst (v := 3) dX17_kind_0 (by decide) ?_
  exact R_iret dX17_kind_1 rfl w
theorem sX17_knows_0 {G : GG} {x : Nat} {h : AH} {Q : Outcome → AH → Prop} {a0 : Nat} {a1 : Int32} {d d' : Nat} (hdd : d' + 1 ≤ d) (h9 : 20 ≤ d) (B : XB G x h) (w : CV17_begins G d' h a0 40 (fun o h1 => o = .returned none ∧ XB G x h1 ∧ (IsB17 G h1 a0 ∧ (Run G mX14_knows d' 0 [(0, .ref a0), (1, .int a1)] [] h1 (fun o h2 => ∃ r3 : Int32, o = .returned (some (.int r3)) ∧ XB G x h2 ∧ (Q (.returned (some (.int (r3 * 3)))) h2)))))) : Run G mX17_knows d 0 [(0, .ref a0), (1, .int a1)] [] h Q := by
  refine R_aload_n dX17_knows_0 0 rfl ?_
  refine R_bipush (v := 40) dX17_knows_1 (by decide) ?_
  refine RX17_CV17_begins dX17_knows_3 q1016 hdd (Nat.le_of_ble_eq_true rfl) w (fun h1 w => ?_)
  obtain ⟨Bh1, w⟩ := w
  refine R_aload_n dX17_knows_6 0 rfl ?_
  refine R_iload_n dX17_knows_7 1 rfl ?_
  obtain ⟨k4, w⟩ := w
  refine RS17_23 rfl dX17_knows_8 k4 hdd (Nat.le_of_ble_eq_true rfl) w (fun r3 h2 w => ?_)
  obtain ⟨Bh2, w⟩ := w
  refine R_iconst (v := 3) dX17_knows_11 (by decide) ?_
  refine R_imul dX17_knows_12 ?_
  exact R_iret dX17_knows_13 rfl w
theorem sX18_init_0 {G : GG} {x : Nat} {h : AH} {Q : Outcome → AH → Prop} {a0 : Nat} {a2 : Int32} (B : XB G x h) (w : IsB18 G h a0 ∧ (Run G mX15_init 3 0 [(0, .ref a0), (1, .ref x), (2, .int a2)] [] (sP h 899 a0 (some x)) (fun o h2 => o = .returned none ∧ XB G x h2 ∧ (Q (.returned none) h2)))) : Run G mX18_init 4 0 [(0, .ref a0), (1, .ref x), (2, .int a2)] [] h Q := by
  refine R_aload_n dX18_init_0 0 rfl ?_
  refine R_aload_n dX18_init_1 1 rfl ?_
  obtain ⟨k1, w⟩ := w
  refine R_top (v' := va_rf (some x)) rfl ?_
  refine RB18_3_put dX18_init_2 q865 rfl rfl k1 ?_
  refine R_aload_n dX18_init_5 0 rfl ?_
  refine R_aload_n dX18_init_6 1 rfl ?_
  refine R_iload_n dX18_init_7 2 rfl ?_
  refine R_invI (Mc := mX15_init) (b := a0) (As := [.ref x, .int a2]) (st := []) dX18_init_8 q864 q818 q122 rfl q819 rfl pX15_init rfl (Nat.le_of_ble_eq_true rfl) (by decide) (by decide) (Nat.le_of_ble_eq_true rfl) (aft_v w (fun h2 w => ?_))
  obtain ⟨Bh2, w⟩ := w
  exact R_vret dX18_init_11 rfl w
theorem sX18_isUnder_0 {G : GG} {x : Nat} {h : AH} {Q : Outcome → AH → Prop} {a0 : Nat} {a1 : Int32} {d d' : Nat} (hdd : d' + 1 ≤ d) (h9 : 20 ≤ d) (B : XB G x h) (w : (a1 = 4 → (Q (.returned (some (.int (bi true)))) h)) ∧ (¬ a1 = 4 → (IsB18 G h a0 ∧ (Run G mX15_isUnder d' 0 [(0, .ref a0), (1, .int a1)] [] h (fun o h1 => ∃ b2 : Bool, o = .returned (some (.int (bi b2))) ∧ XB G x h1 ∧ ((b2 = false → (Q (.returned (some (.int (bi false)))) h1)) ∧ (b2 = true → (Q (.returned (some (.int (bi true)))) h1)))))))) : Run G mX18_isUnder d 0 [(0, .ref a0), (1, .int a1)] [] h Q := by
  refine R_iload_n dX18_isUnder_0 1 rfl ?_
  refine R_iconst (v := 4) dX18_isUnder_1 (by decide) ?_
  refine R_icmp_eq (tgt := 13) dX18_isUnder_2 (by decide) (fun c5 => ?_) (fun c5 => ?_)
  · have w := w.1 c5
    refine R_iconst (v := 1) dX18_isUnder_13 (by decide) ?_
    refine R_goto (tgt := 18) dX18_isUnder_14 (by decide) ?_
    exact R_bret (b := true) dX18_isUnder_18 rfl w
  · have w := w.2 c5
    refine R_aload_n dX18_isUnder_5 0 rfl ?_
    refine R_iload_n dX18_isUnder_6 1 rfl ?_
    obtain ⟨k4, w⟩ := w
    refine RS18_15 rfl dX18_isUnder_7 k4 hdd (Nat.le_of_ble_eq_true rfl) w (fun b2 h1 w => ?_)
    obtain ⟨Bh1, w⟩ := w
    refine R_ifz_eq (tgt := 17) dX18_isUnder_10 (by decide) (fun c3 => ?_) (fun c3 => ?_)
    · have w := w.1 c3
      refine R_iconst (v := 0) dX18_isUnder_17 (by decide) ?_
      exact R_bret (b := false) dX18_isUnder_18 rfl w
    · have w := w.2 c3
      refine R_iconst (v := 1) dX18_isUnder_13 (by decide) ?_
      refine R_goto (tgt := 18) dX18_isUnder_14 (by decide) ?_
      exact R_bret (b := true) dX18_isUnder_18 rfl w
theorem sX18_kind_0 {G : GG} {x : Nat} {h : AH} {Q : Outcome → AH → Prop} {a0 : Nat} {d d' : Nat} (hdd : d' + 1 ≤ d) (h9 : 20 ≤ d) (B : XB G x h) (w : Q (.returned (some (.int 4))) h) : Run G mX18_kind d 0 [(0, .ref a0)] [] h Q := by
  refine R_iconst (v := 4) dX18_kind_0 (by decide) ?_
  exact R_iret dX18_kind_1 rfl w
theorem sX18_tells_0 {G : GG} {x : Nat} {h : AH} {Q : Outcome → AH → Prop} {a0 : Nat} {a1 : Int32} {d d' : Nat} (hdd : d' + 1 ≤ d) (h9 : 20 ≤ d) (B : XB G x h) (w : CV18_begins G d' h a0 50 (fun o h1 => o = .returned none ∧ XB G x h1 ∧ (IsB18 G h1 a0 ∧ (Run G mX23_tells d' 0 [(0, .ref a0), (1, .int a1)] [] h1 (fun o h2 => ∃ r3 : Int32, o = .returned (some (.int r3)) ∧ XB G x h2 ∧ (Q (.returned (some (.int (r3 ^^^ 5)))) h2)))))) : Run G mX18_tells d 0 [(0, .ref a0), (1, .int a1)] [] h Q := by
  refine R_aload_n dX18_tells_0 0 rfl ?_
  refine R_bipush (v := 50) dX18_tells_1 (by decide) ?_
  refine RX18_CV18_begins dX18_tells_3 q1135 hdd (Nat.le_of_ble_eq_true rfl) w (fun h1 w => ?_)
  obtain ⟨Bh1, w⟩ := w
  refine R_aload_n dX18_tells_6 0 rfl ?_
  refine R_iload_n dX18_tells_7 1 rfl ?_
  obtain ⟨k4, w⟩ := w
  refine RS18_23 rfl dX18_tells_8 k4 hdd (Nat.le_of_ble_eq_true rfl) w (fun r3 h2 w => ?_)
  obtain ⟨Bh2, w⟩ := w
  refine R_iconst (v := 5) dX18_tells_11 (by decide) ?_
  refine R_ixor dX18_tells_12 ?_
  exact R_iret dX18_tells_13 rfl w
theorem sX19_init_0 {G : GG} {x : Nat} {h : AH} {Q : Outcome → AH → Prop} {a0 : Nat} {a2 : Int32} (B : XB G x h) (w : IsB19 G h a0 ∧ (Run G mX17_init 4 0 [(0, .ref a0), (1, .ref x), (2, .int a2)] [] (sP h 900 a0 (some x)) (fun o h2 => o = .returned none ∧ XB G x h2 ∧ (Q (.returned none) h2)))) : Run G mX19_init 5 0 [(0, .ref a0), (1, .ref x), (2, .int a2)] [] h Q := by
  refine R_aload_n dX19_init_0 0 rfl ?_
  refine R_aload_n dX19_init_1 1 rfl ?_
  obtain ⟨k1, w⟩ := w
  refine R_top (v' := va_rf (some x)) rfl ?_
  refine RB19_4_put dX19_init_2 q878 rfl rfl k1 ?_
  refine R_aload_n dX19_init_5 0 rfl ?_
  refine R_aload_n dX19_init_6 1 rfl ?_
  refine R_iload_n dX19_init_7 2 rfl ?_
  refine R_invI (Mc := mX17_init) (b := a0) (As := [.ref x, .int a2]) (st := []) dX19_init_8 q877 q849 q124 rfl q850 rfl pX17_init rfl (Nat.le_of_ble_eq_true rfl) (by decide) (by decide) (Nat.le_of_ble_eq_true rfl) (aft_v w (fun h2 w => ?_))
  obtain ⟨Bh2, w⟩ := w
  exact R_vret dX19_init_11 rfl w
theorem sX19_isUnder_0 {G : GG} {x : Nat} {h : AH} {Q : Outcome → AH → Prop} {a0 : Nat} {a1 : Int32} {d d' : Nat} (hdd : d' + 1 ≤ d) (h9 : 20 ≤ d) (B : XB G x h) (w : (a1 = 5 → (Q (.returned (some (.int (bi true)))) h)) ∧ (¬ a1 = 5 → (IsB19 G h a0 ∧ (Run G mX17_isUnder d' 0 [(0, .ref a0), (1, .int a1)] [] h (fun o h1 => ∃ b2 : Bool, o = .returned (some (.int (bi b2))) ∧ XB G x h1 ∧ ((b2 = false → (Q (.returned (some (.int (bi false)))) h1)) ∧ (b2 = true → (Q (.returned (some (.int (bi true)))) h1)))))))) : Run G mX19_isUnder d 0 [(0, .ref a0), (1, .int a1)] [] h Q := by
  refine R_iload_n dX19_isUnder_0 1 rfl ?_
  refine R_iconst (v := 5) dX19_isUnder_1 (by decide) ?_
  refine R_icmp_eq (tgt := 13) dX19_isUnder_2 (by decide) (fun c5 => ?_) (fun c5 => ?_)
  · have w := w.1 c5
    refine R_iconst (v := 1) dX19_isUnder_13 (by decide) ?_
    refine R_goto (tgt := 18) dX19_isUnder_14 (by decide) ?_
    exact R_bret (b := true) dX19_isUnder_18 rfl w
  · have w := w.2 c5
    refine R_aload_n dX19_isUnder_5 0 rfl ?_
    refine R_iload_n dX19_isUnder_6 1 rfl ?_
    obtain ⟨k4, w⟩ := w
    refine RS19_15 rfl dX19_isUnder_7 k4 hdd (Nat.le_of_ble_eq_true rfl) w (fun b2 h1 w => ?_)
    obtain ⟨Bh1, w⟩ := w
    refine R_ifz_eq (tgt := 17) dX19_isUnder_10 (by decide) (fun c3 => ?_) (fun c3 => ?_)
    · have w := w.1 c3
      refine R_iconst (v := 0) dX19_isUnder_17 (by decide) ?_
      exact R_bret (b := false) dX19_isUnder_18 rfl w
    · have w := w.2 c3
      refine R_iconst (v := 1) dX19_isUnder_13 (by decide) ?_
      refine R_goto (tgt := 18) dX19_isUnder_14 (by decide) ?_
      exact R_bret (b := true) dX19_isUnder_18 rfl w
theorem sX19_kind_0 {G : GG} {x : Nat} {h : AH} {Q : Outcome → AH → Prop} {a0 : Nat} {d d' : Nat} (hdd : d' + 1 ≤ d) (h9 : 20 ≤ d) (B : XB G x h) (w : Q (.returned (some (.int 5))) h) : Run G mX19_kind d 0 [(0, .ref a0)] [] h Q := by
  refine R_iconst (v := 5) dX19_kind_0 (by decide) ?_
  exact R_iret dX19_kind_1 rfl w
theorem sX19_knows_0 {G : GG} {x : Nat} {h : AH} {Q : Outcome → AH → Prop} {a0 : Nat} {a1 : Int32} {d d' : Nat} (hdd : d' + 1 ≤ d) (h9 : 20 ≤ d) (B : XB G x h) (w : CV19_begins G d' h a0 60 (fun o h1 => o = .returned none ∧ XB G x h1 ∧ (IsB19 G h1 a0 ∧ (Run G mX17_knows d' 0 [(0, .ref a0), (1, .int a1)] [] h1 (fun o h2 => ∃ r3 : Int32, o = .returned (some (.int r3)) ∧ XB G x h2 ∧ (CV19_gives G d' h2 a0 2 (fun o h4 => ∃ r5 : Int32, o = .returned (some (.int r5)) ∧ XB G x h4 ∧ (Q (.returned (some (.int (r3 - r5)))) h4)))))))) : Run G mX19_knows d 0 [(0, .ref a0), (1, .int a1)] [] h Q := by
  refine R_aload_n dX19_knows_0 0 rfl ?_
  refine R_bipush (v := 60) dX19_knows_1 (by decide) ?_
  refine RX19_CV19_begins dX19_knows_3 q1051 hdd (Nat.le_of_ble_eq_true rfl) w (fun h1 w => ?_)
  obtain ⟨Bh1, w⟩ := w
  refine R_aload_n dX19_knows_6 0 rfl ?_
  refine R_iload_n dX19_knows_7 1 rfl ?_
  obtain ⟨k6, w⟩ := w
  refine RS19_23 rfl dX19_knows_8 k6 hdd (Nat.le_of_ble_eq_true rfl) w (fun r3 h2 w => ?_)
  obtain ⟨Bh2, w⟩ := w
  refine R_istore_n (lv' := [(2, .int r3), (0, .ref a0), (1, .int a1)]) dX19_knows_11 rfl (by decide) rfl ?_
  refine R_iload_n dX19_knows_12 0 rfl ?_
  refine R_aload_n dX19_knows_13 1 rfl ?_
  refine R_iconst (v := 2) dX19_knows_14 (by decide) ?_
  refine RX19_CV19_gives dX19_knows_15 (List.mem_of_getElem? (i := 5) rfl) hdd (Nat.le_of_ble_eq_true rfl) w (fun r5 h4 w => ?_)
  obtain ⟨Bh4, w⟩ := w
  refine R_isub dX19_knows_18 ?_
  exact R_iret dX19_knows_19 rfl w
theorem sX19_tells_0 {G : GG} {x : Nat} {h : AH} {Q : Outcome → AH → Prop} {a0 : Nat} {a1 : Int32} {d d' : Nat} (hdd : d' + 1 ≤ d) (h9 : 20 ≤ d) (B : XB G x h) (w : CV19_begins G d' h a0 61 (fun o h1 => o = .returned none ∧ XB G x h1 ∧ (IsB19 G h1 a0 ∧ (Run G mX23_tells d' 0 [(0, .ref a0), (1, .int a1)] [] h1 (fun o h2 => ∃ r3 : Int32, o = .returned (some (.int r3)) ∧ XB G x h2 ∧ (Q (.returned (some (.int (r3 + 1)))) h2)))))) : Run G mX19_tells d 0 [(0, .ref a0), (1, .int a1)] [] h Q := by
  refine R_aload_n dX19_tells_0 0 rfl ?_
  refine R_bipush (v := 61) dX19_tells_1 (by decide) ?_
  refine RX19_CV19_begins dX19_tells_3 q1051 hdd (Nat.le_of_ble_eq_true rfl) w (fun h1 w => ?_)
  obtain ⟨Bh1, w⟩ := w
  refine R_aload_n dX19_tells_6 0 rfl ?_
  refine R_iload_n dX19_tells_7 1 rfl ?_
  obtain ⟨k4, w⟩ := w
  refine RS19_30 rfl dX19_tells_8 k4 hdd (Nat.le_of_ble_eq_true rfl) w (fun r3 h2 w => ?_)
  obtain ⟨Bh2, w⟩ := w
  refine R_iconst (v := 1) dX19_tells_11 (by decide) ?_
  refine R_iadd dX19_tells_12 ?_
  exact R_iret dX19_tells_13 rfl w
theorem sX20_gives_0 {G : GG} {x : Nat} {h : AH} {Q : Outcome → AH → Prop} {a0 : Nat} {a1 : Int32} {d d' : Nat} (hdd : d' + 1 ≤ d) (h9 : 20 ≤ d) (B : XB G x h) (w : CV20_begins G d' h a0 70 (fun o h1 => o = .returned none ∧ XB G x h1 ∧ (IsB20 G h1 a0 ∧ (Run G mX22_gives d' 0 [(0, .ref a0), (1, .int a1)] [] h1 (fun o h2 => ∃ r3 : Int32, o = .returned (some (.int r3)) ∧ XB G x h2 ∧ (Q (.returned (some (.int (r3 * 2)))) h2)))))) : Run G mX20_gives d 0 [(0, .ref a0), (1, .int a1)] [] h Q := by
  refine R_aload_n dX20_gives_0 0 rfl ?_
  refine R_bipush (v := 70) dX20_gives_1 (by decide) ?_
  refine RX20_CV20_begins dX20_gives_3 q1001 hdd (Nat.le_of_ble_eq_true rfl) w (fun h1 w => ?_)
  obtain ⟨Bh1, w⟩ := w
  refine R_aload_n dX20_gives_6 0 rfl ?_
  refine R_iload_n dX20_gives_7 1 rfl ?_
  obtain ⟨k4, w⟩ := w
  refine RS20_23 rfl dX20_gives_8 k4 hdd (Nat.le_of_ble_eq_true rfl) w (fun r3 h2 w => ?_)
  obtain ⟨Bh2, w⟩ := w
  refine R_iconst (v := 2) dX20_gives_11 (by decide) ?_
  refine R_imul dX20_gives_12 ?_
  exact R_iret dX20_gives_13 rfl w
theorem sX20_init_0 {G : GG} {x : Nat} {h : AH} {Q : Outcome → AH → Prop} {a0 : Nat} {a2 : Int32} (B : XB G x h) (w : IsB20 G h a0 ∧ (Run G mX14_init 2 0 [(0, .ref a0), (1, .ref x), (2, .int a2)] [] (sP h 898 a0 (some x)) (fun o h2 => o = .returned none ∧ XB G x h2 ∧ (Q (.returned none) h2)))) : Run G mX20_init 3 0 [(0, .ref a0), (1, .ref x), (2, .int a2)] [] h Q := by
  refine R_aload_n dX20_init_0 0 rfl ?_
  refine R_aload_n dX20_init_1 1 rfl ?_
  obtain ⟨k1, w⟩ := w
  refine R_top (v' := va_rf (some x)) rfl ?_
  refine RB20_2_put dX20_init_2 q892 rfl rfl k1 ?_
  refine R_aload_n dX20_init_5 0 rfl ?_
  refine R_aload_n dX20_init_6 1 rfl ?_
  refine R_iload_n dX20_init_7 2 rfl ?_
  refine R_invI (Mc := mX14_init) (b := a0) (As := [.ref x, .int a2]) (st := []) dX20_init_8 q891 q821 q121 rfl q822 rfl pX14_init rfl (Nat.le_of_ble_eq_true rfl) (by decide) (by decide) (Nat.le_of_ble_eq_true rfl) (aft_v w (fun h2 w => ?_))
  obtain ⟨Bh2, w⟩ := w
  exact R_vret dX20_init_11 rfl w
theorem sX20_isUnder_0 {G : GG} {x : Nat} {h : AH} {Q : Outcome → AH → Prop} {a0 : Nat} {a1 : Int32} {d d' : Nat} (hdd : d' + 1 ≤ d) (h9 : 20 ≤ d) (B : XB G x h) (w : (a1 = 6 → (Q (.returned (some (.int (bi true)))) h)) ∧ (¬ a1 = 6 → (IsB20 G h a0 ∧ (Run G mX14_isUnder d' 0 [(0, .ref a0), (1, .int a1)] [] h (fun o h1 => ∃ b2 : Bool, o = .returned (some (.int (bi b2))) ∧ XB G x h1 ∧ ((b2 = false → (Q (.returned (some (.int (bi false)))) h1)) ∧ (b2 = true → (Q (.returned (some (.int (bi true)))) h1)))))))) : Run G mX20_isUnder d 0 [(0, .ref a0), (1, .int a1)] [] h Q := by
  refine R_iload_n dX20_isUnder_0 1 rfl ?_
  refine R_bipush (v := 6) dX20_isUnder_1 (by decide) ?_
  refine R_icmp_eq (tgt := 14) dX20_isUnder_3 (by decide) (fun c5 => ?_) (fun c5 => ?_)
  · have w := w.1 c5
    refine R_iconst (v := 1) dX20_isUnder_14 (by decide) ?_
    refine R_goto (tgt := 19) dX20_isUnder_15 (by decide) ?_
    exact R_bret (b := true) dX20_isUnder_19 rfl w
  · have w := w.2 c5
    refine R_aload_n dX20_isUnder_6 0 rfl ?_
    refine R_iload_n dX20_isUnder_7 1 rfl ?_
    obtain ⟨k4, w⟩ := w
    refine RS20_15 rfl dX20_isUnder_8 k4 hdd (Nat.le_of_ble_eq_true rfl) w (fun b2 h1 w => ?_)
    obtain ⟨Bh1, w⟩ := w
    refine R_ifz_eq (tgt := 18) dX20_isUnder_11 (by decide) (fun c3 => ?_) (fun c3 => ?_)
    · have w := w.1 c3
      refine R_iconst (v := 0) dX20_isUnder_18 (by decide) ?_
      exact R_bret (b := false) dX20_isUnder_19 rfl w
    · have w := w.2 c3
      refine R_iconst (v := 1) dX20_isUnder_14 (by decide) ?_
      refine R_goto (tgt := 19) dX20_isUnder_15 (by decide) ?_
      exact R_bret (b := true) dX20_isUnder_19 rfl w
theorem sX20_kind_0 {G : GG} {x : Nat} {h : AH} {Q : Outcome → AH → Prop} {a0 : Nat} {d d' : Nat} (hdd : d' + 1 ≤ d) (h9 : 20 ≤ d) (B : XB G x h) (w : Q (.returned (some (.int 6))) h) : Run G mX20_kind d 0 [(0, .ref a0)] [] h Q := by
  refine R_bipush (v := 6) dX20_kind_0 (by decide) ?_
  exact R_iret dX20_kind_2 rfl w
theorem sX21_gives_0 {G : GG} {x : Nat} {h : AH} {Q : Outcome → AH → Prop} {a0 : Nat} {a1 : Int32} {d d' : Nat} (hdd : d' + 1 ≤ d) (h9 : 20 ≤ d) (B : XB G x h) (w : CV21_begins G d' h a0 81 (fun o h1 => o = .returned none ∧ XB G x h1 ∧ (IsB21 G h1 a0 ∧ (Run G mX20_gives d' 0 [(0, .ref a0), (1, .int a1)] [] h1 (fun o h2 => ∃ r3 : Int32, o = .returned (some (.int r3)) ∧ XB G x h2 ∧ (Q (.returned (some (.int (r3 - 1)))) h2)))))) : Run G mX21_gives d 0 [(0, .ref a0), (1, .int a1)] [] h Q := by
  refine R_aload_n dX21_gives_0 0 rfl ?_
  refine R_bipush (v := 81) dX21_gives_1 (by decide) ?_
  refine RX21_CV21_begins dX21_gives_3 q995 hdd (Nat.le_of_ble_eq_true rfl) w (fun h1 w => ?_)
  obtain ⟨Bh1, w⟩ := w
  refine R_aload_n dX21_gives_6 0 rfl ?_
  refine R_iload_n dX21_gives_7 1 rfl ?_
  obtain ⟨k4, w⟩ := w
  refine RS21_30 rfl dX21_gives_8 k4 hdd (Nat.le_of_ble_eq_true rfl) w (fun r3 h2 w => ?_)
  obtain ⟨Bh2, w⟩ := w
  refine R_iconst (v := 1) dX21_gives_11 (by decide) ?_
  refine R_isub dX21_gives_12 ?_
  exact R_iret dX21_gives_13 rfl w
theorem sX21_holds_0 {G : GG} {x : Nat} {h : AH} {Q : Outcome → AH → Prop} {a0 : Nat} {a1 : Int32} {d d' : Nat} (hdd : d' + 1 ≤ d) (h9 : 20 ≤ d) (B : XB G x h) (w : CV21_begins G d' h a0 80 (fun o h1 => o = .returned none ∧ XB G x h1 ∧ (IsB21 G h1 a0 ∧ (Run G mX14_holds d' 0 [(0, .ref a0), (1, .int a1)] [] h1 (fun o h2 => ∃ r3 : Int32, o = .returned (some (.int r3)) ∧ XB G x h2 ∧ (CV21_knows G d' h2 a0 2 (fun o h4 => ∃ r5 : Int32, o = .returned (some (.int r5)) ∧ XB G x h4 ∧ (Q (.returned (some (.int (r3 + r5)))) h4)))))))) : Run G mX21_holds d 0 [(0, .ref a0), (1, .int a1)] [] h Q := by
  refine R_aload_n dX21_holds_0 0 rfl ?_
  refine R_bipush (v := 80) dX21_holds_1 (by decide) ?_
  refine RX21_CV21_begins dX21_holds_3 q995 hdd (Nat.le_of_ble_eq_true rfl) w (fun h1 w => ?_)
  obtain ⟨Bh1, w⟩ := w
  refine R_aload_n dX21_holds_6 0 rfl ?_
  refine R_iload_n dX21_holds_7 1 rfl ?_
  obtain ⟨k6, w⟩ := w
  refine RS21_23 rfl dX21_holds_8 k6 hdd (Nat.le_of_ble_eq_true rfl) w (fun r3 h2 w => ?_)
  obtain ⟨Bh2, w⟩ := w
  refine R_istore_n (lv' := [(2, .int r3), (0, .ref a0), (1, .int a1)]) dX21_holds_11 rfl (by decide) rfl ?_
  refine R_iload_n dX21_holds_12 0 rfl ?_
  refine R_aload_n dX21_holds_13 1 rfl ?_
  refine R_iconst (v := 2) dX21_holds_14 (by decide) ?_
  refine RX21_CV21_knows dX21_holds_15 q1037 hdd (Nat.le_of_ble_eq_true rfl) w (fun r5 h4 w => ?_)
  obtain ⟨Bh4, w⟩ := w
  refine R_iadd dX21_holds_18 ?_
  exact R_iret dX21_holds_19 rfl w
theorem sX21_init_0 {G : GG} {x : Nat} {h : AH} {Q : Outcome → AH → Prop} {a0 : Nat} {a2 : Int32} (B : XB G x h) (w : IsB21 G h a0 ∧ (Run G mX20_init 3 0 [(0, .ref a0), (1, .ref x), (2, .int a2)] [] (sP h 899 a0 (some x)) (fun o h2 => o = .returned none ∧ XB G x h2 ∧ (Q (.returned none) h2)))) : Run G mX21_init 4 0 [(0, .ref a0), (1, .ref x), (2, .int a2)] [] h Q := by
  refine R_aload_n dX21_init_0 0 rfl ?_
  refine R_aload_n dX21_init_1 1 rfl ?_
  obtain ⟨k1, w⟩ := w
  refine R_top (v' := va_rf (some x)) rfl ?_
  refine RB21_3_put dX21_init_2 q904 rfl rfl k1 ?_
  refine R_aload_n dX21_init_5 0 rfl ?_
  refine R_aload_n dX21_init_6 1 rfl ?_
  refine R_iload_n dX21_init_7 2 rfl ?_
  refine R_invI (Mc := mX20_init) (b := a0) (As := [.ref x, .int a2]) (st := []) dX21_init_8 q903 q889 q127 rfl q890 rfl pX20_init rfl (Nat.le_of_ble_eq_true rfl) (by decide) (by decide) (Nat.le_of_ble_eq_true rfl) (aft_v w (fun h2 w => ?_))
  obtain ⟨Bh2, w⟩ := w
  exact R_vret dX21_init_11 rfl w
theorem sX21_isUnder_0 {G : GG} {x : Nat} {h : AH} {Q : Outcome → AH → Prop} {a0 : Nat} {a1 : Int32} {d d' : Nat} (hdd : d' + 1 ≤ d) (h9 : 20 ≤ d) (B : XB G x h) (w : (a1 = 7 → (Q (.returned (some (.int (bi true)))) h)) ∧ (¬ a1 = 7 → (IsB21 G h a0 ∧ (Run G mX20_isUnder d' 0 [(0, .ref a0), (1, .int a1)] [] h (fun o h1 => ∃ b2 : Bool, o = .returned (some (.int (bi b2))) ∧ XB G x h1 ∧ ((b2 = false → (Q (.returned (some (.int (bi false)))) h1)) ∧ (b2 = true → (Q (.returned (some (.int (bi true)))) h1)))))))) : Run G mX21_isUnder d 0 [(0, .ref a0), (1, .int a1)] [] h Q := by
  refine R_iload_n dX21_isUnder_0 1 rfl ?_
  refine R_bipush (v := 7) dX21_isUnder_1 (by decide) ?_
  refine R_icmp_eq (tgt := 14) dX21_isUnder_3 (by decide) (fun c5 => ?_) (fun c5 => ?_)
  · have w := w.1 c5
    refine R_iconst (v := 1) dX21_isUnder_14 (by decide) ?_
    refine R_goto (tgt := 19) dX21_isUnder_15 (by decide) ?_
    exact R_bret (b := true) dX21_isUnder_19 rfl w
  · have w := w.2 c5
    refine R_aload_n dX21_isUnder_6 0 rfl ?_
    refine R_iload_n dX21_isUnder_7 1 rfl ?_
    obtain ⟨k4, w⟩ := w
    refine RS21_15 rfl dX21_isUnder_8 k4 hdd (Nat.le_of_ble_eq_true rfl) w (fun b2 h1 w => ?_)
    obtain ⟨Bh1, w⟩ := w
    refine R_ifz_eq (tgt := 18) dX21_isUnder_11 (by decide) (fun c3 => ?_) (fun c3 => ?_)
    · have w := w.1 c3
      refine R_iconst (v := 0) dX21_isUnder_18 (by decide) ?_
      exact R_bret (b := false) dX21_isUnder_19 rfl w
    · have w := w.2 c3
      refine R_iconst (v := 1) dX21_isUnder_14 (by decide) ?_
      refine R_goto (tgt := 19) dX21_isUnder_15 (by decide) ?_
      exact R_bret (b := true) dX21_isUnder_19 rfl w
theorem sX21_kind_0 {G : GG} {x : Nat} {h : AH} {Q : Outcome → AH → Prop} {a0 : Nat} {d d' : Nat} (hdd : d' + 1 ≤ d) (h9 : 20 ≤ d) (B : XB G x h) (w : Q (.returned (some (.int 7))) h) : Run G mX21_kind d 0 [(0, .ref a0)] [] h Q := by
  refine R_bipush (v := 7) dX21_kind_0 (by decide) ?_
  exact R_iret dX21_kind_2 rfl w
theorem sX22_gives_0 {G : GG} {x : Nat} {h : AH} {Q : Outcome → AH → Prop} {a0 : Nat} {a1 : Int32} {d d' : Nat} (hdd : d' + 1 ≤ d) (h9 : 20 ≤ d) (B : XB G x h) (w : CF22_begins G d' h a0 1 (fun o h1 => o = .returned none ∧ XB G x h1 ∧ (CF22_number G d' h1 a0 (fun o h2 => ∃ r3 : Int32, o = .returned (some (.int r3)) ∧ XB G x h2 ∧ (Q (.returned (some (.int (a1 + r3)))) h2))))) : Run G mX22_gives d 0 [(0, .ref a0), (1, .int a1)] [] h Q := by
  refine R_aload_n dX22_gives_0 0 rfl ?_
  refine R_iconst (v := 1) dX22_gives_1 (by decide) ?_
  refine R_CF22_begins rfl dX22_gives_2 hdd (Nat.le_of_ble_eq_true rfl) w (fun h1 w => ?_)
  obtain ⟨Bh1, w⟩ := w
  refine R_iload_n dX22_gives_7 1 rfl ?_
  refine R_aload_n dX22_gives_8 0 rfl ?_
  refine R_CF22_number rfl dX22_gives_9 hdd (Nat.le_of_ble_eq_true rfl) w (fun r3 h2 w => ?_)
  obtain ⟨Bh2, w⟩ := w
  refine R_iadd dX22_gives_14 ?_
  exact R_iret dX22_gives_15 rfl w
theorem sX23_tells_0 {G : GG} {x : Nat} {h : AH} {Q : Outcome → AH → Prop} {a0 : Nat} {a1 : Int32} {d d' : Nat} (hdd : d' + 1 ≤ d) (h9 : 20 ≤ d) (B : XB G x h) (w : CF23_begins G d' h a0 2 (fun o h1 => o = .returned none ∧ XB G x h1 ∧ (CF23_holds G d' h1 a0 a1 (fun o h2 => ∃ r3 : Int32, o = .returned (some (.int r3)) ∧ XB G x h2 ∧ (CF23_knows G d' h2 a0 1 (fun o h4 => ∃ r5 : Int32, o = .returned (some (.int r5)) ∧ XB G x h4 ∧ (Q (.returned (some (.int (r3 - r5)))) h4))))))) : Run G mX23_tells d 0 [(0, .ref a0), (1, .int a1)] [] h Q := by
  refine R_aload_n dX23_tells_0 0 rfl ?_
  refine R_iconst (v := 2) dX23_tells_1 (by decide) ?_
  refine R_CF23_begins rfl dX23_tells_2 hdd (Nat.le_of_ble_eq_true rfl) w (fun h1 w => ?_)
  obtain ⟨Bh1, w⟩ := w
  refine R_aload_n dX23_tells_7 0 rfl ?_
  refine R_iload_n dX23_tells_8 1 rfl ?_
  refine R_CF23_holds rfl dX23_tells_9 hdd (Nat.le_of_ble_eq_true rfl) w (fun r3 h2 w => ?_)
  obtain ⟨Bh2, w⟩ := w
  refine R_istore_n (lv' := [(2, .int r3), (0, .ref a0), (1, .int a1)]) dX23_tells_14 rfl (by decide) rfl ?_
  refine R_iload_n dX23_tells_15 0 rfl ?_
  refine R_aload_n dX23_tells_16 1 rfl ?_
  refine R_iconst (v := 1) dX23_tells_17 (by decide) ?_
  refine R_CF23_knows rfl dX23_tells_18 hdd (Nat.le_of_ble_eq_true rfl) w (fun r5 h4 w => ?_)
  obtain ⟨Bh4, w⟩ := w
  refine R_isub dX23_tells_23 ?_
  exact R_iret dX23_tells_24 rfl w
theorem sX0_act_0 {G : GG} {x : Nat} {h : AH} {Q : Outcome → AH → Prop} {a1 : Int32} {a2 : Int32} {a3 : Int32} (B : XB G x h) (w : Run G mX0_isBody 2 0 [(0, .ref x), (1, .int a1)] [] (sI h 29 x 0) (fun o h1 => ∃ b2 : Bool, o = .returned (some (.int (bi b2))) ∧ XB G x h1 ∧ ((b2 = false → (Q (.returned (some (.int 0))) h1)) ∧ (b2 = true → (Run G mX0_within 1 0 [(0, .long a2.toInt64), (2, .long 0), (4, .long 3)] [] h1 (fun o h3 => ∃ b4 : Bool, o = .returned (some (.int (bi b4))) ∧ XB G x h3 ∧ ((b4 = true → (vp_in a1 50 ∧ ∃ q6 : Nat, (aR h3 (x + 16) a1.toNatClampNeg) = some q6 ∧ ((a2 = 0 → (CV14_gives G 39 h3 q6 a3 (fun o h9 => ∃ r10 : Int32, o = .returned (some (.int r10)) ∧ XB G x h9 ∧ (Q (.returned (some (.int r10))) h9)))) ∧ (¬ a2 = 0 → ((a2 = 1 → (CV14_holds G 39 h3 q6 a3 (fun o h12 => ∃ r13 : Int32, o = .returned (some (.int r13)) ∧ XB G x h12 ∧ (Q (.returned (some (.int r13))) h12)))) ∧ (¬ a2 = 1 → ((a2 = 2 → (CV14_knows G 39 h3 q6 a3 (fun o h15 => ∃ r16 : Int32, o = .returned (some (.int r16)) ∧ XB G x h15 ∧ (Q (.returned (some (.int r16))) h15)))) ∧ (¬ a2 = 2 → (CV14_tells G 39 h3 q6 a3 (fun o h17 => ∃ r18 : Int32, o = .returned (some (.int r18)) ∧ XB G x h17 ∧ (Q (.returned (some (.int r18))) h17))))))))))) ∧ (b4 = false → (Q (.returned (some (.int 0))) h3))))))))) : Run G mX0_act 40 0 [(0, .ref x), (1, .int a1), (2, .int a2), (3, .int a3)] [] h Q := by
  refine R_aload_n dX0_act_0 0 rfl ?_
  refine R_iconst (v := 0) dX0_act_1 (by decide) ?_
  refine X_putS (k := 29) B dX0_act_2 q296 (by decide) rfl rfl rfl rfl ?_
  refine R_aload_n dX0_act_5 0 rfl ?_
  refine R_iload_n dX0_act_6 1 rfl ?_
  refine R_invV (Mc := mX0_isBody) (b := x) (As := [.int a1]) (st := []) ok0 (by decide) B.I.1 dX0_act_7 q920 q922 qs42 q103 wX0_isBody pX0_isBody rfl (Nat.le_of_ble_eq_true rfl) (by decide) (by decide) (Nat.le_of_ble_eq_true rfl) (aft_z w (fun b2 h1 w => ?_))
  obtain ⟨Bh1, w⟩ := w
  refine R_ifz_eq (tgt := 25) dX0_act_10 (by decide) (fun c20 => ?_) (fun c20 => ?_)
  · have w := w.1 c20
    refine R_iconst (v := 0) dX0_act_25 (by decide) ?_
    exact R_iret dX0_act_26 rfl w
  · have w := w.2 c20
    refine R_iload_n dX0_act_13 2 rfl ?_
    refine R_i2l dX0_act_14 ?_
    refine R_lconst (v := 0) dX0_act_15 (by decide) ?_
    refine R_ldc2 (v := 3) dX0_act_16 q422 ?_
    refine R_invS (Mc := mX0_within) (As := [.long a2.toInt64, .long 0, .long 3]) (st := []) dX0_act_19 q366 q367 q103 wX0_within pX0_within rfl (Nat.le_of_ble_eq_true rfl) (by decide) (by decide) (Nat.le_of_ble_eq_true rfl) (aft_z w (fun b4 h3 w => ?_))
    obtain ⟨Bh3, w⟩ := w
    refine R_ifz_ne (tgt := 27) dX0_act_22 (by decide) (fun c19 => ?_) (fun c19 => ?_)
    · have w := w.1 c19
      refine R_aload_n dX0_act_27 0 rfl ?_
      refine X_getA (k := 26) (o := 16) (j := 109) (n := 50) Bh3 dX0_act_28 q291 (by decide) rfl rfl ?_
      refine R_iload_n dX0_act_31 1 rfl ?_
      obtain ⟨c5, q6, e7, w⟩ := w
      refine X_aald (k := 26) (j := 9) (E := "NameRests$Body") Bh3 dX0_act_32 rfl (by decide) (by decide) rfl c5 ?_
      refine R_top (v' := .ref q6) (congrArg va_rf e7) ?_
      refine R_astore (lv' := [(4, .ref q6), (0, .ref x), (1, .int a1), (2, .int a2), (3, .int a3)]) dX0_act_33 (by decide) rfl ?_
      refine R_iload_n dX0_act_35 3 rfl ?_
      by_cases c8 : a2 = 0
      · have w := w.1 c8
        refine R_tableIn (off := 28) (tgt := 64) dX0_act_36 (by rw [c8]; decide) (by rw [c8]; decide) (by rw [c8]; rfl) (by decide) ?_
        refine R_aload dX0_act_64 0 rfl ?_
        refine R_iload_n dX0_act_66 4 rfl ?_
        refine RX0_CV14_gives dX0_act_67 (List.mem_of_getElem? (i := 0) rfl) (by decide) (Nat.le_of_ble_eq_true rfl) w (fun r10 h9 w => ?_)
        obtain ⟨Bh9, w⟩ := w
        exact R_iret dX0_act_70 rfl w
      · have w := w.2 c8
        by_cases c11 : a2 = 1
        · have w := w.1 c11
          refine R_tableIn (off := 35) (tgt := 71) dX0_act_36 (by rw [c11]; decide) (by rw [c11]; decide) (by rw [c11]; rfl) (by decide) ?_
          refine R_aload dX0_act_71 0 rfl ?_
          refine R_iload_n dX0_act_73 4 rfl ?_
          refine RX0_CV14_holds dX0_act_74 q1009 (by decide) (Nat.le_of_ble_eq_true rfl) w (fun r13 h12 w => ?_)
          obtain ⟨Bh12, w⟩ := w
          exact R_iret dX0_act_77 rfl w
        · have w := w.2 c11
          by_cases c14 : a2 = 2
          · have w := w.1 c14
            refine R_tableIn (off := 42) (tgt := 78) dX0_act_36 (by rw [c14]; decide) (by rw [c14]; decide) (by rw [c14]; rfl) (by decide) ?_
            refine R_aload dX0_act_78 0 rfl ?_
            refine R_iload_n dX0_act_80 4 rfl ?_
            refine RX0_CV14_knows dX0_act_81 q1048 (by decide) (Nat.le_of_ble_eq_true rfl) w (fun r16 h15 w => ?_)
            obtain ⟨Bh15, w⟩ := w
            exact R_iret dX0_act_84 rfl w
          · have w := w.2 c14
            refine R_tableOut (tgt := 85) dX0_act_36 (sw_out a2 0 2 (by decide) (by decide) (fun j h1 h2 => ?_)) (by decide) ?_
            · intro e
              have e2 : j = 0 ∨ j = 1 ∨ j = 2 := by omega
              rcases e2 with rfl | rfl | rfl
              · exact lv_neT c8 (by decide) e
              · exact lv_neT c11 (by decide) e
              · exact lv_neT c14 (by decide) e
            · refine R_aload dX0_act_85 0 rfl ?_
              refine R_iload_n dX0_act_87 4 rfl ?_
              refine RX0_CV14_tells dX0_act_88 (List.mem_of_getElem? (i := 7) rfl) (by decide) (Nat.le_of_ble_eq_true rfl) w (fun r18 h17 w => ?_)
              obtain ⟨Bh17, w⟩ := w
              exact R_iret dX0_act_91 rfl w
    · have w := w.2 c19
      refine R_iconst (v := 0) dX0_act_25 (by decide) ?_
      exact R_iret dX0_act_26 rfl w
theorem sX0_taken_0 {G : GG} {x : Nat} {h : AH} {Q : Outcome → AH → Prop} {a1 : Int32} {a2 : Int32} (B : XB G x h) (w : Run G mX0_isShelf 2 0 [(0, .int a1)] [] h (fun o h1 => ∃ b2 : Bool, o = .returned (some (.int (bi b2))) ∧ XB G x h1 ∧ ((b2 = false → (Q (.returned (some (.int (-1)))) h1)) ∧ (b2 = true → (Run G mX0_within 1 0 [(0, .long a2.toInt64), (2, .long 0), (4, .long 7)] [] h1 (fun o h3 => ∃ b4 : Bool, o = .returned (some (.int (bi b4))) ∧ XB G x h3 ∧ ((b4 = true → (vp_in a1 6 ∧ (((aR h3 (x + 18) a1.toNatClampNeg) = none → (Q (.returned (some (.int (-11)))) h3)) ∧ (((aR h3 (x + 18) a1.toNatClampNeg)).isSome = true → (∃ b8 : Bool, InstQ G h3 (aR h3 (x + 18) a1.toNatClampNeg) "NameRests$Body" b8 ∧ ((b8 = true → (∃ q10 : Nat, (aR h3 (x + 18) a1.toNatClampNeg) = some q10 ∧ (CastOK G h3 q10 "NameRests$Body" ∧ (CV14_isUnder G 39 h3 q10 a2 (fun o h13 => ∃ b14 : Bool, o = .returned (some (.int (bi b14))) ∧ XB G x h13 ∧ ((b14 = false → (Q (.returned (some (.int (-12)))) h13)) ∧ (b14 = true → (CV14_kind G 39 h13 q10 (fun o h15 => ∃ r16 : Int32, o = .returned (some (.int r16)) ∧ XB G x h15 ∧ (Q (.returned (some (.int r16))) h15)))))))))) ∧ (b8 = false → (Q (.returned (some (.int (-12)))) h3)))))))) ∧ (b4 = false → (Q (.returned (some (.int (-1)))) h3))))))))) : Run G mX0_taken 40 0 [(0, .ref x), (1, .int a1), (2, .int a2)] [] h Q := by
  refine R_iload_n dX0_taken_0 1 rfl ?_
  refine R_invS (Mc := mX0_isShelf) (As := [.int a1]) (st := []) dX0_taken_1 q409 q410 q103 wX0_isShelf pX0_isShelf rfl (Nat.le_of_ble_eq_true rfl) (by decide) (by decide) (Nat.le_of_ble_eq_true rfl) (aft_z w (fun b2 h1 w => ?_))
  obtain ⟨Bh1, w⟩ := w
  refine R_ifz_eq (tgt := 19) dX0_taken_4 (by decide) (fun c20 => ?_) (fun c20 => ?_)
  · have w := w.1 c20
    refine R_iconst (v := (-1)) dX0_taken_19 (by decide) ?_
    exact R_iret dX0_taken_20 rfl w
  · have w := w.2 c20
    refine R_iload_n dX0_taken_7 2 rfl ?_
    refine R_i2l dX0_taken_8 ?_
    refine R_lconst (v := 0) dX0_taken_9 (by decide) ?_
    refine R_ldc2 (v := 7) dX0_taken_10 q810 ?_
    refine R_invS (Mc := mX0_within) (As := [.long a2.toInt64, .long 0, .long 7]) (st := []) dX0_taken_13 q366 q367 q103 wX0_within pX0_within rfl (Nat.le_of_ble_eq_true rfl) (by decide) (by decide) (Nat.le_of_ble_eq_true rfl) (aft_z w (fun b4 h3 w => ?_))
    obtain ⟨Bh3, w⟩ := w
    refine R_ifz_ne (tgt := 21) dX0_taken_16 (by decide) (fun c19 => ?_) (fun c19 => ?_)
    · have w := w.1 c19
      refine R_aload_n dX0_taken_21 0 rfl ?_
      refine X_getA (k := 30) (o := 18) (j := 110) (n := 6) Bh3 dX0_taken_22 q297 (by decide) rfl rfl ?_
      refine R_iload_n dX0_taken_25 1 rfl ?_
      obtain ⟨c5, w⟩ := w
      refine X_aald (k := 30) (j := 10) (E := "java/lang/Object") Bh3 dX0_taken_26 rfl (by decide) (by decide) rfl c5 ?_
      refine R_astore_nQ (lv' := [(3, va_rf (aR h3 (x + 18) a1.toNatClampNeg)), (0, .ref x), (1, .int a1), (2, .int a2)]) dX0_taken_27 rfl (by decide) rfl ?_
      refine R_aload_nQ dX0_taken_28 0 rfl ?_
      refine R_ifnonnull (tgt := 35) dX0_taken_29 (by decide) (fun q7 e6 => ?_) (fun e6 => ?_)
      · have w := w.2 (by rw [e6]; rfl)
        refine R_aload_nQ dX0_taken_35 0 rfl ?_
        obtain ⟨b8, c9, w⟩ := w
        refine R_instQ dX0_taken_36 q235 c9 ?_
        refine R_ifz_ne (tgt := 45) dX0_taken_39 (by decide) (fun c18 => ?_) (fun c18 => ?_)
        · have w := w.1 c18
          refine R_aload_nQ dX0_taken_45 0 rfl ?_
          obtain ⟨q10, e11, w⟩ := w
          refine R_top (v' := .ref q10) (congrArg va_rf e11) ?_
          obtain ⟨c12, w⟩ := w
          refine R_cast dX0_taken_46 q235 c12 ?_
          refine R_astore (lv' := [(4, .ref q10), (3, va_rf (aR h3 (x + 18) a1.toNatClampNeg)), (0, .ref x), (1, .int a1), (2, .int a2)]) dX0_taken_49 (by decide) (by simp [rf_cat, cat_i, cat_r, cat_l]) ?_
          refine R_aload dX0_taken_51 0 rfl ?_
          refine R_iload_n dX0_taken_53 4 rfl ?_
          refine RX0_CV14_isUnder dX0_taken_54 q1192 (by decide) (Nat.le_of_ble_eq_true rfl) w (fun b14 h13 w => ?_)
          obtain ⟨Bh13, w⟩ := w
          refine R_ifz_eq (tgt := 68) dX0_taken_57 (by decide) (fun c17 => ?_) (fun c17 => ?_)
          · have w := w.1 c17
            refine R_bipush (v := (-12)) dX0_taken_68 (by decide) ?_
            exact R_iret dX0_taken_70 rfl w
          · have w := w.2 c17
            refine R_aload dX0_taken_60 0 rfl ?_
            refine RX0_CV14_kind dX0_taken_62 q1225 (by decide) (Nat.le_of_ble_eq_true rfl) w (fun r16 h15 w => ?_)
            obtain ⟨Bh15, w⟩ := w
            refine R_goto (tgt := 70) dX0_taken_65 (by decide) ?_
            exact R_iret dX0_taken_70 rfl w
        · have w := w.2 c18
          refine R_bipush (v := (-12)) dX0_taken_42 (by decide) ?_
          exact R_iret dX0_taken_44 rfl w
      · have w := w.1 e6
        refine R_bipush (v := (-11)) dX0_taken_32 (by decide) ?_
        exact R_iret dX0_taken_34 rfl w
    · have w := w.2 c19
      refine R_iconst (v := (-1)) dX0_taken_19 (by decide) ?_
      exact R_iret dX0_taken_20 rfl w

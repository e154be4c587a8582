/-! LAYER 2: constructors (printed by gen35.py) -/
set_option maxRecDepth 100000
theorem IsK.new1 {G : GG} {h : AH} {a : Nat} {t t' : Nat × Nat} {u : Nat} (k : IsK G h a t') : IsK G (sNew h t u) (aN h) t := ⟨Nat.le_trans k.1 (Nat.le_of_lt k.2.1), Nat.lt_succ_self _, by simp [aT, sNew, va_up]⟩
theorem nar_rfA {E : FieldType} (v : Option Nat) : narrow (.array E) (va_rf v) = va_rf v := by cases v <;> rfl
theorem fit_rfA {E : FieldType} (v : Option Nat) : fits (.array E) (va_rf v) = true := by cases v <;> rfl
theorem cJ0_init_2_0_1 {G : GG} {h : AH} {Q : Outcome → AH → Prop} {a0 : Nat} {a1 : Option Nat} {a2 : Option Nat} {a3 : Bool} {a4 : Bool} (k0 : IsK G h a0 (1, 0)) (w : (a4 = false → ((a3 = true → (Q (.returned none) (sP (sP (sP (sP (sP (sP h 64 a0 (some a0)) 65 a0 (sv G 0)) 66 a0 (sv G 1)) 65 a0 (none : Option Nat)) 67 a0 a1) 64 a0 a2))) ∧ (a3 = false → (Q (.returned none) (sP (sP (sP (sP (sP (sP (sP h 64 a0 (some a0)) 65 a0 (sv G 0)) 66 a0 (sv G 1)) 65 a0 (none : Option Nat)) 67 a0 a1) 64 a0 a2) 66 a0 (none : Option Nat)))))) ∧ (a4 = true → False)) : Run G mJ0_init_2 2 0 [(0, .ref a0), (1, va_rf a1), (2, va_rf a2), (3, .int (bi a3)), (4, .int (bi a4))] [] h Q := by
  refine R_aload_n dJ0_init_2_0 0 rfl ?_
  refine R_objInit dJ0_init_2_1 q173 q144 q145 (by decide) (Nat.le_of_ble_eq_true rfl) ?_
  refine R_aload_n dJ0_init_2_4 0 rfl ?_
  refine R_aload_n dJ0_init_2_5 0 rfl ?_
  refine R_top (v' := va_rf (some a0)) rfl ?_
  refine R_putP (k := 0) (f := 64) ok1 dJ0_init_2_6 q202 (by decide) rfl rfl (Or.inl rfl) (nar_rf _) (fit_rf _) (by decide) k0 ?_
  refine R_aload_n dJ0_init_2_9 0 rfl ?_
  refine R_gets0 dJ0_init_2_10 q174 ?_
  refine R_putP (k := 1) (f := 65) ok1 dJ0_init_2_13 q203 (by decide) rfl rfl (Or.inl rfl) (nar_rfA _) (fit_rfA _) (by decide) k0 ?_
  refine R_aload_n dJ0_init_2_16 0 rfl ?_
  refine R_gets1 dJ0_init_2_17 q176 ?_
  refine R_putP (k := 2) (f := 66) ok1 dJ0_init_2_20 q204 (by decide) rfl rfl (Or.inl rfl) (nar_rf _) (fit_rf _) (by decide) k0 ?_
  refine R_iload dJ0_init_2_23 4 rfl ?_
  refine R_ifz_eq (tgt := 36) dJ0_init_2_25 (by decide) (fun c2 => ?_) (fun c2 => ?_)
  · have w := w.1 c2
    refine R_aload_n dJ0_init_2_36 0 rfl ?_
    refine R_null dJ0_init_2_37 ?_
    refine R_top (v' := va_rf (none : Option Nat)) rfl ?_
    refine R_putP (k := 1) (f := 65) ok1 dJ0_init_2_38 q203 (by decide) rfl rfl (Or.inl rfl) (nar_rfA _) (fit_rfA _) (by decide) k0 ?_
    refine R_aload_n dJ0_init_2_41 0 rfl ?_
    refine R_aload_nQ dJ0_init_2_42 1 rfl ?_
    refine R_putP (k := 3) (f := 67) ok1 dJ0_init_2_43 q201 (by decide) rfl rfl (Or.inl rfl) (nar_rf _) (fit_rf _) (by decide) k0 ?_
    refine R_aload_n dJ0_init_2_46 0 rfl ?_
    refine R_aload_nQ dJ0_init_2_47 2 rfl ?_
    refine R_putP (k := 0) (f := 64) ok1 dJ0_init_2_48 q202 (by decide) rfl rfl (Or.inl rfl) (nar_rf _) (fit_rf _) (by decide) k0 ?_
    refine R_iload_n dJ0_init_2_51 3 rfl ?_
    refine R_ifz_ne (tgt := 60) dJ0_init_2_52 (by decide) (fun c1 => ?_) (fun c1 => ?_)
    · have w := w.1 c1
      exact R_vret dJ0_init_2_60 rfl w
    · have w := w.2 c1
      refine R_aload_n dJ0_init_2_55 0 rfl ?_
      refine R_null dJ0_init_2_56 ?_
      refine R_top (v' := va_rf (none : Option Nat)) rfl ?_
      refine R_putP (k := 2) (f := 66) ok1 dJ0_init_2_57 q204 (by decide) rfl rfl (Or.inl rfl) (nar_rf _) (fit_rf _) (by decide) k0 ?_
      exact R_vret dJ0_init_2_60 rfl w
  · have w := w.2 c2
    refine R_aload_n dJ0_init_2_28 0 rfl ?_
    exact w.elim
theorem cJ1_init_0_1 {G : GG} {h : AH} {Q : Outcome → AH → Prop} {a0 : Nat} {a1 : Option Nat} {a2 : Option Nat} {a3 : Bool} {a4 : Bool} (k0 : IsK G h a0 (1, 0)) (w : Run G mJ0_init_2 2 0 [(0, .ref a0), (1, va_rf a1), (2, va_rf a2), (3, .int (bi a3)), (4, .int (bi a4))] [] h (fun o h1 => o = .returned none ∧ (Q (.returned none) h1))) : Run G mJ1_init 3 0 [(0, .ref a0), (1, va_rf a1), (2, va_rf a2), (3, .int (bi a3)), (4, .int (bi a4))] [] h Q := by
  refine R_aload_n dJ1_init_0 0 rfl ?_
  refine R_aload_nQ dJ1_init_1 1 rfl ?_
  refine R_aload_nQ dJ1_init_2 2 rfl ?_
  refine R_iload_n dJ1_init_3 3 rfl ?_
  refine R_iload dJ1_init_4 4 rfl ?_
  refine R_invI (Mc := mJ0_init_2) (b := a0) (As := [va_rf a1, va_rf a2, .int (bi a3), .int (bi a4)]) (st := []) dJ1_init_6 q197 q198 q104 rfl q199 rfl pJ0_init_2 rfl (by simp [lg_sl, rf_cat, cat_i, cat_r, cat_l, mJ0_init_2]) (by decide) (by decide) (Nat.le_of_ble_eq_true rfl) (run_la (by simp [lv_args, rf_cat, cat_i, cat_r, cat_l]) (aft_v w (fun h1 w => ?_)))
  exact R_vret dJ1_init_9 rfl w
theorem cJ2_init_0_1 {G : GG} {h : AH} {Q : Outcome → AH → Prop} {a0 : Nat} {a1 : Option Nat} {a2 : Option Nat} {a3 : Bool} {a4 : Bool} (k0 : IsK G h a0 (1, 0)) (w : Run G mJ1_init 3 0 [(0, .ref a0), (1, va_rf a1), (2, va_rf a2), (3, .int (bi a3)), (4, .int (bi a4))] [] h (fun o h1 => o = .returned none ∧ (Q (.returned none) h1))) : Run G mJ2_init 4 0 [(0, .ref a0), (1, va_rf a1), (2, va_rf a2), (3, .int (bi a3)), (4, .int (bi a4))] [] h Q := by
  refine R_aload_n dJ2_init_0 0 rfl ?_
  refine R_aload_nQ dJ2_init_1 1 rfl ?_
  refine R_aload_nQ dJ2_init_2 2 rfl ?_
  refine R_iload_n dJ2_init_3 3 rfl ?_
  refine R_iload dJ2_init_4 4 rfl ?_
  refine R_invI (Mc := mJ1_init) (b := a0) (As := [va_rf a1, va_rf a2, .int (bi a3), .int (bi a4)]) (st := []) dJ2_init_6 q194 q195 q105 rfl q196 rfl pJ1_init rfl (by simp [lg_sl, rf_cat, cat_i, cat_r, cat_l, mJ1_init]) (by decide) (by decide) (Nat.le_of_ble_eq_true rfl) (run_la (by simp [lv_args, rf_cat, cat_i, cat_r, cat_l]) (aft_v w (fun h1 w => ?_)))
  exact R_vret dJ2_init_9 rfl w
theorem cJ0_init_2_0_2 {G : GG} {h : AH} {Q : Outcome → AH → Prop} {a0 : Nat} {a1 : Option Nat} {a2 : Option Nat} {a3 : Bool} {a4 : Bool} (k0 : IsK G h a0 (2, 0)) (w : (a4 = false → ((a3 = true → (Q (.returned none) (sP (sP (sP (sP (sP (sP h 128 a0 (some a0)) 129 a0 (sv G 0)) 130 a0 (sv G 1)) 129 a0 (none : Option Nat)) 131 a0 a1) 128 a0 a2))) ∧ (a3 = false → (Q (.returned none) (sP (sP (sP (sP (sP (sP (sP h 128 a0 (some a0)) 129 a0 (sv G 0)) 130 a0 (sv G 1)) 129 a0 (none : Option Nat)) 131 a0 a1) 128 a0 a2) 130 a0 (none : Option Nat)))))) ∧ (a4 = true → False)) : Run G mJ0_init_2 2 0 [(0, .ref a0), (1, va_rf a1), (2, va_rf a2), (3, .int (bi a3)), (4, .int (bi a4))] [] h Q := by
  refine R_aload_n dJ0_init_2_0 0 rfl ?_
  refine R_objInit dJ0_init_2_1 q173 q144 q145 (by decide) (Nat.le_of_ble_eq_true rfl) ?_
  refine R_aload_n dJ0_init_2_4 0 rfl ?_
  refine R_aload_n dJ0_init_2_5 0 rfl ?_
  refine R_top (v' := va_rf (some a0)) rfl ?_
  refine R_putP (k := 0) (f := 128) ok2 dJ0_init_2_6 q202 (by decide) rfl rfl (Or.inl rfl) (nar_rf _) (fit_rf _) (by decide) k0 ?_
  refine R_aload_n dJ0_init_2_9 0 rfl ?_
  refine R_gets0 dJ0_init_2_10 q174 ?_
  refine R_putP (k := 1) (f := 129) ok2 dJ0_init_2_13 q203 (by decide) rfl rfl (Or.inl rfl) (nar_rfA _) (fit_rfA _) (by decide) k0 ?_
  refine R_aload_n dJ0_init_2_16 0 rfl ?_
  refine R_gets1 dJ0_init_2_17 q176 ?_
  refine R_putP (k := 2) (f := 130) ok2 dJ0_init_2_20 q204 (by decide) rfl rfl (Or.inl rfl) (nar_rf _) (fit_rf _) (by decide) k0 ?_
  refine R_iload dJ0_init_2_23 4 rfl ?_
  refine R_ifz_eq (tgt := 36) dJ0_init_2_25 (by decide) (fun c2 => ?_) (fun c2 => ?_)
  · have w := w.1 c2
    refine R_aload_n dJ0_init_2_36 0 rfl ?_
    refine R_null dJ0_init_2_37 ?_
    refine R_top (v' := va_rf (none : Option Nat)) rfl ?_
    refine R_putP (k := 1) (f := 129) ok2 dJ0_init_2_38 q203 (by decide) rfl rfl (Or.inl rfl) (nar_rfA _) (fit_rfA _) (by decide) k0 ?_
    refine R_aload_n dJ0_init_2_41 0 rfl ?_
    refine R_aload_nQ dJ0_init_2_42 1 rfl ?_
    refine R_putP (k := 3) (f := 131) ok2 dJ0_init_2_43 q201 (by decide) rfl rfl (Or.inl rfl) (nar_rf _) (fit_rf _) (by decide) k0 ?_
    refine R_aload_n dJ0_init_2_46 0 rfl ?_
    refine R_aload_nQ dJ0_init_2_47 2 rfl ?_
    refine R_putP (k := 0) (f := 128) ok2 dJ0_init_2_48 q202 (by decide) rfl rfl (Or.inl rfl) (nar_rf _) (fit_rf _) (by decide) k0 ?_
    refine R_iload_n dJ0_init_2_51 3 rfl ?_
    refine R_ifz_ne (tgt := 60) dJ0_init_2_52 (by decide) (fun c1 => ?_) (fun c1 => ?_)
    · have w := w.1 c1
      exact R_vret dJ0_init_2_60 rfl w
    · have w := w.2 c1
      refine R_aload_n dJ0_init_2_55 0 rfl ?_
      refine R_null dJ0_init_2_56 ?_
      refine R_top (v' := va_rf (none : Option Nat)) rfl ?_
      refine R_putP (k := 2) (f := 130) ok2 dJ0_init_2_57 q204 (by decide) rfl rfl (Or.inl rfl) (nar_rf _) (fit_rf _) (by decide) k0 ?_
      exact R_vret dJ0_init_2_60 rfl w
  · have w := w.2 c2
    refine R_aload_n dJ0_init_2_28 0 rfl ?_
    exact w.elim
theorem cJ1_init_0_2 {G : GG} {h : AH} {Q : Outcome → AH → Prop} {a0 : Nat} {a1 : Option Nat} {a2 : Option Nat} {a3 : Bool} {a4 : Bool} (k0 : IsK G h a0 (2, 0)) (w : Run G mJ0_init_2 2 0 [(0, .ref a0), (1, va_rf a1), (2, va_rf a2), (3, .int (bi a3)), (4, .int (bi a4))] [] h (fun o h1 => o = .returned none ∧ (Q (.returned none) h1))) : Run G mJ1_init 3 0 [(0, .ref a0), (1, va_rf a1), (2, va_rf a2), (3, .int (bi a3)), (4, .int (bi a4))] [] h Q := by
  refine R_aload_n dJ1_init_0 0 rfl ?_
  refine R_aload_nQ dJ1_init_1 1 rfl ?_
  refine R_aload_nQ dJ1_init_2 2 rfl ?_
  refine R_iload_n dJ1_init_3 3 rfl ?_
  refine R_iload dJ1_init_4 4 rfl ?_
  refine R_invI (Mc := mJ0_init_2) (b := a0) (As := [va_rf a1, va_rf a2, .int (bi a3), .int (bi a4)]) (st := []) dJ1_init_6 q197 q198 q104 rfl q199 rfl pJ0_init_2 rfl (by simp [lg_sl, rf_cat, cat_i, cat_r, cat_l, mJ0_init_2]) (by decide) (by decide) (Nat.le_of_ble_eq_true rfl) (run_la (by simp [lv_args, rf_cat, cat_i, cat_r, cat_l]) (aft_v w (fun h1 w => ?_)))
  exact R_vret dJ1_init_9 rfl w
theorem cJ2_init_0_2 {G : GG} {h : AH} {Q : Outcome → AH → Prop} {a0 : Nat} {a1 : Option Nat} {a2 : Option Nat} {a3 : Bool} {a4 : Bool} (k0 : IsK G h a0 (2, 0)) (w : Run G mJ1_init 3 0 [(0, .ref a0), (1, va_rf a1), (2, va_rf a2), (3, .int (bi a3)), (4, .int (bi a4))] [] h (fun o h1 => o = .returned none ∧ (Q (.returned none) h1))) : Run G mJ2_init 4 0 [(0, .ref a0), (1, va_rf a1), (2, va_rf a2), (3, .int (bi a3)), (4, .int (bi a4))] [] h Q := by
  refine R_aload_n dJ2_init_0 0 rfl ?_
  refine R_aload_nQ dJ2_init_1 1 rfl ?_
  refine R_aload_nQ dJ2_init_2 2 rfl ?_
  refine R_iload_n dJ2_init_3 3 rfl ?_
  refine R_iload dJ2_init_4 4 rfl ?_
  refine R_invI (Mc := mJ1_init) (b := a0) (As := [va_rf a1, va_rf a2, .int (bi a3), .int (bi a4)]) (st := []) dJ2_init_6 q194 q195 q105 rfl q196 rfl pJ1_init rfl (by simp [lg_sl, rf_cat, cat_i, cat_r, cat_l, mJ1_init]) (by decide) (by decide) (Nat.le_of_ble_eq_true rfl) (run_la (by simp [lv_args, rf_cat, cat_i, cat_r, cat_l]) (aft_v w (fun h1 w => ?_)))
  exact R_vret dJ2_init_9 rfl w
theorem cX1_init_0 {G : GG} {h : AH} {Q : Outcome → AH → Prop} {a0 : Nat} (k0 : IsK G h a0 (1, 0)) (w : Run G mJ2_init 4 0 [(0, .ref a0), (1, .null), (2, .null), (3, .int (bi false)), (4, .int (bi false))] [] h (fun o h1 => o = .returned none ∧ (Q (.returned none) h1))) : Run G mX1_init 5 0 [(0, .ref a0)] [] h Q := by
  refine R_aload_n dX1_init_0 0 rfl ?_
  refine R_null dX1_init_1 ?_
  refine R_null dX1_init_2 ?_
  refine R_iconst (v := 0) dX1_init_3 (by decide) ?_
  refine R_iconst (v := 0) dX1_init_4 (by decide) ?_
  refine R_invI (Mc := mJ2_init) (b := a0) (As := [.null, .null, .int (bi false), .int (bi false)]) (st := []) dX1_init_5 q191 q192 q106 rfl q193 rfl pJ2_init rfl (Nat.le_of_ble_eq_true rfl) (by decide) (by decide) (Nat.le_of_ble_eq_true rfl) (aft_v w (fun h1 w => ?_))
  exact R_vret dX1_init_8 rfl w
theorem cX2_init_0 {G : GG} {h : AH} {Q : Outcome → AH → Prop} {a0 : Nat} (k0 : IsK G h a0 (2, 0)) (w : Run G mJ2_init 4 0 [(0, .ref a0), (1, .null), (2, .null), (3, .int (bi false)), (4, .int (bi false))] [] h (fun o h1 => o = .returned none ∧ (Q (.returned none) h1))) : Run G mX2_init 5 0 [(0, .ref a0)] [] h Q := by
  refine R_aload_n dX2_init_0 0 rfl ?_
  refine R_null dX2_init_1 ?_
  refine R_null dX2_init_2 ?_
  refine R_iconst (v := 0) dX2_init_3 (by decide) ?_
  refine R_iconst (v := 0) dX2_init_4 (by decide) ?_
  refine R_invI (Mc := mJ2_init) (b := a0) (As := [.null, .null, .int (bi false), .int (bi false)]) (st := []) dX2_init_5 q232 q192 q106 rfl q193 rfl pJ2_init rfl (Nat.le_of_ble_eq_true rfl) (by decide) (by decide) (Nat.le_of_ble_eq_true rfl) (aft_v w (fun h1 w => ?_))
  exact R_vret dX2_init_8 rfl w
theorem cX3_init_0 {G : GG} {h : AH} {Q : Outcome → AH → Prop} {a0 : Nat} (k0 : IsK G h a0 (3, 0)) (w : Q (.returned none) h) : Run G mX3_init 2 0 [(0, .ref a0)] [] h Q := by
  refine R_aload_n dX3_init_0 0 rfl ?_
  refine R_objInit dX3_init_1 q243 q144 q145 (by decide) (Nat.le_of_ble_eq_true rfl) ?_
  exact R_vret dX3_init_4 rfl w
theorem cX4_init_0 {G : GG} {h : AH} {Q : Outcome → AH → Prop} {a0 : Nat} (k0 : IsK G h a0 (4, 0)) (w : Q (.returned none) h) : Run G mX4_init 2 0 [(0, .ref a0)] [] h Q := by
  refine R_aload_n dX4_init_0 0 rfl ?_
  refine R_objInit dX4_init_1 q258 q144 q145 (by decide) (Nat.le_of_ble_eq_true rfl) ?_
  exact R_vret dX4_init_4 rfl w
theorem cX0_init_0 {G : GG} {h : AH} {Q : Outcome → AH → Prop} {a0 : Nat} (k0 : IsK G h a0 (0, 0)) (w : Run G mX0_init 6 13 [(0, .ref a0)] [] (sP (sNew h (105, 40) 40) 0 a0 (some (aN h))) Q) : Run G mX0_init 6 0 [(0, .ref a0)] [] h Q := by
  refine R_aload_n dX0_init_0 0 rfl ?_
  refine R_objInit dX0_init_1 q143 q144 q145 (by decide) (Nat.le_of_ble_eq_true rfl) ?_
  refine R_aload_n dX0_init_4 0 rfl ?_
  refine R_bipush (v := 40) dX0_init_5 (by decide) ?_
  refine R_newq (j := 5) (n := 40) (E := "NameRests$Change") dX0_init_7 (by decide) (by decide) rfl q146 (by decide) (by decide) (by decide) (by decide) ?_
  refine R_top (v' := va_rf (some (aN h))) rfl ?_
  refine R_putP (k := 0) (f := 0) ok0 dX0_init_10 q264 (by decide) rfl rfl (Or.inr ⟨rfl, rfl, rfl⟩) (nar_rfA _) (fit_rfA _) (by decide) (IsK.N k0) ?_
  exact w
theorem cX0_init_13 {G : GG} {h : AH} {Q : Outcome → AH → Prop} {a0 : Nat} (k0 : IsK G h a0 (0, 0)) (w : Run G mX0_init 6 21 [(0, .ref a0)] [] (sP (sNew h (100, 120) 120) 3 a0 (some (aN h))) Q) : Run G mX0_init 6 13 [(0, .ref a0)] [] h Q := by
  refine R_aload_n dX0_init_13 0 rfl ?_
  refine R_bipush (v := 120) dX0_init_14 (by decide) ?_
  refine R_newa (j := 0) (n := 120) dX0_init_16 (by decide) rfl q213 (by decide) (by decide) (by decide) ?_
  refine R_top (v' := va_rf (some (aN h))) rfl ?_
  refine R_putP (k := 3) (f := 3) ok0 dX0_init_18 q267 (by decide) rfl rfl (Or.inr ⟨rfl, rfl, rfl⟩) (nar_rfA _) (fit_rfA _) (by decide) (IsK.N k0) ?_
  exact w
theorem cX0_init_21 {G : GG} {h : AH} {Q : Outcome → AH → Prop} {a0 : Nat} (k0 : IsK G h a0 (0, 0)) (w : Run G mX1_init 5 0 [(0, .ref (aN h))] [] (sNew h (1, 0) 6) (fun o h1 => o = .returned none ∧ (IsK G h1 a0 (0, 0) ∧ (Run G mX0_init 6 32 [(0, .ref a0)] [] (sP h1 5 a0 (some (aN h))) Q)))) : Run G mX0_init 6 21 [(0, .ref a0)] [] h Q := by
  refine R_aload_n dX0_init_21 0 rfl ?_
  refine R_new ok1 dX0_init_22 q148 q149 q107 (by decide) nfd1 ?_
  refine R_dup dX0_init_25 rfl ?_
  refine R_invI (Mc := mX1_init) (b := (aN h)) (As := []) (st := [.ref (aN h), .ref a0]) dX0_init_26 q188 q189 q107 rfl q190 rfl pX1_init rfl (Nat.le_of_ble_eq_true rfl) (by decide) (by decide) (Nat.le_of_ble_eq_true rfl) (aft_v w (fun h1 w => ?_))
  obtain ⟨k2, w⟩ := w
  refine R_top (v' := va_rf (some (aN h))) rfl ?_
  refine R_putP (k := 5) (f := 5) ok0 dX0_init_29 q269 (by decide) rfl rfl (Or.inr ⟨rfl, rfl, rfl⟩) (nar_rf _) (fit_rf _) (by decide) k2 ?_
  exact w
theorem cX0_init_32 {G : GG} {h : AH} {Q : Outcome → AH → Prop} {a0 : Nat} (k0 : IsK G h a0 (0, 0)) (w : Run G mX0_init 6 41 [(0, .ref a0)] [] (sP (sNew h (107, 12) 12) 7 a0 (some (aN h))) Q) : Run G mX0_init 6 32 [(0, .ref a0)] [] h Q := by
  refine R_aload_n dX0_init_32 0 rfl ?_
  refine R_bipush (v := 12) dX0_init_33 (by decide) ?_
  refine R_newq (j := 7) (n := 12) (E := "NameRests$Person") dX0_init_35 (by decide) (by decide) rfl q214 (by decide) (by decide) (by decide) (by decide) ?_
  refine R_top (v' := va_rf (some (aN h))) rfl ?_
  refine R_putP (k := 7) (f := 7) ok0 dX0_init_38 q271 (by decide) rfl rfl (Or.inr ⟨rfl, rfl, rfl⟩) (nar_rfA _) (fit_rfA _) (by decide) (IsK.N k0) ?_
  exact w
theorem cX0_init_41 {G : GG} {h : AH} {Q : Outcome → AH → Prop} {a0 : Nat} (k0 : IsK G h a0 (0, 0)) (w : Run G mX0_init 6 49 [(0, .ref a0)] [] (sP (sNew h (100, 12) 12) 9 a0 (some (aN h))) Q) : Run G mX0_init 6 41 [(0, .ref a0)] [] h Q := by
  refine R_aload_n dX0_init_41 0 rfl ?_
  refine R_bipush (v := 12) dX0_init_42 (by decide) ?_
  refine R_newa (j := 0) (n := 12) dX0_init_44 (by decide) rfl q213 (by decide) (by decide) (by decide) ?_
  refine R_top (v' := va_rf (some (aN h))) rfl ?_
  refine R_putP (k := 9) (f := 9) ok0 dX0_init_46 q273 (by decide) rfl rfl (Or.inr ⟨rfl, rfl, rfl⟩) (nar_rfA _) (fit_rfA _) (by decide) (IsK.N k0) ?_
  exact w
theorem cX0_init_49 {G : GG} {h : AH} {Q : Outcome → AH → Prop} {a0 : Nat} (k0 : IsK G h a0 (0, 0)) (w : Run G mX0_init 6 58 [(0, .ref a0)] [] (sP (sNew h (108, 16) 16) 10 a0 (some (aN h))) Q) : Run G mX0_init 6 49 [(0, .ref a0)] [] h Q := by
  refine R_aload_n dX0_init_49 0 rfl ?_
  refine R_bipush (v := 16) dX0_init_50 (by decide) ?_
  refine R_newq (j := 8) (n := 16) (E := "NameRests$Meeting") dX0_init_52 (by decide) (by decide) rfl q216 (by decide) (by decide) (by decide) (by decide) ?_
  refine R_top (v' := va_rf (some (aN h))) rfl ?_
  refine R_putP (k := 10) (f := 10) ok0 dX0_init_55 q274 (by decide) rfl rfl (Or.inr ⟨rfl, rfl, rfl⟩) (nar_rfA _) (fit_rfA _) (by decide) (IsK.N k0) ?_
  exact w
theorem cX0_init_58 {G : GG} {h : AH} {Q : Outcome → AH → Prop} {a0 : Nat} (k0 : IsK G h a0 (0, 0)) (w : Run G mX0_init 6 66 [(0, .ref a0)] [] (sP (sNew h (100, 16) 16) 12 a0 (some (aN h))) Q) : Run G mX0_init 6 58 [(0, .ref a0)] [] h Q := by
  refine R_aload_n dX0_init_58 0 rfl ?_
  refine R_bipush (v := 16) dX0_init_59 (by decide) ?_
  refine R_newa (j := 0) (n := 16) dX0_init_61 (by decide) rfl q213 (by decide) (by decide) (by decide) ?_
  refine R_top (v' := va_rf (some (aN h))) rfl ?_
  refine R_putP (k := 12) (f := 12) ok0 dX0_init_63 q276 (by decide) rfl rfl (Or.inr ⟨rfl, rfl, rfl⟩) (nar_rfA _) (fit_rfA _) (by decide) (IsK.N k0) ?_
  exact w
theorem cX0_init_66 {G : GG} {h : AH} {Q : Outcome → AH → Prop} {a0 : Nat} (k0 : IsK G h a0 (0, 0)) (w : Run G mX0_init 6 75 [(0, .ref a0)] [] (sP (sNew h (106, 12) 12) 14 a0 (some (aN h))) Q) : Run G mX0_init 6 66 [(0, .ref a0)] [] h Q := by
  refine R_aload_n dX0_init_66 0 rfl ?_
  refine R_bipush (v := 12) dX0_init_67 (by decide) ?_
  refine R_newq (j := 6) (n := 12) (E := "NameRests$Held") dX0_init_69 (by decide) (by decide) rfl q218 (by decide) (by decide) (by decide) (by decide) ?_
  refine R_top (v' := va_rf (some (aN h))) rfl ?_
  refine R_putP (k := 14) (f := 14) ok0 dX0_init_72 q278 (by decide) rfl rfl (Or.inr ⟨rfl, rfl, rfl⟩) (nar_rfA _) (fit_rfA _) (by decide) (IsK.N k0) ?_
  exact w
theorem cX0_init_75 {G : GG} {h : AH} {Q : Outcome → AH → Prop} {a0 : Nat} (k0 : IsK G h a0 (0, 0)) (w : Run G mX0_init 6 83 [(0, .ref a0)] [] (sP (sNew h (100, 12) 12) 15 a0 (some (aN h))) Q) : Run G mX0_init 6 75 [(0, .ref a0)] [] h Q := by
  refine R_aload_n dX0_init_75 0 rfl ?_
  refine R_bipush (v := 12) dX0_init_76 (by decide) ?_
  refine R_newa (j := 0) (n := 12) dX0_init_78 (by decide) rfl q213 (by decide) (by decide) (by decide) ?_
  refine R_top (v' := va_rf (some (aN h))) rfl ?_
  refine R_putP (k := 15) (f := 15) ok0 dX0_init_80 q279 (by decide) rfl rfl (Or.inr ⟨rfl, rfl, rfl⟩) (nar_rfA _) (fit_rfA _) (by decide) (IsK.N k0) ?_
  exact w
theorem cX0_init_83 {G : GG} {h : AH} {Q : Outcome → AH → Prop} {a0 : Nat} (k0 : IsK G h a0 (0, 0)) (w : Run G mX2_init 5 0 [(0, .ref (aN h))] [] (sNew h (2, 0) 6) (fun o h1 => o = .returned none ∧ (IsK G h1 a0 (0, 0) ∧ (Run G mX0_init 6 94 [(0, .ref a0)] [] (sP h1 16 a0 (some (aN h))) Q)))) : Run G mX0_init 6 83 [(0, .ref a0)] [] h Q := by
  refine R_aload_n dX0_init_83 0 rfl ?_
  refine R_new ok2 dX0_init_84 q220 q221 q108 (by decide) nfd2 ?_
  refine R_dup dX0_init_87 rfl ?_
  refine R_invI (Mc := mX2_init) (b := (aN h)) (As := []) (st := [.ref (aN h), .ref a0]) dX0_init_88 q229 q230 q108 rfl q231 rfl pX2_init rfl (Nat.le_of_ble_eq_true rfl) (by decide) (by decide) (Nat.le_of_ble_eq_true rfl) (aft_v w (fun h1 w => ?_))
  obtain ⟨k2, w⟩ := w
  refine R_top (v' := va_rf (some (aN h))) rfl ?_
  refine R_putP (k := 16) (f := 16) ok0 dX0_init_91 q280 (by decide) rfl rfl (Or.inr ⟨rfl, rfl, rfl⟩) (nar_rf _) (fit_rf _) (by decide) k2 ?_
  exact w
theorem cX0_init_94 {G : GG} {h : AH} {Q : Outcome → AH → Prop} {a0 : Nat} (k0 : IsK G h a0 (0, 0)) (w : Run G mX0_init 6 102 [(0, .ref a0)] [] (sP (sNew h (100, 6) 6) 17 a0 (some (aN h))) Q) : Run G mX0_init 6 94 [(0, .ref a0)] [] h Q := by
  refine R_aload_n dX0_init_94 0 rfl ?_
  refine R_bipush (v := 6) dX0_init_95 (by decide) ?_
  refine R_newa (j := 0) (n := 6) dX0_init_97 (by decide) rfl q213 (by decide) (by decide) (by decide) ?_
  refine R_top (v' := va_rf (some (aN h))) rfl ?_
  refine R_putP (k := 17) (f := 17) ok0 dX0_init_99 q282 (by decide) rfl rfl (Or.inr ⟨rfl, rfl, rfl⟩) (nar_rfA _) (fit_rfA _) (by decide) (IsK.N k0) ?_
  exact w
theorem cX0_init_102 {G : GG} {h : AH} {Q : Outcome → AH → Prop} {a0 : Nat} (k0 : IsK G h a0 (0, 0)) (w : Run G mX0_init 6 110 [(0, .ref a0)] [] (sP (sNew h (100, 12) 12) 20 a0 (some (aN h))) Q) : Run G mX0_init 6 102 [(0, .ref a0)] [] h Q := by
  refine R_aload_n dX0_init_102 0 rfl ?_
  refine R_bipush (v := 12) dX0_init_103 (by decide) ?_
  refine R_newa (j := 0) (n := 12) dX0_init_105 (by decide) rfl q213 (by decide) (by decide) (by decide) ?_
  refine R_top (v' := va_rf (some (aN h))) rfl ?_
  refine R_putP (k := 20) (f := 20) ok0 dX0_init_107 q285 (by decide) rfl rfl (Or.inr ⟨rfl, rfl, rfl⟩) (nar_rfA _) (fit_rfA _) (by decide) (IsK.N k0) ?_
  exact w
theorem cX0_init_110 {G : GG} {h : AH} {Q : Outcome → AH → Prop} {a0 : Nat} (k0 : IsK G h a0 (0, 0)) (w : Run G mX0_init 6 118 [(0, .ref a0)] [] (sP (sNew h (100, 12) 12) 21 a0 (some (aN h))) Q) : Run G mX0_init 6 110 [(0, .ref a0)] [] h Q := by
  refine R_aload_n dX0_init_110 0 rfl ?_
  refine R_bipush (v := 12) dX0_init_111 (by decide) ?_
  refine R_newa (j := 0) (n := 12) dX0_init_113 (by decide) rfl q213 (by decide) (by decide) (by decide) ?_
  refine R_top (v' := va_rf (some (aN h))) rfl ?_
  refine R_putP (k := 21) (f := 21) ok0 dX0_init_115 q286 (by decide) rfl rfl (Or.inr ⟨rfl, rfl, rfl⟩) (nar_rfA _) (fit_rfA _) (by decide) (IsK.N k0) ?_
  exact w
theorem cX0_init_118 {G : GG} {h : AH} {Q : Outcome → AH → Prop} {a0 : Nat} (k0 : IsK G h a0 (0, 0)) (w : Run G mX0_init 6 126 [(0, .ref a0)] [] (sP (sNew h (100, 12) 12) 22 a0 (some (aN h))) Q) : Run G mX0_init 6 118 [(0, .ref a0)] [] h Q := by
  refine R_aload_n dX0_init_118 0 rfl ?_
  refine R_bipush (v := 12) dX0_init_119 (by decide) ?_
  refine R_newa (j := 0) (n := 12) dX0_init_121 (by decide) rfl q213 (by decide) (by decide) (by decide) ?_
  refine R_top (v' := va_rf (some (aN h))) rfl ?_
  refine R_putP (k := 22) (f := 22) ok0 dX0_init_123 q287 (by decide) rfl rfl (Or.inr ⟨rfl, rfl, rfl⟩) (nar_rfA _) (fit_rfA _) (by decide) (IsK.N k0) ?_
  exact w
theorem cX0_init_126 {G : GG} {h : AH} {Q : Outcome → AH → Prop} {a0 : Nat} (k0 : IsK G h a0 (0, 0)) (w : Run G mX0_init 6 134 [(0, .ref a0)] [] (sP (sNew h (100, 12) 12) 25 a0 (some (aN h))) Q) : Run G mX0_init 6 126 [(0, .ref a0)] [] h Q := by
  refine R_aload_n dX0_init_126 0 rfl ?_
  refine R_bipush (v := 12) dX0_init_127 (by decide) ?_
  refine R_newa (j := 0) (n := 12) dX0_init_129 (by decide) rfl q213 (by decide) (by decide) (by decide) ?_
  refine R_top (v' := va_rf (some (aN h))) rfl ?_
  refine R_putP (k := 25) (f := 25) ok0 dX0_init_131 q290 (by decide) rfl rfl (Or.inr ⟨rfl, rfl, rfl⟩) (nar_rfA _) (fit_rfA _) (by decide) (IsK.N k0) ?_
  exact w
theorem cX0_init_134 {G : GG} {h : AH} {Q : Outcome → AH → Prop} {a0 : Nat} (k0 : IsK G h a0 (0, 0)) (w : Run G mX0_init 6 143 [(0, .ref a0)] [] (sP (sNew h (109, 50) 50) 26 a0 (some (aN h))) Q) : Run G mX0_init 6 134 [(0, .ref a0)] [] h Q := by
  refine R_aload_n dX0_init_134 0 rfl ?_
  refine R_bipush (v := 50) dX0_init_135 (by decide) ?_
  refine R_newq (j := 9) (n := 50) (E := "NameRests$Body") dX0_init_137 (by decide) (by decide) rfl q235 (by decide) (by decide) (by decide) (by decide) ?_
  refine R_top (v' := va_rf (some (aN h))) rfl ?_
  refine R_putP (k := 26) (f := 26) ok0 dX0_init_140 q291 (by decide) rfl rfl (Or.inr ⟨rfl, rfl, rfl⟩) (nar_rfA _) (fit_rfA _) (by decide) (IsK.N k0) ?_
  exact w
theorem cX0_init_143 {G : GG} {h : AH} {Q : Outcome → AH → Prop} {a0 : Nat} (k0 : IsK G h a0 (0, 0)) (w : Run G mX0_init 6 151 [(0, .ref a0)] [] (sP (sNew h (100, 24) 24) 28 a0 (some (aN h))) Q) : Run G mX0_init 6 143 [(0, .ref a0)] [] h Q := by
  refine R_aload_n dX0_init_143 0 rfl ?_
  refine R_bipush (v := 24) dX0_init_144 (by decide) ?_
  refine R_newa (j := 0) (n := 24) dX0_init_146 (by decide) rfl q213 (by decide) (by decide) (by decide) ?_
  refine R_top (v' := va_rf (some (aN h))) rfl ?_
  refine R_putP (k := 28) (f := 28) ok0 dX0_init_148 q294 (by decide) rfl rfl (Or.inr ⟨rfl, rfl, rfl⟩) (nar_rfA _) (fit_rfA _) (by decide) (IsK.N k0) ?_
  exact w
theorem cX0_init_151 {G : GG} {h : AH} {Q : Outcome → AH → Prop} {a0 : Nat} (k0 : IsK G h a0 (0, 0)) (w : Run G mX0_init 6 160 [(0, .ref a0)] [] (sP (sNew h (110, 6) 6) 30 a0 (some (aN h))) Q) : Run G mX0_init 6 151 [(0, .ref a0)] [] h Q := by
  refine R_aload_n dX0_init_151 0 rfl ?_
  refine R_bipush (v := 6) dX0_init_152 (by decide) ?_
  refine R_newq (j := 10) (n := 6) (E := "java/lang/Object") dX0_init_154 (by decide) (by decide) rfl q237 (by decide) (by decide) (by decide) (by decide) ?_
  refine R_top (v' := va_rf (some (aN h))) rfl ?_
  refine R_putP (k := 30) (f := 30) ok0 dX0_init_157 q297 (by decide) rfl rfl (Or.inr ⟨rfl, rfl, rfl⟩) (nar_rfA _) (fit_rfA _) (by decide) (IsK.N k0) ?_
  exact w
theorem cX0_init_160 {G : GG} {h : AH} {Q : Outcome → AH → Prop} {a0 : Nat} (k0 : IsK G h a0 (0, 0)) (w : Run G mX0_init 6 162 [(0, .ref a0), (1, .int 0)] [] h Q) : Run G mX0_init 6 160 [(0, .ref a0)] [] h Q := by
  refine R_iconst (v := 0) dX0_init_160 (by decide) ?_
  refine R_istore_n (lv' := [(1, .int 0), (0, .ref a0)]) dX0_init_161 rfl (by decide) rfl ?_
  exact R_sub [1, 0] rfl w
theorem cX0_init_162 {G : GG} {h : AH} {Q : Outcome → AH → Prop} {a0 : Nat} {a1 : Int32} (k0 : IsK G h a0 (0, 0)) (w : (40 ≤ a1 → (Run G mX0_init 6 189 [(0, .ref a0), (1, .int 0)] [] h Q)) ∧ (¬ 40 ≤ a1 → (∃ q1 : Nat, (aP h 0 a0) = some q1 ∧ (Run G mX3_init 2 0 [(0, .ref (aN h))] [] (sNew h (3, 0) 3) (fun o h3 => o = .returned none ∧ (∃ n4 : Nat, IsK G h3 q1 (105, n4) ∧ vp_in a1 n4 ∧ Fit G h3 "NameRests$Change" (aN h) ∧ (Run G mX0_init 6 162 [(0, .ref a0), (1, .int (a1 + 1))] [] (sR h3 q1 a1.toNatClampNeg (some (aN h))) Q))))))) : Run G mX0_init 6 162 [(0, .ref a0), (1, .int a1)] [] h Q := by
  refine R_iload_n dX0_init_162 1 rfl ?_
  refine R_bipush (v := 40) dX0_init_163 (by decide) ?_
  refine R_icmp_ge (tgt := 187) dX0_init_165 (by decide) (fun c8 => ?_) (fun c8 => ?_)
  · have w := w.1 c8
    refine R_iconst (v := 0) dX0_init_187 (by decide) ?_
    refine R_istore_n (lv' := [(1, .int 0), (0, .ref a0)]) dX0_init_188 rfl (by decide) rfl ?_
    exact R_sub [1, 0] rfl w
  · have w := w.2 c8
    refine R_aload_n dX0_init_168 0 rfl ?_
    obtain ⟨q1, e2, w⟩ := w
    refine R_getP (k := 0) (f := 0) ok0 dX0_init_169 q264 (by decide) rfl (by decide) k0 ?_
    refine R_top (v' := .ref q1) (congrArg va_rf e2) ?_
    refine R_iload_n dX0_init_172 1 rfl ?_
    refine R_new ok3 dX0_init_173 q146 q239 q109 (by decide) nfd3 ?_
    refine R_dup dX0_init_176 rfl ?_
    refine R_invIN (Mc := mX3_init) (b := (aN h)) (As := []) (st := [.ref (aN h), .int a1, .ref q1]) dX0_init_177 q240 q241 q109 rfl q242 rfl pX3_init rfl (Nat.le_of_ble_eq_true rfl) (by decide) (by decide) (Nat.le_of_ble_eq_true rfl) (aft_v w (fun h3 w => ?_))
    obtain ⟨n4, k5, c6, f7, w⟩ := w
    refine R_aast (j := 5) (E := "NameRests$Change") dX0_init_180 (by decide) (by decide) rfl k5 c6 f7 ?_
    refine R_iinc (v := (a1 + 1)) (lv' := [(1, .int (a1 + 1)), (0, .ref a0)]) dX0_init_181 1 rfl (congrArg (fun z => a1 + z) (show Int32.ofInt 1 = 1 by decide)) (by decide) rfl ?_
    refine R_goto (tgt := 162) dX0_init_184 (by decide) ?_
    exact R_sub [1, 0] rfl w
theorem cX0_init_189 {G : GG} {h : AH} {Q : Outcome → AH → Prop} {a0 : Nat} {a1 : Int32} (k0 : IsK G h a0 (0, 0)) (w : (12 ≤ a1 → (Q (.returned none) h)) ∧ (¬ 12 ≤ a1 → (∃ q1 : Nat, (aP h 14 a0) = some q1 ∧ (Run G mX4_init 2 0 [(0, .ref (aN h))] [] (sNew h (4, 0) 1) (fun o h3 => o = .returned none ∧ (∃ n4 : Nat, IsK G h3 q1 (106, n4) ∧ vp_in a1 n4 ∧ Fit G h3 "NameRests$Held" (aN h) ∧ (IsK G (sR h3 q1 a1.toNatClampNeg (some (aN h))) a0 (0, 0) ∧ (∃ q9 : Nat, (aP (sR h3 q1 a1.toNatClampNeg (some (aN h))) 14 a0) = some q9 ∧ (∃ n11 : Nat, IsK G (sR h3 q1 a1.toNatClampNeg (some (aN h))) q9 (106, n11) ∧ vp_in a1 n11 ∧ ∃ q14 : Nat, (aR (sR h3 q1 a1.toNatClampNeg (some (aN h))) q9 a1.toNatClampNeg) = some q14 ∧ (IsK G (sR h3 q1 a1.toNatClampNeg (some (aN h))) q14 (4, 0) ∧ (Run G mX0_init 6 218 [(0, .ref a0), (1, .int a1)] [] (sI (sR h3 q1 a1.toNatClampNeg (some (aN h))) 256 q14 1) Q))))))))))) : Run G mX0_init 6 189 [(0, .ref a0), (1, .int a1)] [] h Q := by
  refine R_iload_n dX0_init_189 1 rfl ?_
  refine R_bipush (v := 12) dX0_init_190 (by decide) ?_
  refine R_icmp_ge (tgt := 224) dX0_init_192 (by decide) (fun c17 => ?_) (fun c17 => ?_)
  · have w := w.1 c17
    exact R_vret dX0_init_224 rfl w
  · have w := w.2 c17
    refine R_aload_n dX0_init_195 0 rfl ?_
    obtain ⟨q1, e2, w⟩ := w
    refine R_getP (k := 14) (f := 14) ok0 dX0_init_196 q278 (by decide) rfl (by decide) k0 ?_
    refine R_top (v' := .ref q1) (congrArg va_rf e2) ?_
    refine R_iload_n dX0_init_199 1 rfl ?_
    refine R_new ok4 dX0_init_200 q218 q254 q110 (by decide) nfd4 ?_
    refine R_dup dX0_init_203 rfl ?_
    refine R_invIN (Mc := mX4_init) (b := (aN h)) (As := []) (st := [.ref (aN h), .int a1, .ref q1]) dX0_init_204 q255 q256 q110 rfl q257 rfl pX4_init rfl (Nat.le_of_ble_eq_true rfl) (by decide) (by decide) (Nat.le_of_ble_eq_true rfl) (aft_v w (fun h3 w => ?_))
    obtain ⟨n4, k5, c6, f7, w⟩ := w
    refine R_aast (j := 6) (E := "NameRests$Held") dX0_init_207 (by decide) (by decide) rfl k5 c6 f7 ?_
    refine R_aload_n dX0_init_208 0 rfl ?_
    obtain ⟨k8, w⟩ := w
    obtain ⟨q9, e10, w⟩ := w
    refine R_getP (k := 14) (f := 14) ok0 dX0_init_209 q278 (by decide) rfl (by decide) k8 ?_
    refine R_top (v' := .ref q9) (congrArg va_rf e10) ?_
    refine R_iload_n dX0_init_212 1 rfl ?_
    obtain ⟨n11, k12, c13, q14, e15, w⟩ := w
    refine R_aald (j := 6) (E := "NameRests$Held") dX0_init_213 (by decide) (by decide) rfl k12 c13 ?_
    refine R_top (v' := .ref q14) (congrArg va_rf e15) ?_
    refine R_iconst (v := 1) dX0_init_214 (by decide) ?_
    obtain ⟨k16, w⟩ := w
    refine R_putIN (k := 0) (f := 256) ok4 dX0_init_215 q260 (by decide) rfl rfl rfl rfl rfl (by decide) k16 ?_
    exact w
theorem cX0_init_218 {G : GG} {h : AH} {Q : Outcome → AH → Prop} {a0 : Nat} {a1 : Int32} (k0 : IsK G h a0 (0, 0)) (w : Run G mX0_init 6 189 [(0, .ref a0), (1, .int (a1 + 1))] [] h Q) : Run G mX0_init 6 218 [(0, .ref a0), (1, .int a1)] [] h Q := by
  refine R_iinc (v := (a1 + 1)) (lv' := [(1, .int (a1 + 1)), (0, .ref a0)]) dX0_init_218 1 rfl (congrArg (fun z => a1 + z) (show Int32.ofInt 1 = 1 by decide)) (by decide) rfl ?_
  refine R_goto (tgt := 189) dX0_init_221 (by decide) ?_
  exact R_sub [1, 0] rfl w
theorem cX5_init_0 {G : GG} {h : AH} {Q : Outcome → AH → Prop} {a0 : Nat} (k0 : IsK G h a0 (5, 0)) (w : Run G mX5_init 2 12 [(0, .ref a0)] [] (sP (sNew h (100, 12) 12) 322 a0 (some (aN h))) Q) : Run G mX5_init 2 0 [(0, .ref a0)] [] h Q := by
  refine R_aload_n dX5_init_0 0 rfl ?_
  refine R_objInit dX5_init_1 q1264 q144 q145 (by decide) (Nat.le_of_ble_eq_true rfl) ?_
  refine R_aload_n dX5_init_4 0 rfl ?_
  refine R_bipush (v := 12) dX5_init_5 (by decide) ?_
  refine R_newa (j := 0) (n := 12) dX5_init_7 (by decide) rfl q213 (by decide) (by decide) (by decide) ?_
  refine R_top (v' := va_rf (some (aN h))) rfl ?_
  refine R_putP (k := 2) (f := 322) ok5 dX5_init_9 q1266 (by decide) rfl rfl (Or.inr ⟨rfl, rfl, rfl⟩) (nar_rfA _) (fit_rfA _) (by decide) (IsK.N k0) ?_
  exact w
theorem cX5_init_12 {G : GG} {h : AH} {Q : Outcome → AH → Prop} {a0 : Nat} (k0 : IsK G h a0 (5, 0)) (w : Run G mX5_init 2 20 [(0, .ref a0)] [] (sP (sNew h (100, 12) 12) 323 a0 (some (aN h))) Q) : Run G mX5_init 2 12 [(0, .ref a0)] [] h Q := by
  refine R_aload_n dX5_init_12 0 rfl ?_
  refine R_bipush (v := 12) dX5_init_13 (by decide) ?_
  refine R_newa (j := 0) (n := 12) dX5_init_15 (by decide) rfl q213 (by decide) (by decide) (by decide) ?_
  refine R_top (v' := va_rf (some (aN h))) rfl ?_
  refine R_putP (k := 3) (f := 323) ok5 dX5_init_17 q1267 (by decide) rfl rfl (Or.inr ⟨rfl, rfl, rfl⟩) (nar_rfA _) (fit_rfA _) (by decide) (IsK.N k0) ?_
  exact w
theorem cX5_init_20 {G : GG} {h : AH} {Q : Outcome → AH → Prop} {a0 : Nat} (k0 : IsK G h a0 (5, 0)) (w : Run G mX5_init 2 82 [(0, .ref a0)] [] (sP (sA (sA (sA (sA (sA (sA (sA (sA (sA (sA (sA (sA (sNew h (100, 12) 12) (aN h) (0 : Int32).toNatClampNeg (-1)) (aN h) (1 : Int32).toNatClampNeg (-1)) (aN h) (2 : Int32).toNatClampNeg (-1)) (aN h) (3 : Int32).toNatClampNeg (-1)) (aN h) (4 : Int32).toNatClampNeg (-1)) (aN h) (5 : Int32).toNatClampNeg (-1)) (aN h) (6 : Int32).toNatClampNeg (-1)) (aN h) (7 : Int32).toNatClampNeg (-1)) (aN h) (8 : Int32).toNatClampNeg (-1)) (aN h) (9 : Int32).toNatClampNeg (-1)) (aN h) (10 : Int32).toNatClampNeg (-1)) (aN h) (11 : Int32).toNatClampNeg (-1)) 324 a0 (some (aN h))) Q) : Run G mX5_init 2 20 [(0, .ref a0)] [] h Q := by
  refine R_aload_n dX5_init_20 0 rfl ?_
  refine R_bipush (v := 12) dX5_init_21 (by decide) ?_
  refine R_newa (j := 0) (n := 12) dX5_init_23 (by decide) rfl q213 (by decide) (by decide) (by decide) ?_
  refine R_dup dX5_init_25 rfl ?_
  refine R_iconst (v := 0) dX5_init_26 (by decide) ?_
  refine R_iconst (v := (-1)) dX5_init_27 (by decide) ?_
  refine R_iast dX5_init_28 (IsK.new1 k0) (by unfold vp_in; decide) ?_
  refine R_dup dX5_init_29 rfl ?_
  refine R_iconst (v := 1) dX5_init_30 (by decide) ?_
  refine R_iconst (v := (-1)) dX5_init_31 (by decide) ?_
  refine R_iast dX5_init_32 (IsK.new1 k0) (by unfold vp_in; decide) ?_
  refine R_dup dX5_init_33 rfl ?_
  refine R_iconst (v := 2) dX5_init_34 (by decide) ?_
  refine R_iconst (v := (-1)) dX5_init_35 (by decide) ?_
  refine R_iast dX5_init_36 (IsK.new1 k0) (by unfold vp_in; decide) ?_
  refine R_dup dX5_init_37 rfl ?_
  refine R_iconst (v := 3) dX5_init_38 (by decide) ?_
  refine R_iconst (v := (-1)) dX5_init_39 (by decide) ?_
  refine R_iast dX5_init_40 (IsK.new1 k0) (by unfold vp_in; decide) ?_
  refine R_dup dX5_init_41 rfl ?_
  refine R_iconst (v := 4) dX5_init_42 (by decide) ?_
  refine R_iconst (v := (-1)) dX5_init_43 (by decide) ?_
  refine R_iast dX5_init_44 (IsK.new1 k0) (by unfold vp_in; decide) ?_
  refine R_dup dX5_init_45 rfl ?_
  refine R_iconst (v := 5) dX5_init_46 (by decide) ?_
  refine R_iconst (v := (-1)) dX5_init_47 (by decide) ?_
  refine R_iast dX5_init_48 (IsK.new1 k0) (by unfold vp_in; decide) ?_
  refine R_dup dX5_init_49 rfl ?_
  refine R_bipush (v := 6) dX5_init_50 (by decide) ?_
  refine R_iconst (v := (-1)) dX5_init_52 (by decide) ?_
  refine R_iast dX5_init_53 (IsK.new1 k0) (by unfold vp_in; decide) ?_
  refine R_dup dX5_init_54 rfl ?_
  refine R_bipush (v := 7) dX5_init_55 (by decide) ?_
  refine R_iconst (v := (-1)) dX5_init_57 (by decide) ?_
  refine R_iast dX5_init_58 (IsK.new1 k0) (by unfold vp_in; decide) ?_
  refine R_dup dX5_init_59 rfl ?_
  refine R_bipush (v := 8) dX5_init_60 (by decide) ?_
  refine R_iconst (v := (-1)) dX5_init_62 (by decide) ?_
  refine R_iast dX5_init_63 (IsK.new1 k0) (by unfold vp_in; decide) ?_
  refine R_dup dX5_init_64 rfl ?_
  refine R_bipush (v := 9) dX5_init_65 (by decide) ?_
  refine R_iconst (v := (-1)) dX5_init_67 (by decide) ?_
  refine R_iast dX5_init_68 (IsK.new1 k0) (by unfold vp_in; decide) ?_
  refine R_dup dX5_init_69 rfl ?_
  refine R_bipush (v := 10) dX5_init_70 (by decide) ?_
  refine R_iconst (v := (-1)) dX5_init_72 (by decide) ?_
  refine R_iast dX5_init_73 (IsK.new1 k0) (by unfold vp_in; decide) ?_
  refine R_dup dX5_init_74 rfl ?_
  refine R_bipush (v := 11) dX5_init_75 (by decide) ?_
  refine R_iconst (v := (-1)) dX5_init_77 (by decide) ?_
  refine R_iast dX5_init_78 (IsK.new1 k0) (by unfold vp_in; decide) ?_
  refine R_top (v' := va_rf (some (aN h))) rfl ?_
  refine R_putP (k := 4) (f := 324) ok5 dX5_init_79 q1268 (by decide) rfl rfl (Or.inr ⟨rfl, rfl, rfl⟩) (nar_rfA _) (fit_rfA _) (by decide) (IsK.N k0) ?_
  exact w
theorem cX5_init_82 {G : GG} {h : AH} {Q : Outcome → AH → Prop} {a0 : Nat} (k0 : IsK G h a0 (5, 0)) (w : Run G mX5_init 2 90 [(0, .ref a0)] [] (sP (sNew h (100, 16) 16) 326 a0 (some (aN h))) Q) : Run G mX5_init 2 82 [(0, .ref a0)] [] h Q := by
  refine R_aload_n dX5_init_82 0 rfl ?_
  refine R_bipush (v := 16) dX5_init_83 (by decide) ?_
  refine R_newa (j := 0) (n := 16) dX5_init_85 (by decide) rfl q213 (by decide) (by decide) (by decide) ?_
  refine R_top (v' := va_rf (some (aN h))) rfl ?_
  refine R_putP (k := 6) (f := 326) ok5 dX5_init_87 q1270 (by decide) rfl rfl (Or.inr ⟨rfl, rfl, rfl⟩) (nar_rfA _) (fit_rfA _) (by decide) (IsK.N k0) ?_
  exact w
theorem cX5_init_90 {G : GG} {h : AH} {Q : Outcome → AH → Prop} {a0 : Nat} (k0 : IsK G h a0 (5, 0)) (w : Run G mX5_init 2 98 [(0, .ref a0)] [] (sP (sNew h (100, 16) 16) 327 a0 (some (aN h))) Q) : Run G mX5_init 2 90 [(0, .ref a0)] [] h Q := by
  refine R_aload_n dX5_init_90 0 rfl ?_
  refine R_bipush (v := 16) dX5_init_91 (by decide) ?_
  refine R_newa (j := 0) (n := 16) dX5_init_93 (by decide) rfl q213 (by decide) (by decide) (by decide) ?_
  refine R_top (v' := va_rf (some (aN h))) rfl ?_
  refine R_putP (k := 7) (f := 327) ok5 dX5_init_95 q1271 (by decide) rfl rfl (Or.inr ⟨rfl, rfl, rfl⟩) (nar_rfA _) (fit_rfA _) (by decide) (IsK.N k0) ?_
  exact w
theorem cX5_init_98 {G : GG} {h : AH} {Q : Outcome → AH → Prop} {a0 : Nat} (k0 : IsK G h a0 (5, 0)) (w : Run G mX5_init 2 106 [(0, .ref a0)] [] (sP (sNew h (100, 16) 16) 328 a0 (some (aN h))) Q) : Run G mX5_init 2 98 [(0, .ref a0)] [] h Q := by
  refine R_aload_n dX5_init_98 0 rfl ?_
  refine R_bipush (v := 16) dX5_init_99 (by decide) ?_
  refine R_newa (j := 0) (n := 16) dX5_init_101 (by decide) rfl q213 (by decide) (by decide) (by decide) ?_
  refine R_top (v' := va_rf (some (aN h))) rfl ?_
  refine R_putP (k := 8) (f := 328) ok5 dX5_init_103 q1272 (by decide) rfl rfl (Or.inr ⟨rfl, rfl, rfl⟩) (nar_rfA _) (fit_rfA _) (by decide) (IsK.N k0) ?_
  exact w
theorem cX5_init_106 {G : GG} {h : AH} {Q : Outcome → AH → Prop} {a0 : Nat} (k0 : IsK G h a0 (5, 0)) (w : Run G mX5_init 2 168 [(0, .ref a0)] [] (sP (sA (sA (sA (sA (sA (sA (sA (sA (sA (sA (sA (sA (sNew h (100, 12) 12) (aN h) (0 : Int32).toNatClampNeg 1) (aN h) (1 : Int32).toNatClampNeg 1) (aN h) (2 : Int32).toNatClampNeg 1) (aN h) (3 : Int32).toNatClampNeg 1) (aN h) (4 : Int32).toNatClampNeg 1) (aN h) (5 : Int32).toNatClampNeg 1) (aN h) (6 : Int32).toNatClampNeg 1) (aN h) (7 : Int32).toNatClampNeg 1) (aN h) (8 : Int32).toNatClampNeg 1) (aN h) (9 : Int32).toNatClampNeg 1) (aN h) (10 : Int32).toNatClampNeg 1) (aN h) (11 : Int32).toNatClampNeg 1) 330 a0 (some (aN h))) Q) : Run G mX5_init 2 106 [(0, .ref a0)] [] h Q := by
  refine R_aload_n dX5_init_106 0 rfl ?_
  refine R_bipush (v := 12) dX5_init_107 (by decide) ?_
  refine R_newa (j := 0) (n := 12) dX5_init_109 (by decide) rfl q213 (by decide) (by decide) (by decide) ?_
  refine R_dup dX5_init_111 rfl ?_
  refine R_iconst (v := 0) dX5_init_112 (by decide) ?_
  refine R_iconst (v := 1) dX5_init_113 (by decide) ?_
  refine R_iast dX5_init_114 (IsK.new1 k0) (by unfold vp_in; decide) ?_
  refine R_dup dX5_init_115 rfl ?_
  refine R_iconst (v := 1) dX5_init_116 (by decide) ?_
  refine R_iconst (v := 1) dX5_init_117 (by decide) ?_
  refine R_iast dX5_init_118 (IsK.new1 k0) (by unfold vp_in; decide) ?_
  refine R_dup dX5_init_119 rfl ?_
  refine R_iconst (v := 2) dX5_init_120 (by decide) ?_
  refine R_iconst (v := 1) dX5_init_121 (by decide) ?_
  refine R_iast dX5_init_122 (IsK.new1 k0) (by unfold vp_in; decide) ?_
  refine R_dup dX5_init_123 rfl ?_
  refine R_iconst (v := 3) dX5_init_124 (by decide) ?_
  refine R_iconst (v := 1) dX5_init_125 (by decide) ?_
  refine R_iast dX5_init_126 (IsK.new1 k0) (by unfold vp_in; decide) ?_
  refine R_dup dX5_init_127 rfl ?_
  refine R_iconst (v := 4) dX5_init_128 (by decide) ?_
  refine R_iconst (v := 1) dX5_init_129 (by decide) ?_
  refine R_iast dX5_init_130 (IsK.new1 k0) (by unfold vp_in; decide) ?_
  refine R_dup dX5_init_131 rfl ?_
  refine R_iconst (v := 5) dX5_init_132 (by decide) ?_
  refine R_iconst (v := 1) dX5_init_133 (by decide) ?_
  refine R_iast dX5_init_134 (IsK.new1 k0) (by unfold vp_in; decide) ?_
  refine R_dup dX5_init_135 rfl ?_
  refine R_bipush (v := 6) dX5_init_136 (by decide) ?_
  refine R_iconst (v := 1) dX5_init_138 (by decide) ?_
  refine R_iast dX5_init_139 (IsK.new1 k0) (by unfold vp_in; decide) ?_
  refine R_dup dX5_init_140 rfl ?_
  refine R_bipush (v := 7) dX5_init_141 (by decide) ?_
  refine R_iconst (v := 1) dX5_init_143 (by decide) ?_
  refine R_iast dX5_init_144 (IsK.new1 k0) (by unfold vp_in; decide) ?_
  refine R_dup dX5_init_145 rfl ?_
  refine R_bipush (v := 8) dX5_init_146 (by decide) ?_
  refine R_iconst (v := 1) dX5_init_148 (by decide) ?_
  refine R_iast dX5_init_149 (IsK.new1 k0) (by unfold vp_in; decide) ?_
  refine R_dup dX5_init_150 rfl ?_
  refine R_bipush (v := 9) dX5_init_151 (by decide) ?_
  refine R_iconst (v := 1) dX5_init_153 (by decide) ?_
  refine R_iast dX5_init_154 (IsK.new1 k0) (by unfold vp_in; decide) ?_
  refine R_dup dX5_init_155 rfl ?_
  refine R_bipush (v := 10) dX5_init_156 (by decide) ?_
  refine R_iconst (v := 1) dX5_init_158 (by decide) ?_
  refine R_iast dX5_init_159 (IsK.new1 k0) (by unfold vp_in; decide) ?_
  refine R_dup dX5_init_160 rfl ?_
  refine R_bipush (v := 11) dX5_init_161 (by decide) ?_
  refine R_iconst (v := 1) dX5_init_163 (by decide) ?_
  refine R_iast dX5_init_164 (IsK.new1 k0) (by unfold vp_in; decide) ?_
  refine R_top (v' := va_rf (some (aN h))) rfl ?_
  refine R_putP (k := 10) (f := 330) ok5 dX5_init_165 q1274 (by decide) rfl rfl (Or.inr ⟨rfl, rfl, rfl⟩) (nar_rfA _) (fit_rfA _) (by decide) (IsK.N k0) ?_
  exact w
theorem cX5_init_168 {G : GG} {h : AH} {Q : Outcome → AH → Prop} {a0 : Nat} (k0 : IsK G h a0 (5, 0)) (w : Run G mX5_init 2 176 [(0, .ref a0)] [] (sP (sNew h (100, 12) 12) 331 a0 (some (aN h))) Q) : Run G mX5_init 2 168 [(0, .ref a0)] [] h Q := by
  refine R_aload_n dX5_init_168 0 rfl ?_
  refine R_bipush (v := 12) dX5_init_169 (by decide) ?_
  refine R_newa (j := 0) (n := 12) dX5_init_171 (by decide) rfl q213 (by decide) (by decide) (by decide) ?_
  refine R_top (v' := va_rf (some (aN h))) rfl ?_
  refine R_putP (k := 11) (f := 331) ok5 dX5_init_173 q1275 (by decide) rfl rfl (Or.inr ⟨rfl, rfl, rfl⟩) (nar_rfA _) (fit_rfA _) (by decide) (IsK.N k0) ?_
  exact w
theorem cX5_init_176 {G : GG} {h : AH} {Q : Outcome → AH → Prop} {a0 : Nat} (k0 : IsK G h a0 (5, 0)) (w : Run G mX5_init 2 184 [(0, .ref a0)] [] (sP (sNew h (100, 40) 40) 334 a0 (some (aN h))) Q) : Run G mX5_init 2 176 [(0, .ref a0)] [] h Q := by
  refine R_aload_n dX5_init_176 0 rfl ?_
  refine R_bipush (v := 40) dX5_init_177 (by decide) ?_
  refine R_newa (j := 0) (n := 40) dX5_init_179 (by decide) rfl q213 (by decide) (by decide) (by decide) ?_
  refine R_top (v' := va_rf (some (aN h))) rfl ?_
  refine R_putP (k := 14) (f := 334) ok5 dX5_init_181 q1278 (by decide) rfl rfl (Or.inr ⟨rfl, rfl, rfl⟩) (nar_rfA _) (fit_rfA _) (by decide) (IsK.N k0) ?_
  exact w
theorem cX5_init_184 {G : GG} {h : AH} {Q : Outcome → AH → Prop} {a0 : Nat} (k0 : IsK G h a0 (5, 0)) (w : Run G mX5_init 2 192 [(0, .ref a0)] [] (sP (sNew h (100, 40) 40) 335 a0 (some (aN h))) Q) : Run G mX5_init 2 184 [(0, .ref a0)] [] h Q := by
  refine R_aload_n dX5_init_184 0 rfl ?_
  refine R_bipush (v := 40) dX5_init_185 (by decide) ?_
  refine R_newa (j := 0) (n := 40) dX5_init_187 (by decide) rfl q213 (by decide) (by decide) (by decide) ?_
  refine R_top (v' := va_rf (some (aN h))) rfl ?_
  refine R_putP (k := 15) (f := 335) ok5 dX5_init_189 q1279 (by decide) rfl rfl (Or.inr ⟨rfl, rfl, rfl⟩) (nar_rfA _) (fit_rfA _) (by decide) (IsK.N k0) ?_
  exact w
theorem cX5_init_192 {G : GG} {h : AH} {Q : Outcome → AH → Prop} {a0 : Nat} (k0 : IsK G h a0 (5, 0)) (w : Run G mX5_init 2 200 [(0, .ref a0)] [] (sP (sNew h (100, 40) 40) 336 a0 (some (aN h))) Q) : Run G mX5_init 2 192 [(0, .ref a0)] [] h Q := by
  refine R_aload_n dX5_init_192 0 rfl ?_
  refine R_bipush (v := 40) dX5_init_193 (by decide) ?_
  refine R_newa (j := 0) (n := 40) dX5_init_195 (by decide) rfl q213 (by decide) (by decide) (by decide) ?_
  refine R_top (v' := va_rf (some (aN h))) rfl ?_
  refine R_putP (k := 16) (f := 336) ok5 dX5_init_197 q1280 (by decide) rfl rfl (Or.inr ⟨rfl, rfl, rfl⟩) (nar_rfA _) (fit_rfA _) (by decide) (IsK.N k0) ?_
  exact w
theorem cX5_init_200 {G : GG} {h : AH} {Q : Outcome → AH → Prop} {a0 : Nat} (k0 : IsK G h a0 (5, 0)) (w : Run G mX5_init 2 208 [(0, .ref a0)] [] (sP (sNew h (100, 40) 40) 337 a0 (some (aN h))) Q) : Run G mX5_init 2 200 [(0, .ref a0)] [] h Q := by
  refine R_aload_n dX5_init_200 0 rfl ?_
  refine R_bipush (v := 40) dX5_init_201 (by decide) ?_
  refine R_newa (j := 0) (n := 40) dX5_init_203 (by decide) rfl q213 (by decide) (by decide) (by decide) ?_
  refine R_top (v' := va_rf (some (aN h))) rfl ?_
  refine R_putP (k := 17) (f := 337) ok5 dX5_init_205 q1281 (by decide) rfl rfl (Or.inr ⟨rfl, rfl, rfl⟩) (nar_rfA _) (fit_rfA _) (by decide) (IsK.N k0) ?_
  exact w
theorem cX5_init_208 {G : GG} {h : AH} {Q : Outcome → AH → Prop} {a0 : Nat} (k0 : IsK G h a0 (5, 0)) (w : Run G mX5_init 2 216 [(0, .ref a0)] [] (sP (sNew h (102, 120) 120) 338 a0 (some (aN h))) Q) : Run G mX5_init 2 208 [(0, .ref a0)] [] h Q := by
  refine R_aload_n dX5_init_208 0 rfl ?_
  refine R_bipush (v := 120) dX5_init_209 (by decide) ?_
  refine R_newa (j := 2) (n := 120) dX5_init_211 (by decide) rfl q1161 (by decide) (by decide) (by decide) ?_
  refine R_top (v' := va_rf (some (aN h))) rfl ?_
  refine R_putP (k := 18) (f := 338) ok5 dX5_init_213 q1282 (by decide) rfl rfl (Or.inr ⟨rfl, rfl, rfl⟩) (nar_rfA _) (fit_rfA _) (by decide) (IsK.N k0) ?_
  exact w
theorem cX5_init_216 {G : GG} {h : AH} {Q : Outcome → AH → Prop} {a0 : Nat} (k0 : IsK G h a0 (5, 0)) (w : Run G mX5_init 2 225 [(0, .ref a0)] [] (sP (sNew h (102, 260) 260) 344 a0 (some (aN h))) Q) : Run G mX5_init 2 216 [(0, .ref a0)] [] h Q := by
  refine R_aload_n dX5_init_216 0 rfl ?_
  refine R_sipush (v := 260) dX5_init_217 (by decide) ?_
  refine R_newa (j := 2) (n := 260) dX5_init_220 (by decide) rfl q1161 (by decide) (by decide) (by decide) ?_
  refine R_top (v' := va_rf (some (aN h))) rfl ?_
  refine R_putP (k := 24) (f := 344) ok5 dX5_init_222 q1288 (by decide) rfl rfl (Or.inr ⟨rfl, rfl, rfl⟩) (nar_rfA _) (fit_rfA _) (by decide) (IsK.N k0) ?_
  exact w
theorem cX5_init_225 {G : GG} {h : AH} {Q : Outcome → AH → Prop} {a0 : Nat} (k0 : IsK G h a0 (5, 0)) (w : Run G mX5_init 2 234 [(0, .ref a0)] [] (sP (sNew h (100, 260) 260) 345 a0 (some (aN h))) Q) : Run G mX5_init 2 225 [(0, .ref a0)] [] h Q := by
  refine R_aload_n dX5_init_225 0 rfl ?_
  refine R_sipush (v := 260) dX5_init_226 (by decide) ?_
  refine R_newa (j := 0) (n := 260) dX5_init_229 (by decide) rfl q213 (by decide) (by decide) (by decide) ?_
  refine R_top (v' := va_rf (some (aN h))) rfl ?_
  refine R_putP (k := 25) (f := 345) ok5 dX5_init_231 q1289 (by decide) rfl rfl (Or.inr ⟨rfl, rfl, rfl⟩) (nar_rfA _) (fit_rfA _) (by decide) (IsK.N k0) ?_
  exact w
theorem cX5_init_234 {G : GG} {h : AH} {Q : Outcome → AH → Prop} {a0 : Nat} (k0 : IsK G h a0 (5, 0)) (w : Run G mX5_init 2 241 [(0, .ref a0)] [] (sP (sNew h (100, 2) 2) 346 a0 (some (aN h))) Q) : Run G mX5_init 2 234 [(0, .ref a0)] [] h Q := by
  refine R_aload_n dX5_init_234 0 rfl ?_
  refine R_iconst (v := 2) dX5_init_235 (by decide) ?_
  refine R_newa (j := 0) (n := 2) dX5_init_236 (by decide) rfl q213 (by decide) (by decide) (by decide) ?_
  refine R_top (v' := va_rf (some (aN h))) rfl ?_
  refine R_putP (k := 26) (f := 346) ok5 dX5_init_238 q1290 (by decide) rfl rfl (Or.inr ⟨rfl, rfl, rfl⟩) (nar_rfA _) (fit_rfA _) (by decide) (IsK.N k0) ?_
  exact w
theorem cX5_init_241 {G : GG} {h : AH} {Q : Outcome → AH → Prop} {a0 : Nat} (k0 : IsK G h a0 (5, 0)) (w : Run G mX5_init 2 249 [(0, .ref a0)] [] (sP (sNew h (103, 122) 122) 347 a0 (some (aN h))) Q) : Run G mX5_init 2 241 [(0, .ref a0)] [] h Q := by
  refine R_aload_n dX5_init_241 0 rfl ?_
  refine R_bipush (v := 122) dX5_init_242 (by decide) ?_
  refine R_newa (j := 3) (n := 122) dX5_init_244 (by decide) rfl q1162 (by decide) (by decide) (by decide) ?_
  refine R_top (v' := va_rf (some (aN h))) rfl ?_
  refine R_putP (k := 27) (f := 347) ok5 dX5_init_246 q1291 (by decide) rfl rfl (Or.inr ⟨rfl, rfl, rfl⟩) (nar_rfA _) (fit_rfA _) (by decide) (IsK.N k0) ?_
  exact w
theorem cX5_init_249 {G : GG} {h : AH} {Q : Outcome → AH → Prop} {a0 : Nat} (k0 : IsK G h a0 (5, 0)) (w : Run G mX5_init 2 257 [(0, .ref a0)] [] (sP (sNew h (103, 122) 122) 348 a0 (some (aN h))) Q) : Run G mX5_init 2 249 [(0, .ref a0)] [] h Q := by
  refine R_aload_n dX5_init_249 0 rfl ?_
  refine R_bipush (v := 122) dX5_init_250 (by decide) ?_
  refine R_newa (j := 3) (n := 122) dX5_init_252 (by decide) rfl q1162 (by decide) (by decide) (by decide) ?_
  refine R_top (v' := va_rf (some (aN h))) rfl ?_
  refine R_putP (k := 28) (f := 348) ok5 dX5_init_254 q1292 (by decide) rfl rfl (Or.inr ⟨rfl, rfl, rfl⟩) (nar_rfA _) (fit_rfA _) (by decide) (IsK.N k0) ?_
  exact w
theorem cX5_init_257 {G : GG} {h : AH} {Q : Outcome → AH → Prop} {a0 : Nat} (k0 : IsK G h a0 (5, 0)) (w : Run G mX5_init 2 265 [(0, .ref a0)] [] (sP (sNew h (100, 6) 6) 349 a0 (some (aN h))) Q) : Run G mX5_init 2 257 [(0, .ref a0)] [] h Q := by
  refine R_aload_n dX5_init_257 0 rfl ?_
  refine R_bipush (v := 6) dX5_init_258 (by decide) ?_
  refine R_newa (j := 0) (n := 6) dX5_init_260 (by decide) rfl q213 (by decide) (by decide) (by decide) ?_
  refine R_top (v' := va_rf (some (aN h))) rfl ?_
  refine R_putP (k := 29) (f := 349) ok5 dX5_init_262 q1293 (by decide) rfl rfl (Or.inr ⟨rfl, rfl, rfl⟩) (nar_rfA _) (fit_rfA _) (by decide) (IsK.N k0) ?_
  exact w
theorem cX5_init_265 {G : GG} {h : AH} {Q : Outcome → AH → Prop} {a0 : Nat} (k0 : IsK G h a0 (5, 0)) (w : Run G mX5_init 2 274 [(0, .ref a0)] [] (sP (sNew h (100, 130) 130) 350 a0 (some (aN h))) Q) : Run G mX5_init 2 265 [(0, .ref a0)] [] h Q := by
  refine R_aload_n dX5_init_265 0 rfl ?_
  refine R_sipush (v := 130) dX5_init_266 (by decide) ?_
  refine R_newa (j := 0) (n := 130) dX5_init_269 (by decide) rfl q213 (by decide) (by decide) (by decide) ?_
  refine R_top (v' := va_rf (some (aN h))) rfl ?_
  refine R_putP (k := 30) (f := 350) ok5 dX5_init_271 q1294 (by decide) rfl rfl (Or.inr ⟨rfl, rfl, rfl⟩) (nar_rfA _) (fit_rfA _) (by decide) (IsK.N k0) ?_
  exact w
theorem cX5_init_274 {G : GG} {h : AH} {Q : Outcome → AH → Prop} {a0 : Nat} (k0 : IsK G h a0 (5, 0)) (w : Run G mX5_init 2 282 [(0, .ref a0)] [] (sP (sNew h (100, 12) 12) 352 a0 (some (aN h))) Q) : Run G mX5_init 2 274 [(0, .ref a0)] [] h Q := by
  refine R_aload_n dX5_init_274 0 rfl ?_
  refine R_bipush (v := 12) dX5_init_275 (by decide) ?_
  refine R_newa (j := 0) (n := 12) dX5_init_277 (by decide) rfl q213 (by decide) (by decide) (by decide) ?_
  refine R_top (v' := va_rf (some (aN h))) rfl ?_
  refine R_putP (k := 32) (f := 352) ok5 dX5_init_279 q1296 (by decide) rfl rfl (Or.inr ⟨rfl, rfl, rfl⟩) (nar_rfA _) (fit_rfA _) (by decide) (IsK.N k0) ?_
  exact w
theorem cX5_init_282 {G : GG} {h : AH} {Q : Outcome → AH → Prop} {a0 : Nat} (k0 : IsK G h a0 (5, 0)) (w : Run G mX5_init 2 290 [(0, .ref a0)] [] (sP (sNew h (104, 16) 16) 353 a0 (some (aN h))) Q) : Run G mX5_init 2 282 [(0, .ref a0)] [] h Q := by
  refine R_aload_n dX5_init_282 0 rfl ?_
  refine R_bipush (v := 16) dX5_init_283 (by decide) ?_
  refine R_newa (j := 4) (n := 16) dX5_init_285 (by decide) rfl q1164 (by decide) (by decide) (by decide) ?_
  refine R_top (v' := va_rf (some (aN h))) rfl ?_
  refine R_putP (k := 33) (f := 353) ok5 dX5_init_287 q1297 (by decide) rfl rfl (Or.inr ⟨rfl, rfl, rfl⟩) (nar_rfA _) (fit_rfA _) (by decide) (IsK.N k0) ?_
  exact w
theorem cX5_init_290 {G : GG} {h : AH} {Q : Outcome → AH → Prop} {a0 : Nat} (k0 : IsK G h a0 (5, 0)) (w : Run G mX5_init 2 298 [(0, .ref a0)] [] (sP (sNew h (100, 12) 12) 354 a0 (some (aN h))) Q) : Run G mX5_init 2 290 [(0, .ref a0)] [] h Q := by
  refine R_aload_n dX5_init_290 0 rfl ?_
  refine R_bipush (v := 12) dX5_init_291 (by decide) ?_
  refine R_newa (j := 0) (n := 12) dX5_init_293 (by decide) rfl q213 (by decide) (by decide) (by decide) ?_
  refine R_top (v' := va_rf (some (aN h))) rfl ?_
  refine R_putP (k := 34) (f := 354) ok5 dX5_init_295 q1298 (by decide) rfl rfl (Or.inr ⟨rfl, rfl, rfl⟩) (nar_rfA _) (fit_rfA _) (by decide) (IsK.N k0) ?_
  exact w
theorem cX5_init_298 {G : GG} {h : AH} {Q : Outcome → AH → Prop} {a0 : Nat} (k0 : IsK G h a0 (5, 0)) (w : Run G mX5_init 2 306 [(0, .ref a0)] [] (sP (sNew h (100, 12) 12) 355 a0 (some (aN h))) Q) : Run G mX5_init 2 298 [(0, .ref a0)] [] h Q := by
  refine R_aload_n dX5_init_298 0 rfl ?_
  refine R_bipush (v := 12) dX5_init_299 (by decide) ?_
  refine R_newa (j := 0) (n := 12) dX5_init_301 (by decide) rfl q213 (by decide) (by decide) (by decide) ?_
  refine R_top (v' := va_rf (some (aN h))) rfl ?_
  refine R_putP (k := 35) (f := 355) ok5 dX5_init_303 q1299 (by decide) rfl rfl (Or.inr ⟨rfl, rfl, rfl⟩) (nar_rfA _) (fit_rfA _) (by decide) (IsK.N k0) ?_
  exact w
theorem cX5_init_306 {G : GG} {h : AH} {Q : Outcome → AH → Prop} {a0 : Nat} (k0 : IsK G h a0 (5, 0)) (w : Run G mX5_init 2 314 [(0, .ref a0)] [] (sP (sNew h (100, 12) 12) 358 a0 (some (aN h))) Q) : Run G mX5_init 2 306 [(0, .ref a0)] [] h Q := by
  refine R_aload_n dX5_init_306 0 rfl ?_
  refine R_bipush (v := 12) dX5_init_307 (by decide) ?_
  refine R_newa (j := 0) (n := 12) dX5_init_309 (by decide) rfl q213 (by decide) (by decide) (by decide) ?_
  refine R_top (v' := va_rf (some (aN h))) rfl ?_
  refine R_putP (k := 38) (f := 358) ok5 dX5_init_311 q1302 (by decide) rfl rfl (Or.inr ⟨rfl, rfl, rfl⟩) (nar_rfA _) (fit_rfA _) (by decide) (IsK.N k0) ?_
  exact w
theorem cX5_init_314 {G : GG} {h : AH} {Q : Outcome → AH → Prop} {a0 : Nat} (k0 : IsK G h a0 (5, 0)) (w : Run G mX5_init 2 322 [(0, .ref a0)] [] (sP (sNew h (100, 50) 50) 360 a0 (some (aN h))) Q) : Run G mX5_init 2 314 [(0, .ref a0)] [] h Q := by
  refine R_aload_n dX5_init_314 0 rfl ?_
  refine R_bipush (v := 50) dX5_init_315 (by decide) ?_
  refine R_newa (j := 0) (n := 50) dX5_init_317 (by decide) rfl q213 (by decide) (by decide) (by decide) ?_
  refine R_top (v' := va_rf (some (aN h))) rfl ?_
  refine R_putP (k := 40) (f := 360) ok5 dX5_init_319 q1304 (by decide) rfl rfl (Or.inr ⟨rfl, rfl, rfl⟩) (nar_rfA _) (fit_rfA _) (by decide) (IsK.N k0) ?_
  exact w
theorem cX5_init_322 {G : GG} {h : AH} {Q : Outcome → AH → Prop} {a0 : Nat} (k0 : IsK G h a0 (5, 0)) (w : Run G mX5_init 2 330 [(0, .ref a0)] [] (sP (sNew h (100, 24) 24) 362 a0 (some (aN h))) Q) : Run G mX5_init 2 322 [(0, .ref a0)] [] h Q := by
  refine R_aload_n dX5_init_322 0 rfl ?_
  refine R_bipush (v := 24) dX5_init_323 (by decide) ?_
  refine R_newa (j := 0) (n := 24) dX5_init_325 (by decide) rfl q213 (by decide) (by decide) (by decide) ?_
  refine R_top (v' := va_rf (some (aN h))) rfl ?_
  refine R_putP (k := 42) (f := 362) ok5 dX5_init_327 q1306 (by decide) rfl rfl (Or.inr ⟨rfl, rfl, rfl⟩) (nar_rfA _) (fit_rfA _) (by decide) (IsK.N k0) ?_
  exact w
theorem cX5_init_330 {G : GG} {h : AH} {Q : Outcome → AH → Prop} {a0 : Nat} (k0 : IsK G h a0 (5, 0)) (w : Run G mX5_init 2 362 [(0, .ref a0)] [] (sP (sA (sA (sA (sA (sA (sA (sNew h (100, 6) 6) (aN h) (0 : Int32).toNatClampNeg (-1)) (aN h) (1 : Int32).toNatClampNeg (-1)) (aN h) (2 : Int32).toNatClampNeg (-1)) (aN h) (3 : Int32).toNatClampNeg (-1)) (aN h) (4 : Int32).toNatClampNeg (-1)) (aN h) (5 : Int32).toNatClampNeg (-1)) 363 a0 (some (aN h))) Q) : Run G mX5_init 2 330 [(0, .ref a0)] [] h Q := by
  refine R_aload_n dX5_init_330 0 rfl ?_
  refine R_bipush (v := 6) dX5_init_331 (by decide) ?_
  refine R_newa (j := 0) (n := 6) dX5_init_333 (by decide) rfl q213 (by decide) (by decide) (by decide) ?_
  refine R_dup dX5_init_335 rfl ?_
  refine R_iconst (v := 0) dX5_init_336 (by decide) ?_
  refine R_iconst (v := (-1)) dX5_init_337 (by decide) ?_
  refine R_iast dX5_init_338 (IsK.new1 k0) (by unfold vp_in; decide) ?_
  refine R_dup dX5_init_339 rfl ?_
  refine R_iconst (v := 1) dX5_init_340 (by decide) ?_
  refine R_iconst (v := (-1)) dX5_init_341 (by decide) ?_
  refine R_iast dX5_init_342 (IsK.new1 k0) (by unfold vp_in; decide) ?_
  refine R_dup dX5_init_343 rfl ?_
  refine R_iconst (v := 2) dX5_init_344 (by decide) ?_
  refine R_iconst (v := (-1)) dX5_init_345 (by decide) ?_
  refine R_iast dX5_init_346 (IsK.new1 k0) (by unfold vp_in; decide) ?_
  refine R_dup dX5_init_347 rfl ?_
  refine R_iconst (v := 3) dX5_init_348 (by decide) ?_
  refine R_iconst (v := (-1)) dX5_init_349 (by decide) ?_
  refine R_iast dX5_init_350 (IsK.new1 k0) (by unfold vp_in; decide) ?_
  refine R_dup dX5_init_351 rfl ?_
  refine R_iconst (v := 4) dX5_init_352 (by decide) ?_
  refine R_iconst (v := (-1)) dX5_init_353 (by decide) ?_
  refine R_iast dX5_init_354 (IsK.new1 k0) (by unfold vp_in; decide) ?_
  refine R_dup dX5_init_355 rfl ?_
  refine R_iconst (v := 5) dX5_init_356 (by decide) ?_
  refine R_iconst (v := (-1)) dX5_init_357 (by decide) ?_
  refine R_iast dX5_init_358 (IsK.new1 k0) (by unfold vp_in; decide) ?_
  refine R_top (v' := va_rf (some (aN h))) rfl ?_
  refine R_putP (k := 43) (f := 363) ok5 dX5_init_359 q1307 (by decide) rfl rfl (Or.inr ⟨rfl, rfl, rfl⟩) (nar_rfA _) (fit_rfA _) (by decide) (IsK.N k0) ?_
  exact w
theorem cX5_init_362 {G : GG} {h : AH} {Q : Outcome → AH → Prop} {a0 : Nat} (k0 : IsK G h a0 (5, 0)) (w : Run G mX5_init 2 370 [(0, .ref a0)] [] (sP (sNew h (100, 6) 6) 364 a0 (some (aN h))) Q) : Run G mX5_init 2 362 [(0, .ref a0)] [] h Q := by
  refine R_aload_n dX5_init_362 0 rfl ?_
  refine R_bipush (v := 6) dX5_init_363 (by decide) ?_
  refine R_newa (j := 0) (n := 6) dX5_init_365 (by decide) rfl q213 (by decide) (by decide) (by decide) ?_
  refine R_top (v' := va_rf (some (aN h))) rfl ?_
  refine R_putP (k := 44) (f := 364) ok5 dX5_init_367 q1308 (by decide) rfl rfl (Or.inr ⟨rfl, rfl, rfl⟩) (nar_rfA _) (fit_rfA _) (by decide) (IsK.N k0) ?_
  exact w
theorem cX5_init_370 {G : GG} {h : AH} {Q : Outcome → AH → Prop} {a0 : Nat} (k0 : IsK G h a0 (5, 0)) (w : Run G mX5_init 2 379 [(0, .ref a0)] [] (sP (sNew h (101, 360) 360) 365 a0 (some (aN h))) Q) : Run G mX5_init 2 370 [(0, .ref a0)] [] h Q := by
  refine R_aload_n dX5_init_370 0 rfl ?_
  refine R_sipush (v := 360) dX5_init_371 (by decide) ?_
  refine R_newa (j := 1) (n := 360) dX5_init_374 (by decide) rfl q1163 (by decide) (by decide) (by decide) ?_
  refine R_top (v' := va_rf (some (aN h))) rfl ?_
  refine R_putP (k := 45) (f := 365) ok5 dX5_init_376 q1309 (by decide) rfl rfl (Or.inr ⟨rfl, rfl, rfl⟩) (nar_rfA _) (fit_rfA _) (by decide) (IsK.N k0) ?_
  exact w
theorem cX5_init_379 {G : GG} {h : AH} {Q : Outcome → AH → Prop} {a0 : Nat} (k0 : IsK G h a0 (5, 0)) (w : Run G mX5_init 2 387 [] [] (sP (sNew h (101, 60) 60) 366 a0 (some (aN h))) Q) : Run G mX5_init 2 379 [(0, .ref a0)] [] h Q := by
  refine R_aload_n dX5_init_379 0 rfl ?_
  refine R_bipush (v := 60) dX5_init_380 (by decide) ?_
  refine R_newa (j := 1) (n := 60) dX5_init_382 (by decide) rfl q1163 (by decide) (by decide) (by decide) ?_
  refine R_top (v' := va_rf (some (aN h))) rfl ?_
  refine R_putP (k := 46) (f := 366) ok5 dX5_init_384 q1310 (by decide) rfl rfl (Or.inr ⟨rfl, rfl, rfl⟩) (nar_rfA _) (fit_rfA _) (by decide) (IsK.N k0) ?_
  exact R_sub [] rfl w
theorem cX5_init_387 {G : GG} {h : AH} {Q : Outcome → AH → Prop} (w : Q (.returned none) h) : Run G mX5_init 2 387 [] [] h Q := by
  exact R_vret dX5_init_387 rfl w

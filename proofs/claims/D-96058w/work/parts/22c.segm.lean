/-! LAYER 2: segments of the model's methods (printed by gen22.py) -/
set_option maxRecDepth 100000
theorem sX5_people_0 {G : GG} {m : Nat} {sg : MS} {Q : Outcome → MS → Prop} {a1 a2 a3 : Int32} (w : MR G mX5_isShelf 2 0 [(0, .int a1)] [] m sg (fun o sg1 => ∃ b2 : Bool, o = .returned (some (.int (bi b2))) ∧ ((b2 = false → (Q (.returned (some (.int (-1)))) sg1)) ∧ (b2 = true → (MR G mX5_in 1 0 [(0, .int a3), (1, .int 1), (2, .int 12)] [] m sg1 (fun o sg3 => ∃ b4 : Bool, o = .returned (some (.int (bi b4))) ∧ ((b4 = true → (vp_in a1 6 ∧ (((sg3.1 43 a1.toNatClampNeg) = (-1) → (vp_in a1 6 ∧ ((¬ (sg3.1 43 a1.toNatClampNeg) = (-1) → (MR G mX5_people 4 58 [(0, .ref m), (1, .int a1), (2, .int a2), (3, .int a3), (4, .int 0)] [] m sg3 Q)) ∧ ((sg3.1 43 a1.toNatClampNeg) = (-1) → (Q (.returned (some (.int 0))) sg3))))) ∧ (¬ (sg3.1 43 a1.toNatClampNeg) = (-1) → (vp_in a1 6 ∧ (((sg3.1 43 a1.toNatClampNeg) = (-2) → (vp_in a1 6 ∧ ((¬ (sg3.1 43 a1.toNatClampNeg) = (-1) → (MR G mX5_people 4 58 [(0, .ref m), (1, .int a1), (2, .int a2), (3, .int a3), (4, .int 0)] [] m sg3 Q)) ∧ ((sg3.1 43 a1.toNatClampNeg) = (-1) → (Q (.returned (some (.int 0))) sg3))))) ∧ (¬ (sg3.1 43 a1.toNatClampNeg) = (-2) → (Q (.returned (some (.int (-12)))) sg3)))))))) ∧ (b4 = false → (Q (.returned (some (.int (-1)))) sg3))))))))) : MR G mX5_people 4 0 [(0, .ref m), (1, .int a1), (2, .int a2), (3, .int a3)] [] m sg Q := by
  refine MR_iload_n dX5_people_0 1 rfl ?_
  refine MR_invSz (Mc := mX5_isShelf) (As := [.int a1]) (st := []) dX5_people_1 q1427 q1428 q111 wX5_isShelf pX5_isShelf rfl (Nat.le_of_ble_eq_true rfl) (by decide) (by decide) (Nat.le_of_ble_eq_true rfl) w (fun b2 sg1 w => ?_)
  refine MR_ifz_eq (tgt := 17) dX5_people_4 (by decide) (fun c14 => ?_) (fun c14 => ?_)
  · have w := w.1 c14
    refine MR_iconst (v := (-1)) dX5_people_17 (by decide) ?_
    exact MR_iret dX5_people_18 rfl w
  · have w := w.2 c14
    refine MR_iload_n dX5_people_7 3 rfl ?_
    refine MR_iconst (v := 1) dX5_people_8 (by decide) ?_
    refine MR_bipush (v := 12) dX5_people_9 (by decide) ?_
    refine MR_invSz (Mc := mX5_in) (As := [.int a3, .int 1, .int 12]) (st := []) dX5_people_11 q1416 q1417 q111 wX5_in pX5_in rfl (Nat.le_of_ble_eq_true rfl) (by decide) (by decide) (Nat.le_of_ble_eq_true rfl) w (fun b4 sg3 w => ?_)
    refine MR_ifz_ne (tgt := 19) dX5_people_14 (by decide) (fun c13 => ?_) (fun c13 => ?_)
    · have w := w.1 c13
      refine MR_aload_n dX5_people_19 0 rfl ?_
      refine MR_getA (k := 43) (o := 28) (j := 0) (n := 6) dX5_people_20 q1307 (by decide) rfl rfl ?_
      refine MR_iload_n dX5_people_23 1 rfl ?_
      obtain ⟨c12, w⟩ := w
      refine MR_iald (k := 43) dX5_people_24 (by decide) rfl c12 ?_
      refine MR_iconst (v := (-1)) dX5_people_25 (by decide) ?_
      refine MR_icmp_eq (tgt := 43) dX5_people_26 (by decide) (fun c11 => ?_) (fun c11 => ?_)
      · have w := w.1 c11
        refine MR_aload_n dX5_people_43 0 rfl ?_
        refine MR_getA (k := 43) (o := 28) (j := 0) (n := 6) dX5_people_44 q1307 (by decide) rfl rfl ?_
        refine MR_iload_n dX5_people_47 1 rfl ?_
        obtain ⟨c6, w⟩ := w
        refine MR_iald (k := 43) dX5_people_48 (by decide) rfl c6 ?_
        refine MR_iconst (v := (-1)) dX5_people_49 (by decide) ?_
        refine MR_icmp_ne (tgt := 55) dX5_people_50 (by decide) (fun c5 => ?_) (fun c5 => ?_)
        · have w := w.1 c5
          refine MR_iconst (v := 0) dX5_people_55 (by decide) ?_
          refine MR_istore (lv' := [(4, .int 0), (0, .ref m), (1, .int a1), (2, .int a2), (3, .int a3)]) dX5_people_56 (by decide) rfl ?_
          exact MR_sub [1, 2, 3, 4, 0] rfl w
        · have w := w.2 c5
          refine MR_iconst (v := 0) dX5_people_53 (by decide) ?_
          exact MR_iret dX5_people_54 rfl w
      · have w := w.2 c11
        refine MR_aload_n dX5_people_29 0 rfl ?_
        refine MR_getA (k := 43) (o := 28) (j := 0) (n := 6) dX5_people_30 q1307 (by decide) rfl rfl ?_
        refine MR_iload_n dX5_people_33 1 rfl ?_
        obtain ⟨c10, w⟩ := w
        refine MR_iald (k := 43) dX5_people_34 (by decide) rfl c10 ?_
        refine MR_bipush (v := (-2)) dX5_people_35 (by decide) ?_
        refine MR_icmp_eq (tgt := 43) dX5_people_37 (by decide) (fun c9 => ?_) (fun c9 => ?_)
        · have w := w.1 c9
          refine MR_aload_n dX5_people_43 0 rfl ?_
          refine MR_getA (k := 43) (o := 28) (j := 0) (n := 6) dX5_people_44 q1307 (by decide) rfl rfl ?_
          refine MR_iload_n dX5_people_47 1 rfl ?_
          obtain ⟨c8, w⟩ := w
          refine MR_iald (k := 43) dX5_people_48 (by decide) rfl c8 ?_
          refine MR_iconst (v := (-1)) dX5_people_49 (by decide) ?_
          refine MR_icmp_ne (tgt := 55) dX5_people_50 (by decide) (fun c7 => ?_) (fun c7 => ?_)
          · have w := w.1 c7
            refine MR_iconst (v := 0) dX5_people_55 (by decide) ?_
            refine MR_istore (lv' := [(4, .int 0), (0, .ref m), (1, .int a1), (2, .int a2), (3, .int a3)]) dX5_people_56 (by decide) rfl ?_
            exact MR_sub [1, 2, 3, 4, 0] rfl w
          · have w := w.2 c7
            refine MR_iconst (v := 0) dX5_people_53 (by decide) ?_
            exact MR_iret dX5_people_54 rfl w
        · have w := w.2 c9
          refine MR_bipush (v := (-12)) dX5_people_40 (by decide) ?_
          exact MR_iret dX5_people_42 rfl w
    · have w := w.2 c13
      refine MR_iconst (v := (-1)) dX5_people_17 (by decide) ?_
      exact MR_iret dX5_people_18 rfl w
theorem sX5_people_58 {G : GG} {m : Nat} {sg : MS} {Q : Outcome → MS → Prop} {a1 a2 a3 a4 : Int32} (w : (a3 ≤ a4 → (Q (.returned (some (.int a3))) sg)) ∧ (¬ a3 ≤ a4 → (((lg_cmp (a2.toInt64 + (3 * a4).toInt64) 0) < 0 → (Q (.returned (some (.int a4))) sg)) ∧ (¬ (lg_cmp (a2.toInt64 + (3 * a4).toInt64) 0) < 0 → (vp_in a1 6 ∧ ((0 ≤ (lg_cmp ((a2.toInt64 + (3 * a4).toInt64) + 2) ((sg.1 44 a1.toNatClampNeg).toInt64)) → (Q (.returned (some (.int a4))) sg)) ∧ (¬ 0 ≤ (lg_cmp ((a2.toInt64 + (3 * a4).toInt64) + 2) ((sg.1 44 a1.toNatClampNeg).toInt64)) → ((¬ (sg.1 1 0) = 12 → (vp_in ((60 * a1) + (a2.toInt64 + (3 * a4).toInt64).toInt32) 360 ∧ (vp_in (((60 * a1) + (a2.toInt64 + (3 * a4).toInt64).toInt32) + 1) 360 ∧ (MR G mX5_isLife 3 0 [(0, .int (sg.2 45 ((60 * a1) + (a2.toInt64 + (3 * a4).toInt64).toInt32).toNatClampNeg).toInt32), (1, .int (sg.2 45 (((60 * a1) + (a2.toInt64 + (3 * a4).toInt64).toInt32) + 1).toNatClampNeg).toInt32)] [] m sg (fun o sg1 => ∃ b2 : Bool, o = .returned (some (.int (bi b2))) ∧ ((b2 = false → (Q (.returned (some (.int a4))) sg1)) ∧ (b2 = true → (vp_in (((60 * a1) + (a2.toInt64 + (3 * a4).toInt64).toInt32) + 2) 360 ∧ (MR G mX5_in 1 0 [(0, .int (sg1.2 45 (((60 * a1) + (a2.toInt64 + (3 * a4).toInt64).toInt32) + 2).toNatClampNeg).toInt32), (1, .int (-1)), (2, .int 11)] [] m sg1 (fun o sg3 => ∃ b4 : Bool, o = .returned (some (.int (bi b4))) ∧ ((b4 = true → (vp_in ((60 * a1) + (a2.toInt64 + (3 * a4).toInt64).toInt32) 360 ∧ (vp_in (((60 * a1) + (a2.toInt64 + (3 * a4).toInt64).toInt32) + 1) 360 ∧ (vp_in (((60 * a1) + (a2.toInt64 + (3 * a4).toInt64).toInt32) + 2) 360 ∧ (MR G mX5_addPerson 1 0 [(0, .ref m), (1, .int (sg3.2 45 ((60 * a1) + (a2.toInt64 + (3 * a4).toInt64).toInt32).toNatClampNeg).toInt32), (2, .int (sg3.2 45 (((60 * a1) + (a2.toInt64 + (3 * a4).toInt64).toInt32) + 1).toNatClampNeg).toInt32), (3, .int (sg3.2 45 (((60 * a1) + (a2.toInt64 + (3 * a4).toInt64).toInt32) + 2).toNatClampNeg).toInt32)] [] m sg3 (fun o sg5 => ∃ r6 : Int32, o = .returned (some (.int r6)) ∧ (MR G mX5_people 4 58 [(0, .ref m), (1, .int a1), (2, .int a2), (3, .int a3), (4, .int (a4 + 1))] [] m sg5 Q))))))) ∧ (b4 = false → (Q (.returned (some (.int a4))) sg3))))))))))))) ∧ ((sg.1 1 0) = 12 → (Q (.returned (some (.int a4))) sg)))))))))) : MR G mX5_people 4 58 [(0, .ref m), (1, .int a1), (2, .int a2), (3, .int a3), (4, .int a4)] [] m sg Q := by
  refine MR_iload dX5_people_58 4 rfl ?_
  refine MR_iload_n dX5_people_60 3 rfl ?_
  refine MR_icmp_ge (tgt := 205) dX5_people_61 (by decide) (fun c19 => ?_) (fun c19 => ?_)
  · have w := w.1 c19
    refine MR_iload_n dX5_people_205 3 rfl ?_
    exact MR_iret dX5_people_206 rfl w
  · have w := w.2 c19
    refine MR_iload_n dX5_people_64 2 rfl ?_
    refine MR_i2l dX5_people_65 ?_
    refine MR_iconst (v := 3) dX5_people_66 (by decide) ?_
    refine MR_iload dX5_people_67 4 rfl ?_
    refine MR_imul dX5_people_69 ?_
    refine MR_i2l dX5_people_70 ?_
    refine MR_ladd dX5_people_71 ?_
    refine MR_lstore (lv' := [(5, .long (a2.toInt64 + (3 * a4).toInt64)), (0, .ref m), (1, .int a1), (2, .int a2), (3, .int a3), (4, .int a4)]) dX5_people_72 (by decide) rfl ?_
    refine MR_lload dX5_people_74 0 rfl ?_
    refine MR_lconst (v := 0) dX5_people_76 (by decide) ?_
    refine MR_lcmp dX5_people_77 ?_
    refine MR_if_lt (tgt := 107) dX5_people_78 (by decide) (fun c18 => ?_) (fun c18 => ?_)
    · have w := w.1 c18
      refine MR_iload dX5_people_107 5 rfl ?_
      exact MR_iret dX5_people_109 rfl w
    · have w := w.2 c18
      refine MR_lload dX5_people_81 0 rfl ?_
      refine MR_ldc2 (v := 2) dX5_people_83 q1430 ?_
      refine MR_ladd dX5_people_86 ?_
      refine MR_aload_n dX5_people_87 1 rfl ?_
      refine MR_getA (k := 44) (o := 29) (j := 0) (n := 6) dX5_people_88 q1308 (by decide) rfl rfl ?_
      refine MR_iload_n dX5_people_91 2 rfl ?_
      obtain ⟨c17, w⟩ := w
      refine MR_iald (k := 44) dX5_people_92 (by decide) rfl c17 ?_
      refine MR_i2l dX5_people_93 ?_
      refine MR_lcmp dX5_people_94 ?_
      refine MR_if_ge (tgt := 107) dX5_people_95 (by decide) (fun c16 => ?_) (fun c16 => ?_)
      · have w := w.1 c16
        refine MR_iload dX5_people_107 5 rfl ?_
        exact MR_iret dX5_people_109 rfl w
      · have w := w.2 c16
        refine MR_aload_n dX5_people_98 1 rfl ?_
        refine MR_getS (k := 1) dX5_people_99 q1265 (by decide) rfl rfl ?_
        refine MR_bipush (v := 12) dX5_people_102 (by decide) ?_
        refine MR_icmp_ne (tgt := 110) dX5_people_104 (by decide) (fun c15 => ?_) (fun c15 => ?_)
        · have w := w.1 c15
          refine MR_bipush (v := 60) dX5_people_110 (by decide) ?_
          refine MR_iload_n dX5_people_112 2 rfl ?_
          refine MR_imul dX5_people_113 ?_
          refine MR_lload dX5_people_114 0 rfl ?_
          refine MR_l2i dX5_people_116 ?_
          refine MR_iadd dX5_people_117 ?_
          refine MR_istore (lv' := [(7, .int ((60 * a1) + (a2.toInt64 + (3 * a4).toInt64).toInt32)), (5, .long (a2.toInt64 + (3 * a4).toInt64)), (0, .ref m), (1, .int a1), (2, .int a2), (3, .int a3), (4, .int a4)]) dX5_people_118 (by decide) rfl ?_
          refine MR_aload_n dX5_people_120 2 rfl ?_
          refine MR_getA (k := 45) (o := 30) (j := 1) (n := 360) dX5_people_121 q1309 (by decide) rfl rfl ?_
          refine MR_iload dX5_people_124 0 rfl ?_
          obtain ⟨c14, w⟩ := w
          refine MR_lald (k := 45) dX5_people_126 (by decide) rfl c14 ?_
          refine MR_l2i dX5_people_127 ?_
          refine MR_aload_n dX5_people_128 2 rfl ?_
          refine MR_getA (k := 45) (o := 30) (j := 1) (n := 360) dX5_people_129 q1309 (by decide) rfl rfl ?_
          refine MR_iload dX5_people_132 0 rfl ?_
          refine MR_iconst (v := 1) dX5_people_134 (by decide) ?_
          refine MR_iadd dX5_people_135 ?_
          obtain ⟨c13, w⟩ := w
          refine MR_lald (k := 45) dX5_people_136 (by decide) rfl c13 ?_
          refine MR_l2i dX5_people_137 ?_
          refine MR_invSz (Mc := mX5_isLife) (As := [.int (sg.2 45 ((60 * a1) + (a2.toInt64 + (3 * a4).toInt64).toInt32).toNatClampNeg).toInt32, .int (sg.2 45 (((60 * a1) + (a2.toInt64 + (3 * a4).toInt64).toInt32) + 1).toNatClampNeg).toInt32]) (st := []) dX5_people_138 q1410 q1411 q111 wX5_isLife pX5_isLife rfl (Nat.le_of_ble_eq_true rfl) (by decide) (by decide) (Nat.le_of_ble_eq_true rfl) w (fun b2 sg1 w => ?_)
          refine MR_ifz_eq (tgt := 163) dX5_people_141 (by decide) (fun c12 => ?_) (fun c12 => ?_)
          · have w := w.1 c12
            refine MR_iload dX5_people_163 6 rfl ?_
            exact MR_iret dX5_people_165 rfl w
          · have w := w.2 c12
            refine MR_aload_n dX5_people_144 2 rfl ?_
            refine MR_getA (k := 45) (o := 30) (j := 1) (n := 360) dX5_people_145 q1309 (by decide) rfl rfl ?_
            refine MR_iload dX5_people_148 0 rfl ?_
            refine MR_iconst (v := 2) dX5_people_150 (by decide) ?_
            refine MR_iadd dX5_people_151 ?_
            obtain ⟨c11, w⟩ := w
            refine MR_lald (k := 45) dX5_people_152 (by decide) rfl c11 ?_
            refine MR_l2i dX5_people_153 ?_
            refine MR_iconst (v := (-1)) dX5_people_154 (by decide) ?_
            refine MR_bipush (v := 11) dX5_people_155 (by decide) ?_
            refine MR_invSz (Mc := mX5_in) (As := [.int (sg1.2 45 (((60 * a1) + (a2.toInt64 + (3 * a4).toInt64).toInt32) + 2).toNatClampNeg).toInt32, .int (-1), .int 11]) (st := []) dX5_people_157 q1416 q1417 q111 wX5_in pX5_in rfl (Nat.le_of_ble_eq_true rfl) (by decide) (by decide) (Nat.le_of_ble_eq_true rfl) w (fun b4 sg3 w => ?_)
            refine MR_ifz_ne (tgt := 166) dX5_people_160 (by decide) (fun c10 => ?_) (fun c10 => ?_)
            · have w := w.1 c10
              refine MR_aload_n dX5_people_166 2 rfl ?_
              refine MR_aload_n dX5_people_167 2 rfl ?_
              refine MR_getA (k := 45) (o := 30) (j := 1) (n := 360) dX5_people_168 q1309 (by decide) rfl rfl ?_
              refine MR_iload dX5_people_171 0 rfl ?_
              obtain ⟨c9, w⟩ := w
              refine MR_lald (k := 45) dX5_people_173 (by decide) rfl c9 ?_
              refine MR_l2i dX5_people_174 ?_
              refine MR_aload_n dX5_people_175 2 rfl ?_
              refine MR_getA (k := 45) (o := 30) (j := 1) (n := 360) dX5_people_176 q1309 (by decide) rfl rfl ?_
              refine MR_iload dX5_people_179 0 rfl ?_
              refine MR_iconst (v := 1) dX5_people_181 (by decide) ?_
              refine MR_iadd dX5_people_182 ?_
              obtain ⟨c8, w⟩ := w
              refine MR_lald (k := 45) dX5_people_183 (by decide) rfl c8 ?_
              refine MR_l2i dX5_people_184 ?_
              refine MR_aload_n dX5_people_185 2 rfl ?_
              refine MR_getA (k := 45) (o := 30) (j := 1) (n := 360) dX5_people_186 q1309 (by decide) rfl rfl ?_
              refine MR_iload dX5_people_189 0 rfl ?_
              refine MR_iconst (v := 2) dX5_people_191 (by decide) ?_
              refine MR_iadd dX5_people_192 ?_
              obtain ⟨c7, w⟩ := w
              refine MR_lald (k := 45) dX5_people_193 (by decide) rfl c7 ?_
              refine MR_l2i dX5_people_194 ?_
              refine MR_invVi (Mc := mX5_addPerson) (As := [.int (sg3.2 45 ((60 * a1) + (a2.toInt64 + (3 * a4).toInt64).toInt32).toNatClampNeg).toInt32, .int (sg3.2 45 (((60 * a1) + (a2.toInt64 + (3 * a4).toInt64).toInt32) + 1).toNatClampNeg).toInt32, .int (sg3.2 45 (((60 * a1) + (a2.toInt64 + (3 * a4).toInt64).toInt32) + 2).toNatClampNeg).toInt32]) (st := []) dX5_people_195 q1419 q1421 qs45 q111 wX5_addPerson pX5_addPerson rfl (Nat.le_of_ble_eq_true rfl) (by decide) (by decide) (Nat.le_of_ble_eq_true rfl) w (fun r6 sg5 w => ?_)
              refine MR_pop dX5_people_198 rfl ?_
              refine MR_iinc (v := (a4 + 1)) (lv' := [(4, .int (a4 + 1)), (7, .int ((60 * a1) + (a2.toInt64 + (3 * a4).toInt64).toInt32)), (5, .long (a2.toInt64 + (3 * a4).toInt64)), (0, .ref m), (1, .int a1), (2, .int a2), (3, .int a3)]) dX5_people_199 6 rfl (congrArg (fun z => a4 + z) (show Int32.ofInt 1 = 1 by decide)) (by decide) rfl ?_
              refine MR_goto (tgt := 58) dX5_people_202 (by decide) ?_
              exact MR_sub [3, 4, 5, 6, 0] rfl w
            · have w := w.2 c10
              refine MR_iload dX5_people_163 6 rfl ?_
              exact MR_iret dX5_people_165 rfl w
        · have w := w.2 c15
          refine MR_iload dX5_people_107 5 rfl ?_
          exact MR_iret dX5_people_109 rfl w
theorem sX5_person_0 {G : GG} {m : Nat} {sg : MS} {Q : Outcome → MS → Prop} {a1 a2 : Int32} (w : MR G mX5_isLife 3 0 [(0, .int a1), (1, .int a2)] [] m sg (fun o sg1 => ∃ b2 : Bool, o = .returned (some (.int (bi b2))) ∧ ((b2 = true → ((¬ (sg1.1 1 0) = 12 → (MR G mX5_addPerson 1 0 [(0, .ref m), (1, .int a1), (2, .int a2), (3, .int (-1))] [] m sg1 (fun o sg3 => ∃ r4 : Int32, o = .returned (some (.int r4)) ∧ (Q (.returned (some (.int r4))) sg3)))) ∧ ((sg1.1 1 0) = 12 → (Q (.returned (some (.int (-3)))) sg1)))) ∧ (b2 = false → (Q (.returned (some (.int (-1)))) sg1))))) : MR G mX5_person 4 0 [(0, .ref m), (1, .int a1), (2, .int a2)] [] m sg Q := by
  refine MR_iload_n dX5_person_0 1 rfl ?_
  refine MR_iload_n dX5_person_1 2 rfl ?_
  refine MR_invSz (Mc := mX5_isLife) (As := [.int a1, .int a2]) (st := []) dX5_person_2 q1410 q1411 q111 wX5_isLife pX5_isLife rfl (Nat.le_of_ble_eq_true rfl) (by decide) (by decide) (Nat.le_of_ble_eq_true rfl) w (fun b2 sg1 w => ?_)
  refine MR_ifz_ne (tgt := 10) dX5_person_5 (by decide) (fun c6 => ?_) (fun c6 => ?_)
  · have w := w.1 c6
    refine MR_aload_n dX5_person_10 0 rfl ?_
    refine MR_getS (k := 1) dX5_person_11 q1265 (by decide) rfl rfl ?_
    refine MR_bipush (v := 12) dX5_person_14 (by decide) ?_
    refine MR_icmp_ne (tgt := 24) dX5_person_16 (by decide) (fun c5 => ?_) (fun c5 => ?_)
    · have w := w.1 c5
      refine MR_aload_n dX5_person_24 0 rfl ?_
      refine MR_iload_n dX5_person_25 1 rfl ?_
      refine MR_iload_n dX5_person_26 2 rfl ?_
      refine MR_iconst (v := (-1)) dX5_person_27 (by decide) ?_
      refine MR_invVi (Mc := mX5_addPerson) (As := [.int a1, .int a2, .int (-1)]) (st := []) dX5_person_28 q1419 q1421 qs45 q111 wX5_addPerson pX5_addPerson rfl (Nat.le_of_ble_eq_true rfl) (by decide) (by decide) (Nat.le_of_ble_eq_true rfl) w (fun r4 sg3 w => ?_)
      exact MR_iret dX5_person_31 rfl w
    · have w := w.2 c5
      refine MR_bipush (v := (-3)) dX5_person_19 (by decide) ?_
      refine MR_goto (tgt := 31) dX5_person_21 (by decide) ?_
      exact MR_iret dX5_person_31 rfl w
  · have w := w.2 c6
    refine MR_iconst (v := (-1)) dX5_person_8 (by decide) ?_
    exact MR_iret dX5_person_9 rfl w
theorem sX5_personAt_0 {G : GG} {m : Nat} {sg : MS} {Q : Outcome → MS → Prop} {a1 : Int32} (w : MR G mX5_personAt 3 2 [(0, .ref m), (1, .int a1), (2, .int 0)] [] m sg Q) : MR G mX5_personAt 3 0 [(0, .ref m), (1, .int a1)] [] m sg Q := by
  refine MR_iconst (v := 0) dX5_personAt_0 (by decide) ?_
  refine MR_istore_n (lv' := [(2, .int 0), (0, .ref m), (1, .int a1)]) dX5_personAt_1 rfl (by decide) rfl ?_
  exact MR_sub [1, 2, 0] rfl w
theorem sX5_personAt_2 {G : GG} {m : Nat} {sg : MS} {Q : Outcome → MS → Prop} {a1 a2 : Int32} (w : ((sg.1 1 0) ≤ a2 → (Q (.returned (some (.int (-1)))) sg)) ∧ (¬ (sg.1 1 0) ≤ a2 → (MR G mX5_placeOf 2 0 [(0, .ref m), (1, .int a2)] [] m sg (fun o sg1 => ∃ r2 : Int32, o = .returned (some (.int r2)) ∧ ((¬ r2 = a1 → (MR G mX5_personAt 3 2 [(0, .ref m), (1, .int a1), (2, .int (a2 + 1))] [] m sg1 Q)) ∧ (r2 = a1 → (Q (.returned (some (.int a2))) sg1))))))) : MR G mX5_personAt 3 2 [(0, .ref m), (1, .int a1), (2, .int a2)] [] m sg Q := by
  refine MR_iload_n dX5_personAt_2 2 rfl ?_
  refine MR_aload_n dX5_personAt_3 0 rfl ?_
  refine MR_getS (k := 1) dX5_personAt_4 q1265 (by decide) rfl rfl ?_
  refine MR_icmp_ge (tgt := 27) dX5_personAt_7 (by decide) (fun c4 => ?_) (fun c4 => ?_)
  · have w := w.1 c4
    refine MR_iconst (v := (-1)) dX5_personAt_27 (by decide) ?_
    exact MR_iret dX5_personAt_28 rfl w
  · have w := w.2 c4
    refine MR_aload_n dX5_personAt_10 0 rfl ?_
    refine MR_iload_n dX5_personAt_11 2 rfl ?_
    refine MR_invVi (Mc := mX5_placeOf) (As := [.int a2]) (st := []) dX5_personAt_12 q1487 q1489 qs51 q111 wX5_placeOf pX5_placeOf rfl (Nat.le_of_ble_eq_true rfl) (by decide) (by decide) (Nat.le_of_ble_eq_true rfl) w (fun r2 sg1 w => ?_)
    refine MR_iload_n dX5_personAt_15 1 rfl ?_
    refine MR_icmp_ne (tgt := 21) dX5_personAt_16 (by decide) (fun c3 => ?_) (fun c3 => ?_)
    · have w := w.1 c3
      refine MR_iinc (v := (a2 + 1)) (lv' := [(2, .int (a2 + 1)), (0, .ref m), (1, .int a1)]) dX5_personAt_21 2 rfl (congrArg (fun z => a2 + z) (show Int32.ofInt 1 = 1 by decide)) (by decide) rfl ?_
      refine MR_goto (tgt := 2) dX5_personAt_24 (by decide) ?_
      exact MR_sub [1, 2, 0] rfl w
    · have w := w.2 c3
      refine MR_iload_n dX5_personAt_19 2 rfl ?_
      exact MR_iret dX5_personAt_20 rfl w
theorem sX5_placeOf_0 {G : GG} {m : Nat} {sg : MS} {Q : Outcome → MS → Prop} {a1 : Int32} (w : MR G mX5_placeOf 2 4 [(0, .ref m), (1, .int a1), (2, .int 0), (3, .int 0)] [] m sg Q) : MR G mX5_placeOf 2 0 [(0, .ref m), (1, .int a1)] [] m sg Q := by
  refine MR_iconst (v := 0) dX5_placeOf_0 (by decide) ?_
  refine MR_istore_n (lv' := [(2, .int 0), (0, .ref m), (1, .int a1)]) dX5_placeOf_1 rfl (by decide) rfl ?_
  refine MR_iconst (v := 0) dX5_placeOf_2 (by decide) ?_
  refine MR_istore_n (lv' := [(3, .int 0), (2, .int 0), (0, .ref m), (1, .int a1)]) dX5_placeOf_3 rfl (by decide) rfl ?_
  exact MR_sub [2, 3, 1, 0] rfl w
theorem sX5_placeOf_4 {G : GG} {m : Nat} {sg : MS} {Q : Outcome → MS → Prop} {a1 a2 a3 : Int32} (w : ((sg.1 1 0) ≤ a3 → (Q (.returned (some (.int a2))) sg)) ∧ (¬ (sg.1 1 0) ≤ a3 → (MR G mX5_isAhead 1 0 [(0, .ref m), (1, .int a3), (2, .int a1)] [] m sg (fun o sg1 => ∃ b2 : Bool, o = .returned (some (.int (bi b2))) ∧ ((b2 = false → (MR G mX5_placeOf 2 4 [(0, .ref m), (1, .int a1), (2, .int a2), (3, .int (a3 + 1))] [] m sg1 Q)) ∧ (b2 = true → (MR G mX5_placeOf 2 4 [(0, .ref m), (1, .int a1), (2, .int (a2 + 1)), (3, .int (a3 + 1))] [] m sg1 Q))))))) : MR G mX5_placeOf 2 4 [(0, .ref m), (1, .int a1), (2, .int a2), (3, .int a3)] [] m sg Q := by
  refine MR_iload_n dX5_placeOf_4 3 rfl ?_
  refine MR_aload_n dX5_placeOf_5 0 rfl ?_
  refine MR_getS (k := 1) dX5_placeOf_6 q1265 (by decide) rfl rfl ?_
  refine MR_icmp_ge (tgt := 30) dX5_placeOf_9 (by decide) (fun c4 => ?_) (fun c4 => ?_)
  · have w := w.1 c4
    refine MR_iload_n dX5_placeOf_30 2 rfl ?_
    exact MR_iret dX5_placeOf_31 rfl w
  · have w := w.2 c4
    refine MR_aload_n dX5_placeOf_12 0 rfl ?_
    refine MR_iload_n dX5_placeOf_13 3 rfl ?_
    refine MR_iload_n dX5_placeOf_14 1 rfl ?_
    refine MR_invVz (Mc := mX5_isAhead) (As := [.int a3, .int a1]) (st := []) dX5_placeOf_15 q1491 q1493 qs52 q111 wX5_isAhead pX5_isAhead rfl (Nat.le_of_ble_eq_true rfl) (by decide) (by decide) (Nat.le_of_ble_eq_true rfl) w (fun b2 sg1 w => ?_)
    refine MR_ifz_eq (tgt := 24) dX5_placeOf_18 (by decide) (fun c3 => ?_) (fun c3 => ?_)
    · have w := w.1 c3
      refine MR_iinc (v := (a3 + 1)) (lv' := [(3, .int (a3 + 1)), (0, .ref m), (1, .int a1), (2, .int a2)]) dX5_placeOf_24 3 rfl (congrArg (fun z => a3 + z) (show Int32.ofInt 1 = 1 by decide)) (by decide) rfl ?_
      refine MR_goto (tgt := 4) dX5_placeOf_27 (by decide) ?_
      exact MR_sub [1, 2, 3, 0] rfl w
    · have w := w.2 c3
      refine MR_iinc (v := (a2 + 1)) (lv' := [(2, .int (a2 + 1)), (0, .ref m), (1, .int a1), (3, .int a3)]) dX5_placeOf_21 2 rfl (congrArg (fun z => a2 + z) (show Int32.ofInt 1 = 1 by decide)) (by decide) rfl ?_
      refine MR_iinc (v := (a3 + 1)) (lv' := [(3, .int (a3 + 1)), (2, .int (a2 + 1)), (0, .ref m), (1, .int a1)]) dX5_placeOf_24 3 rfl (congrArg (fun z => a3 + z) (show Int32.ofInt 1 = 1 by decide)) (by decide) rfl ?_
      refine MR_goto (tgt := 4) dX5_placeOf_27 (by decide) ?_
      exact MR_sub [2, 3, 1, 0] rfl w
theorem sX5_plainGives_0 {G : GG} {m : Nat} {sg : MS} {Q : Outcome → MS → Prop} {a1 a2 : Int32} (w : MR G mX5_ran 1 0 [(0, .ref m), (1, .int 1)] [] m sg (fun o sg1 => o = .returned none ∧ (Q (.returned (some (.int (a2 + a1)))) sg1))) : MR G mX5_plainGives 2 0 [(0, .ref m), (1, .int a1), (2, .int a2)] [] m sg Q := by
  refine MR_aload_n dX5_plainGives_0 0 rfl ?_
  refine MR_iconst (v := 1) dX5_plainGives_1 (by decide) ?_
  refine MR_invVv (Mc := mX5_ran) (As := [.int 1]) (st := []) dX5_plainGives_2 q1728 q1730 qs89 q111 wX5_ran pX5_ran rfl (Nat.le_of_ble_eq_true rfl) (by decide) (by decide) (Nat.le_of_ble_eq_true rfl) w (fun sg1 w => ?_)
  refine MR_iload_n dX5_plainGives_5 2 rfl ?_
  refine MR_iload_n dX5_plainGives_6 1 rfl ?_
  refine MR_iadd dX5_plainGives_7 ?_
  exact MR_iret dX5_plainGives_8 rfl w
theorem sX5_plainHolds_0 {G : GG} {m : Nat} {sg : MS} {Q : Outcome → MS → Prop} {a1 a2 : Int32} (w : MR G mX5_ran 1 0 [(0, .ref m), (1, .int 10)] [] m sg (fun o sg1 => o = .returned none ∧ (MR G mX5_giving 4 0 [(0, .ref m), (1, .int a1), (2, .int a2)] [] m sg1 (fun o sg2 => ∃ r3 : Int32, o = .returned (some (.int r3)) ∧ (Q (.returned (some (.int (r3 * 2)))) sg2))))) : MR G mX5_plainHolds 5 0 [(0, .ref m), (1, .int a1), (2, .int a2)] [] m sg Q := by
  refine MR_aload_n dX5_plainHolds_0 0 rfl ?_
  refine MR_bipush (v := 10) dX5_plainHolds_1 (by decide) ?_
  refine MR_invVv (Mc := mX5_ran) (As := [.int 10]) (st := []) dX5_plainHolds_3 q1728 q1730 qs89 q111 wX5_ran pX5_ran rfl (Nat.le_of_ble_eq_true rfl) (by decide) (by decide) (Nat.le_of_ble_eq_true rfl) w (fun sg1 w => ?_)
  refine MR_aload_n dX5_plainHolds_6 0 rfl ?_
  refine MR_iload_n dX5_plainHolds_7 1 rfl ?_
  refine MR_iload_n dX5_plainHolds_8 2 rfl ?_
  refine MR_invVi (Mc := mX5_giving) (As := [.int a1, .int a2]) (st := []) dX5_plainHolds_9 q1721 q1723 qs88 q111 wX5_giving pX5_giving rfl (Nat.le_of_ble_eq_true rfl) (by decide) (by decide) (Nat.le_of_ble_eq_true rfl) w (fun r3 sg2 w => ?_)
  refine MR_iconst (v := 2) dX5_plainHolds_12 (by decide) ?_
  refine MR_imul dX5_plainHolds_13 ?_
  exact MR_iret dX5_plainHolds_14 rfl w
theorem sX5_plainKnows_0 {G : GG} {m : Nat} {sg : MS} {Q : Outcome → MS → Prop} {a1 a2 : Int32} (w : MR G mX5_ran 1 0 [(0, .ref m), (1, .int 11)] [] m sg (fun o sg1 => o = .returned none ∧ (Q (.returned (some (.int (a2 ^^^ a1)))) sg1))) : MR G mX5_plainKnows 2 0 [(0, .ref m), (1, .int a1), (2, .int a2)] [] m sg Q := by
  refine MR_aload_n dX5_plainKnows_0 0 rfl ?_
  refine MR_bipush (v := 11) dX5_plainKnows_1 (by decide) ?_
  refine MR_invVv (Mc := mX5_ran) (As := [.int 11]) (st := []) dX5_plainKnows_3 q1728 q1730 qs89 q111 wX5_ran pX5_ran rfl (Nat.le_of_ble_eq_true rfl) (by decide) (by decide) (Nat.le_of_ble_eq_true rfl) w (fun sg1 w => ?_)
  refine MR_iload_n dX5_plainKnows_6 2 rfl ?_
  refine MR_iload_n dX5_plainKnows_7 1 rfl ?_
  refine MR_ixor dX5_plainKnows_8 ?_
  exact MR_iret dX5_plainKnows_9 rfl w
theorem sX5_plainTells_0 {G : GG} {m : Nat} {sg : MS} {Q : Outcome → MS → Prop} {a1 a2 : Int32} (w : MR G mX5_ran 1 0 [(0, .ref m), (1, .int 2)] [] m sg (fun o sg1 => o = .returned none ∧ (MR G mX5_holding 7 0 [(0, .ref m), (1, .int a1), (2, .int a2)] [] m sg1 (fun o sg2 => ∃ r3 : Int32, o = .returned (some (.int r3)) ∧ (MR G mX5_knowing 5 0 [(0, .ref m), (1, .int a1), (2, .int 1)] [] m sg2 (fun o sg4 => ∃ r5 : Int32, o = .returned (some (.int r5)) ∧ (Q (.returned (some (.int (r3 - r5)))) sg4))))))) : MR G mX5_plainTells 8 0 [(0, .ref m), (1, .int a1), (2, .int a2)] [] m sg Q := by
  refine MR_aload_n dX5_plainTells_0 0 rfl ?_
  refine MR_iconst (v := 2) dX5_plainTells_1 (by decide) ?_
  refine MR_invVv (Mc := mX5_ran) (As := [.int 2]) (st := []) dX5_plainTells_2 q1728 q1730 qs89 q111 wX5_ran pX5_ran rfl (Nat.le_of_ble_eq_true rfl) (by decide) (by decide) (Nat.le_of_ble_eq_true rfl) w (fun sg1 w => ?_)
  refine MR_aload_n dX5_plainTells_5 0 rfl ?_
  refine MR_iload_n dX5_plainTells_6 1 rfl ?_
  refine MR_iload_n dX5_plainTells_7 2 rfl ?_
  refine MR_invVi (Mc := mX5_holding) (As := [.int a1, .int a2]) (st := []) dX5_plainTells_8 q1740 q1742 qs92 q111 wX5_holding pX5_holding rfl (Nat.le_of_ble_eq_true rfl) (by decide) (by decide) (Nat.le_of_ble_eq_true rfl) w (fun r3 sg2 w => ?_)
  refine MR_istore_n (lv' := [(3, .int r3), (0, .ref m), (1, .int a1), (2, .int a2)]) dX5_plainTells_11 rfl (by decide) rfl ?_
  refine MR_iload_n dX5_plainTells_12 0 rfl ?_
  refine MR_aload_n dX5_plainTells_13 1 rfl ?_
  refine MR_iload_n dX5_plainTells_14 2 rfl ?_
  refine MR_iconst (v := 1) dX5_plainTells_15 (by decide) ?_
  refine MR_invVi (Mc := mX5_knowing) (As := [.int a1, .int 1]) (st := [.int r3]) dX5_plainTells_16 q1752 q1754 qs95 q111 wX5_knowing pX5_knowing rfl (Nat.le_of_ble_eq_true rfl) (by decide) (by decide) (Nat.le_of_ble_eq_true rfl) w (fun r5 sg4 w => ?_)
  refine MR_isub dX5_plainTells_19 ?_
  exact MR_iret dX5_plainTells_20 rfl w
theorem sX5_product_0 {G : GG} {m : Nat} {sg : MS} {Q : Outcome → MS → Prop} {d d' : Nat} (hdd : d' + 1 ≤ d) (h9 : 9 ≤ d) (w : MR G mX5_operand d' 0 [(0, .ref m)] [] m sg (fun o sg1 => o = .returned none ∧ (MR G mX5_product d 4 [(0, .ref m)] [] m sg1 Q))) : MR G mX5_product d 0 [(0, .ref m)] [] m sg Q := by
  refine MR_aload_n dX5_product_0 0 rfl ?_
  refine MR_invVv (Mc := mX5_operand) (As := []) (st := []) dX5_product_1 q1539 q1541 qs62 q111 wX5_operand pX5_operand rfl (Nat.le_of_ble_eq_true rfl) (by decide) hdd (Nat.le_of_ble_eq_true rfl) w (fun sg1 w => ?_)
  exact w
theorem sX5_product_4 {G : GG} {m : Nat} {sg : MS} {Q : Outcome → MS → Prop} {d d' : Nat} (hdd : d' + 1 ≤ d) (h9 : 9 ≤ d) (w : (0 ≤ (sg.1 21 0) → (Q (.returned none) sg)) ∧ (¬ 0 ≤ (sg.1 21 0) → (MR G mX5_look 1 0 [(0, .ref m)] [] m sg (fun o sg1 => ∃ r2 : Int32, o = .returned (some (.int r2)) ∧ ((r2 = 42 → (MR G mX5_product d 38 [(0, .ref m)] [] m sg1 Q)) ∧ (¬ r2 = 42 → (MR G mX5_look 1 0 [(0, .ref m)] [] m sg1 (fun o sg3 => ∃ r4 : Int32, o = .returned (some (.int r4)) ∧ ((r4 = 47 → (MR G mX5_product d 38 [(0, .ref m)] [] m sg3 Q)) ∧ (¬ r4 = 47 → (MR G mX5_look 1 0 [(0, .ref m)] [] m sg3 (fun o sg5 => ∃ r6 : Int32, o = .returned (some (.int r6)) ∧ ((¬ r6 = 37 → (Q (.returned none) sg5)) ∧ (r6 = 37 → (MR G mX5_product d 38 [(0, .ref m)] [] m sg5 Q))))))))))))))) : MR G mX5_product d 4 [(0, .ref m)] [] m sg Q := by
  refine MR_aload_n dX5_product_4 0 rfl ?_
  refine MR_getS (k := 21) dX5_product_5 q1285 (by decide) rfl rfl ?_
  refine MR_if_ge (tgt := 66) dX5_product_8 (by decide) (fun c10 => ?_) (fun c10 => ?_)
  · have w := w.1 c10
    exact MR_vret dX5_product_66 rfl w
  · have w := w.2 c10
    refine MR_aload_n dX5_product_11 0 rfl ?_
    refine MR_invVi (Mc := mX5_look) (As := []) (st := []) dX5_product_12 q1543 q1545 qs63 q111 wX5_look pX5_look rfl (Nat.le_of_ble_eq_true rfl) (by decide) (by omega) (Nat.le_of_ble_eq_true rfl) w (fun r2 sg1 w => ?_)
    refine MR_bipush (v := 42) dX5_product_15 (by decide) ?_
    refine MR_icmp_eq (tgt := 38) dX5_product_17 (by decide) (fun c9 => ?_) (fun c9 => ?_)
    · have w := w.1 c9
      exact w
    · have w := w.2 c9
      refine MR_aload_n dX5_product_20 0 rfl ?_
      refine MR_invVi (Mc := mX5_look) (As := []) (st := []) dX5_product_21 q1543 q1545 qs63 q111 wX5_look pX5_look rfl (Nat.le_of_ble_eq_true rfl) (by decide) (by omega) (Nat.le_of_ble_eq_true rfl) w (fun r4 sg3 w => ?_)
      refine MR_bipush (v := 47) dX5_product_24 (by decide) ?_
      refine MR_icmp_eq (tgt := 38) dX5_product_26 (by decide) (fun c8 => ?_) (fun c8 => ?_)
      · have w := w.1 c8
        exact w
      · have w := w.2 c8
        refine MR_aload_n dX5_product_29 0 rfl ?_
        refine MR_invVi (Mc := mX5_look) (As := []) (st := []) dX5_product_30 q1543 q1545 qs63 q111 wX5_look pX5_look rfl (Nat.le_of_ble_eq_true rfl) (by decide) (by omega) (Nat.le_of_ble_eq_true rfl) w (fun r6 sg5 w => ?_)
        refine MR_bipush (v := 37) dX5_product_33 (by decide) ?_
        refine MR_icmp_ne (tgt := 66) dX5_product_35 (by decide) (fun c7 => ?_) (fun c7 => ?_)
        · have w := w.1 c7
          exact MR_vret dX5_product_66 rfl w
        · have w := w.2 c7
          exact w
theorem sX5_product_38 {G : GG} {m : Nat} {sg : MS} {Q : Outcome → MS → Prop} {d d' : Nat} (hdd : d' + 1 ≤ d) (h9 : 9 ≤ d) (w : MR G mX5_look 1 0 [(0, .ref m)] [] m sg (fun o sg1 => ∃ r2 : Int32, o = .returned (some (.int r2)) ∧ (MR G mX5_operand d' 0 [(0, .ref m)] [] m (uS sg1 20 0 ((sg1.1 20 0) + 1)) (fun o sg3 => o = .returned none ∧ (MR G mX5_addStep 1 0 [(0, .ref m), (1, .int r2), (2, .int 0)] [] m sg3 (fun o sg4 => o = .returned none ∧ (MR G mX5_product d 4 [(0, .ref m)] [] m sg4 Q))))))) : MR G mX5_product d 38 [(0, .ref m)] [] m sg Q := by
  refine MR_aload_n dX5_product_38 0 rfl ?_
  refine MR_invVi (Mc := mX5_look) (As := []) (st := []) dX5_product_39 q1543 q1545 qs63 q111 wX5_look pX5_look rfl (Nat.le_of_ble_eq_true rfl) (by decide) (by omega) (Nat.le_of_ble_eq_true rfl) w (fun r2 sg1 w => ?_)
  refine MR_istore_n (lv' := [(1, .int r2), (0, .ref m)]) dX5_product_42 rfl (by decide) rfl ?_
  refine MR_aload_n dX5_product_43 1 rfl ?_
  refine MR_dup dX5_product_44 rfl ?_
  refine MR_getS (k := 20) dX5_product_45 q1284 (by decide) rfl rfl ?_
  refine MR_iconst (v := 1) dX5_product_48 (by decide) ?_
  refine MR_iadd dX5_product_49 ?_
  refine MR_putS (k := 20) dX5_product_50 q1284 (by decide) rfl rfl rfl rfl rfl ?_
  refine MR_aload_n dX5_product_53 1 rfl ?_
  refine MR_invVv (Mc := mX5_operand) (As := []) (st := []) dX5_product_54 q1539 q1541 qs62 q111 wX5_operand pX5_operand rfl (Nat.le_of_ble_eq_true rfl) (by decide) hdd (Nat.le_of_ble_eq_true rfl) w (fun sg3 w => ?_)
  refine MR_aload_n dX5_product_57 1 rfl ?_
  refine MR_iload_n dX5_product_58 0 rfl ?_
  refine MR_iconst (v := 0) dX5_product_59 (by decide) ?_
  refine MR_invVv (Mc := mX5_addStep) (As := [.int r2, .int 0]) (st := []) dX5_product_60 q1550 q1552 qs64 q111 wX5_addStep pX5_addStep rfl (Nat.le_of_ble_eq_true rfl) (by decide) (by omega) (Nat.le_of_ble_eq_true rfl) w (fun sg4 w => ?_)
  refine MR_goto (tgt := 4) dX5_product_63 (by decide) ?_
  exact MR_sub [1] rfl w
theorem sX5_put_0 {G : GG} {m : Nat} {sg : MS} {Q : Outcome → MS → Prop} {a1 a2 : Int32} {al3 : Int64} (w : MR G mX5_whyNoPlace 3 0 [(0, .ref m), (1, .int a1), (2, .int a2)] [] m sg (fun o sg1 => ∃ r2 : Int32, o = .returned (some (.int r2)) ∧ ((0 ≤ r2 → (vp_in a1 6 ∧ ((¬ ((-2) - (sg1.1 43 a1.toNatClampNeg)) = 0 → ((¬ ((-2) - (sg1.1 43 a1.toNatClampNeg)) = 1 → ((¬ ((-2) - (sg1.1 43 a1.toNatClampNeg)) = 2 → ((¬ ((-2) - (sg1.1 43 a1.toNatClampNeg)) = 3 → (((lg_cmp al3 0) = 0 → (vp_in ((60 * a1) + a2) 360 ∧ (Q (.returned (some (.int 1))) (uE sg1 45 ((60 * a1) + a2).toNatClampNeg 0)))) ∧ (¬ (lg_cmp al3 0) = 0 → (vp_in ((60 * a1) + a2) 360 ∧ (Q (.returned (some (.int 1))) (uE sg1 45 ((60 * a1) + a2).toNatClampNeg 1)))))) ∧ (((-2) - (sg1.1 43 a1.toNatClampNeg)) = 3 → (vp_in ((60 * a1) + a2) 360 ∧ (Q (.returned (some (.int 1))) (uE sg1 45 ((60 * a1) + a2).toNatClampNeg al3)))))) ∧ (((-2) - (sg1.1 43 a1.toNatClampNeg)) = 2 → (vp_in ((60 * a1) + a2) 360 ∧ (Q (.returned (some (.int 1))) (uE sg1 45 ((60 * a1) + a2).toNatClampNeg al3.toInt32.toInt64)))))) ∧ (((-2) - (sg1.1 43 a1.toNatClampNeg)) = 1 → (vp_in ((60 * a1) + a2) 360 ∧ (Q (.returned (some (.int 1))) (uE sg1 45 ((60 * a1) + a2).toNatClampNeg al3.toInt32.toInt16.toInt32.toInt64)))))) ∧ (((-2) - (sg1.1 43 a1.toNatClampNeg)) = 0 → (vp_in ((60 * a1) + a2) 360 ∧ (Q (.returned (some (.int 1))) (uE sg1 45 ((60 * a1) + a2).toNatClampNeg al3.toInt32.toInt8.toInt32.toInt64))))))) ∧ (¬ 0 ≤ r2 → (Q (.returned (some (.int r2))) sg1))))) : MR G mX5_put 4 0 [(0, .ref m), (1, .int a1), (2, .int a2), (3, .long al3)] [] m sg Q := by
  refine MR_aload_n dX5_put_0 0 rfl ?_
  refine MR_iload_n dX5_put_1 1 rfl ?_
  refine MR_iload_n dX5_put_2 2 rfl ?_
  refine MR_invVi (Mc := mX5_whyNoPlace) (As := [.int a1, .int a2]) (st := []) dX5_put_3 q1792 q1794 qs101 q111 wX5_whyNoPlace pX5_whyNoPlace rfl (Nat.le_of_ble_eq_true rfl) (by decide) (by decide) (Nat.le_of_ble_eq_true rfl) w (fun r2 sg1 w => ?_)
  refine MR_istore (lv' := [(5, .int r2), (0, .ref m), (1, .int a1), (2, .int a2), (3, .long al3)]) dX5_put_6 (by decide) rfl ?_
  refine MR_iload dX5_put_8 0 rfl ?_
  refine MR_if_ge (tgt := 16) dX5_put_10 (by decide) (fun c15 => ?_) (fun c15 => ?_)
  · have w := w.1 c15
    refine MR_bipush (v := (-2)) dX5_put_16 (by decide) ?_
    refine MR_aload_n dX5_put_18 1 rfl ?_
    refine MR_getA (k := 43) (o := 28) (j := 0) (n := 6) dX5_put_19 q1307 (by decide) rfl rfl ?_
    refine MR_iload_n dX5_put_22 2 rfl ?_
    obtain ⟨c14, w⟩ := w
    refine MR_iald (k := 43) dX5_put_23 (by decide) rfl c14 ?_
    refine MR_isub dX5_put_24 ?_
    refine MR_istore (lv' := [(6, .int ((-2) - (sg1.1 43 a1.toNatClampNeg))), (5, .int r2), (0, .ref m), (1, .int a1), (2, .int a2), (3, .long al3)]) dX5_put_25 (by decide) rfl ?_
    refine MR_aload_n dX5_put_27 2 rfl ?_
    refine MR_getA (k := 45) (o := 30) (j := 1) (n := 360) dX5_put_28 q1309 (by decide) rfl rfl ?_
    refine MR_bipush (v := 60) dX5_put_31 (by decide) ?_
    refine MR_iload_n dX5_put_33 3 rfl ?_
    refine MR_imul dX5_put_34 ?_
    refine MR_iload_n dX5_put_35 4 rfl ?_
    refine MR_iadd dX5_put_36 ?_
    refine MR_iload dX5_put_37 0 rfl ?_
    refine MR_if_ne (tgt := 49) dX5_put_39 (by decide) (fun c13 => ?_) (fun c13 => ?_)
    · have w := w.1 c13
      refine MR_iload dX5_put_49 0 rfl ?_
      refine MR_iconst (v := 1) dX5_put_51 (by decide) ?_
      refine MR_icmp_ne (tgt := 62) dX5_put_52 (by decide) (fun c11 => ?_) (fun c11 => ?_)
      · have w := w.1 c11
        refine MR_iload dX5_put_62 0 rfl ?_
        refine MR_iconst (v := 2) dX5_put_64 (by decide) ?_
        refine MR_icmp_ne (tgt := 74) dX5_put_65 (by decide) (fun c9 => ?_) (fun c9 => ?_)
        · have w := w.1 c9
          refine MR_iload dX5_put_74 0 rfl ?_
          refine MR_iconst (v := 3) dX5_put_76 (by decide) ?_
          refine MR_icmp_ne (tgt := 84) dX5_put_77 (by decide) (fun c7 => ?_) (fun c7 => ?_)
          · have w := w.1 c7
            refine MR_lload_n dX5_put_84 5 rfl ?_
            refine MR_lconst (v := 0) dX5_put_85 (by decide) ?_
            refine MR_lcmp dX5_put_86 ?_
            refine MR_if_eq (tgt := 94) dX5_put_87 (by decide) (fun c5 => ?_) (fun c5 => ?_)
            · have w := w.1 c5
              refine MR_lconst (v := 0) dX5_put_94 (by decide) ?_
              obtain ⟨c3, w⟩ := w
              refine MR_last (k := 45) dX5_put_95 (by decide) rfl c3 ?_
              refine MR_iconst (v := 1) dX5_put_96 (by decide) ?_
              exact MR_iret dX5_put_97 rfl w
            · have w := w.2 c5
              refine MR_lconst (v := 1) dX5_put_90 (by decide) ?_
              refine MR_goto (tgt := 95) dX5_put_91 (by decide) ?_
              obtain ⟨c4, w⟩ := w
              refine MR_last (k := 45) dX5_put_95 (by decide) rfl c4 ?_
              refine MR_iconst (v := 1) dX5_put_96 (by decide) ?_
              exact MR_iret dX5_put_97 rfl w
          · have w := w.2 c7
            refine MR_lload_n dX5_put_80 5 rfl ?_
            refine MR_goto (tgt := 95) dX5_put_81 (by decide) ?_
            obtain ⟨c6, w⟩ := w
            refine MR_last (k := 45) dX5_put_95 (by decide) rfl c6 ?_
            refine MR_iconst (v := 1) dX5_put_96 (by decide) ?_
            exact MR_iret dX5_put_97 rfl w
        · have w := w.2 c9
          refine MR_lload_n dX5_put_68 5 rfl ?_
          refine MR_l2i dX5_put_69 ?_
          refine MR_i2l dX5_put_70 ?_
          refine MR_goto (tgt := 95) dX5_put_71 (by decide) ?_
          obtain ⟨c8, w⟩ := w
          refine MR_last (k := 45) dX5_put_95 (by decide) rfl c8 ?_
          refine MR_iconst (v := 1) dX5_put_96 (by decide) ?_
          exact MR_iret dX5_put_97 rfl w
      · have w := w.2 c11
        refine MR_lload_n dX5_put_55 5 rfl ?_
        refine MR_l2i dX5_put_56 ?_
        refine MR_i2s dX5_put_57 ?_
        refine MR_i2l dX5_put_58 ?_
        refine MR_goto (tgt := 95) dX5_put_59 (by decide) ?_
        obtain ⟨c10, w⟩ := w
        refine MR_last (k := 45) dX5_put_95 (by decide) rfl c10 ?_
        refine MR_iconst (v := 1) dX5_put_96 (by decide) ?_
        exact MR_iret dX5_put_97 rfl w
    · have w := w.2 c13
      refine MR_lload_n dX5_put_42 5 rfl ?_
      refine MR_l2i dX5_put_43 ?_
      refine MR_i2b dX5_put_44 ?_
      refine MR_i2l dX5_put_45 ?_
      refine MR_goto (tgt := 95) dX5_put_46 (by decide) ?_
      obtain ⟨c12, w⟩ := w
      refine MR_last (k := 45) dX5_put_95 (by decide) rfl c12 ?_
      refine MR_iconst (v := 1) dX5_put_96 (by decide) ?_
      exact MR_iret dX5_put_97 rfl w
  · have w := w.2 c15
    refine MR_iload dX5_put_13 0 rfl ?_
    exact MR_iret dX5_put_15 rfl w
theorem sX5_ran_0 {G : GG} {m : Nat} {sg : MS} {Q : Outcome → MS → Prop} {a1 : Int32} (w : (24 ≤ (sg.1 41 0) → (Q (.returned none) (uS sg 41 0 ((sg.1 41 0) + 1)))) ∧ (¬ 24 ≤ (sg.1 41 0) → (vp_in (sg.1 41 0) 24 ∧ (Q (.returned none) (uS (uS sg 42 (sg.1 41 0).toNatClampNeg a1) 41 0 (((uS sg 42 (sg.1 41 0).toNatClampNeg a1).1 41 0) + 1)))))) : MR G mX5_ran 1 0 [(0, .ref m), (1, .int a1)] [] m sg Q := by
  refine MR_aload_n dX5_ran_0 0 rfl ?_
  refine MR_getS (k := 41) dX5_ran_1 q1305 (by decide) rfl rfl ?_
  refine MR_bipush (v := 24) dX5_ran_4 (by decide) ?_
  refine MR_icmp_ge (tgt := 19) dX5_ran_6 (by decide) (fun c2 => ?_) (fun c2 => ?_)
  · have w := w.1 c2
    refine MR_aload_n dX5_ran_19 0 rfl ?_
    refine MR_dup dX5_ran_20 rfl ?_
    refine MR_getS (k := 41) dX5_ran_21 q1305 (by decide) rfl rfl ?_
    refine MR_iconst (v := 1) dX5_ran_24 (by decide) ?_
    refine MR_iadd dX5_ran_25 ?_
    refine MR_putS (k := 41) dX5_ran_26 q1305 (by decide) rfl rfl rfl rfl rfl ?_
    exact MR_vret dX5_ran_29 rfl w
  · have w := w.2 c2
    refine MR_aload_n dX5_ran_9 0 rfl ?_
    refine MR_getA (k := 42) (o := 27) (j := 0) (n := 24) dX5_ran_10 q1306 (by decide) rfl rfl ?_
    refine MR_aload_n dX5_ran_13 0 rfl ?_
    refine MR_getS (k := 41) dX5_ran_14 q1305 (by decide) rfl rfl ?_
    refine MR_iload_n dX5_ran_17 1 rfl ?_
    obtain ⟨c1, w⟩ := w
    refine MR_iast (k := 42) dX5_ran_18 (by decide) rfl c1 ?_
    refine MR_aload_n dX5_ran_19 0 rfl ?_
    refine MR_dup dX5_ran_20 rfl ?_
    refine MR_getS (k := 41) dX5_ran_21 q1305 (by decide) rfl rfl ?_
    refine MR_iconst (v := 1) dX5_ran_24 (by decide) ?_
    refine MR_iadd dX5_ran_25 ?_
    refine MR_putS (k := 41) dX5_ran_26 q1305 (by decide) rfl rfl rfl rfl rfl ?_
    exact MR_vret dX5_ran_29 rfl w
theorem sX5_readText_0 {G : GG} {m : Nat} {sg : MS} {Q : Outcome → MS → Prop} {a1 : Int32} (w : vp_in 1 2 ∧ (MR G mX5_line 401 0 [(0, .ref m)] [] m (uS (uS (uS (uS (uS sg 20 0 0) 21 0 (-1)) 22 0 0) 23 0 0) 26 (1 : Int32).toNatClampNeg 0) (fun o sg1 => o = .returned none ∧ (MR G mX5_readText 402 31 [(0, .ref m), (1, .int a1)] [] m sg1 Q)))) : MR G mX5_readText 402 0 [(0, .ref m), (1, .int a1)] [] m sg Q := by
  refine MR_aload_n dX5_readText_0 0 rfl ?_
  refine MR_iconst (v := 0) dX5_readText_1 (by decide) ?_
  refine MR_putS (k := 20) dX5_readText_2 q1284 (by decide) rfl rfl rfl rfl rfl ?_
  refine MR_aload_n dX5_readText_5 0 rfl ?_
  refine MR_iconst (v := (-1)) dX5_readText_6 (by decide) ?_
  refine MR_putS (k := 21) dX5_readText_7 q1285 (by decide) rfl rfl rfl rfl rfl ?_
  refine MR_aload_n dX5_readText_10 0 rfl ?_
  refine MR_iconst (v := 0) dX5_readText_11 (by decide) ?_
  refine MR_putS (k := 22) dX5_readText_12 q1286 (by decide) rfl rfl rfl rfl rfl ?_
  refine MR_aload_n dX5_readText_15 0 rfl ?_
  refine MR_iconst (v := 0) dX5_readText_16 (by decide) ?_
  refine MR_putS (k := 23) dX5_readText_17 q1287 (by decide) rfl rfl rfl rfl rfl ?_
  refine MR_aload_n dX5_readText_20 0 rfl ?_
  refine MR_getA (k := 26) (o := 16) (j := 0) (n := 2) dX5_readText_21 q1290 (by decide) rfl rfl ?_
  refine MR_iconst (v := 1) dX5_readText_24 (by decide) ?_
  refine MR_iconst (v := 0) dX5_readText_25 (by decide) ?_
  obtain ⟨c2, w⟩ := w
  refine MR_iast (k := 26) dX5_readText_26 (by decide) rfl c2 ?_
  refine MR_aload_n dX5_readText_27 0 rfl ?_
  refine MR_invVv (Mc := mX5_line) (As := []) (st := []) dX5_readText_28 q1515 q1517 qs56 q111 wX5_line pX5_line rfl (Nat.le_of_ble_eq_true rfl) (by decide) (by decide) (Nat.le_of_ble_eq_true rfl) w (fun sg1 w => ?_)
  exact w
theorem sX5_readText_31 {G : GG} {m : Nat} {sg : MS} {Q : Outcome → MS → Prop} {a1 : Int32} (w : (0 ≤ (sg.1 21 0) → (MR G mX5_readText 402 64 [(0, .ref m), (1, .int a1)] [] m sg Q)) ∧ (¬ 0 ≤ (sg.1 21 0) → (MR G mX5_look 1 0 [(0, .ref m)] [] m sg (fun o sg1 => ∃ r2 : Int32, o = .returned (some (.int r2)) ∧ ((¬ r2 = 59 → (MR G mX5_readText 402 64 [(0, .ref m), (1, .int a1)] [] m sg1 Q)) ∧ (r2 = 59 → (MR G mX5_line 401 0 [(0, .ref m)] [] m (uS sg1 20 0 ((sg1.1 20 0) + 1)) (fun o sg3 => o = .returned none ∧ (MR G mX5_readText 402 31 [(0, .ref m), (1, .int a1)] [] m sg3 Q))))))))) : MR G mX5_readText 402 31 [(0, .ref m), (1, .int a1)] [] m sg Q := by
  refine MR_aload_n dX5_readText_31 0 rfl ?_
  refine MR_getS (k := 21) dX5_readText_32 q1285 (by decide) rfl rfl ?_
  refine MR_if_ge (tgt := 64) dX5_readText_35 (by decide) (fun c5 => ?_) (fun c5 => ?_)
  · have w := w.1 c5
    exact w
  · have w := w.2 c5
    refine MR_aload_n dX5_readText_38 0 rfl ?_
    refine MR_invVi (Mc := mX5_look) (As := []) (st := []) dX5_readText_39 q1543 q1545 qs63 q111 wX5_look pX5_look rfl (Nat.le_of_ble_eq_true rfl) (by decide) (by decide) (Nat.le_of_ble_eq_true rfl) w (fun r2 sg1 w => ?_)
    refine MR_bipush (v := 59) dX5_readText_42 (by decide) ?_
    refine MR_icmp_ne (tgt := 64) dX5_readText_44 (by decide) (fun c4 => ?_) (fun c4 => ?_)
    · have w := w.1 c4
      exact w
    · have w := w.2 c4
      refine MR_aload_n dX5_readText_47 0 rfl ?_
      refine MR_dup dX5_readText_48 rfl ?_
      refine MR_getS (k := 20) dX5_readText_49 q1284 (by decide) rfl rfl ?_
      refine MR_iconst (v := 1) dX5_readText_52 (by decide) ?_
      refine MR_iadd dX5_readText_53 ?_
      refine MR_putS (k := 20) dX5_readText_54 q1284 (by decide) rfl rfl rfl rfl rfl ?_
      refine MR_aload_n dX5_readText_57 0 rfl ?_
      refine MR_invVv (Mc := mX5_line) (As := []) (st := []) dX5_readText_58 q1515 q1517 qs56 q111 wX5_line pX5_line rfl (Nat.le_of_ble_eq_true rfl) (by decide) (by decide) (Nat.le_of_ble_eq_true rfl) w (fun sg3 w => ?_)
      refine MR_goto (tgt := 31) dX5_readText_61 (by decide) ?_
      exact w
theorem sX5_readText_64 {G : GG} {m : Nat} {sg : MS} {Q : Outcome → MS → Prop} {a1 : Int32} (w : (0 ≤ (sg.1 21 0) → ((((uS sg 19 0 0).1 21 0) < 0 → (MR G mX5_readText 402 105 [(0, .ref m), (1, .int a1), (2, .int 0)] [] m (uS sg 19 0 0) Q)) ∧ (¬ ((uS sg 19 0 0).1 21 0) < 0 → (Q (.returned (some (.int ((uS sg 19 0 0).1 21 0)))) (uS sg 19 0 0))))) ∧ (¬ 0 ≤ (sg.1 21 0) → (((sg.1 19 0) ≤ (sg.1 20 0) → ((((uS sg 19 0 0).1 21 0) < 0 → (MR G mX5_readText 402 105 [(0, .ref m), (1, .int a1), (2, .int 0)] [] m (uS sg 19 0 0) Q)) ∧ (¬ ((uS sg 19 0 0).1 21 0) < 0 → (Q (.returned (some (.int ((uS sg 19 0 0).1 21 0)))) (uS sg 19 0 0))))) ∧ (¬ (sg.1 19 0) ≤ (sg.1 20 0) → (MR G mX5_faulty 1 0 [(0, .ref m)] [] m sg (fun o sg3 => o = .returned none ∧ ((((uS sg3 19 0 0).1 21 0) < 0 → (MR G mX5_readText 402 105 [(0, .ref m), (1, .int a1), (2, .int 0)] [] m (uS sg3 19 0 0) Q)) ∧ (¬ ((uS sg3 19 0 0).1 21 0) < 0 → (Q (.returned (some (.int ((uS sg3 19 0 0).1 21 0)))) (uS sg3 19 0 0)))))))))) : MR G mX5_readText 402 64 [(0, .ref m), (1, .int a1)] [] m sg Q := by
  refine MR_aload_n dX5_readText_64 0 rfl ?_
  refine MR_getS (k := 21) dX5_readText_65 q1285 (by decide) rfl rfl ?_
  refine MR_if_ge (tgt := 86) dX5_readText_68 (by decide) (fun c6 => ?_) (fun c6 => ?_)
  · have w := w.1 c6
    refine MR_aload_n dX5_readText_86 0 rfl ?_
    refine MR_iconst (v := 0) dX5_readText_87 (by decide) ?_
    refine MR_putS (k := 19) dX5_readText_88 q1283 (by decide) rfl rfl rfl rfl rfl ?_
    refine MR_aload_n dX5_readText_91 0 rfl ?_
    refine MR_getS (k := 21) dX5_readText_92 q1285 (by decide) rfl rfl ?_
    refine MR_if_lt (tgt := 103) dX5_readText_95 (by decide) (fun c1 => ?_) (fun c1 => ?_)
    · have w := w.1 c1
      refine MR_iconst (v := 0) dX5_readText_103 (by decide) ?_
      refine MR_istore_n (lv' := [(2, .int 0), (0, .ref m), (1, .int a1)]) dX5_readText_104 rfl (by decide) rfl ?_
      exact MR_sub [1, 2, 0] rfl w
    · have w := w.2 c1
      refine MR_aload_n dX5_readText_98 0 rfl ?_
      refine MR_getS (k := 21) dX5_readText_99 q1285 (by decide) rfl rfl ?_
      exact MR_iret dX5_readText_102 rfl w
  · have w := w.2 c6
    refine MR_aload_n dX5_readText_71 0 rfl ?_
    refine MR_getS (k := 20) dX5_readText_72 q1284 (by decide) rfl rfl ?_
    refine MR_aload_n dX5_readText_75 0 rfl ?_
    refine MR_getS (k := 19) dX5_readText_76 q1283 (by decide) rfl rfl ?_
    refine MR_icmp_ge (tgt := 86) dX5_readText_79 (by decide) (fun c5 => ?_) (fun c5 => ?_)
    · have w := w.1 c5
      refine MR_aload_n dX5_readText_86 0 rfl ?_
      refine MR_iconst (v := 0) dX5_readText_87 (by decide) ?_
      refine MR_putS (k := 19) dX5_readText_88 q1283 (by decide) rfl rfl rfl rfl rfl ?_
      refine MR_aload_n dX5_readText_91 0 rfl ?_
      refine MR_getS (k := 21) dX5_readText_92 q1285 (by decide) rfl rfl ?_
      refine MR_if_lt (tgt := 103) dX5_readText_95 (by decide) (fun c2 => ?_) (fun c2 => ?_)
      · have w := w.1 c2
        refine MR_iconst (v := 0) dX5_readText_103 (by decide) ?_
        refine MR_istore_n (lv' := [(2, .int 0), (0, .ref m), (1, .int a1)]) dX5_readText_104 rfl (by decide) rfl ?_
        exact MR_sub [1, 2, 0] rfl w
      · have w := w.2 c2
        refine MR_aload_n dX5_readText_98 0 rfl ?_
        refine MR_getS (k := 21) dX5_readText_99 q1285 (by decide) rfl rfl ?_
        exact MR_iret dX5_readText_102 rfl w
    · have w := w.2 c5
      refine MR_aload_n dX5_readText_82 0 rfl ?_
      refine MR_invVv (Mc := mX5_faulty) (As := []) (st := []) dX5_readText_83 q1558 q1560 qs66 q111 wX5_faulty pX5_faulty rfl (Nat.le_of_ble_eq_true rfl) (by decide) (by decide) (Nat.le_of_ble_eq_true rfl) w (fun sg3 w => ?_)
      refine MR_aload_n dX5_readText_86 0 rfl ?_
      refine MR_iconst (v := 0) dX5_readText_87 (by decide) ?_
      refine MR_putS (k := 19) dX5_readText_88 q1283 (by decide) rfl rfl rfl rfl rfl ?_
      refine MR_aload_n dX5_readText_91 0 rfl ?_
      refine MR_getS (k := 21) dX5_readText_92 q1285 (by decide) rfl rfl ?_
      refine MR_if_lt (tgt := 103) dX5_readText_95 (by decide) (fun c4 => ?_) (fun c4 => ?_)
      · have w := w.1 c4
        refine MR_iconst (v := 0) dX5_readText_103 (by decide) ?_
        refine MR_istore_n (lv' := [(2, .int 0), (0, .ref m), (1, .int a1)]) dX5_readText_104 rfl (by decide) rfl ?_
        exact MR_sub [1, 2, 0] rfl w
      · have w := w.2 c4
        refine MR_aload_n dX5_readText_98 0 rfl ?_
        refine MR_getS (k := 21) dX5_readText_99 q1285 (by decide) rfl rfl ?_
        exact MR_iret dX5_readText_102 rfl w
theorem sX5_readText_105 {G : GG} {m : Nat} {sg : MS} {Q : Outcome → MS → Prop} {a1 a2 : Int32} (w : ((sg.1 23 0) ≤ a2 → (vp_in 1 2 ∧ (vp_in a1 2 ∧ (MR G mX5_readText 402 177 [(0, .ref m), (1, .int a1), (2, .int 0)] [] m (uS sg 26 a1.toNatClampNeg (sg.1 26 (1 : Int32).toNatClampNeg)) Q)))) ∧ (¬ (sg.1 23 0) ≤ a2 → (vp_in (130 + a2) 260 ∧ (vp_in ((130 * a1) + a2) 260 ∧ (vp_nar .byte (sg.1 24 (130 + a2).toNatClampNeg) = (sg.1 24 (130 + a2).toNatClampNeg) ∧ (vp_in (130 + a2) 260 ∧ (vp_in ((130 * a1) + a2) 260 ∧ (MR G mX5_readText 402 105 [(0, .ref m), (1, .int a1), (2, .int (a2 + 1))] [] m (uS (uS sg 24 ((130 * a1) + a2).toNatClampNeg (sg.1 24 (130 + a2).toNatClampNeg)) 25 ((130 * a1) + a2).toNatClampNeg ((uS sg 24 ((130 * a1) + a2).toNatClampNeg (sg.1 24 (130 + a2).toNatClampNeg)).1 25 (130 + a2).toNatClampNeg)) Q)))))))) : MR G mX5_readText 402 105 [(0, .ref m), (1, .int a1), (2, .int a2)] [] m sg Q := by
  refine MR_iload_n dX5_readText_105 2 rfl ?_
  refine MR_aload_n dX5_readText_106 0 rfl ?_
  refine MR_getS (k := 23) dX5_readText_107 q1287 (by decide) rfl rfl ?_
  refine MR_icmp_ge (tgt := 163) dX5_readText_110 (by decide) (fun c8 => ?_) (fun c8 => ?_)
  · have w := w.1 c8
    refine MR_aload_n dX5_readText_163 0 rfl ?_
    refine MR_getA (k := 26) (o := 16) (j := 0) (n := 2) dX5_readText_164 q1290 (by decide) rfl rfl ?_
    refine MR_iload_n dX5_readText_167 1 rfl ?_
    refine MR_aload_n dX5_readText_168 0 rfl ?_
    refine MR_getA (k := 26) (o := 16) (j := 0) (n := 2) dX5_readText_169 q1290 (by decide) rfl rfl ?_
    refine MR_iconst (v := 1) dX5_readText_172 (by decide) ?_
    obtain ⟨c2, w⟩ := w
    refine MR_iald (k := 26) dX5_readText_173 (by decide) rfl c2 ?_
    obtain ⟨c1, w⟩ := w
    refine MR_iast (k := 26) dX5_readText_174 (by decide) rfl c1 ?_
    refine MR_iconst (v := 0) dX5_readText_175 (by decide) ?_
    refine MR_istore_n (lv' := [(2, .int 0), (0, .ref m), (1, .int a1)]) dX5_readText_176 rfl (by decide) rfl ?_
    exact MR_sub [1, 2, 0] rfl w
  · have w := w.2 c8
    refine MR_aload_n dX5_readText_113 0 rfl ?_
    refine MR_getA (k := 24) (o := 14) (j := 2) (n := 260) dX5_readText_114 q1288 (by decide) rfl rfl ?_
    refine MR_sipush (v := 130) dX5_readText_117 (by decide) ?_
    refine MR_iload_n dX5_readText_120 1 rfl ?_
    refine MR_imul dX5_readText_121 ?_
    refine MR_iload_n dX5_readText_122 2 rfl ?_
    refine MR_iadd dX5_readText_123 ?_
    refine MR_aload_n dX5_readText_124 0 rfl ?_
    refine MR_getA (k := 24) (o := 14) (j := 2) (n := 260) dX5_readText_125 q1288 (by decide) rfl rfl ?_
    refine MR_sipush (v := 130) dX5_readText_128 (by decide) ?_
    refine MR_iload_n dX5_readText_131 2 rfl ?_
    refine MR_iadd dX5_readText_132 ?_
    obtain ⟨c7, w⟩ := w
    refine MR_bald (k := 24) dX5_readText_133 (by decide) rfl c7 ?_
    obtain ⟨c5, c6, w⟩ := w
    refine MR_bast (k := 24) dX5_readText_134 (by decide) rfl c5 c6 ?_
    refine MR_aload_n dX5_readText_135 0 rfl ?_
    refine MR_getA (k := 25) (o := 15) (j := 0) (n := 260) dX5_readText_136 q1289 (by decide) rfl rfl ?_
    refine MR_sipush (v := 130) dX5_readText_139 (by decide) ?_
    refine MR_iload_n dX5_readText_142 1 rfl ?_
    refine MR_imul dX5_readText_143 ?_
    refine MR_iload_n dX5_readText_144 2 rfl ?_
    refine MR_iadd dX5_readText_145 ?_
    refine MR_aload_n dX5_readText_146 0 rfl ?_
    refine MR_getA (k := 25) (o := 15) (j := 0) (n := 260) dX5_readText_147 q1289 (by decide) rfl rfl ?_
    refine MR_sipush (v := 130) dX5_readText_150 (by decide) ?_
    refine MR_iload_n dX5_readText_153 2 rfl ?_
    refine MR_iadd dX5_readText_154 ?_
    obtain ⟨c4, w⟩ := w
    refine MR_iald (k := 25) dX5_readText_155 (by decide) rfl c4 ?_
    obtain ⟨c3, w⟩ := w
    refine MR_iast (k := 25) dX5_readText_156 (by decide) rfl c3 ?_
    refine MR_iinc (v := (a2 + 1)) (lv' := [(2, .int (a2 + 1)), (0, .ref m), (1, .int a1)]) dX5_readText_157 2 rfl (congrArg (fun z => a2 + z) (show Int32.ofInt 1 = 1 by decide)) (by decide) rfl ?_
    refine MR_goto (tgt := 105) dX5_readText_160 (by decide) ?_
    exact MR_sub [1, 2, 0] rfl w
theorem sX5_readText_177 {G : GG} {m : Nat} {sg : MS} {Q : Outcome → MS → Prop} {a1 a2 : Int32} (w : vp_in a1 2 ∧ (((sg.1 26 a1.toNatClampNeg) ≤ a2 → (Q (.returned (some (.int (-1)))) sg)) ∧ (¬ (sg.1 26 a1.toNatClampNeg) ≤ a2 → (vp_in (61 + a2) 122 ∧ (vp_in ((61 * a1) + a2) 122 ∧ (vp_nar .short (sg.1 27 (61 + a2).toNatClampNeg) = (sg.1 27 (61 + a2).toNatClampNeg) ∧ (vp_in (61 + a2) 122 ∧ (vp_in ((61 * a1) + a2) 122 ∧ (vp_nar .short ((uS sg 27 ((61 * a1) + a2).toNatClampNeg (sg.1 27 (61 + a2).toNatClampNeg)).1 28 (61 + a2).toNatClampNeg) = ((uS sg 27 ((61 * a1) + a2).toNatClampNeg (sg.1 27 (61 + a2).toNatClampNeg)).1 28 (61 + a2).toNatClampNeg) ∧ (MR G mX5_readText 402 177 [(0, .ref m), (1, .int a1), (2, .int (a2 + 1))] [] m (uS (uS sg 27 ((61 * a1) + a2).toNatClampNeg (sg.1 27 (61 + a2).toNatClampNeg)) 28 ((61 * a1) + a2).toNatClampNeg ((uS sg 27 ((61 * a1) + a2).toNatClampNeg (sg.1 27 (61 + a2).toNatClampNeg)).1 28 (61 + a2).toNatClampNeg)) Q)))))))))) : MR G mX5_readText 402 177 [(0, .ref m), (1, .int a1), (2, .int a2)] [] m sg Q := by
  refine MR_iload_n dX5_readText_177 2 rfl ?_
  refine MR_aload_n dX5_readText_178 0 rfl ?_
  refine MR_getA (k := 26) (o := 16) (j := 0) (n := 2) dX5_readText_179 q1290 (by decide) rfl rfl ?_
  refine MR_iload_n dX5_readText_182 1 rfl ?_
  obtain ⟨c8, w⟩ := w
  refine MR_iald (k := 26) dX5_readText_183 (by decide) rfl c8 ?_
  refine MR_icmp_ge (tgt := 233) dX5_readText_184 (by decide) (fun c7 => ?_) (fun c7 => ?_)
  · have w := w.1 c7
    refine MR_iconst (v := (-1)) dX5_readText_233 (by decide) ?_
    exact MR_iret dX5_readText_234 rfl w
  · have w := w.2 c7
    refine MR_aload_n dX5_readText_187 0 rfl ?_
    refine MR_getA (k := 27) (o := 17) (j := 3) (n := 122) dX5_readText_188 q1291 (by decide) rfl rfl ?_
    refine MR_bipush (v := 61) dX5_readText_191 (by decide) ?_
    refine MR_iload_n dX5_readText_193 1 rfl ?_
    refine MR_imul dX5_readText_194 ?_
    refine MR_iload_n dX5_readText_195 2 rfl ?_
    refine MR_iadd dX5_readText_196 ?_
    refine MR_aload_n dX5_readText_197 0 rfl ?_
    refine MR_getA (k := 27) (o := 17) (j := 3) (n := 122) dX5_readText_198 q1291 (by decide) rfl rfl ?_
    refine MR_bipush (v := 61) dX5_readText_201 (by decide) ?_
    refine MR_iload_n dX5_readText_203 2 rfl ?_
    refine MR_iadd dX5_readText_204 ?_
    obtain ⟨c6, w⟩ := w
    refine MR_sald (k := 27) dX5_readText_205 (by decide) rfl c6 ?_
    obtain ⟨c4, c5, w⟩ := w
    refine MR_sast (k := 27) dX5_readText_206 (by decide) rfl c4 c5 ?_
    refine MR_aload_n dX5_readText_207 0 rfl ?_
    refine MR_getA (k := 28) (o := 18) (j := 3) (n := 122) dX5_readText_208 q1292 (by decide) rfl rfl ?_
    refine MR_bipush (v := 61) dX5_readText_211 (by decide) ?_
    refine MR_iload_n dX5_readText_213 1 rfl ?_
    refine MR_imul dX5_readText_214 ?_
    refine MR_iload_n dX5_readText_215 2 rfl ?_
    refine MR_iadd dX5_readText_216 ?_
    refine MR_aload_n dX5_readText_217 0 rfl ?_
    refine MR_getA (k := 28) (o := 18) (j := 3) (n := 122) dX5_readText_218 q1292 (by decide) rfl rfl ?_
    refine MR_bipush (v := 61) dX5_readText_221 (by decide) ?_
    refine MR_iload_n dX5_readText_223 2 rfl ?_
    refine MR_iadd dX5_readText_224 ?_
    obtain ⟨c3, w⟩ := w
    refine MR_sald (k := 28) dX5_readText_225 (by decide) rfl c3 ?_
    obtain ⟨c1, c2, w⟩ := w
    refine MR_sast (k := 28) dX5_readText_226 (by decide) rfl c1 c2 ?_
    refine MR_iinc (v := (a2 + 1)) (lv' := [(2, .int (a2 + 1)), (0, .ref m), (1, .int a1)]) dX5_readText_227 2 rfl (congrArg (fun z => a2 + z) (show Int32.ofInt 1 = 1 by decide)) (by decide) rfl ?_
    refine MR_goto (tgt := 177) dX5_readText_230 (by decide) ?_
    exact MR_sub [1, 2, 0] rfl w
theorem sX5_redo_0 {G : GG} {m : Nat} {sg : MS} {Q : Outcome → MS → Prop} (w : (¬ (sg.1 13 0) = 0 → (vp_in (sg.1 12 0) 40 ∧ (vp_in (sg.1 12 0) 40 ∧ (vp_in (sg.1 12 0) 40 ∧ (MR G mX5_lays 1 0 [(0, .ref m), (1, .int (sg.1 14 (sg.1 12 0).toNatClampNeg)), (2, .int (sg.1 15 (sg.1 12 0).toNatClampNeg)), (3, .int (sg.1 17 (sg.1 12 0).toNatClampNeg))] [] m sg (fun o sg1 => o = .returned none ∧ (Q (.returned (some (.int ((uS (uS sg1 12 0 ((sg1.1 12 0) + 1)) 13 0 (((uS sg1 12 0 ((sg1.1 12 0) + 1)).1 13 0) - 1)).1 13 0)))) (uS (uS sg1 12 0 ((sg1.1 12 0) + 1)) 13 0 (((uS sg1 12 0 ((sg1.1 12 0) + 1)).1 13 0) - 1))))))))) ∧ ((sg.1 13 0) = 0 → (Q (.returned (some (.int (-5)))) sg))) : MR G mX5_redo 2 0 [(0, .ref m)] [] m sg Q := by
  refine MR_aload_n dX5_redo_0 0 rfl ?_
  refine MR_getS (k := 13) dX5_redo_1 q1277 (by decide) rfl rfl ?_
  refine MR_if_ne (tgt := 10) dX5_redo_4 (by decide) (fun c5 => ?_) (fun c5 => ?_)
  · have w := w.1 c5
    refine MR_aload_n dX5_redo_10 0 rfl ?_
    refine MR_aload_n dX5_redo_11 0 rfl ?_
    refine MR_getA (k := 14) (o := 9) (j := 0) (n := 40) dX5_redo_12 q1278 (by decide) rfl rfl ?_
    refine MR_aload_n dX5_redo_15 0 rfl ?_
    refine MR_getS (k := 12) dX5_redo_16 q1276 (by decide) rfl rfl ?_
    obtain ⟨c4, w⟩ := w
    refine MR_iald (k := 14) dX5_redo_19 (by decide) rfl c4 ?_
    refine MR_aload_n dX5_redo_20 0 rfl ?_
    refine MR_getA (k := 15) (o := 10) (j := 0) (n := 40) dX5_redo_21 q1279 (by decide) rfl rfl ?_
    refine MR_aload_n dX5_redo_24 0 rfl ?_
    refine MR_getS (k := 12) dX5_redo_25 q1276 (by decide) rfl rfl ?_
    obtain ⟨c3, w⟩ := w
    refine MR_iald (k := 15) dX5_redo_28 (by decide) rfl c3 ?_
    refine MR_aload_n dX5_redo_29 0 rfl ?_
    refine MR_getA (k := 17) (o := 12) (j := 0) (n := 40) dX5_redo_30 q1281 (by decide) rfl rfl ?_
    refine MR_aload_n dX5_redo_33 0 rfl ?_
    refine MR_getS (k := 12) dX5_redo_34 q1276 (by decide) rfl rfl ?_
    obtain ⟨c2, w⟩ := w
    refine MR_iald (k := 17) dX5_redo_37 (by decide) rfl c2 ?_
    refine MR_invVv (Mc := mX5_lays) (As := [.int (sg.1 14 (sg.1 12 0).toNatClampNeg), .int (sg.1 15 (sg.1 12 0).toNatClampNeg), .int (sg.1 17 (sg.1 12 0).toNatClampNeg)]) (st := []) dX5_redo_38 q1463 q1465 qs48 q111 wX5_lays pX5_lays rfl (Nat.le_of_ble_eq_true rfl) (by decide) (by decide) (Nat.le_of_ble_eq_true rfl) w (fun sg1 w => ?_)
    refine MR_aload_n dX5_redo_41 0 rfl ?_
    refine MR_dup dX5_redo_42 rfl ?_
    refine MR_getS (k := 12) dX5_redo_43 q1276 (by decide) rfl rfl ?_
    refine MR_iconst (v := 1) dX5_redo_46 (by decide) ?_
    refine MR_iadd dX5_redo_47 ?_
    refine MR_putS (k := 12) dX5_redo_48 q1276 (by decide) rfl rfl rfl rfl rfl ?_
    refine MR_aload_n dX5_redo_51 0 rfl ?_
    refine MR_dup dX5_redo_52 rfl ?_
    refine MR_getS (k := 13) dX5_redo_53 q1277 (by decide) rfl rfl ?_
    refine MR_iconst (v := 1) dX5_redo_56 (by decide) ?_
    refine MR_isub dX5_redo_57 ?_
    refine MR_putS (k := 13) dX5_redo_58 q1277 (by decide) rfl rfl rfl rfl rfl ?_
    refine MR_aload_n dX5_redo_61 0 rfl ?_
    refine MR_getS (k := 13) dX5_redo_62 q1277 (by decide) rfl rfl ?_
    exact MR_iret dX5_redo_65 rfl w
  · have w := w.2 c5
    refine MR_bipush (v := (-5)) dX5_redo_7 (by decide) ?_
    exact MR_iret dX5_redo_9 rfl w
theorem sX5_row_0 {G : GG} {m : Nat} {sg : MS} {Q : Outcome → MS → Prop} {a1 a2 a3 : Int32} (w : MR G mX5_isShelf 2 0 [(0, .int a1)] [] m sg (fun o sg1 => ∃ b2 : Bool, o = .returned (some (.int (bi b2))) ∧ ((b2 = false → (Q (.returned (some (.int (-1)))) sg1)) ∧ (b2 = true → (MR G mX5_in 1 0 [(0, .int a2), (1, .int 0), (2, .int 4)] [] m sg1 (fun o sg3 => ∃ b4 : Bool, o = .returned (some (.int (bi b4))) ∧ ((b4 = false → (Q (.returned (some (.int (-1)))) sg3)) ∧ (b4 = true → ((a3 ≤ 60 → ((0 ≤ a3 → (vp_in a1 6 ∧ (vp_in a1 6 ∧ (MR G mX5_row 3 54 [(0, .ref m), (1, .int a1), (4, .int (60 * a1))] [] m (uS (uS sg3 43 a1.toNatClampNeg ((-2) - a2)) 44 a1.toNatClampNeg a3) Q)))) ∧ (¬ 0 ≤ a3 → (Q (.returned (some (.int (-14)))) sg3)))) ∧ (¬ a3 ≤ 60 → (Q (.returned (some (.int (-1)))) sg3))))))))))) : MR G mX5_row 3 0 [(0, .ref m), (1, .int a1), (2, .int a2), (3, .int a3)] [] m sg Q := by
  refine MR_iload_n dX5_row_0 1 rfl ?_
  refine MR_invSz (Mc := mX5_isShelf) (As := [.int a1]) (st := []) dX5_row_1 q1427 q1428 q111 wX5_isShelf pX5_isShelf rfl (Nat.le_of_ble_eq_true rfl) (by decide) (by decide) (Nat.le_of_ble_eq_true rfl) w (fun b2 sg1 w => ?_)
  refine MR_ifz_eq (tgt := 22) dX5_row_4 (by decide) (fun c10 => ?_) (fun c10 => ?_)
  · have w := w.1 c10
    refine MR_iconst (v := (-1)) dX5_row_22 (by decide) ?_
    exact MR_iret dX5_row_23 rfl w
  · have w := w.2 c10
    refine MR_iload_n dX5_row_7 2 rfl ?_
    refine MR_iconst (v := 0) dX5_row_8 (by decide) ?_
    refine MR_iconst (v := 4) dX5_row_9 (by decide) ?_
    refine MR_invSz (Mc := mX5_in) (As := [.int a2, .int 0, .int 4]) (st := []) dX5_row_10 q1416 q1417 q111 wX5_in pX5_in rfl (Nat.le_of_ble_eq_true rfl) (by decide) (by decide) (Nat.le_of_ble_eq_true rfl) w (fun b4 sg3 w => ?_)
    refine MR_ifz_eq (tgt := 22) dX5_row_13 (by decide) (fun c9 => ?_) (fun c9 => ?_)
    · have w := w.1 c9
      refine MR_iconst (v := (-1)) dX5_row_22 (by decide) ?_
      exact MR_iret dX5_row_23 rfl w
    · have w := w.2 c9
      refine MR_iload_n dX5_row_16 3 rfl ?_
      refine MR_bipush (v := 60) dX5_row_17 (by decide) ?_
      refine MR_icmp_le (tgt := 24) dX5_row_19 (by decide) (fun c8 => ?_) (fun c8 => ?_)
      · have w := w.1 c8
        refine MR_iload_n dX5_row_24 3 rfl ?_
        refine MR_if_ge (tgt := 31) dX5_row_25 (by decide) (fun c7 => ?_) (fun c7 => ?_)
        · have w := w.1 c7
          refine MR_aload_n dX5_row_31 0 rfl ?_
          refine MR_getA (k := 43) (o := 28) (j := 0) (n := 6) dX5_row_32 q1307 (by decide) rfl rfl ?_
          refine MR_iload_n dX5_row_35 1 rfl ?_
          refine MR_bipush (v := (-2)) dX5_row_36 (by decide) ?_
          refine MR_iload_n dX5_row_38 2 rfl ?_
          refine MR_isub dX5_row_39 ?_
          obtain ⟨c6, w⟩ := w
          refine MR_iast (k := 43) dX5_row_40 (by decide) rfl c6 ?_
          refine MR_aload_n dX5_row_41 0 rfl ?_
          refine MR_getA (k := 44) (o := 29) (j := 0) (n := 6) dX5_row_42 q1308 (by decide) rfl rfl ?_
          refine MR_iload_n dX5_row_45 1 rfl ?_
          refine MR_iload_n dX5_row_46 3 rfl ?_
          obtain ⟨c5, w⟩ := w
          refine MR_iast (k := 44) dX5_row_47 (by decide) rfl c5 ?_
          refine MR_bipush (v := 60) dX5_row_48 (by decide) ?_
          refine MR_iload_n dX5_row_50 1 rfl ?_
          refine MR_imul dX5_row_51 ?_
          refine MR_istore (lv' := [(4, .int (60 * a1)), (0, .ref m), (1, .int a1), (2, .int a2), (3, .int a3)]) dX5_row_52 (by decide) rfl ?_
          exact MR_sub [1, 2, 0] rfl w
        · have w := w.2 c7
          refine MR_bipush (v := (-14)) dX5_row_28 (by decide) ?_
          exact MR_iret dX5_row_30 rfl w
      · have w := w.2 c8
        refine MR_iconst (v := (-1)) dX5_row_22 (by decide) ?_
        exact MR_iret dX5_row_23 rfl w
theorem sX5_row_54 {G : GG} {m : Nat} {sg : MS} {Q : Outcome → MS → Prop} {a1 a4 : Int32} (w : (((60 * a1) + 60) ≤ a4 → (Q (.returned (some (.int 1))) sg)) ∧ (¬ ((60 * a1) + 60) ≤ a4 → (vp_in a4 360 ∧ (MR G mX5_row 3 54 [(0, .ref m), (1, .int a1), (4, .int (a4 + 1))] [] m (uE sg 45 a4.toNatClampNeg 0) Q)))) : MR G mX5_row 3 54 [(0, .ref m), (1, .int a1), (4, .int a4)] [] m sg Q := by
  refine MR_iload dX5_row_54 2 rfl ?_
  refine MR_bipush (v := 60) dX5_row_56 (by decide) ?_
  refine MR_iload_n dX5_row_58 1 rfl ?_
  refine MR_imul dX5_row_59 ?_
  refine MR_bipush (v := 60) dX5_row_60 (by decide) ?_
  refine MR_iadd dX5_row_62 ?_
  refine MR_icmp_ge (tgt := 80) dX5_row_63 (by decide) (fun c2 => ?_) (fun c2 => ?_)
  · have w := w.1 c2
    refine MR_iconst (v := 1) dX5_row_80 (by decide) ?_
    exact MR_iret dX5_row_81 rfl w
  · have w := w.2 c2
    refine MR_aload_n dX5_row_66 0 rfl ?_
    refine MR_getA (k := 45) (o := 30) (j := 1) (n := 360) dX5_row_67 q1309 (by decide) rfl rfl ?_
    refine MR_iload dX5_row_70 2 rfl ?_
    refine MR_lconst (v := 0) dX5_row_72 (by decide) ?_
    obtain ⟨c1, w⟩ := w
    refine MR_last (k := 45) dX5_row_73 (by decide) rfl c1 ?_
    refine MR_iinc (v := (a4 + 1)) (lv' := [(4, .int (a4 + 1)), (0, .ref m), (1, .int a1)]) dX5_row_74 2 rfl (congrArg (fun z => a4 + z) (show Int32.ofInt 1 = 1 by decide)) (by decide) rfl ?_
    refine MR_goto (tgt := 54) dX5_row_77 (by decide) ?_
    exact MR_sub [1, 2, 0] rfl w
theorem sX5_run_0 {G : GG} {m : Nat} {sg : MS} {Q : Outcome → MS → Prop} {a1 a2 : Int32} (w : MR G mX5_in 1 0 [(0, .int a1), (1, .int 0), (2, .int 2)] [] m sg (fun o sg1 => ∃ b2 : Bool, o = .returned (some (.int (bi b2))) ∧ ((b2 = false → (Q (.returned (some (.int (-1)))) sg1)) ∧ (b2 = true → (MR G mX5_isPerson 2 0 [(0, .ref m), (1, .int a2)] [] m sg1 (fun o sg3 => ∃ b4 : Bool, o = .returned (some (.int (bi b4))) ∧ ((b4 = true → (MR G mX5_runBy 10 0 [(0, .ref m), (1, .int a1)] [] m sg3 (fun o sg5 => o = .returned none ∧ (vp_in a2 12 ∧ ((0 ≤ (sg5.1 34 a2.toNatClampNeg) → (vp_in a2 12 ∧ (Q (.returned (some (.int (sg5.1 34 a2.toNatClampNeg)))) sg5))) ∧ (¬ 0 ≤ (sg5.1 34 a2.toNatClampNeg) → (Q (.returned (some (.int (-2)))) sg5))))))) ∧ (b4 = false → (Q (.returned (some (.int (-1)))) sg3))))))))) : MR G mX5_run 11 0 [(0, .ref m), (1, .int a1), (2, .int a2)] [] m sg Q := by
  refine MR_iload_n dX5_run_0 1 rfl ?_
  refine MR_iconst (v := 0) dX5_run_1 (by decide) ?_
  refine MR_iconst (v := 2) dX5_run_2 (by decide) ?_
  refine MR_invSz (Mc := mX5_in) (As := [.int a1, .int 0, .int 2]) (st := []) dX5_run_3 q1416 q1417 q111 wX5_in pX5_in rfl (Nat.le_of_ble_eq_true rfl) (by decide) (by decide) (Nat.le_of_ble_eq_true rfl) w (fun b2 sg1 w => ?_)
  refine MR_ifz_eq (tgt := 17) dX5_run_6 (by decide) (fun c10 => ?_) (fun c10 => ?_)
  · have w := w.1 c10
    refine MR_iconst (v := (-1)) dX5_run_17 (by decide) ?_
    exact MR_iret dX5_run_18 rfl w
  · have w := w.2 c10
    refine MR_aload_n dX5_run_9 0 rfl ?_
    refine MR_iload_n dX5_run_10 2 rfl ?_
    refine MR_invVz (Mc := mX5_isPerson) (As := [.int a2]) (st := []) dX5_run_11 q1435 q1437 qs46 q111 wX5_isPerson pX5_isPerson rfl (Nat.le_of_ble_eq_true rfl) (by decide) (by decide) (Nat.le_of_ble_eq_true rfl) w (fun b4 sg3 w => ?_)
    refine MR_ifz_ne (tgt := 19) dX5_run_14 (by decide) (fun c9 => ?_) (fun c9 => ?_)
    · have w := w.1 c9
      refine MR_aload_n dX5_run_19 0 rfl ?_
      refine MR_iload_n dX5_run_20 1 rfl ?_
      refine MR_invVv (Mc := mX5_runBy) (As := [.int a1]) (st := []) dX5_run_21 q1664 q1666 qs84 q111 wX5_runBy pX5_runBy rfl (Nat.le_of_ble_eq_true rfl) (by decide) (by decide) (Nat.le_of_ble_eq_true rfl) w (fun sg5 w => ?_)
      refine MR_aload_n dX5_run_24 0 rfl ?_
      refine MR_getA (k := 34) (o := 23) (j := 0) (n := 12) dX5_run_25 q1298 (by decide) rfl rfl ?_
      refine MR_iload_n dX5_run_28 2 rfl ?_
      obtain ⟨c8, w⟩ := w
      refine MR_iald (k := 34) dX5_run_29 (by decide) rfl c8 ?_
      refine MR_if_ge (tgt := 38) dX5_run_30 (by decide) (fun c7 => ?_) (fun c7 => ?_)
      · have w := w.1 c7
        refine MR_aload_n dX5_run_38 0 rfl ?_
        refine MR_getA (k := 34) (o := 23) (j := 0) (n := 12) dX5_run_39 q1298 (by decide) rfl rfl ?_
        refine MR_iload_n dX5_run_42 2 rfl ?_
        obtain ⟨c6, w⟩ := w
        refine MR_iald (k := 34) dX5_run_43 (by decide) rfl c6 ?_
        exact MR_iret dX5_run_44 rfl w
      · have w := w.2 c7
        refine MR_bipush (v := (-2)) dX5_run_33 (by decide) ?_
        refine MR_goto (tgt := 44) dX5_run_35 (by decide) ?_
        exact MR_iret dX5_run_44 rfl w
    · have w := w.2 c9
      refine MR_iconst (v := (-1)) dX5_run_17 (by decide) ?_
      exact MR_iret dX5_run_18 rfl w
theorem sX5_runBy_0 {G : GG} {m : Nat} {sg : MS} {Q : Outcome → MS → Prop} {a1 : Int32} (w : MR G mX5_runBy 10 2 [(0, .ref m), (1, .int a1), (2, .int 0)] [] m sg Q) : MR G mX5_runBy 10 0 [(0, .ref m), (1, .int a1)] [] m sg Q := by
  refine MR_iconst (v := 0) dX5_runBy_0 (by decide) ?_
  refine MR_istore_n (lv' := [(2, .int 0), (0, .ref m), (1, .int a1)]) dX5_runBy_1 rfl (by decide) rfl ?_
  exact MR_sub [1, 2, 0] rfl w
theorem sX5_runBy_2 {G : GG} {m : Nat} {sg : MS} {Q : Outcome → MS → Prop} {a1 a2 : Int32} (w : (12 ≤ a2 → (MR G mX5_runBy 10 23 [(0, .ref m), (1, .int a1), (2, .int 0)] [] m sg Q)) ∧ (¬ 12 ≤ a2 → (vp_in a2 12 ∧ (MR G mX5_runBy 10 2 [(0, .ref m), (1, .int a1), (2, .int (a2 + 1))] [] m (uS sg 34 a2.toNatClampNeg (-1)) Q)))) : MR G mX5_runBy 10 2 [(0, .ref m), (1, .int a1), (2, .int a2)] [] m sg Q := by
  refine MR_iload_n dX5_runBy_2 2 rfl ?_
  refine MR_bipush (v := 12) dX5_runBy_3 (by decide) ?_
  refine MR_icmp_ge (tgt := 21) dX5_runBy_5 (by decide) (fun c2 => ?_) (fun c2 => ?_)
  · have w := w.1 c2
    refine MR_iconst (v := 0) dX5_runBy_21 (by decide) ?_
    refine MR_istore_n (lv' := [(2, .int 0), (0, .ref m), (1, .int a1)]) dX5_runBy_22 rfl (by decide) rfl ?_
    exact MR_sub [1, 2, 0] rfl w
  · have w := w.2 c2
    refine MR_aload_n dX5_runBy_8 0 rfl ?_
    refine MR_getA (k := 34) (o := 23) (j := 0) (n := 12) dX5_runBy_9 q1298 (by decide) rfl rfl ?_
    refine MR_iload_n dX5_runBy_12 2 rfl ?_
    refine MR_iconst (v := (-1)) dX5_runBy_13 (by decide) ?_
    obtain ⟨c1, w⟩ := w
    refine MR_iast (k := 34) dX5_runBy_14 (by decide) rfl c1 ?_
    refine MR_iinc (v := (a2 + 1)) (lv' := [(2, .int (a2 + 1)), (0, .ref m), (1, .int a1)]) dX5_runBy_15 2 rfl (congrArg (fun z => a2 + z) (show Int32.ofInt 1 = 1 by decide)) (by decide) rfl ?_
    refine MR_goto (tgt := 2) dX5_runBy_18 (by decide) ?_
    exact MR_sub [1, 2, 0] rfl w
theorem sX5_runBy_23 {G : GG} {m : Nat} {sg : MS} {Q : Outcome → MS → Prop} {a1 a2 : Int32} (w : ((sg.1 1 0) ≤ a2 → (Q (.returned none) sg)) ∧ (¬ (sg.1 1 0) ≤ a2 → (MR G mX5_personAt 3 0 [(0, .ref m), (1, .int a2)] [] m sg (fun o sg1 => ∃ r2 : Int32, o = .returned (some (.int r2)) ∧ (MR G mX5_given 9 0 [(0, .ref m), (1, .int r2), (2, .int a1)] [] m sg1 (fun o sg3 => ∃ r4 : Int32, o = .returned (some (.int r4)) ∧ ((0 ≤ r4 → (vp_in r2 12 ∧ (MR G mX5_runBy 10 23 [(0, .ref m), (1, .int a1), (2, .int (a2 + 1))] [] m (uS sg3 34 r2.toNatClampNeg r4) Q))) ∧ (¬ 0 ≤ r4 → (vp_in r2 12 ∧ (MR G mX5_runBy 10 23 [(0, .ref m), (1, .int a1), (2, .int (a2 + 1))] [] m (uS sg3 34 r2.toNatClampNeg (-1)) Q)))))))))) : MR G mX5_runBy 10 23 [(0, .ref m), (1, .int a1), (2, .int a2)] [] m sg Q := by
  refine MR_iload_n dX5_runBy_23 2 rfl ?_
  refine MR_aload_n dX5_runBy_24 0 rfl ?_
  refine MR_getS (k := 1) dX5_runBy_25 q1265 (by decide) rfl rfl ?_
  refine MR_icmp_ge (tgt := 68) dX5_runBy_28 (by decide) (fun c8 => ?_) (fun c8 => ?_)
  · have w := w.1 c8
    exact MR_vret dX5_runBy_68 rfl w
  · have w := w.2 c8
    refine MR_aload_n dX5_runBy_31 0 rfl ?_
    refine MR_iload_n dX5_runBy_32 2 rfl ?_
    refine MR_invVi (Mc := mX5_personAt) (As := [.int a2]) (st := []) dX5_runBy_33 q1640 q1642 qs80 q111 wX5_personAt pX5_personAt rfl (Nat.le_of_ble_eq_true rfl) (by decide) (by decide) (Nat.le_of_ble_eq_true rfl) w (fun r2 sg1 w => ?_)
    refine MR_istore_n (lv' := [(3, .int r2), (0, .ref m), (1, .int a1), (2, .int a2)]) dX5_runBy_36 rfl (by decide) rfl ?_
    refine MR_aload_n dX5_runBy_37 1 rfl ?_
    refine MR_iload_n dX5_runBy_38 0 rfl ?_
    refine MR_iload_n dX5_runBy_39 2 rfl ?_
    refine MR_invVi (Mc := mX5_given) (As := [.int r2, .int a1]) (st := []) dX5_runBy_40 q1652 q1654 qs82 q111 wX5_given pX5_given rfl (Nat.le_of_ble_eq_true rfl) (by decide) (by decide) (Nat.le_of_ble_eq_true rfl) w (fun r4 sg3 w => ?_)
    refine MR_istore (lv' := [(4, .int r4), (3, .int r2), (0, .ref m), (1, .int a1), (2, .int a2)]) dX5_runBy_43 (by decide) rfl ?_
    refine MR_aload_n dX5_runBy_45 2 rfl ?_
    refine MR_getA (k := 34) (o := 23) (j := 0) (n := 12) dX5_runBy_46 q1298 (by decide) rfl rfl ?_
    refine MR_iload_n dX5_runBy_49 1 rfl ?_
    refine MR_iload dX5_runBy_50 0 rfl ?_
    refine MR_if_ge (tgt := 59) dX5_runBy_52 (by decide) (fun c7 => ?_) (fun c7 => ?_)
    · have w := w.1 c7
      refine MR_iload dX5_runBy_59 0 rfl ?_
      obtain ⟨c5, w⟩ := w
      refine MR_iast (k := 34) dX5_runBy_61 (by decide) rfl c5 ?_
      refine MR_iinc (v := (a2 + 1)) (lv' := [(2, .int (a2 + 1)), (4, .int r4), (3, .int r2), (0, .ref m), (1, .int a1)]) dX5_runBy_62 4 rfl (congrArg (fun z => a2 + z) (show Int32.ofInt 1 = 1 by decide)) (by decide) rfl ?_
      refine MR_goto (tgt := 23) dX5_runBy_65 (by decide) ?_
      exact MR_sub [3, 4, 0] rfl w
    · have w := w.2 c7
      refine MR_iconst (v := (-1)) dX5_runBy_55 (by decide) ?_
      refine MR_goto (tgt := 61) dX5_runBy_56 (by decide) ?_
      obtain ⟨c6, w⟩ := w
      refine MR_iast (k := 34) dX5_runBy_61 (by decide) rfl c6 ?_
      refine MR_iinc (v := (a2 + 1)) (lv' := [(2, .int (a2 + 1)), (4, .int r4), (3, .int r2), (0, .ref m), (1, .int a1)]) dX5_runBy_62 4 rfl (congrArg (fun z => a2 + z) (show Int32.ofInt 1 = 1 by decide)) (by decide) rfl ?_
      refine MR_goto (tgt := 23) dX5_runBy_65 (by decide) ?_
      exact MR_sub [3, 4, 0] rfl w
theorem sX5_shift_0 {G : GG} {m : Nat} {sg : MS} {Q : Outcome → MS → Prop} {a1 a2 a3 a4 a5 : Int32} (w : MR G mX5_isShelf 2 0 [(0, .int a1)] [] m sg (fun o sg1 => ∃ b2 : Bool, o = .returned (some (.int (bi b2))) ∧ ((b2 = false → (Q (.returned (some (.int (-1)))) sg1)) ∧ (b2 = true → (MR G mX5_isShelf 2 0 [(0, .int a3)] [] m sg1 (fun o sg3 => ∃ b4 : Bool, o = .returned (some (.int (bi b4))) ∧ ((b4 = true → (vp_in a1 6 ∧ (((sg3.1 43 a1.toNatClampNeg) = (-1) → (Q (.returned (some (.int (-11)))) sg3)) ∧ (¬ (sg3.1 43 a1.toNatClampNeg) = (-1) → (vp_in a3 6 ∧ ((¬ (sg3.1 43 a3.toNatClampNeg) = (-1) → (vp_in a1 6 ∧ ((0 ≤ (sg3.1 43 a1.toNatClampNeg) → (Q (.returned (some (.int (-12)))) sg3)) ∧ (¬ 0 ≤ (sg3.1 43 a1.toNatClampNeg) → (vp_in a1 6 ∧ (vp_in a3 6 ∧ (((sg3.1 43 a1.toNatClampNeg) = (sg3.1 43 a3.toNatClampNeg) → ((a5 < 0 → (Q (.returned (some (.int (-13)))) sg3)) ∧ (¬ a5 < 0 → ((a2 < 0 → (Q (.returned (some (.int (-13)))) sg3)) ∧ (¬ a2 < 0 → ((a4 < 0 → (Q (.returned (some (.int (-13)))) sg3)) ∧ (¬ a4 < 0 → (vp_in a1 6 ∧ ((((sg3.1 44 a1.toNatClampNeg) - a5) < a2 → (Q (.returned (some (.int (-13)))) sg3)) ∧ (¬ ((sg3.1 44 a1.toNatClampNeg) - a5) < a2 → (vp_in a3 6 ∧ ((a4 ≤ ((sg3.1 44 a3.toNatClampNeg) - a5) → (MR G mX5_shift 3 113 [(0, .ref m), (1, .int a1), (2, .int a2), (3, .int a3), (4, .int a4), (5, .int a5), (6, .int 0)] [] m sg3 Q)) ∧ (¬ a4 ≤ ((sg3.1 44 a3.toNatClampNeg) - a5) → (Q (.returned (some (.int (-13)))) sg3)))))))))))))) ∧ (¬ (sg3.1 43 a1.toNatClampNeg) = (sg3.1 43 a3.toNatClampNeg) → (Q (.returned (some (.int (-12)))) sg3))))))))) ∧ ((sg3.1 43 a3.toNatClampNeg) = (-1) → (Q (.returned (some (.int (-11)))) sg3)))))))) ∧ (b4 = false → (Q (.returned (some (.int (-1)))) sg3))))))))) : MR G mX5_shift 3 0 [(0, .ref m), (1, .int a1), (2, .int a2), (3, .int a3), (4, .int a4), (5, .int a5)] [] m sg Q := by
  refine MR_iload_n dX5_shift_0 1 rfl ?_
  refine MR_invSz (Mc := mX5_isShelf) (As := [.int a1]) (st := []) dX5_shift_1 q1427 q1428 q111 wX5_isShelf pX5_isShelf rfl (Nat.le_of_ble_eq_true rfl) (by decide) (by decide) (Nat.le_of_ble_eq_true rfl) w (fun b2 sg1 w => ?_)
  refine MR_ifz_eq (tgt := 14) dX5_shift_4 (by decide) (fun c22 => ?_) (fun c22 => ?_)
  · have w := w.1 c22
    refine MR_iconst (v := (-1)) dX5_shift_14 (by decide) ?_
    exact MR_iret dX5_shift_15 rfl w
  · have w := w.2 c22
    refine MR_iload_n dX5_shift_7 3 rfl ?_
    refine MR_invSz (Mc := mX5_isShelf) (As := [.int a3]) (st := []) dX5_shift_8 q1427 q1428 q111 wX5_isShelf pX5_isShelf rfl (Nat.le_of_ble_eq_true rfl) (by decide) (by decide) (Nat.le_of_ble_eq_true rfl) w (fun b4 sg3 w => ?_)
    refine MR_ifz_ne (tgt := 16) dX5_shift_11 (by decide) (fun c21 => ?_) (fun c21 => ?_)
    · have w := w.1 c21
      refine MR_aload_n dX5_shift_16 0 rfl ?_
      refine MR_getA (k := 43) (o := 28) (j := 0) (n := 6) dX5_shift_17 q1307 (by decide) rfl rfl ?_
      refine MR_iload_n dX5_shift_20 1 rfl ?_
      obtain ⟨c20, w⟩ := w
      refine MR_iald (k := 43) dX5_shift_21 (by decide) rfl c20 ?_
      refine MR_iconst (v := (-1)) dX5_shift_22 (by decide) ?_
      refine MR_icmp_eq (tgt := 36) dX5_shift_23 (by decide) (fun c19 => ?_) (fun c19 => ?_)
      · have w := w.1 c19
        refine MR_bipush (v := (-11)) dX5_shift_36 (by decide) ?_
        exact MR_iret dX5_shift_38 rfl w
      · have w := w.2 c19
        refine MR_aload_n dX5_shift_26 0 rfl ?_
        refine MR_getA (k := 43) (o := 28) (j := 0) (n := 6) dX5_shift_27 q1307 (by decide) rfl rfl ?_
        refine MR_iload_n dX5_shift_30 3 rfl ?_
        obtain ⟨c18, w⟩ := w
        refine MR_iald (k := 43) dX5_shift_31 (by decide) rfl c18 ?_
        refine MR_iconst (v := (-1)) dX5_shift_32 (by decide) ?_
        refine MR_icmp_ne (tgt := 39) dX5_shift_33 (by decide) (fun c17 => ?_) (fun c17 => ?_)
        · have w := w.1 c17
          refine MR_aload_n dX5_shift_39 0 rfl ?_
          refine MR_getA (k := 43) (o := 28) (j := 0) (n := 6) dX5_shift_40 q1307 (by decide) rfl rfl ?_
          refine MR_iload_n dX5_shift_43 1 rfl ?_
          obtain ⟨c16, w⟩ := w
          refine MR_iald (k := 43) dX5_shift_44 (by decide) rfl c16 ?_
          refine MR_if_ge (tgt := 63) dX5_shift_45 (by decide) (fun c15 => ?_) (fun c15 => ?_)
          · have w := w.1 c15
            refine MR_bipush (v := (-12)) dX5_shift_63 (by decide) ?_
            exact MR_iret dX5_shift_65 rfl w
          · have w := w.2 c15
            refine MR_aload_n dX5_shift_48 0 rfl ?_
            refine MR_getA (k := 43) (o := 28) (j := 0) (n := 6) dX5_shift_49 q1307 (by decide) rfl rfl ?_
            refine MR_iload_n dX5_shift_52 1 rfl ?_
            obtain ⟨c14, w⟩ := w
            refine MR_iald (k := 43) dX5_shift_53 (by decide) rfl c14 ?_
            refine MR_aload_n dX5_shift_54 0 rfl ?_
            refine MR_getA (k := 43) (o := 28) (j := 0) (n := 6) dX5_shift_55 q1307 (by decide) rfl rfl ?_
            refine MR_iload_n dX5_shift_58 3 rfl ?_
            obtain ⟨c13, w⟩ := w
            refine MR_iald (k := 43) dX5_shift_59 (by decide) rfl c13 ?_
            refine MR_icmp_eq (tgt := 66) dX5_shift_60 (by decide) (fun c12 => ?_) (fun c12 => ?_)
            · have w := w.1 c12
              refine MR_iload dX5_shift_66 5 rfl ?_
              refine MR_if_lt (tgt := 107) dX5_shift_68 (by decide) (fun c11 => ?_) (fun c11 => ?_)
              · have w := w.1 c11
                refine MR_bipush (v := (-13)) dX5_shift_107 (by decide) ?_
                exact MR_iret dX5_shift_109 rfl w
              · have w := w.2 c11
                refine MR_iload_n dX5_shift_71 2 rfl ?_
                refine MR_if_lt (tgt := 107) dX5_shift_72 (by decide) (fun c10 => ?_) (fun c10 => ?_)
                · have w := w.1 c10
                  refine MR_bipush (v := (-13)) dX5_shift_107 (by decide) ?_
                  exact MR_iret dX5_shift_109 rfl w
                · have w := w.2 c10
                  refine MR_iload dX5_shift_75 4 rfl ?_
                  refine MR_if_lt (tgt := 107) dX5_shift_77 (by decide) (fun c9 => ?_) (fun c9 => ?_)
                  · have w := w.1 c9
                    refine MR_bipush (v := (-13)) dX5_shift_107 (by decide) ?_
                    exact MR_iret dX5_shift_109 rfl w
                  · have w := w.2 c9
                    refine MR_iload_n dX5_shift_80 2 rfl ?_
                    refine MR_aload_n dX5_shift_81 0 rfl ?_
                    refine MR_getA (k := 44) (o := 29) (j := 0) (n := 6) dX5_shift_82 q1308 (by decide) rfl rfl ?_
                    refine MR_iload_n dX5_shift_85 1 rfl ?_
                    obtain ⟨c8, w⟩ := w
                    refine MR_iald (k := 44) dX5_shift_86 (by decide) rfl c8 ?_
                    refine MR_iload dX5_shift_87 5 rfl ?_
                    refine MR_isub dX5_shift_89 ?_
                    refine MR_icmp_gt (tgt := 107) dX5_shift_90 (by decide) (fun c7 => ?_) (fun c7 => ?_)
                    · have w := w.1 c7
                      refine MR_bipush (v := (-13)) dX5_shift_107 (by decide) ?_
                      exact MR_iret dX5_shift_109 rfl w
                    · have w := w.2 c7
                      refine MR_iload dX5_shift_93 4 rfl ?_
                      refine MR_aload_n dX5_shift_95 0 rfl ?_
                      refine MR_getA (k := 44) (o := 29) (j := 0) (n := 6) dX5_shift_96 q1308 (by decide) rfl rfl ?_
                      refine MR_iload_n dX5_shift_99 3 rfl ?_
                      obtain ⟨c6, w⟩ := w
                      refine MR_iald (k := 44) dX5_shift_100 (by decide) rfl c6 ?_
                      refine MR_iload dX5_shift_101 5 rfl ?_
                      refine MR_isub dX5_shift_103 ?_
                      refine MR_icmp_le (tgt := 110) dX5_shift_104 (by decide) (fun c5 => ?_) (fun c5 => ?_)
                      · have w := w.1 c5
                        refine MR_iconst (v := 0) dX5_shift_110 (by decide) ?_
                        refine MR_istore (lv' := [(6, .int 0), (0, .ref m), (1, .int a1), (2, .int a2), (3, .int a3), (4, .int a4), (5, .int a5)]) dX5_shift_111 (by decide) rfl ?_
                        exact MR_sub [1, 2, 3, 4, 5, 6, 0] rfl w
                      · have w := w.2 c5
                        refine MR_bipush (v := (-13)) dX5_shift_107 (by decide) ?_
                        exact MR_iret dX5_shift_109 rfl w
            · have w := w.2 c12
              refine MR_bipush (v := (-12)) dX5_shift_63 (by decide) ?_
              exact MR_iret dX5_shift_65 rfl w
        · have w := w.2 c17
          refine MR_bipush (v := (-11)) dX5_shift_36 (by decide) ?_
          exact MR_iret dX5_shift_38 rfl w
    · have w := w.2 c21
      refine MR_iconst (v := (-1)) dX5_shift_14 (by decide) ?_
      exact MR_iret dX5_shift_15 rfl w
theorem sX5_shift_113 {G : GG} {m : Nat} {sg : MS} {Q : Outcome → MS → Prop} {a1 a2 a3 a4 a5 a6 : Int32} (w : (a5 ≤ a6 → (MR G mX5_shift 3 150 [(0, .ref m), (3, .int a3), (4, .int a4), (5, .int a5), (6, .int 0)] [] m sg Q)) ∧ (¬ a5 ≤ a6 → (vp_in (((60 * a1) + a2) + a6) 360 ∧ (vp_in a6 60 ∧ (MR G mX5_shift 3 113 [(0, .ref m), (1, .int a1), (2, .int a2), (3, .int a3), (4, .int a4), (5, .int a5), (6, .int (a6 + 1))] [] m (uE sg 46 a6.toNatClampNeg (sg.2 45 (((60 * a1) + a2) + a6).toNatClampNeg)) Q))))) : MR G mX5_shift 3 113 [(0, .ref m), (1, .int a1), (2, .int a2), (3, .int a3), (4, .int a4), (5, .int a5), (6, .int a6)] [] m sg Q := by
  refine MR_iload dX5_shift_113 6 rfl ?_
  refine MR_iload dX5_shift_115 5 rfl ?_
  refine MR_icmp_ge (tgt := 147) dX5_shift_117 (by decide) (fun c3 => ?_) (fun c3 => ?_)
  · have w := w.1 c3
    refine MR_iconst (v := 0) dX5_shift_147 (by decide) ?_
    refine MR_istore (lv' := [(6, .int 0), (0, .ref m), (1, .int a1), (2, .int a2), (3, .int a3), (4, .int a4), (5, .int a5)]) dX5_shift_148 (by decide) rfl ?_
    exact MR_sub [1, 4, 5, 6, 0] rfl w
  · have w := w.2 c3
    refine MR_aload_n dX5_shift_120 0 rfl ?_
    refine MR_getA (k := 46) (o := 31) (j := 1) (n := 60) dX5_shift_121 q1310 (by decide) rfl rfl ?_
    refine MR_iload dX5_shift_124 6 rfl ?_
    refine MR_aload_n dX5_shift_126 0 rfl ?_
    refine MR_getA (k := 45) (o := 30) (j := 1) (n := 360) dX5_shift_127 q1309 (by decide) rfl rfl ?_
    refine MR_bipush (v := 60) dX5_shift_130 (by decide) ?_
    refine MR_iload_n dX5_shift_132 1 rfl ?_
    refine MR_imul dX5_shift_133 ?_
    refine MR_iload_n dX5_shift_134 2 rfl ?_
    refine MR_iadd dX5_shift_135 ?_
    refine MR_iload dX5_shift_136 6 rfl ?_
    refine MR_iadd dX5_shift_138 ?_
    obtain ⟨c2, w⟩ := w
    refine MR_lald (k := 45) dX5_shift_139 (by decide) rfl c2 ?_
    obtain ⟨c1, w⟩ := w
    refine MR_last (k := 46) dX5_shift_140 (by decide) rfl c1 ?_
    refine MR_iinc (v := (a6 + 1)) (lv' := [(6, .int (a6 + 1)), (0, .ref m), (1, .int a1), (2, .int a2), (3, .int a3), (4, .int a4), (5, .int a5)]) dX5_shift_141 6 rfl (congrArg (fun z => a6 + z) (show Int32.ofInt 1 = 1 by decide)) (by decide) rfl ?_
    refine MR_goto (tgt := 113) dX5_shift_144 (by decide) ?_
    exact MR_sub [1, 2, 3, 4, 5, 6, 0] rfl w
theorem sX5_shift_150 {G : GG} {m : Nat} {sg : MS} {Q : Outcome → MS → Prop} {a3 a4 a5 a6 : Int32} (w : (a5 ≤ a6 → (Q (.returned (some (.int a5))) sg)) ∧ (¬ a5 ≤ a6 → (vp_in a6 60 ∧ (vp_in (((60 * a3) + a4) + a6) 360 ∧ (MR G mX5_shift 3 150 [(0, .ref m), (3, .int a3), (4, .int a4), (5, .int a5), (6, .int (a6 + 1))] [] m (uE sg 45 (((60 * a3) + a4) + a6).toNatClampNeg (sg.2 46 a6.toNatClampNeg)) Q))))) : MR G mX5_shift 3 150 [(0, .ref m), (3, .int a3), (4, .int a4), (5, .int a5), (6, .int a6)] [] m sg Q := by
  refine MR_iload dX5_shift_150 4 rfl ?_
  refine MR_iload dX5_shift_152 3 rfl ?_
  refine MR_icmp_ge (tgt := 185) dX5_shift_154 (by decide) (fun c3 => ?_) (fun c3 => ?_)
  · have w := w.1 c3
    refine MR_iload dX5_shift_185 3 rfl ?_
    exact MR_iret dX5_shift_187 rfl w
  · have w := w.2 c3
    refine MR_aload_n dX5_shift_157 0 rfl ?_
    refine MR_getA (k := 45) (o := 30) (j := 1) (n := 360) dX5_shift_158 q1309 (by decide) rfl rfl ?_
    refine MR_bipush (v := 60) dX5_shift_161 (by decide) ?_
    refine MR_iload_n dX5_shift_163 1 rfl ?_
    refine MR_imul dX5_shift_164 ?_
    refine MR_iload dX5_shift_165 2 rfl ?_
    refine MR_iadd dX5_shift_167 ?_
    refine MR_iload dX5_shift_168 4 rfl ?_
    refine MR_iadd dX5_shift_170 ?_
    refine MR_aload_n dX5_shift_171 0 rfl ?_
    refine MR_getA (k := 46) (o := 31) (j := 1) (n := 60) dX5_shift_172 q1310 (by decide) rfl rfl ?_
    refine MR_iload dX5_shift_175 4 rfl ?_
    obtain ⟨c2, w⟩ := w
    refine MR_lald (k := 46) dX5_shift_177 (by decide) rfl c2 ?_
    obtain ⟨c1, w⟩ := w
    refine MR_last (k := 45) dX5_shift_178 (by decide) rfl c1 ?_
    refine MR_iinc (v := (a6 + 1)) (lv' := [(6, .int (a6 + 1)), (0, .ref m), (3, .int a3), (4, .int a4), (5, .int a5)]) dX5_shift_179 4 rfl (congrArg (fun z => a6 + z) (show Int32.ofInt 1 = 1 by decide)) (by decide) rfl ?_
    refine MR_goto (tgt := 150) dX5_shift_182 (by decide) ?_
    exact MR_sub [1, 2, 3, 4, 0] rfl w
theorem sX5_soonHolds_0 {G : GG} {m : Nat} {sg : MS} {Q : Outcome → MS → Prop} {a1 a2 : Int32} (w : MR G mX5_ran 1 0 [(0, .ref m), (1, .int 30)] [] m sg (fun o sg1 => o = .returned none ∧ (MR G mX5_plainHolds 5 0 [(0, .ref m), (1, .int a1), (2, .int a2)] [] m sg1 (fun o sg2 => ∃ r3 : Int32, o = .returned (some (.int r3)) ∧ (Q (.returned (some (.int (-r3)))) sg2))))) : MR G mX5_soonHolds 6 0 [(0, .ref m), (1, .int a1), (2, .int a2)] [] m sg Q := by
  refine MR_aload_n dX5_soonHolds_0 0 rfl ?_
  refine MR_bipush (v := 30) dX5_soonHolds_1 (by decide) ?_
  refine MR_invVv (Mc := mX5_ran) (As := [.int 30]) (st := []) dX5_soonHolds_3 q1728 q1730 qs89 q111 wX5_ran pX5_ran rfl (Nat.le_of_ble_eq_true rfl) (by decide) (by decide) (Nat.le_of_ble_eq_true rfl) w (fun sg1 w => ?_)
  refine MR_aload_n dX5_soonHolds_6 0 rfl ?_
  refine MR_iload_n dX5_soonHolds_7 1 rfl ?_
  refine MR_iload_n dX5_soonHolds_8 2 rfl ?_
  refine MR_invVi (Mc := mX5_plainHolds) (As := [.int a1, .int a2]) (st := []) dX5_soonHolds_9 q1748 q1750 qs94 q111 wX5_plainHolds pX5_plainHolds rfl (Nat.le_of_ble_eq_true rfl) (by decide) (by decide) (Nat.le_of_ble_eq_true rfl) w (fun r3 sg2 w => ?_)
  refine MR_ineg dX5_soonHolds_12 ?_
  exact MR_iret dX5_soonHolds_13 rfl w
theorem sX5_sum_0 {G : GG} {m : Nat} {sg : MS} {Q : Outcome → MS → Prop} {d d' : Nat} (hdd : d' + 1 ≤ d) (h9 : 9 ≤ d) (w : MR G mX5_product d' 0 [(0, .ref m)] [] m sg (fun o sg1 => o = .returned none ∧ (MR G mX5_sum d 4 [(0, .ref m)] [] m sg1 Q))) : MR G mX5_sum d 0 [(0, .ref m)] [] m sg Q := by
  refine MR_aload_n dX5_sum_0 0 rfl ?_
  refine MR_invVv (Mc := mX5_product) (As := []) (st := []) dX5_sum_1 q1535 q1537 qs61 q111 wX5_product pX5_product rfl (Nat.le_of_ble_eq_true rfl) (by decide) hdd (Nat.le_of_ble_eq_true rfl) w (fun sg1 w => ?_)
  exact w
theorem sX5_sum_4 {G : GG} {m : Nat} {sg : MS} {Q : Outcome → MS → Prop} {d d' : Nat} (hdd : d' + 1 ≤ d) (h9 : 9 ≤ d) (w : (0 ≤ (sg.1 21 0) → (Q (.returned none) sg)) ∧ (¬ 0 ≤ (sg.1 21 0) → (MR G mX5_look 1 0 [(0, .ref m)] [] m sg (fun o sg1 => ∃ r2 : Int32, o = .returned (some (.int r2)) ∧ ((r2 = 43 → (MR G mX5_sum d 29 [(0, .ref m)] [] m sg1 Q)) ∧ (¬ r2 = 43 → (MR G mX5_look 1 0 [(0, .ref m)] [] m sg1 (fun o sg3 => ∃ r4 : Int32, o = .returned (some (.int r4)) ∧ ((¬ r4 = 45 → (Q (.returned none) sg3)) ∧ (r4 = 45 → (MR G mX5_sum d 29 [(0, .ref m)] [] m sg3 Q))))))))))) : MR G mX5_sum d 4 [(0, .ref m)] [] m sg Q := by
  refine MR_aload_n dX5_sum_4 0 rfl ?_
  refine MR_getS (k := 21) dX5_sum_5 q1285 (by decide) rfl rfl ?_
  refine MR_if_ge (tgt := 57) dX5_sum_8 (by decide) (fun c7 => ?_) (fun c7 => ?_)
  · have w := w.1 c7
    exact MR_vret dX5_sum_57 rfl w
  · have w := w.2 c7
    refine MR_aload_n dX5_sum_11 0 rfl ?_
    refine MR_invVi (Mc := mX5_look) (As := []) (st := []) dX5_sum_12 q1543 q1545 qs63 q111 wX5_look pX5_look rfl (Nat.le_of_ble_eq_true rfl) (by decide) (by omega) (Nat.le_of_ble_eq_true rfl) w (fun r2 sg1 w => ?_)
    refine MR_bipush (v := 43) dX5_sum_15 (by decide) ?_
    refine MR_icmp_eq (tgt := 29) dX5_sum_17 (by decide) (fun c6 => ?_) (fun c6 => ?_)
    · have w := w.1 c6
      exact w
    · have w := w.2 c6
      refine MR_aload_n dX5_sum_20 0 rfl ?_
      refine MR_invVi (Mc := mX5_look) (As := []) (st := []) dX5_sum_21 q1543 q1545 qs63 q111 wX5_look pX5_look rfl (Nat.le_of_ble_eq_true rfl) (by decide) (by omega) (Nat.le_of_ble_eq_true rfl) w (fun r4 sg3 w => ?_)
      refine MR_bipush (v := 45) dX5_sum_24 (by decide) ?_
      refine MR_icmp_ne (tgt := 57) dX5_sum_26 (by decide) (fun c5 => ?_) (fun c5 => ?_)
      · have w := w.1 c5
        exact MR_vret dX5_sum_57 rfl w
      · have w := w.2 c5
        exact w
theorem sX5_sum_29 {G : GG} {m : Nat} {sg : MS} {Q : Outcome → MS → Prop} {d d' : Nat} (hdd : d' + 1 ≤ d) (h9 : 9 ≤ d) (w : MR G mX5_look 1 0 [(0, .ref m)] [] m sg (fun o sg1 => ∃ r2 : Int32, o = .returned (some (.int r2)) ∧ (MR G mX5_product d' 0 [(0, .ref m)] [] m (uS sg1 20 0 ((sg1.1 20 0) + 1)) (fun o sg3 => o = .returned none ∧ (MR G mX5_addStep 1 0 [(0, .ref m), (1, .int r2), (2, .int 0)] [] m sg3 (fun o sg4 => o = .returned none ∧ (MR G mX5_sum d 4 [(0, .ref m)] [] m sg4 Q))))))) : MR G mX5_sum d 29 [(0, .ref m)] [] m sg Q := by
  refine MR_aload_n dX5_sum_29 0 rfl ?_
  refine MR_invVi (Mc := mX5_look) (As := []) (st := []) dX5_sum_30 q1543 q1545 qs63 q111 wX5_look pX5_look rfl (Nat.le_of_ble_eq_true rfl) (by decide) (by omega) (Nat.le_of_ble_eq_true rfl) w (fun r2 sg1 w => ?_)
  refine MR_istore_n (lv' := [(1, .int r2), (0, .ref m)]) dX5_sum_33 rfl (by decide) rfl ?_
  refine MR_aload_n dX5_sum_34 1 rfl ?_
  refine MR_dup dX5_sum_35 rfl ?_
  refine MR_getS (k := 20) dX5_sum_36 q1284 (by decide) rfl rfl ?_
  refine MR_iconst (v := 1) dX5_sum_39 (by decide) ?_
  refine MR_iadd dX5_sum_40 ?_
  refine MR_putS (k := 20) dX5_sum_41 q1284 (by decide) rfl rfl rfl rfl rfl ?_
  refine MR_aload_n dX5_sum_44 1 rfl ?_
  refine MR_invVv (Mc := mX5_product) (As := []) (st := []) dX5_sum_45 q1535 q1537 qs61 q111 wX5_product pX5_product rfl (Nat.le_of_ble_eq_true rfl) (by decide) hdd (Nat.le_of_ble_eq_true rfl) w (fun sg3 w => ?_)
  refine MR_aload_n dX5_sum_48 1 rfl ?_
  refine MR_iload_n dX5_sum_49 0 rfl ?_
  refine MR_iconst (v := 0) dX5_sum_50 (by decide) ?_
  refine MR_invVv (Mc := mX5_addStep) (As := [.int r2, .int 0]) (st := []) dX5_sum_51 q1550 q1552 qs64 q111 wX5_addStep pX5_addStep rfl (Nat.le_of_ble_eq_true rfl) (by decide) (by omega) (Nat.le_of_ble_eq_true rfl) w (fun sg4 w => ?_)
  refine MR_goto (tgt := 4) dX5_sum_54 (by decide) ?_
  exact MR_sub [1] rfl w
theorem sX5_taken_0 {G : GG} {m : Nat} {sg : MS} {Q : Outcome → MS → Prop} {a1 a2 : Int32} (w : MR G mX5_isShelf 2 0 [(0, .int a1)] [] m sg (fun o sg1 => ∃ b2 : Bool, o = .returned (some (.int (bi b2))) ∧ ((b2 = false → (Q (.returned (some (.int (-1)))) sg1)) ∧ (b2 = true → (MR G mX5_in 1 0 [(0, .int a2), (1, .int 0), (2, .int 7)] [] m sg1 (fun o sg3 => ∃ b4 : Bool, o = .returned (some (.int (bi b4))) ∧ ((b4 = true → (vp_in a1 6 ∧ ((¬ (sg3.1 43 a1.toNatClampNeg) = (-1) → (vp_in a1 6 ∧ (((sg3.1 43 a1.toNatClampNeg) < 0 → (Q (.returned (some (.int (-12)))) sg3)) ∧ (¬ (sg3.1 43 a1.toNatClampNeg) < 0 → (vp_in a1 6 ∧ (vp_in (sg3.1 43 a1.toNatClampNeg) 50 ∧ (MR G mX5_isUnder 1 0 [(0, .int (sg3.1 40 (sg3.1 43 a1.toNatClampNeg).toNatClampNeg)), (1, .int a2)] [] m sg3 (fun o sg5 => ∃ b6 : Bool, o = .returned (some (.int (bi b6))) ∧ ((b6 = false → (Q (.returned (some (.int (-12)))) sg5)) ∧ (b6 = true → (vp_in a1 6 ∧ (vp_in (sg5.1 43 a1.toNatClampNeg) 50 ∧ (Q (.returned (some (.int (sg5.1 40 (sg5.1 43 a1.toNatClampNeg).toNatClampNeg)))) sg5))))))))))))) ∧ ((sg3.1 43 a1.toNatClampNeg) = (-1) → (Q (.returned (some (.int (-11)))) sg3))))) ∧ (b4 = false → (Q (.returned (some (.int (-1)))) sg3))))))))) : MR G mX5_taken 3 0 [(0, .ref m), (1, .int a1), (2, .int a2)] [] m sg Q := by
  refine MR_iload_n dX5_taken_0 1 rfl ?_
  refine MR_invSz (Mc := mX5_isShelf) (As := [.int a1]) (st := []) dX5_taken_1 q1427 q1428 q111 wX5_isShelf pX5_isShelf rfl (Nat.le_of_ble_eq_true rfl) (by decide) (by decide) (Nat.le_of_ble_eq_true rfl) w (fun b2 sg1 w => ?_)
  refine MR_ifz_eq (tgt := 17) dX5_taken_4 (by decide) (fun c17 => ?_) (fun c17 => ?_)
  · have w := w.1 c17
    refine MR_iconst (v := (-1)) dX5_taken_17 (by decide) ?_
    exact MR_iret dX5_taken_18 rfl w
  · have w := w.2 c17
    refine MR_iload_n dX5_taken_7 2 rfl ?_
    refine MR_iconst (v := 0) dX5_taken_8 (by decide) ?_
    refine MR_bipush (v := 7) dX5_taken_9 (by decide) ?_
    refine MR_invSz (Mc := mX5_in) (As := [.int a2, .int 0, .int 7]) (st := []) dX5_taken_11 q1416 q1417 q111 wX5_in pX5_in rfl (Nat.le_of_ble_eq_true rfl) (by decide) (by decide) (Nat.le_of_ble_eq_true rfl) w (fun b4 sg3 w => ?_)
    refine MR_ifz_ne (tgt := 19) dX5_taken_14 (by decide) (fun c16 => ?_) (fun c16 => ?_)
    · have w := w.1 c16
      refine MR_aload_n dX5_taken_19 0 rfl ?_
      refine MR_getA (k := 43) (o := 28) (j := 0) (n := 6) dX5_taken_20 q1307 (by decide) rfl rfl ?_
      refine MR_iload_n dX5_taken_23 1 rfl ?_
      obtain ⟨c15, w⟩ := w
      refine MR_iald (k := 43) dX5_taken_24 (by decide) rfl c15 ?_
      refine MR_iconst (v := (-1)) dX5_taken_25 (by decide) ?_
      refine MR_icmp_ne (tgt := 32) dX5_taken_26 (by decide) (fun c14 => ?_) (fun c14 => ?_)
      · have w := w.1 c14
        refine MR_aload_n dX5_taken_32 0 rfl ?_
        refine MR_getA (k := 43) (o := 28) (j := 0) (n := 6) dX5_taken_33 q1307 (by decide) rfl rfl ?_
        refine MR_iload_n dX5_taken_36 1 rfl ?_
        obtain ⟨c13, w⟩ := w
        refine MR_iald (k := 43) dX5_taken_37 (by decide) rfl c13 ?_
        refine MR_if_lt (tgt := 73) dX5_taken_38 (by decide) (fun c12 => ?_) (fun c12 => ?_)
        · have w := w.1 c12
          refine MR_bipush (v := (-12)) dX5_taken_73 (by decide) ?_
          exact MR_iret dX5_taken_75 rfl w
        · have w := w.2 c12
          refine MR_aload_n dX5_taken_41 0 rfl ?_
          refine MR_getA (k := 40) (o := 26) (j := 0) (n := 50) dX5_taken_42 q1304 (by decide) rfl rfl ?_
          refine MR_aload_n dX5_taken_45 0 rfl ?_
          refine MR_getA (k := 43) (o := 28) (j := 0) (n := 6) dX5_taken_46 q1307 (by decide) rfl rfl ?_
          refine MR_iload_n dX5_taken_49 1 rfl ?_
          obtain ⟨c11, w⟩ := w
          refine MR_iald (k := 43) dX5_taken_50 (by decide) rfl c11 ?_
          obtain ⟨c10, w⟩ := w
          refine MR_iald (k := 40) dX5_taken_51 (by decide) rfl c10 ?_
          refine MR_iload_n dX5_taken_52 2 rfl ?_
          refine MR_invSz (Mc := mX5_isUnder) (As := [.int (sg3.1 40 (sg3.1 43 a1.toNatClampNeg).toNatClampNeg), .int a2]) (st := []) dX5_taken_53 q1725 q1726 q111 wX5_isUnder pX5_isUnder rfl (Nat.le_of_ble_eq_true rfl) (by decide) (by decide) (Nat.le_of_ble_eq_true rfl) w (fun b6 sg5 w => ?_)
          refine MR_ifz_eq (tgt := 73) dX5_taken_56 (by decide) (fun c9 => ?_) (fun c9 => ?_)
          · have w := w.1 c9
            refine MR_bipush (v := (-12)) dX5_taken_73 (by decide) ?_
            exact MR_iret dX5_taken_75 rfl w
          · have w := w.2 c9
            refine MR_aload_n dX5_taken_59 0 rfl ?_
            refine MR_getA (k := 40) (o := 26) (j := 0) (n := 50) dX5_taken_60 q1304 (by decide) rfl rfl ?_
            refine MR_aload_n dX5_taken_63 0 rfl ?_
            refine MR_getA (k := 43) (o := 28) (j := 0) (n := 6) dX5_taken_64 q1307 (by decide) rfl rfl ?_
            refine MR_iload_n dX5_taken_67 1 rfl ?_
            obtain ⟨c8, w⟩ := w
            refine MR_iald (k := 43) dX5_taken_68 (by decide) rfl c8 ?_
            obtain ⟨c7, w⟩ := w
            refine MR_iald (k := 40) dX5_taken_69 (by decide) rfl c7 ?_
            refine MR_goto (tgt := 75) dX5_taken_70 (by decide) ?_
            exact MR_iret dX5_taken_75 rfl w
      · have w := w.2 c14
        refine MR_bipush (v := (-11)) dX5_taken_29 (by decide) ?_
        exact MR_iret dX5_taken_31 rfl w
    · have w := w.2 c16
      refine MR_iconst (v := (-1)) dX5_taken_17 (by decide) ?_
      exact MR_iret dX5_taken_18 rfl w
theorem sX5_telling_0 {G : GG} {m : Nat} {sg : MS} {Q : Outcome → MS → Prop} {a1 a2 : Int32} (w : vp_in a1 50 ∧ ((¬ (sg.1 40 a1.toNatClampNeg) = 4 → (vp_in a1 50 ∧ ((¬ (sg.1 40 a1.toNatClampNeg) = 5 → (MR G mX5_plainTells 8 0 [(0, .ref m), (1, .int a1), (2, .int a2)] [] m sg (fun o sg1 => ∃ r2 : Int32, o = .returned (some (.int r2)) ∧ (Q (.returned (some (.int r2))) sg1)))) ∧ ((sg.1 40 a1.toNatClampNeg) = 5 → (MR G mX5_ran 1 0 [(0, .ref m), (1, .int 61)] [] m sg (fun o sg3 => o = .returned none ∧ (MR G mX5_plainTells 8 0 [(0, .ref m), (1, .int a1), (2, .int a2)] [] m sg3 (fun o sg4 => ∃ r5 : Int32, o = .returned (some (.int r5)) ∧ (Q (.returned (some (.int (r5 + 1)))) sg4))))))))) ∧ ((sg.1 40 a1.toNatClampNeg) = 4 → (MR G mX5_ran 1 0 [(0, .ref m), (1, .int 50)] [] m sg (fun o sg8 => o = .returned none ∧ (MR G mX5_plainTells 8 0 [(0, .ref m), (1, .int a1), (2, .int a2)] [] m sg8 (fun o sg9 => ∃ r10 : Int32, o = .returned (some (.int r10)) ∧ (Q (.returned (some (.int (r10 ^^^ 5)))) sg9)))))))) : MR G mX5_telling 9 0 [(0, .ref m), (1, .int a1), (2, .int a2)] [] m sg Q := by
  refine MR_aload_n dX5_telling_0 0 rfl ?_
  refine MR_getA (k := 40) (o := 26) (j := 0) (n := 50) dX5_telling_1 q1304 (by decide) rfl rfl ?_
  refine MR_iload_n dX5_telling_4 1 rfl ?_
  obtain ⟨c12, w⟩ := w
  refine MR_iald (k := 40) dX5_telling_5 (by decide) rfl c12 ?_
  refine MR_iconst (v := 4) dX5_telling_6 (by decide) ?_
  refine MR_icmp_ne (tgt := 25) dX5_telling_7 (by decide) (fun c11 => ?_) (fun c11 => ?_)
  · have w := w.1 c11
    refine MR_aload_n dX5_telling_25 0 rfl ?_
    refine MR_getA (k := 40) (o := 26) (j := 0) (n := 50) dX5_telling_26 q1304 (by decide) rfl rfl ?_
    refine MR_iload_n dX5_telling_29 1 rfl ?_
    obtain ⟨c7, w⟩ := w
    refine MR_iald (k := 40) dX5_telling_30 (by decide) rfl c7 ?_
    refine MR_iconst (v := 5) dX5_telling_31 (by decide) ?_
    refine MR_icmp_ne (tgt := 50) dX5_telling_32 (by decide) (fun c6 => ?_) (fun c6 => ?_)
    · have w := w.1 c6
      refine MR_aload_n dX5_telling_50 0 rfl ?_
      refine MR_iload_n dX5_telling_51 1 rfl ?_
      refine MR_iload_n dX5_telling_52 2 rfl ?_
      refine MR_invVi (Mc := mX5_plainTells) (As := [.int a1, .int a2]) (st := []) dX5_telling_53 q1768 q1770 qs99 q111 wX5_plainTells pX5_plainTells rfl (Nat.le_of_ble_eq_true rfl) (by decide) (by decide) (Nat.le_of_ble_eq_true rfl) w (fun r2 sg1 w => ?_)
      exact MR_iret dX5_telling_56 rfl w
    · have w := w.2 c6
      refine MR_aload_n dX5_telling_35 0 rfl ?_
      refine MR_bipush (v := 61) dX5_telling_36 (by decide) ?_
      refine MR_invVv (Mc := mX5_ran) (As := [.int 61]) (st := []) dX5_telling_38 q1728 q1730 qs89 q111 wX5_ran pX5_ran rfl (Nat.le_of_ble_eq_true rfl) (by decide) (by decide) (Nat.le_of_ble_eq_true rfl) w (fun sg3 w => ?_)
      refine MR_aload_n dX5_telling_41 0 rfl ?_
      refine MR_iload_n dX5_telling_42 1 rfl ?_
      refine MR_iload_n dX5_telling_43 2 rfl ?_
      refine MR_invVi (Mc := mX5_plainTells) (As := [.int a1, .int a2]) (st := []) dX5_telling_44 q1768 q1770 qs99 q111 wX5_plainTells pX5_plainTells rfl (Nat.le_of_ble_eq_true rfl) (by decide) (by decide) (Nat.le_of_ble_eq_true rfl) w (fun r5 sg4 w => ?_)
      refine MR_iconst (v := 1) dX5_telling_47 (by decide) ?_
      refine MR_iadd dX5_telling_48 ?_
      exact MR_iret dX5_telling_49 rfl w
  · have w := w.2 c11
    refine MR_aload_n dX5_telling_10 0 rfl ?_
    refine MR_bipush (v := 50) dX5_telling_11 (by decide) ?_
    refine MR_invVv (Mc := mX5_ran) (As := [.int 50]) (st := []) dX5_telling_13 q1728 q1730 qs89 q111 wX5_ran pX5_ran rfl (Nat.le_of_ble_eq_true rfl) (by decide) (by decide) (Nat.le_of_ble_eq_true rfl) w (fun sg8 w => ?_)
    refine MR_aload_n dX5_telling_16 0 rfl ?_
    refine MR_iload_n dX5_telling_17 1 rfl ?_
    refine MR_iload_n dX5_telling_18 2 rfl ?_
    refine MR_invVi (Mc := mX5_plainTells) (As := [.int a1, .int a2]) (st := []) dX5_telling_19 q1768 q1770 qs99 q111 wX5_plainTells pX5_plainTells rfl (Nat.le_of_ble_eq_true rfl) (by decide) (by decide) (Nat.le_of_ble_eq_true rfl) w (fun r10 sg9 w => ?_)
    refine MR_iconst (v := 5) dX5_telling_22 (by decide) ?_
    refine MR_ixor dX5_telling_23 ?_
    exact MR_iret dX5_telling_24 rfl w
theorem sX5_toldGives_0 {G : GG} {m : Nat} {sg : MS} {Q : Outcome → MS → Prop} {a1 a2 : Int32} (w : MR G mX5_ran 1 0 [(0, .ref m), (1, .int 70)] [] m sg (fun o sg1 => o = .returned none ∧ (MR G mX5_plainGives 2 0 [(0, .ref m), (1, .int a1), (2, .int a2)] [] m sg1 (fun o sg2 => ∃ r3 : Int32, o = .returned (some (.int r3)) ∧ (Q (.returned (some (.int (r3 * 2)))) sg2))))) : MR G mX5_toldGives 3 0 [(0, .ref m), (1, .int a1), (2, .int a2)] [] m sg Q := by
  refine MR_aload_n dX5_toldGives_0 0 rfl ?_
  refine MR_bipush (v := 70) dX5_toldGives_1 (by decide) ?_
  refine MR_invVv (Mc := mX5_ran) (As := [.int 70]) (st := []) dX5_toldGives_3 q1728 q1730 qs89 q111 wX5_ran pX5_ran rfl (Nat.le_of_ble_eq_true rfl) (by decide) (by decide) (Nat.le_of_ble_eq_true rfl) w (fun sg1 w => ?_)
  refine MR_aload_n dX5_toldGives_6 0 rfl ?_
  refine MR_iload_n dX5_toldGives_7 1 rfl ?_
  refine MR_iload_n dX5_toldGives_8 2 rfl ?_
  refine MR_invVi (Mc := mX5_plainGives) (As := [.int a1, .int a2]) (st := []) dX5_toldGives_9 q1732 q1734 qs90 q111 wX5_plainGives pX5_plainGives rfl (Nat.le_of_ble_eq_true rfl) (by decide) (by decide) (Nat.le_of_ble_eq_true rfl) w (fun r3 sg2 w => ?_)
  refine MR_iconst (v := 2) dX5_toldGives_12 (by decide) ?_
  refine MR_imul dX5_toldGives_13 ?_
  exact MR_iret dX5_toldGives_14 rfl w
theorem sX5_trace_0 {G : GG} {m : Nat} {sg : MS} {Q : Outcome → MS → Prop} {a1 : Int32} (w : (a1 < 0 → (Q (.returned (some (.int (-1)))) sg)) ∧ (¬ a1 < 0 → (((sg.1 41 0) ≤ a1 → (Q (.returned (some (.int (-1)))) sg)) ∧ (¬ (sg.1 41 0) ≤ a1 → ((24 ≤ a1 → (Q (.returned (some (.int (-1)))) sg)) ∧ (¬ 24 ≤ a1 → (vp_in a1 24 ∧ (Q (.returned (some (.int (sg.1 42 a1.toNatClampNeg)))) sg)))))))) : MR G mX5_trace 1 0 [(0, .ref m), (1, .int a1)] [] m sg Q := by
  refine MR_iload_n dX5_trace_0 1 rfl ?_
  refine MR_if_lt (tgt := 27) dX5_trace_1 (by decide) (fun c4 => ?_) (fun c4 => ?_)
  · have w := w.1 c4
    refine MR_iconst (v := (-1)) dX5_trace_27 (by decide) ?_
    exact MR_iret dX5_trace_28 rfl w
  · have w := w.2 c4
    refine MR_iload_n dX5_trace_4 1 rfl ?_
    refine MR_aload_n dX5_trace_5 0 rfl ?_
    refine MR_getS (k := 41) dX5_trace_6 q1305 (by decide) rfl rfl ?_
    refine MR_icmp_ge (tgt := 27) dX5_trace_9 (by decide) (fun c3 => ?_) (fun c3 => ?_)
    · have w := w.1 c3
      refine MR_iconst (v := (-1)) dX5_trace_27 (by decide) ?_
      exact MR_iret dX5_trace_28 rfl w
    · have w := w.2 c3
      refine MR_iload_n dX5_trace_12 1 rfl ?_
      refine MR_bipush (v := 24) dX5_trace_13 (by decide) ?_
      refine MR_icmp_ge (tgt := 27) dX5_trace_15 (by decide) (fun c2 => ?_) (fun c2 => ?_)
      · have w := w.1 c2
        refine MR_iconst (v := (-1)) dX5_trace_27 (by decide) ?_
        exact MR_iret dX5_trace_28 rfl w
      · have w := w.2 c2
        refine MR_aload_n dX5_trace_18 0 rfl ?_
        refine MR_getA (k := 42) (o := 27) (j := 0) (n := 24) dX5_trace_19 q1306 (by decide) rfl rfl ?_
        refine MR_iload_n dX5_trace_22 1 rfl ?_
        obtain ⟨c1, w⟩ := w
        refine MR_iald (k := 42) dX5_trace_23 (by decide) rfl c1 ?_
        refine MR_goto (tgt := 28) dX5_trace_24 (by decide) ?_
        exact MR_iret dX5_trace_28 rfl w
theorem sX5_twoOf_0 {G : GG} {m : Nat} {sg : MS} {Q : Outcome → MS → Prop} {a0 a1 a2 : Int32} (w : (a0 = 37 → ((a2 = 0 → (Q (.returned (some (.int 0))) sg)) ∧ (¬ a2 = 0 → ((¬ a2 = (-1) → (¬ a2 = 0 ∧ (Q (.returned (some (.int (a1 - a1 / a2 * a2)))) sg))) ∧ (a2 = (-1) → (Q (.returned (some (.int 0))) sg)))))) ∧ (¬ a0 = 37 → ((a0 = 38 → ((a1 = 0 → (Q (.returned (some (.int 0))) sg)) ∧ (¬ a1 = 0 → ((a2 = 0 → (Q (.returned (some (.int 0))) sg)) ∧ (¬ a2 = 0 → (Q (.returned (some (.int 1))) sg)))))) ∧ (¬ a0 = 38 → ((a0 = 42 → (Q (.returned (some (.int (a1 * a2)))) sg)) ∧ (¬ a0 = 42 → ((a0 = 43 → (Q (.returned (some (.int (a1 + a2)))) sg)) ∧ (¬ a0 = 43 → ((a0 = 45 → (Q (.returned (some (.int (a1 - a2)))) sg)) ∧ (¬ a0 = 45 → ((a0 = 47 → ((¬ a2 = 0 → ((¬ a2 = (-1) → (¬ a2 = 0 ∧ (Q (.returned (some (.int (a1 / a2)))) sg))) ∧ (a2 = (-1) → (Q (.returned (some (.int (-a1)))) sg)))) ∧ (a2 = 0 → (Q (.returned (some (.int 0))) sg)))) ∧ (¬ a0 = 47 → ((a0 = 60 → ((a2 ≤ a1 → (Q (.returned (some (.int 0))) sg)) ∧ (¬ a2 ≤ a1 → (Q (.returned (some (.int 1))) sg)))) ∧ (¬ a0 = 60 → ((a0 = 61 → ((¬ a1 = a2 → (Q (.returned (some (.int 0))) sg)) ∧ (a1 = a2 → (Q (.returned (some (.int 1))) sg)))) ∧ (¬ a0 = 61 → ((a0 = 62 → ((a1 ≤ a2 → (Q (.returned (some (.int 0))) sg)) ∧ (¬ a1 ≤ a2 → (Q (.returned (some (.int 1))) sg)))) ∧ (¬ a0 = 62 → ((¬ a1 = 0 → (Q (.returned (some (.int 1))) sg)) ∧ (a1 = 0 → ((a2 = 0 → (Q (.returned (some (.int 0))) sg)) ∧ (¬ a2 = 0 → (Q (.returned (some (.int 1))) sg))))))))))))))))))))))) : MR G mX5_twoOf 1 0 [(0, .int a0), (1, .int a1), (2, .int a2)] [] m sg Q := by
  refine MR_iload_n dX5_twoOf_0 0 rfl ?_
  by_cases c1 : a0 = 37
  · have w := w.1 c1
    refine MR_tableIn (off := 153) (tgt := 154) dX5_twoOf_1 (by rw [c1]; decide) (by rw [c1]; decide) (by rw [c1]; rfl) (by decide) ?_
    refine MR_iload_n dX5_twoOf_154 2 rfl ?_
    refine MR_if_eq (tgt := 163) dX5_twoOf_155 (by decide) (fun c4 => ?_) (fun c4 => ?_)
    · have w := w.1 c4
      refine MR_iconst (v := 0) dX5_twoOf_163 (by decide) ?_
      refine MR_goto (tgt := 170) dX5_twoOf_164 (by decide) ?_
      exact MR_iret dX5_twoOf_170 rfl w
    · have w := w.2 c4
      refine MR_iload_n dX5_twoOf_158 2 rfl ?_
      refine MR_iconst (v := (-1)) dX5_twoOf_159 (by decide) ?_
      refine MR_icmp_ne (tgt := 167) dX5_twoOf_160 (by decide) (fun c3 => ?_) (fun c3 => ?_)
      · have w := w.1 c3
        refine MR_iload_n dX5_twoOf_167 1 rfl ?_
        refine MR_iload_n dX5_twoOf_168 2 rfl ?_
        obtain ⟨c2, w⟩ := w
        refine MR_irem dX5_twoOf_169 c2 ?_
        exact MR_iret dX5_twoOf_170 rfl w
      · have w := w.2 c3
        refine MR_iconst (v := 0) dX5_twoOf_163 (by decide) ?_
        refine MR_goto (tgt := 170) dX5_twoOf_164 (by decide) ?_
        exact MR_iret dX5_twoOf_170 rfl w
  · have w := w.2 c1
    by_cases c5 : a0 = 38
    · have w := w.1 c5
      refine MR_tableIn (off := 203) (tgt := 204) dX5_twoOf_1 (by rw [c5]; decide) (by rw [c5]; decide) (by rw [c5]; rfl) (by decide) ?_
      refine MR_iload_n dX5_twoOf_204 1 rfl ?_
      refine MR_if_eq (tgt := 216) dX5_twoOf_205 (by decide) (fun c7 => ?_) (fun c7 => ?_)
      · have w := w.1 c7
        refine MR_iconst (v := 0) dX5_twoOf_216 (by decide) ?_
        exact MR_iret dX5_twoOf_217 rfl w
      · have w := w.2 c7
        refine MR_iload_n dX5_twoOf_208 2 rfl ?_
        refine MR_if_eq (tgt := 216) dX5_twoOf_209 (by decide) (fun c6 => ?_) (fun c6 => ?_)
        · have w := w.1 c6
          refine MR_iconst (v := 0) dX5_twoOf_216 (by decide) ?_
          exact MR_iret dX5_twoOf_217 rfl w
        · have w := w.2 c6
          refine MR_iconst (v := 1) dX5_twoOf_212 (by decide) ?_
          refine MR_goto (tgt := 217) dX5_twoOf_213 (by decide) ?_
          exact MR_iret dX5_twoOf_217 rfl w
    · have w := w.2 c5
      by_cases c8 : a0 = 42
      · have w := w.1 c8
        refine MR_tableIn (off := 127) (tgt := 128) dX5_twoOf_1 (by rw [c8]; decide) (by rw [c8]; decide) (by rw [c8]; rfl) (by decide) ?_
        refine MR_iload_n dX5_twoOf_128 1 rfl ?_
        refine MR_iload_n dX5_twoOf_129 2 rfl ?_
        refine MR_imul dX5_twoOf_130 ?_
        exact MR_iret dX5_twoOf_131 rfl w
      · have w := w.2 c8
        by_cases c9 : a0 = 43
        · have w := w.1 c9
          refine MR_tableIn (off := 119) (tgt := 120) dX5_twoOf_1 (by rw [c9]; decide) (by rw [c9]; decide) (by rw [c9]; rfl) (by decide) ?_
          refine MR_iload_n dX5_twoOf_120 1 rfl ?_
          refine MR_iload_n dX5_twoOf_121 2 rfl ?_
          refine MR_iadd dX5_twoOf_122 ?_
          exact MR_iret dX5_twoOf_123 rfl w
        · have w := w.2 c9
          by_cases c10 : a0 = 45
          · have w := w.1 c10
            refine MR_tableIn (off := 123) (tgt := 124) dX5_twoOf_1 (by rw [c10]; decide) (by rw [c10]; decide) (by rw [c10]; rfl) (by decide) ?_
            refine MR_iload_n dX5_twoOf_124 1 rfl ?_
            refine MR_iload_n dX5_twoOf_125 2 rfl ?_
            refine MR_isub dX5_twoOf_126 ?_
            exact MR_iret dX5_twoOf_127 rfl w
          · have w := w.2 c10
            by_cases c11 : a0 = 47
            · have w := w.1 c11
              refine MR_tableIn (off := 131) (tgt := 132) dX5_twoOf_1 (by rw [c11]; decide) (by rw [c11]; decide) (by rw [c11]; rfl) (by decide) ?_
              refine MR_iload_n dX5_twoOf_132 2 rfl ?_
              refine MR_if_ne (tgt := 140) dX5_twoOf_133 (by decide) (fun c14 => ?_) (fun c14 => ?_)
              · have w := w.1 c14
                refine MR_iload_n dX5_twoOf_140 2 rfl ?_
                refine MR_iconst (v := (-1)) dX5_twoOf_141 (by decide) ?_
                refine MR_icmp_ne (tgt := 150) dX5_twoOf_142 (by decide) (fun c13 => ?_) (fun c13 => ?_)
                · have w := w.1 c13
                  refine MR_iload_n dX5_twoOf_150 1 rfl ?_
                  refine MR_iload_n dX5_twoOf_151 2 rfl ?_
                  obtain ⟨c12, w⟩ := w
                  refine MR_idiv dX5_twoOf_152 c12 ?_
                  exact MR_iret dX5_twoOf_153 rfl w
                · have w := w.2 c13
                  refine MR_iload_n dX5_twoOf_145 1 rfl ?_
                  refine MR_ineg dX5_twoOf_146 ?_
                  refine MR_goto (tgt := 153) dX5_twoOf_147 (by decide) ?_
                  exact MR_iret dX5_twoOf_153 rfl w
              · have w := w.2 c14
                refine MR_iconst (v := 0) dX5_twoOf_136 (by decide) ?_
                refine MR_goto (tgt := 153) dX5_twoOf_137 (by decide) ?_
                exact MR_iret dX5_twoOf_153 rfl w
            · have w := w.2 c11
              by_cases c15 : a0 = 60
              · have w := w.1 c15
                refine MR_tableIn (off := 170) (tgt := 171) dX5_twoOf_1 (by rw [c15]; decide) (by rw [c15]; decide) (by rw [c15]; rfl) (by decide) ?_
                refine MR_iload_n dX5_twoOf_171 1 rfl ?_
                refine MR_iload_n dX5_twoOf_172 2 rfl ?_
                refine MR_icmp_ge (tgt := 180) dX5_twoOf_173 (by decide) (fun c16 => ?_) (fun c16 => ?_)
                · have w := w.1 c16
                  refine MR_iconst (v := 0) dX5_twoOf_180 (by decide) ?_
                  exact MR_iret dX5_twoOf_181 rfl w
                · have w := w.2 c16
                  refine MR_iconst (v := 1) dX5_twoOf_176 (by decide) ?_
                  refine MR_goto (tgt := 181) dX5_twoOf_177 (by decide) ?_
                  exact MR_iret dX5_twoOf_181 rfl w
              · have w := w.2 c15
                by_cases c17 : a0 = 61
                · have w := w.1 c17
                  refine MR_tableIn (off := 181) (tgt := 182) dX5_twoOf_1 (by rw [c17]; decide) (by rw [c17]; decide) (by rw [c17]; rfl) (by decide) ?_
                  refine MR_iload_n dX5_twoOf_182 1 rfl ?_
                  refine MR_iload_n dX5_twoOf_183 2 rfl ?_
                  refine MR_icmp_ne (tgt := 191) dX5_twoOf_184 (by decide) (fun c18 => ?_) (fun c18 => ?_)
                  · have w := w.1 c18
                    refine MR_iconst (v := 0) dX5_twoOf_191 (by decide) ?_
                    exact MR_iret dX5_twoOf_192 rfl w
                  · have w := w.2 c18
                    refine MR_iconst (v := 1) dX5_twoOf_187 (by decide) ?_
                    refine MR_goto (tgt := 192) dX5_twoOf_188 (by decide) ?_
                    exact MR_iret dX5_twoOf_192 rfl w
                · have w := w.2 c17
                  by_cases c19 : a0 = 62
                  · have w := w.1 c19
                    refine MR_tableIn (off := 192) (tgt := 193) dX5_twoOf_1 (by rw [c19]; decide) (by rw [c19]; decide) (by rw [c19]; rfl) (by decide) ?_
                    refine MR_iload_n dX5_twoOf_193 1 rfl ?_
                    refine MR_iload_n dX5_twoOf_194 2 rfl ?_
                    refine MR_icmp_le (tgt := 202) dX5_twoOf_195 (by decide) (fun c20 => ?_) (fun c20 => ?_)
                    · have w := w.1 c20
                      refine MR_iconst (v := 0) dX5_twoOf_202 (by decide) ?_
                      exact MR_iret dX5_twoOf_203 rfl w
                    · have w := w.2 c20
                      refine MR_iconst (v := 1) dX5_twoOf_198 (by decide) ?_
                      refine MR_goto (tgt := 203) dX5_twoOf_199 (by decide) ?_
                      exact MR_iret dX5_twoOf_203 rfl w
                  · have w := w.2 c19
                    by_cases e23 : a0 = 39
                    · refine MR_tableIn (off := 217) (tgt := 218) dX5_twoOf_1 (by rw [e23]; decide) (by rw [e23]; decide) (by rw [e23]; rfl) (by decide) ?_
                      refine MR_iload_n dX5_twoOf_218 1 rfl ?_
                      refine MR_if_ne (tgt := 226) dX5_twoOf_219 (by decide) (fun c22 => ?_) (fun c22 => ?_)
                      · have w := w.1 c22
                        refine MR_iconst (v := 1) dX5_twoOf_226 (by decide) ?_
                        refine MR_goto (tgt := 231) dX5_twoOf_227 (by decide) ?_
                        exact MR_iret dX5_twoOf_231 rfl w
                      · have w := w.2 c22
                        refine MR_iload_n dX5_twoOf_222 2 rfl ?_
                        refine MR_if_eq (tgt := 230) dX5_twoOf_223 (by decide) (fun c21 => ?_) (fun c21 => ?_)
                        · have w := w.1 c21
                          refine MR_iconst (v := 0) dX5_twoOf_230 (by decide) ?_
                          exact MR_iret dX5_twoOf_231 rfl w
                        · have w := w.2 c21
                          refine MR_iconst (v := 1) dX5_twoOf_226 (by decide) ?_
                          refine MR_goto (tgt := 231) dX5_twoOf_227 (by decide) ?_
                          exact MR_iret dX5_twoOf_231 rfl w
                    by_cases e24 : a0 = 40
                    · refine MR_tableIn (off := 217) (tgt := 218) dX5_twoOf_1 (by rw [e24]; decide) (by rw [e24]; decide) (by rw [e24]; rfl) (by decide) ?_
                      refine MR_iload_n dX5_twoOf_218 1 rfl ?_
                      refine MR_if_ne (tgt := 226) dX5_twoOf_219 (by decide) (fun c22 => ?_) (fun c22 => ?_)
                      · have w := w.1 c22
                        refine MR_iconst (v := 1) dX5_twoOf_226 (by decide) ?_
                        refine MR_goto (tgt := 231) dX5_twoOf_227 (by decide) ?_
                        exact MR_iret dX5_twoOf_231 rfl w
                      · have w := w.2 c22
                        refine MR_iload_n dX5_twoOf_222 2 rfl ?_
                        refine MR_if_eq (tgt := 230) dX5_twoOf_223 (by decide) (fun c21 => ?_) (fun c21 => ?_)
                        · have w := w.1 c21
                          refine MR_iconst (v := 0) dX5_twoOf_230 (by decide) ?_
                          exact MR_iret dX5_twoOf_231 rfl w
                        · have w := w.2 c21
                          refine MR_iconst (v := 1) dX5_twoOf_226 (by decide) ?_
                          refine MR_goto (tgt := 231) dX5_twoOf_227 (by decide) ?_
                          exact MR_iret dX5_twoOf_231 rfl w
                    by_cases e25 : a0 = 41
                    · refine MR_tableIn (off := 217) (tgt := 218) dX5_twoOf_1 (by rw [e25]; decide) (by rw [e25]; decide) (by rw [e25]; rfl) (by decide) ?_
                      refine MR_iload_n dX5_twoOf_218 1 rfl ?_
                      refine MR_if_ne (tgt := 226) dX5_twoOf_219 (by decide) (fun c22 => ?_) (fun c22 => ?_)
                      · have w := w.1 c22
                        refine MR_iconst (v := 1) dX5_twoOf_226 (by decide) ?_
                        refine MR_goto (tgt := 231) dX5_twoOf_227 (by decide) ?_
                        exact MR_iret dX5_twoOf_231 rfl w
                      · have w := w.2 c22
                        refine MR_iload_n dX5_twoOf_222 2 rfl ?_
                        refine MR_if_eq (tgt := 230) dX5_twoOf_223 (by decide) (fun c21 => ?_) (fun c21 => ?_)
                        · have w := w.1 c21
                          refine MR_iconst (v := 0) dX5_twoOf_230 (by decide) ?_
                          exact MR_iret dX5_twoOf_231 rfl w
                        · have w := w.2 c21
                          refine MR_iconst (v := 1) dX5_twoOf_226 (by decide) ?_
                          refine MR_goto (tgt := 231) dX5_twoOf_227 (by decide) ?_
                          exact MR_iret dX5_twoOf_231 rfl w
                    by_cases e26 : a0 = 44
                    · refine MR_tableIn (off := 217) (tgt := 218) dX5_twoOf_1 (by rw [e26]; decide) (by rw [e26]; decide) (by rw [e26]; rfl) (by decide) ?_
                      refine MR_iload_n dX5_twoOf_218 1 rfl ?_
                      refine MR_if_ne (tgt := 226) dX5_twoOf_219 (by decide) (fun c22 => ?_) (fun c22 => ?_)
                      · have w := w.1 c22
                        refine MR_iconst (v := 1) dX5_twoOf_226 (by decide) ?_
                        refine MR_goto (tgt := 231) dX5_twoOf_227 (by decide) ?_
                        exact MR_iret dX5_twoOf_231 rfl w
                      · have w := w.2 c22
                        refine MR_iload_n dX5_twoOf_222 2 rfl ?_
                        refine MR_if_eq (tgt := 230) dX5_twoOf_223 (by decide) (fun c21 => ?_) (fun c21 => ?_)
                        · have w := w.1 c21
                          refine MR_iconst (v := 0) dX5_twoOf_230 (by decide) ?_
                          exact MR_iret dX5_twoOf_231 rfl w
                        · have w := w.2 c21
                          refine MR_iconst (v := 1) dX5_twoOf_226 (by decide) ?_
                          refine MR_goto (tgt := 231) dX5_twoOf_227 (by decide) ?_
                          exact MR_iret dX5_twoOf_231 rfl w
                    by_cases e27 : a0 = 46
                    · refine MR_tableIn (off := 217) (tgt := 218) dX5_twoOf_1 (by rw [e27]; decide) (by rw [e27]; decide) (by rw [e27]; rfl) (by decide) ?_
                      refine MR_iload_n dX5_twoOf_218 1 rfl ?_
                      refine MR_if_ne (tgt := 226) dX5_twoOf_219 (by decide) (fun c22 => ?_) (fun c22 => ?_)
                      · have w := w.1 c22
                        refine MR_iconst (v := 1) dX5_twoOf_226 (by decide) ?_
                        refine MR_goto (tgt := 231) dX5_twoOf_227 (by decide) ?_
                        exact MR_iret dX5_twoOf_231 rfl w
                      · have w := w.2 c22
                        refine MR_iload_n dX5_twoOf_222 2 rfl ?_
                        refine MR_if_eq (tgt := 230) dX5_twoOf_223 (by decide) (fun c21 => ?_) (fun c21 => ?_)
                        · have w := w.1 c21
                          refine MR_iconst (v := 0) dX5_twoOf_230 (by decide) ?_
                          exact MR_iret dX5_twoOf_231 rfl w
                        · have w := w.2 c21
                          refine MR_iconst (v := 1) dX5_twoOf_226 (by decide) ?_
                          refine MR_goto (tgt := 231) dX5_twoOf_227 (by decide) ?_
                          exact MR_iret dX5_twoOf_231 rfl w
                    by_cases e28 : a0 = 48
                    · refine MR_tableIn (off := 217) (tgt := 218) dX5_twoOf_1 (by rw [e28]; decide) (by rw [e28]; decide) (by rw [e28]; rfl) (by decide) ?_
                      refine MR_iload_n dX5_twoOf_218 1 rfl ?_
                      refine MR_if_ne (tgt := 226) dX5_twoOf_219 (by decide) (fun c22 => ?_) (fun c22 => ?_)
                      · have w := w.1 c22
                        refine MR_iconst (v := 1) dX5_twoOf_226 (by decide) ?_
                        refine MR_goto (tgt := 231) dX5_twoOf_227 (by decide) ?_
                        exact MR_iret dX5_twoOf_231 rfl w
                      · have w := w.2 c22
                        refine MR_iload_n dX5_twoOf_222 2 rfl ?_
                        refine MR_if_eq (tgt := 230) dX5_twoOf_223 (by decide) (fun c21 => ?_) (fun c21 => ?_)
                        · have w := w.1 c21
                          refine MR_iconst (v := 0) dX5_twoOf_230 (by decide) ?_
                          exact MR_iret dX5_twoOf_231 rfl w
                        · have w := w.2 c21
                          refine MR_iconst (v := 1) dX5_twoOf_226 (by decide) ?_
                          refine MR_goto (tgt := 231) dX5_twoOf_227 (by decide) ?_
                          exact MR_iret dX5_twoOf_231 rfl w
                    by_cases e29 : a0 = 49
                    · refine MR_tableIn (off := 217) (tgt := 218) dX5_twoOf_1 (by rw [e29]; decide) (by rw [e29]; decide) (by rw [e29]; rfl) (by decide) ?_
                      refine MR_iload_n dX5_twoOf_218 1 rfl ?_
                      refine MR_if_ne (tgt := 226) dX5_twoOf_219 (by decide) (fun c22 => ?_) (fun c22 => ?_)
                      · have w := w.1 c22
                        refine MR_iconst (v := 1) dX5_twoOf_226 (by decide) ?_
                        refine MR_goto (tgt := 231) dX5_twoOf_227 (by decide) ?_
                        exact MR_iret dX5_twoOf_231 rfl w
                      · have w := w.2 c22
                        refine MR_iload_n dX5_twoOf_222 2 rfl ?_
                        refine MR_if_eq (tgt := 230) dX5_twoOf_223 (by decide) (fun c21 => ?_) (fun c21 => ?_)
                        · have w := w.1 c21
                          refine MR_iconst (v := 0) dX5_twoOf_230 (by decide) ?_
                          exact MR_iret dX5_twoOf_231 rfl w
                        · have w := w.2 c21
                          refine MR_iconst (v := 1) dX5_twoOf_226 (by decide) ?_
                          refine MR_goto (tgt := 231) dX5_twoOf_227 (by decide) ?_
                          exact MR_iret dX5_twoOf_231 rfl w
                    by_cases e30 : a0 = 50
                    · refine MR_tableIn (off := 217) (tgt := 218) dX5_twoOf_1 (by rw [e30]; decide) (by rw [e30]; decide) (by rw [e30]; rfl) (by decide) ?_
                      refine MR_iload_n dX5_twoOf_218 1 rfl ?_
                      refine MR_if_ne (tgt := 226) dX5_twoOf_219 (by decide) (fun c22 => ?_) (fun c22 => ?_)
                      · have w := w.1 c22
                        refine MR_iconst (v := 1) dX5_twoOf_226 (by decide) ?_
                        refine MR_goto (tgt := 231) dX5_twoOf_227 (by decide) ?_
                        exact MR_iret dX5_twoOf_231 rfl w
                      · have w := w.2 c22
                        refine MR_iload_n dX5_twoOf_222 2 rfl ?_
                        refine MR_if_eq (tgt := 230) dX5_twoOf_223 (by decide) (fun c21 => ?_) (fun c21 => ?_)
                        · have w := w.1 c21
                          refine MR_iconst (v := 0) dX5_twoOf_230 (by decide) ?_
                          exact MR_iret dX5_twoOf_231 rfl w
                        · have w := w.2 c21
                          refine MR_iconst (v := 1) dX5_twoOf_226 (by decide) ?_
                          refine MR_goto (tgt := 231) dX5_twoOf_227 (by decide) ?_
                          exact MR_iret dX5_twoOf_231 rfl w
                    by_cases e31 : a0 = 51
                    · refine MR_tableIn (off := 217) (tgt := 218) dX5_twoOf_1 (by rw [e31]; decide) (by rw [e31]; decide) (by rw [e31]; rfl) (by decide) ?_
                      refine MR_iload_n dX5_twoOf_218 1 rfl ?_
                      refine MR_if_ne (tgt := 226) dX5_twoOf_219 (by decide) (fun c22 => ?_) (fun c22 => ?_)
                      · have w := w.1 c22
                        refine MR_iconst (v := 1) dX5_twoOf_226 (by decide) ?_
                        refine MR_goto (tgt := 231) dX5_twoOf_227 (by decide) ?_
                        exact MR_iret dX5_twoOf_231 rfl w
                      · have w := w.2 c22
                        refine MR_iload_n dX5_twoOf_222 2 rfl ?_
                        refine MR_if_eq (tgt := 230) dX5_twoOf_223 (by decide) (fun c21 => ?_) (fun c21 => ?_)
                        · have w := w.1 c21
                          refine MR_iconst (v := 0) dX5_twoOf_230 (by decide) ?_
                          exact MR_iret dX5_twoOf_231 rfl w
                        · have w := w.2 c21
                          refine MR_iconst (v := 1) dX5_twoOf_226 (by decide) ?_
                          refine MR_goto (tgt := 231) dX5_twoOf_227 (by decide) ?_
                          exact MR_iret dX5_twoOf_231 rfl w
                    by_cases e32 : a0 = 52
                    · refine MR_tableIn (off := 217) (tgt := 218) dX5_twoOf_1 (by rw [e32]; decide) (by rw [e32]; decide) (by rw [e32]; rfl) (by decide) ?_
                      refine MR_iload_n dX5_twoOf_218 1 rfl ?_
                      refine MR_if_ne (tgt := 226) dX5_twoOf_219 (by decide) (fun c22 => ?_) (fun c22 => ?_)
                      · have w := w.1 c22
                        refine MR_iconst (v := 1) dX5_twoOf_226 (by decide) ?_
                        refine MR_goto (tgt := 231) dX5_twoOf_227 (by decide) ?_
                        exact MR_iret dX5_twoOf_231 rfl w
                      · have w := w.2 c22
                        refine MR_iload_n dX5_twoOf_222 2 rfl ?_
                        refine MR_if_eq (tgt := 230) dX5_twoOf_223 (by decide) (fun c21 => ?_) (fun c21 => ?_)
                        · have w := w.1 c21
                          refine MR_iconst (v := 0) dX5_twoOf_230 (by decide) ?_
                          exact MR_iret dX5_twoOf_231 rfl w
                        · have w := w.2 c21
                          refine MR_iconst (v := 1) dX5_twoOf_226 (by decide) ?_
                          refine MR_goto (tgt := 231) dX5_twoOf_227 (by decide) ?_
                          exact MR_iret dX5_twoOf_231 rfl w
                    by_cases e33 : a0 = 53
                    · refine MR_tableIn (off := 217) (tgt := 218) dX5_twoOf_1 (by rw [e33]; decide) (by rw [e33]; decide) (by rw [e33]; rfl) (by decide) ?_
                      refine MR_iload_n dX5_twoOf_218 1 rfl ?_
                      refine MR_if_ne (tgt := 226) dX5_twoOf_219 (by decide) (fun c22 => ?_) (fun c22 => ?_)
                      · have w := w.1 c22
                        refine MR_iconst (v := 1) dX5_twoOf_226 (by decide) ?_
                        refine MR_goto (tgt := 231) dX5_twoOf_227 (by decide) ?_
                        exact MR_iret dX5_twoOf_231 rfl w
                      · have w := w.2 c22
                        refine MR_iload_n dX5_twoOf_222 2 rfl ?_
                        refine MR_if_eq (tgt := 230) dX5_twoOf_223 (by decide) (fun c21 => ?_) (fun c21 => ?_)
                        · have w := w.1 c21
                          refine MR_iconst (v := 0) dX5_twoOf_230 (by decide) ?_
                          exact MR_iret dX5_twoOf_231 rfl w
                        · have w := w.2 c21
                          refine MR_iconst (v := 1) dX5_twoOf_226 (by decide) ?_
                          refine MR_goto (tgt := 231) dX5_twoOf_227 (by decide) ?_
                          exact MR_iret dX5_twoOf_231 rfl w
                    by_cases e34 : a0 = 54
                    · refine MR_tableIn (off := 217) (tgt := 218) dX5_twoOf_1 (by rw [e34]; decide) (by rw [e34]; decide) (by rw [e34]; rfl) (by decide) ?_
                      refine MR_iload_n dX5_twoOf_218 1 rfl ?_
                      refine MR_if_ne (tgt := 226) dX5_twoOf_219 (by decide) (fun c22 => ?_) (fun c22 => ?_)
                      · have w := w.1 c22
                        refine MR_iconst (v := 1) dX5_twoOf_226 (by decide) ?_
                        refine MR_goto (tgt := 231) dX5_twoOf_227 (by decide) ?_
                        exact MR_iret dX5_twoOf_231 rfl w
                      · have w := w.2 c22
                        refine MR_iload_n dX5_twoOf_222 2 rfl ?_
                        refine MR_if_eq (tgt := 230) dX5_twoOf_223 (by decide) (fun c21 => ?_) (fun c21 => ?_)
                        · have w := w.1 c21
                          refine MR_iconst (v := 0) dX5_twoOf_230 (by decide) ?_
                          exact MR_iret dX5_twoOf_231 rfl w
                        · have w := w.2 c21
                          refine MR_iconst (v := 1) dX5_twoOf_226 (by decide) ?_
                          refine MR_goto (tgt := 231) dX5_twoOf_227 (by decide) ?_
                          exact MR_iret dX5_twoOf_231 rfl w
                    by_cases e35 : a0 = 55
                    · refine MR_tableIn (off := 217) (tgt := 218) dX5_twoOf_1 (by rw [e35]; decide) (by rw [e35]; decide) (by rw [e35]; rfl) (by decide) ?_
                      refine MR_iload_n dX5_twoOf_218 1 rfl ?_
                      refine MR_if_ne (tgt := 226) dX5_twoOf_219 (by decide) (fun c22 => ?_) (fun c22 => ?_)
                      · have w := w.1 c22
                        refine MR_iconst (v := 1) dX5_twoOf_226 (by decide) ?_
                        refine MR_goto (tgt := 231) dX5_twoOf_227 (by decide) ?_
                        exact MR_iret dX5_twoOf_231 rfl w
                      · have w := w.2 c22
                        refine MR_iload_n dX5_twoOf_222 2 rfl ?_
                        refine MR_if_eq (tgt := 230) dX5_twoOf_223 (by decide) (fun c21 => ?_) (fun c21 => ?_)
                        · have w := w.1 c21
                          refine MR_iconst (v := 0) dX5_twoOf_230 (by decide) ?_
                          exact MR_iret dX5_twoOf_231 rfl w
                        · have w := w.2 c21
                          refine MR_iconst (v := 1) dX5_twoOf_226 (by decide) ?_
                          refine MR_goto (tgt := 231) dX5_twoOf_227 (by decide) ?_
                          exact MR_iret dX5_twoOf_231 rfl w
                    by_cases e36 : a0 = 56
                    · refine MR_tableIn (off := 217) (tgt := 218) dX5_twoOf_1 (by rw [e36]; decide) (by rw [e36]; decide) (by rw [e36]; rfl) (by decide) ?_
                      refine MR_iload_n dX5_twoOf_218 1 rfl ?_
                      refine MR_if_ne (tgt := 226) dX5_twoOf_219 (by decide) (fun c22 => ?_) (fun c22 => ?_)
                      · have w := w.1 c22
                        refine MR_iconst (v := 1) dX5_twoOf_226 (by decide) ?_
                        refine MR_goto (tgt := 231) dX5_twoOf_227 (by decide) ?_
                        exact MR_iret dX5_twoOf_231 rfl w
                      · have w := w.2 c22
                        refine MR_iload_n dX5_twoOf_222 2 rfl ?_
                        refine MR_if_eq (tgt := 230) dX5_twoOf_223 (by decide) (fun c21 => ?_) (fun c21 => ?_)
                        · have w := w.1 c21
                          refine MR_iconst (v := 0) dX5_twoOf_230 (by decide) ?_
                          exact MR_iret dX5_twoOf_231 rfl w
                        · have w := w.2 c21
                          refine MR_iconst (v := 1) dX5_twoOf_226 (by decide) ?_
                          refine MR_goto (tgt := 231) dX5_twoOf_227 (by decide) ?_
                          exact MR_iret dX5_twoOf_231 rfl w
                    by_cases e37 : a0 = 57
                    · refine MR_tableIn (off := 217) (tgt := 218) dX5_twoOf_1 (by rw [e37]; decide) (by rw [e37]; decide) (by rw [e37]; rfl) (by decide) ?_
                      refine MR_iload_n dX5_twoOf_218 1 rfl ?_
                      refine MR_if_ne (tgt := 226) dX5_twoOf_219 (by decide) (fun c22 => ?_) (fun c22 => ?_)
                      · have w := w.1 c22
                        refine MR_iconst (v := 1) dX5_twoOf_226 (by decide) ?_
                        refine MR_goto (tgt := 231) dX5_twoOf_227 (by decide) ?_
                        exact MR_iret dX5_twoOf_231 rfl w
                      · have w := w.2 c22
                        refine MR_iload_n dX5_twoOf_222 2 rfl ?_
                        refine MR_if_eq (tgt := 230) dX5_twoOf_223 (by decide) (fun c21 => ?_) (fun c21 => ?_)
                        · have w := w.1 c21
                          refine MR_iconst (v := 0) dX5_twoOf_230 (by decide) ?_
                          exact MR_iret dX5_twoOf_231 rfl w
                        · have w := w.2 c21
                          refine MR_iconst (v := 1) dX5_twoOf_226 (by decide) ?_
                          refine MR_goto (tgt := 231) dX5_twoOf_227 (by decide) ?_
                          exact MR_iret dX5_twoOf_231 rfl w
                    by_cases e38 : a0 = 58
                    · refine MR_tableIn (off := 217) (tgt := 218) dX5_twoOf_1 (by rw [e38]; decide) (by rw [e38]; decide) (by rw [e38]; rfl) (by decide) ?_
                      refine MR_iload_n dX5_twoOf_218 1 rfl ?_
                      refine MR_if_ne (tgt := 226) dX5_twoOf_219 (by decide) (fun c22 => ?_) (fun c22 => ?_)
                      · have w := w.1 c22
                        refine MR_iconst (v := 1) dX5_twoOf_226 (by decide) ?_
                        refine MR_goto (tgt := 231) dX5_twoOf_227 (by decide) ?_
                        exact MR_iret dX5_twoOf_231 rfl w
                      · have w := w.2 c22
                        refine MR_iload_n dX5_twoOf_222 2 rfl ?_
                        refine MR_if_eq (tgt := 230) dX5_twoOf_223 (by decide) (fun c21 => ?_) (fun c21 => ?_)
                        · have w := w.1 c21
                          refine MR_iconst (v := 0) dX5_twoOf_230 (by decide) ?_
                          exact MR_iret dX5_twoOf_231 rfl w
                        · have w := w.2 c21
                          refine MR_iconst (v := 1) dX5_twoOf_226 (by decide) ?_
                          refine MR_goto (tgt := 231) dX5_twoOf_227 (by decide) ?_
                          exact MR_iret dX5_twoOf_231 rfl w
                    by_cases e39 : a0 = 59
                    · refine MR_tableIn (off := 217) (tgt := 218) dX5_twoOf_1 (by rw [e39]; decide) (by rw [e39]; decide) (by rw [e39]; rfl) (by decide) ?_
                      refine MR_iload_n dX5_twoOf_218 1 rfl ?_
                      refine MR_if_ne (tgt := 226) dX5_twoOf_219 (by decide) (fun c22 => ?_) (fun c22 => ?_)
                      · have w := w.1 c22
                        refine MR_iconst (v := 1) dX5_twoOf_226 (by decide) ?_
                        refine MR_goto (tgt := 231) dX5_twoOf_227 (by decide) ?_
                        exact MR_iret dX5_twoOf_231 rfl w
                      · have w := w.2 c22
                        refine MR_iload_n dX5_twoOf_222 2 rfl ?_
                        refine MR_if_eq (tgt := 230) dX5_twoOf_223 (by decide) (fun c21 => ?_) (fun c21 => ?_)
                        · have w := w.1 c21
                          refine MR_iconst (v := 0) dX5_twoOf_230 (by decide) ?_
                          exact MR_iret dX5_twoOf_231 rfl w
                        · have w := w.2 c21
                          refine MR_iconst (v := 1) dX5_twoOf_226 (by decide) ?_
                          refine MR_goto (tgt := 231) dX5_twoOf_227 (by decide) ?_
                          exact MR_iret dX5_twoOf_231 rfl w
                    refine MR_tableOut (tgt := 218) dX5_twoOf_1 (sw_out a0 37 62 (by decide) (by decide) (fun j h1 h2 => ?_)) (by decide) ?_
                    · intro e
                      have e2 : j = 37 ∨ j = 38 ∨ j = 39 ∨ j = 40 ∨ j = 41 ∨ j = 42 ∨ j = 43 ∨ j = 44 ∨ j = 45 ∨ j = 46 ∨ j = 47 ∨ j = 48 ∨ j = 49 ∨ j = 50 ∨ j = 51 ∨ j = 52 ∨ j = 53 ∨ j = 54 ∨ j = 55 ∨ j = 56 ∨ j = 57 ∨ j = 58 ∨ j = 59 ∨ j = 60 ∨ j = 61 ∨ j = 62 := by omega
                      rcases e2 with rfl | rfl | rfl | rfl | rfl | rfl | rfl | rfl | rfl | rfl | rfl | rfl | rfl | rfl | rfl | rfl | rfl | rfl | rfl | rfl | rfl | rfl | rfl | rfl | rfl | rfl
                      · exact lv_neT c1 (by decide) e
                      · exact lv_neT c5 (by decide) e
                      · exact lv_neT e23 (by decide) e
                      · exact lv_neT e24 (by decide) e
                      · exact lv_neT e25 (by decide) e
                      · exact lv_neT c8 (by decide) e
                      · exact lv_neT c9 (by decide) e
                      · exact lv_neT e26 (by decide) e
                      · exact lv_neT c10 (by decide) e
                      · exact lv_neT e27 (by decide) e
                      · exact lv_neT c11 (by decide) e
                      · exact lv_neT e28 (by decide) e
                      · exact lv_neT e29 (by decide) e
                      · exact lv_neT e30 (by decide) e
                      · exact lv_neT e31 (by decide) e
                      · exact lv_neT e32 (by decide) e
                      · exact lv_neT e33 (by decide) e
                      · exact lv_neT e34 (by decide) e
                      · exact lv_neT e35 (by decide) e
                      · exact lv_neT e36 (by decide) e
                      · exact lv_neT e37 (by decide) e
                      · exact lv_neT e38 (by decide) e
                      · exact lv_neT e39 (by decide) e
                      · exact lv_neT c15 (by decide) e
                      · exact lv_neT c17 (by decide) e
                      · exact lv_neT c19 (by decide) e
                    · refine MR_iload_n dX5_twoOf_218 1 rfl ?_
                      refine MR_if_ne (tgt := 226) dX5_twoOf_219 (by decide) (fun c22 => ?_) (fun c22 => ?_)
                      · have w := w.1 c22
                        refine MR_iconst (v := 1) dX5_twoOf_226 (by decide) ?_
                        refine MR_goto (tgt := 231) dX5_twoOf_227 (by decide) ?_
                        exact MR_iret dX5_twoOf_231 rfl w
                      · have w := w.2 c22
                        refine MR_iload_n dX5_twoOf_222 2 rfl ?_
                        refine MR_if_eq (tgt := 230) dX5_twoOf_223 (by decide) (fun c21 => ?_) (fun c21 => ?_)
                        · have w := w.1 c21
                          refine MR_iconst (v := 0) dX5_twoOf_230 (by decide) ?_
                          exact MR_iret dX5_twoOf_231 rfl w
                        · have w := w.2 c21
                          refine MR_iconst (v := 1) dX5_twoOf_226 (by decide) ?_
                          refine MR_goto (tgt := 231) dX5_twoOf_227 (by decide) ?_
                          exact MR_iret dX5_twoOf_231 rfl w
theorem sX5_undo_0 {G : GG} {m : Nat} {sg : MS} {Q : Outcome → MS → Prop} (w : (¬ (sg.1 12 0) = 0 → (vp_in ((uS (uS sg 12 0 ((sg.1 12 0) - 1)) 13 0 (((uS sg 12 0 ((sg.1 12 0) - 1)).1 13 0) + 1)).1 12 0) 40 ∧ (vp_in ((uS (uS sg 12 0 ((sg.1 12 0) - 1)) 13 0 (((uS sg 12 0 ((sg.1 12 0) - 1)).1 13 0) + 1)).1 12 0) 40 ∧ (vp_in ((uS (uS sg 12 0 ((sg.1 12 0) - 1)) 13 0 (((uS sg 12 0 ((sg.1 12 0) - 1)).1 13 0) + 1)).1 12 0) 40 ∧ (MR G mX5_lays 1 0 [(0, .ref m), (1, .int ((uS (uS sg 12 0 ((sg.1 12 0) - 1)) 13 0 (((uS sg 12 0 ((sg.1 12 0) - 1)).1 13 0) + 1)).1 14 ((uS (uS sg 12 0 ((sg.1 12 0) - 1)) 13 0 (((uS sg 12 0 ((sg.1 12 0) - 1)).1 13 0) + 1)).1 12 0).toNatClampNeg)), (2, .int ((uS (uS sg 12 0 ((sg.1 12 0) - 1)) 13 0 (((uS sg 12 0 ((sg.1 12 0) - 1)).1 13 0) + 1)).1 15 ((uS (uS sg 12 0 ((sg.1 12 0) - 1)) 13 0 (((uS sg 12 0 ((sg.1 12 0) - 1)).1 13 0) + 1)).1 12 0).toNatClampNeg)), (3, .int ((uS (uS sg 12 0 ((sg.1 12 0) - 1)) 13 0 (((uS sg 12 0 ((sg.1 12 0) - 1)).1 13 0) + 1)).1 16 ((uS (uS sg 12 0 ((sg.1 12 0) - 1)) 13 0 (((uS sg 12 0 ((sg.1 12 0) - 1)).1 13 0) + 1)).1 12 0).toNatClampNeg))] [] m (uS (uS sg 12 0 ((sg.1 12 0) - 1)) 13 0 (((uS sg 12 0 ((sg.1 12 0) - 1)).1 13 0) + 1)) (fun o sg1 => o = .returned none ∧ (Q (.returned (some (.int (sg1.1 12 0)))) sg1))))))) ∧ ((sg.1 12 0) = 0 → (Q (.returned (some (.int (-5)))) sg))) : MR G mX5_undo 2 0 [(0, .ref m)] [] m sg Q := by
  refine MR_aload_n dX5_undo_0 0 rfl ?_
  refine MR_getS (k := 12) dX5_undo_1 q1276 (by decide) rfl rfl ?_
  refine MR_if_ne (tgt := 10) dX5_undo_4 (by decide) (fun c5 => ?_) (fun c5 => ?_)
  · have w := w.1 c5
    refine MR_aload_n dX5_undo_10 0 rfl ?_
    refine MR_dup dX5_undo_11 rfl ?_
    refine MR_getS (k := 12) dX5_undo_12 q1276 (by decide) rfl rfl ?_
    refine MR_iconst (v := 1) dX5_undo_15 (by decide) ?_
    refine MR_isub dX5_undo_16 ?_
    refine MR_putS (k := 12) dX5_undo_17 q1276 (by decide) rfl rfl rfl rfl rfl ?_
    refine MR_aload_n dX5_undo_20 0 rfl ?_
    refine MR_dup dX5_undo_21 rfl ?_
    refine MR_getS (k := 13) dX5_undo_22 q1277 (by decide) rfl rfl ?_
    refine MR_iconst (v := 1) dX5_undo_25 (by decide) ?_
    refine MR_iadd dX5_undo_26 ?_
    refine MR_putS (k := 13) dX5_undo_27 q1277 (by decide) rfl rfl rfl rfl rfl ?_
    refine MR_aload_n dX5_undo_30 0 rfl ?_
    refine MR_aload_n dX5_undo_31 0 rfl ?_
    refine MR_getA (k := 14) (o := 9) (j := 0) (n := 40) dX5_undo_32 q1278 (by decide) rfl rfl ?_
    refine MR_aload_n dX5_undo_35 0 rfl ?_
    refine MR_getS (k := 12) dX5_undo_36 q1276 (by decide) rfl rfl ?_
    obtain ⟨c4, w⟩ := w
    refine MR_iald (k := 14) dX5_undo_39 (by decide) rfl c4 ?_
    refine MR_aload_n dX5_undo_40 0 rfl ?_
    refine MR_getA (k := 15) (o := 10) (j := 0) (n := 40) dX5_undo_41 q1279 (by decide) rfl rfl ?_
    refine MR_aload_n dX5_undo_44 0 rfl ?_
    refine MR_getS (k := 12) dX5_undo_45 q1276 (by decide) rfl rfl ?_
    obtain ⟨c3, w⟩ := w
    refine MR_iald (k := 15) dX5_undo_48 (by decide) rfl c3 ?_
    refine MR_aload_n dX5_undo_49 0 rfl ?_
    refine MR_getA (k := 16) (o := 11) (j := 0) (n := 40) dX5_undo_50 q1280 (by decide) rfl rfl ?_
    refine MR_aload_n dX5_undo_53 0 rfl ?_
    refine MR_getS (k := 12) dX5_undo_54 q1276 (by decide) rfl rfl ?_
    obtain ⟨c2, w⟩ := w
    refine MR_iald (k := 16) dX5_undo_57 (by decide) rfl c2 ?_
    refine MR_invVv (Mc := mX5_lays) (As := [.int ((uS (uS sg 12 0 ((sg.1 12 0) - 1)) 13 0 (((uS sg 12 0 ((sg.1 12 0) - 1)).1 13 0) + 1)).1 14 ((uS (uS sg 12 0 ((sg.1 12 0) - 1)) 13 0 (((uS sg 12 0 ((sg.1 12 0) - 1)).1 13 0) + 1)).1 12 0).toNatClampNeg), .int ((uS (uS sg 12 0 ((sg.1 12 0) - 1)) 13 0 (((uS sg 12 0 ((sg.1 12 0) - 1)).1 13 0) + 1)).1 15 ((uS (uS sg 12 0 ((sg.1 12 0) - 1)) 13 0 (((uS sg 12 0 ((sg.1 12 0) - 1)).1 13 0) + 1)).1 12 0).toNatClampNeg), .int ((uS (uS sg 12 0 ((sg.1 12 0) - 1)) 13 0 (((uS sg 12 0 ((sg.1 12 0) - 1)).1 13 0) + 1)).1 16 ((uS (uS sg 12 0 ((sg.1 12 0) - 1)) 13 0 (((uS sg 12 0 ((sg.1 12 0) - 1)).1 13 0) + 1)).1 12 0).toNatClampNeg)]) (st := []) dX5_undo_58 q1463 q1465 qs48 q111 wX5_lays pX5_lays rfl (Nat.le_of_ble_eq_true rfl) (by decide) (by decide) (Nat.le_of_ble_eq_true rfl) w (fun sg1 w => ?_)
    refine MR_aload_n dX5_undo_61 0 rfl ?_
    refine MR_getS (k := 12) dX5_undo_62 q1276 (by decide) rfl rfl ?_
    exact MR_iret dX5_undo_65 rfl w
  · have w := w.2 c5
    refine MR_bipush (v := (-5)) dX5_undo_7 (by decide) ?_
    exact MR_iret dX5_undo_9 rfl w
theorem sX5_unlikeNames_0 {G : GG} {m : Nat} {sg : MS} {Q : Outcome → MS → Prop} (w : MR G mX5_unlikeNames 2 4 [(0, .ref m), (1, .int 0), (2, .int 0)] [] m sg Q) : MR G mX5_unlikeNames 2 0 [(0, .ref m)] [] m sg Q := by
  refine MR_iconst (v := 0) dX5_unlikeNames_0 (by decide) ?_
  refine MR_istore_n (lv' := [(1, .int 0), (0, .ref m)]) dX5_unlikeNames_1 rfl (by decide) rfl ?_
  refine MR_iconst (v := 0) dX5_unlikeNames_2 (by decide) ?_
  refine MR_istore_n (lv' := [(2, .int 0), (1, .int 0), (0, .ref m)]) dX5_unlikeNames_3 rfl (by decide) rfl ?_
  exact MR_sub [2, 1, 0] rfl w
theorem sX5_unlikeNames_4 {G : GG} {m : Nat} {sg : MS} {Q : Outcome → MS → Prop} {a1 a2 : Int32} (w : ((sg.1 1 0) ≤ a2 → (MR G mX5_bitsOf 1 0 [(0, .int a1)] [] m sg (fun o sg1 => ∃ r2 : Int32, o = .returned (some (.int r2)) ∧ (Q (.returned (some (.int r2))) sg1)))) ∧ (¬ (sg.1 1 0) ≤ a2 → (vp_in a2 12 ∧ (((sg.1 34 a2.toNatClampNeg) < 0 → (MR G mX5_unlikeNames 2 4 [(0, .ref m), (1, .int a1), (2, .int (a2 + 1))] [] m sg Q)) ∧ (¬ (sg.1 34 a2.toNatClampNeg) < 0 → (vp_in a2 12 ∧ (MR G mX5_unlikeNames 2 4 [(0, .ref m), (1, .int (a1 ||| ((1 : Int32) <<< ((sg.1 34 a2.toNatClampNeg) &&& 31)))), (2, .int (a2 + 1))] [] m sg Q))))))) : MR G mX5_unlikeNames 2 4 [(0, .ref m), (1, .int a1), (2, .int a2)] [] m sg Q := by
  refine MR_iload_n dX5_unlikeNames_4 2 rfl ?_
  refine MR_aload_n dX5_unlikeNames_5 0 rfl ?_
  refine MR_getS (k := 1) dX5_unlikeNames_6 q1265 (by decide) rfl rfl ?_
  refine MR_icmp_ge (tgt := 38) dX5_unlikeNames_9 (by decide) (fun c6 => ?_) (fun c6 => ?_)
  · have w := w.1 c6
    refine MR_iload_n dX5_unlikeNames_38 1 rfl ?_
    refine MR_invSi (Mc := mX5_bitsOf) (As := [.int a1]) (st := []) dX5_unlikeNames_39 q1633 q1634 q111 wX5_bitsOf pX5_bitsOf rfl (Nat.le_of_ble_eq_true rfl) (by decide) (by decide) (Nat.le_of_ble_eq_true rfl) w (fun r2 sg1 w => ?_)
    exact MR_iret dX5_unlikeNames_42 rfl w
  · have w := w.2 c6
    refine MR_aload_n dX5_unlikeNames_12 0 rfl ?_
    refine MR_getA (k := 34) (o := 23) (j := 0) (n := 12) dX5_unlikeNames_13 q1298 (by decide) rfl rfl ?_
    refine MR_iload_n dX5_unlikeNames_16 2 rfl ?_
    obtain ⟨c5, w⟩ := w
    refine MR_iald (k := 34) dX5_unlikeNames_17 (by decide) rfl c5 ?_
    refine MR_if_lt (tgt := 32) dX5_unlikeNames_18 (by decide) (fun c4 => ?_) (fun c4 => ?_)
    · have w := w.1 c4
      refine MR_iinc (v := (a2 + 1)) (lv' := [(2, .int (a2 + 1)), (0, .ref m), (1, .int a1)]) dX5_unlikeNames_32 2 rfl (congrArg (fun z => a2 + z) (show Int32.ofInt 1 = 1 by decide)) (by decide) rfl ?_
      refine MR_goto (tgt := 4) dX5_unlikeNames_35 (by decide) ?_
      exact MR_sub [1, 2, 0] rfl w
    · have w := w.2 c4
      refine MR_iload_n dX5_unlikeNames_21 1 rfl ?_
      refine MR_iconst (v := 1) dX5_unlikeNames_22 (by decide) ?_
      refine MR_aload_n dX5_unlikeNames_23 0 rfl ?_
      refine MR_getA (k := 34) (o := 23) (j := 0) (n := 12) dX5_unlikeNames_24 q1298 (by decide) rfl rfl ?_
      refine MR_iload_n dX5_unlikeNames_27 2 rfl ?_
      obtain ⟨c3, w⟩ := w
      refine MR_iald (k := 34) dX5_unlikeNames_28 (by decide) rfl c3 ?_
      refine MR_ishl dX5_unlikeNames_29 ?_
      refine MR_ior dX5_unlikeNames_30 ?_
      refine MR_istore_n (lv' := [(1, .int (a1 ||| ((1 : Int32) <<< ((sg.1 34 a2.toNatClampNeg) &&& 31)))), (0, .ref m), (2, .int a2)]) dX5_unlikeNames_31 rfl (by decide) rfl ?_
      refine MR_iinc (v := (a2 + 1)) (lv' := [(2, .int (a2 + 1)), (1, .int (a1 ||| ((1 : Int32) <<< ((sg.1 34 a2.toNatClampNeg) &&& 31)))), (0, .ref m)]) dX5_unlikeNames_32 2 rfl (congrArg (fun z => a2 + z) (show Int32.ofInt 1 = 1 by decide)) (by decide) rfl ?_
      refine MR_goto (tgt := 4) dX5_unlikeNames_35 (by decide) ?_
      exact MR_sub [2, 1, 0] rfl w

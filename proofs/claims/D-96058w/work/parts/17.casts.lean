/-! LAYER 1: instanceof, checkcast, System.arraycopy -/
set_option maxRecDepth 100000
/-- the cell at a is of the class called nm -/
def Cls (G : GG) (h : AH) (a : Nat) (nm : String) : Prop := ∀ (s : State) (H : Heap), KK G s → Rep G h H → ∃ cell : Cell, H[a]? = some cell ∧ cell.vm.isStatics = false ∧ s.vm.findClass nm = some cell.cls
theorem Cls.obj {G : GG} {h : AH} {b ci : Nat} {C0 : String} {T0 : u_T} {N : Nat} {ty : Nat → FieldType} (K : ClOK ci C0 T0 N ty) (hci : ci < 100) (hb : IsK G h b (ci, 0)) : Cls G h b C0 := fun _ _ hk P => obj_at K hci hb P hk
theorem Cls.arr {G : GG} {h : AH} {b j n : Nat} (hj : j < 5) (hb : IsK G h b (100 + j, n)) : Cls G h b ("[" ++ (kty j).toString) := fun _ _ hk P => arr_at hj hb P hk
section RK
variable {G : GG} {M : MD} {d pc : Nat} {lv : List (Nat × Value)} {st : List Value} {h : AH} {Q : Outcome → AH → Prop}
theorem R_instN {ix : Nat} (hd : decode M.2.1 pc = .ok (.instanceof ix, 3)) (kk : Run G M d (pc + 3) lv (.int 0 :: st) h Q) : Run G M d pc lv (.null :: st) h Q :=
  R_lift (fun C _ _ P L kk => lv_instN C.1 C.2.1 hd kk) kk
theorem R_instE {ix a : Nat} {nm : String} (hd : decode M.2.1 pc = .ok (.instanceof ix, 3)) (hw : Cond.classLink M.1.cls ix nm ∈ lw_all) (hr : Cls G h a nm) (kk : Run G M d (pc + 3) lv (.int 1 :: st) h Q) : Run G M d pc lv (.ref a :: st) h Q :=
  R_lift (fun C _ _ P L kk => va_instE C.1 C.2.1 C.own (C.wd _ hw) (hr _ _ C.kk P) hd kk) kk
theorem R_instY {ix a : Nat} {C0 nm : String} (hd : decode M.2.1 pc = .ok (.instanceof ix, 3)) (hw : Cond.classLink M.1.cls ix nm ∈ lw_all) (hc : Cond.castable C0 nm ∈ lw_tbl) (hr : Cls G h a C0) (kk : Run G M d (pc + 3) lv (.int 1 :: st) h Q) : Run G M d pc lv (.ref a :: st) h Q :=
  R_lift (fun C _ _ P L kk => va_instY C.1 C.2.1 C.own (C.wd _ hw) (C.kk.2.1 _ hc rfl) (hr _ _ C.kk P) hd kk) kk
theorem R_instNo {ix a : Nat} {C0 nm : String} (hd : decode M.2.1 pc = .ok (.instanceof ix, 3)) (hw : Cond.classLink M.1.cls ix nm ∈ lw_all) (hc : (C0, nm) ∈ ncL) (hr : Cls G h a C0) (kk : Run G M d (pc + 3) lv (.int 0 :: st) h Q) : Run G M d pc lv (.ref a :: st) h Q :=
  R_lift (fun C _ _ P L kk => va_instNo C.1 C.2.1 C.own (C.wd _ hw) (C.kk.2.2.2.2.2.2.1 _ hc) (hr _ _ C.kk P) hd kk) kk
theorem R_castY {ix a : Nat} {C0 nm : String} (hd : decode M.2.1 pc = .ok (.checkcast ix, 3)) (hw : Cond.classLink M.1.cls ix nm ∈ lw_all) (hc : Cond.castable C0 nm ∈ lw_tbl) (hr : Cls G h a C0) (kk : Run G M d (pc + 3) lv (.ref a :: st) h Q) : Run G M d pc lv (.ref a :: st) h Q :=
  R_lift (fun C _ _ P L kk => va_castY C.1 C.2.1 C.own (C.wd _ hw) (C.kk.2.1 _ hc rfl) (hr _ _ C.kk P) hd kk) kk
theorem R_castE {ix a : Nat} {nm : String} (hd : decode M.2.1 pc = .ok (.checkcast ix, 3)) (hw : Cond.classLink M.1.cls ix nm ∈ lw_all) (hr : Cls G h a nm) (kk : Run G M d (pc + 3) lv (.ref a :: st) h Q) : Run G M d pc lv (.ref a :: st) h Q := by
  refine R_lift (fun {p l e R s m args below meth c H locs cells slots ls Q'} C _ _ P L kk => ?_) kk
  obtain ⟨cell, h1, h2, h3⟩ := hr _ _ C.kk P
  intro T hT X
  obtain ⟨vm', X', st'⟩ := X.checkcastYes C.1 C.own (C.wd _ hw) (by rw [hT]; exact h1) h2 h3 (va_asg _ _) (g := F0 m pc ls (.ref a :: st)) rfl rfl (by rw [C.2.1]; exact hd)
  obtain ⟨t, a1, b1⟩ := kk (T.setVm vm') hT X'
  exact ⟨t, st' t a1, b1⟩
theorem co_Af {dA : Nat → ClassId} {a : Nat} {f : Nat → Int32} : ∀ b, b ≠ a → cellOf dA (sAf h a f) b = cellOf dA h b := by
  intro b hb
  have e : aA (sAf h a f) b = aA h b := by simp [aA, sAf, va_up, hb]
  have e2 : aV (sAf h a f) b = aV h b := rfl
  show cellOf dA (sAf h a f) b = cellOf dA h b
  simp only [cellOf, e, e2]
  rfl
theorem co_Lf {dA : Nat → ClassId} {a : Nat} {f : Nat → Int64} : ∀ b, b ≠ a → cellOf dA (sLf h a f) b = cellOf dA h b := by
  intro b hb
  have e : aL (sLf h a f) b = aL h b := by simp [aL, sLf, va_up, hb]
  have e2 : aV (sLf h a f) b = aV h b := rfl
  show cellOf dA (sLf h a f) b = cellOf dA h b
  simp only [cellOf, e, e2]
  rfl
theorem cp_nn (z : Int32) (hz : ¬ z < 0) : z.toInt = (z.toNatClampNeg : Int) := by
  have hz0 : (0 : Int) ≤ z.toInt := by
    have := Int32.not_lt.mp hz
    simpa using Int32.le_iff_toInt_le.mp this
  show z.toInt = ((z.toInt.toNat : Nat) : Int)
  omega
theorem R_copyi {ix a0 a j n0 n1 : Nat} {sp dp n : Int32} (hd : decode M.2.1 pc = .ok (.invokestatic ix, 3)) (hl : Cond.methodLink M.1.cls ix arraycopyName ∈ lw_all) (hnat : Cond.native arraycopyName ∈ lw_all) (hstat : Cond.static arraycopyName ∈ lw_all) (hini : Cond.initialized "java/lang/System" ∈ lw_all)
    (hj1 : ¬ j = 1) (hj : j < 5) (ha0 : IsK G h a0 (100 + j, n0)) (ha : IsK G h a (100 + j, n1)) (h1 : ¬ sp < 0) (h2 : ¬ dp < 0) (h3 : ¬ n < 0) (h4 : sp.toNatClampNeg + n.toNatClampNeg ≤ n0) (h5 : dp.toNatClampNeg + n.toNatClampNeg ≤ n1) (hfit : ∀ i, i < n.toNatClampNeg → fits (kty j) (.int (aA h a0 (sp.toNatClampNeg + i))) = true)
    (hdd : 1 ≤ d) (hst : (st.map fun v => v.category).sum ≤ 8) (hnw : nativeFrameWords "java/lang/System" "arraycopy" 5 ≤ 45)
    (kk : Run G M d (pc + 3) lv st (sAf h a (va_cpy (aA h a0) (aA h a) sp.toNatClampNeg dp.toNatClampNeg n.toNatClampNeg)) Q) : Run G M d pc lv (.int n :: .int dp :: .ref a :: .int sp :: .ref a0 :: st) h Q := by
  refine R_liftW (h' := sAf h a (va_cpy (aA h a0) (aA h a) sp.toNatClampNeg dp.toNatClampNeg n.toNatClampNeg)) rfl rfl (fun {p l e R s m args below meth c H locs cells slots ls Q'} C b1 b2 P S L kk => ?_) kk
  have hc0 := P.2.2 a0 ha0.1 ha0.2.1
  rw [cell_int ha0.2.2 hj1 hj] at hc0
  have hc1 := P.2.2 a ha.1 ha.2.1
  rw [cell_int ha.2.2 hj1 hj] at hc1
  have hc0 : H[a0]? = some (vp_cell (G.2.2 j) (n0, .inl (aA h a0))) := hc0
  have hc1 : H[a]? = some (vp_cell (G.2.2 j) (n1, .inl (aA h a))) := hc1
  have hprim : refKind (kty j) = false := by
    match j, hj with
    | 0, _ => rfl
    | 1, _ => rfl
    | 2, _ => rfl
    | 3, _ => rfl
    | 4, _ => rfl
  intro T hT X
  obtain ⟨-, k0, hk0, cm0, hkk0⟩ := (C.va.2 j _ (tys_at (by omega))).1 n0 (fun q => .int (aA h a0 q))
  obtain ⟨-, k1, hk1, cm1, hkk1⟩ := (C.va.2 j _ (tys_at (by omega))).1 n1 (fun q => .int (aA h a q))
  obtain ⟨vm', X', step⟩ := X.arraycopy C.1 C.own (C.wd _ hl) (C.wd _ hnat) (C.wd _ hstat) (C.wd _ hini) (src := a0) (dst := a) (cs := vp_cell (G.2.2 j) (n0, .inl (aA h a0))) (cd := vp_cell (G.2.2 j) (n1, .inl (aA h a))) (srcPos := sp) (destPos := dp) (n := n) (by rw [hT]; exact hc0) (by rw [hT]; exact hc1)
    (fun _ h => by cases h) (fun _ h => by cases h) (fun h => by cases h) (fun h => by cases h) hk0 hk1 hkk0 hkk1 (by simp [hprim]) h1 h2 h3
    (by rw [cp_nn sp h1, cp_nn n h3]; show ¬ _ > ((arrV (G.2.2 j) n0 (fun q => .int (aA h a0 q))).slots.size : Int); rw [arrV_size]; omega)
    (by rw [cp_nn dp h2, cp_nn n h3]; show ¬ _ > ((arrV (G.2.2 j) n1 (fun q => .int (aA h a q))).slots.size : Int); rw [arrV_size]; omega)
    (fun vm₁ _ i hi => by
      have e : (vp_cell (G.2.2 j) (n0, .inl (aA h a0))).slots.getD (sp.toNatClampNeg + i) .null = .int (aA h a0 (sp.toNatClampNeg + i)) := by
        show (arrV (G.2.2 j) n0 (fun q => .int (aA h a0 q))).slots.getD _ _ = _
        rw [Array.getD_eq_getD_getElem?, arrV_read _ _ (by omega)]
        rfl
      refine ⟨?_, ?_⟩
      · rw [e]
        exact hfit i hi
      · rw [e]
        exact trivial)
    (g := F0 m pc ls (.int n :: .int dp :: .ref a :: .int sp :: .ref a0 :: st)) rfl (by rw [C.2.2.1]; exact L.1) (rest := st) rfl (by rw [C.2.1]; exact hd) (by omega) (by show 2 * 0 + _ + _ ≤ _; omega)
  have e1 : copied (vp_cell (G.2.2 j) (n0, .inl (aA h a0))) (vp_cell (G.2.2 j) (n1, .inl (aA h a))) sp dp n = vp_cell (G.2.2 j) (n1, .inl (va_cpy (aA h a0) (aA h a) sp.toNatClampNeg dp.toNatClampNeg n.toNatClampNeg)) := va_copied (fun z => .int z) _ _ _ _ h4
  rw [e1] at X' step
  have hla : a < H.size := (Array.getElem?_eq_some_iff.mp hc1).1
  generalize hH1 : H.setIfInBounds a (vp_cell (G.2.2 j) (n1, .inl (va_cpy (aA h a0) (aA h a) sp.toNatClampNeg dp.toNatClampNeg n.toNatClampNeg))) = H1
  have hz : H1.size = H.size := by rw [← hH1]; simp
  have oq : ∀ q : Nat, q ≠ a → H1[q]? = H[q]? := fun q hq => by rw [← hH1]; simp [Array.getElem?_setIfInBounds, Ne.symm hq]
  have eq : H1[a]? = some (vp_cell (G.2.2 j) (n1, .inl (va_cpy (aA h a0) (aA h a) sp.toNatClampNeg dp.toNatClampNeg n.toNatClampNeg))) := by rw [← hH1]; simp [Array.getElem?_setIfInBounds, hla]
  have hheap : ((T.setVm vm').setCell a (vp_cell (G.2.2 j) (n1, .inl (va_cpy (aA h a0) (aA h a) sp.toNatClampNeg dp.toNatClampNeg n.toNatClampNeg)))).heap = H1 := by rw [← hH1, ← hT]; rfl
  obtain ⟨t, a1, b1⟩ := kk H1 _ (P.set rfl co_Af (by
      rw [cell_int (j := j) (n := n1) (h := sAf h a (va_cpy (aA h a0) (aA h a) sp.toNatClampNeg dp.toNatClampNeg n.toNatClampNeg)) ha.2.2 hj1 hj]
      show H1[a]? = some (vp_cell _ (n1, .inl (aA (sAf h a _) a)))
      rw [eq]
      simp [aA, sAf, va_up]) hz oq) ⟨by rw [hz]; exact S.1, fun q g1 g2 => by
      rw [oq q (fun e => g2 (by rw [e]; exact ha.1))]
      exact S.2.1 q g1 g2, fun q hq => by
      rcases List.mem_append.mp hq with h | h
      · exact S.2.2 q h
      · obtain ⟨z, -, hz⟩ := List.mem_map.mp h
        rw [← hz]
        exact ha.1⟩ _ hheap X'
  exact ⟨t, step t a1, b1⟩
theorem R_copyl {ix a0 a n0 n1 : Nat} {sp dp n : Int32} (hd : decode M.2.1 pc = .ok (.invokestatic ix, 3)) (hl : Cond.methodLink M.1.cls ix arraycopyName ∈ lw_all) (hnat : Cond.native arraycopyName ∈ lw_all) (hstat : Cond.static arraycopyName ∈ lw_all) (hini : Cond.initialized "java/lang/System" ∈ lw_all)
    (ha0 : IsK G h a0 (101, n0)) (ha : IsK G h a (101, n1)) (h1 : ¬ sp < 0) (h2 : ¬ dp < 0) (h3 : ¬ n < 0) (h4 : sp.toNatClampNeg + n.toNatClampNeg ≤ n0) (h5 : dp.toNatClampNeg + n.toNatClampNeg ≤ n1)
    (hdd : 1 ≤ d) (hst : (st.map fun v => v.category).sum ≤ 8) (hnw : nativeFrameWords "java/lang/System" "arraycopy" 5 ≤ 45)
    (kk : Run G M d (pc + 3) lv st (sLf h a (va_cpy (aL h a0) (aL h a) sp.toNatClampNeg dp.toNatClampNeg n.toNatClampNeg)) Q) : Run G M d pc lv (.int n :: .int dp :: .ref a :: .int sp :: .ref a0 :: st) h Q := by
  refine R_liftW (h' := sLf h a (va_cpy (aL h a0) (aL h a) sp.toNatClampNeg dp.toNatClampNeg n.toNatClampNeg)) rfl rfl (fun {p l e R s m args below meth c H locs cells slots ls Q'} C b1 b2 P S L kk => ?_) kk
  have hc0 := P.2.2 a0 ha0.1 ha0.2.1
  rw [cell_long ha0.2.2] at hc0
  have hc1 := P.2.2 a ha.1 ha.2.1
  rw [cell_long ha.2.2] at hc1
  have hc0 : H[a0]? = some (vp_cell (G.2.2 1) (n0, .inr (.inl (aL h a0)))) := hc0
  have hc1 : H[a]? = some (vp_cell (G.2.2 1) (n1, .inr (.inl (aL h a)))) := hc1
  intro T hT X
  obtain ⟨-, k0, hk0, cm0, hkk0⟩ := (C.va.2 1 _ (tys_at (by omega))).1 n0 (fun q => .long (aL h a0 q))
  obtain ⟨-, k1, hk1, cm1, hkk1⟩ := (C.va.2 1 _ (tys_at (by omega))).1 n1 (fun q => .long (aL h a q))
  obtain ⟨vm', X', step⟩ := X.arraycopy C.1 C.own (C.wd _ hl) (C.wd _ hnat) (C.wd _ hstat) (C.wd _ hini) (src := a0) (dst := a) (cs := vp_cell (G.2.2 1) (n0, .inr (.inl (aL h a0)))) (cd := vp_cell (G.2.2 1) (n1, .inr (.inl (aL h a)))) (srcPos := sp) (destPos := dp) (n := n) (by rw [hT]; exact hc0) (by rw [hT]; exact hc1)
    (fun _ h => by cases h) (fun _ h => by cases h) (fun h => by cases h) (fun h => by cases h) hk0 hk1 hkk0 hkk1 rfl h1 h2 h3
    (by rw [cp_nn sp h1, cp_nn n h3]; show ¬ _ > ((arrV (G.2.2 1) n0 (fun q => .long (aL h a0 q))).slots.size : Int); rw [arrV_size]; omega)
    (by rw [cp_nn dp h2, cp_nn n h3]; show ¬ _ > ((arrV (G.2.2 1) n1 (fun q => .long (aL h a q))).slots.size : Int); rw [arrV_size]; omega)
    (fun vm₁ _ i hi => by
      have e : (vp_cell (G.2.2 1) (n0, .inr (.inl (aL h a0)))).slots.getD (sp.toNatClampNeg + i) .null = .long (aL h a0 (sp.toNatClampNeg + i)) := by
        show (arrV (G.2.2 1) n0 (fun q => .long (aL h a0 q))).slots.getD _ _ = _
        rw [Array.getD_eq_getD_getElem?, arrV_read _ _ (by omega)]
        rfl
      refine ⟨?_, ?_⟩
      · rw [e]
        rfl
      · rw [e]
        exact trivial)
    (g := F0 m pc ls (.int n :: .int dp :: .ref a :: .int sp :: .ref a0 :: st)) rfl (by rw [C.2.2.1]; exact L.1) (rest := st) rfl (by rw [C.2.1]; exact hd) (by omega) (by show 2 * 0 + _ + _ ≤ _; omega)
  have e1 : copied (vp_cell (G.2.2 1) (n0, .inr (.inl (aL h a0)))) (vp_cell (G.2.2 1) (n1, .inr (.inl (aL h a)))) sp dp n = vp_cell (G.2.2 1) (n1, .inr (.inl (va_cpy (aL h a0) (aL h a) sp.toNatClampNeg dp.toNatClampNeg n.toNatClampNeg))) := va_copied (fun z => .long z) _ _ _ _ h4
  rw [e1] at X' step
  have hla : a < H.size := (Array.getElem?_eq_some_iff.mp hc1).1
  generalize hH1 : H.setIfInBounds a (vp_cell (G.2.2 1) (n1, .inr (.inl (va_cpy (aL h a0) (aL h a) sp.toNatClampNeg dp.toNatClampNeg n.toNatClampNeg)))) = H1
  have hz : H1.size = H.size := by rw [← hH1]; simp
  have oq : ∀ q : Nat, q ≠ a → H1[q]? = H[q]? := fun q hq => by rw [← hH1]; simp [Array.getElem?_setIfInBounds, Ne.symm hq]
  have eq : H1[a]? = some (vp_cell (G.2.2 1) (n1, .inr (.inl (va_cpy (aL h a0) (aL h a) sp.toNatClampNeg dp.toNatClampNeg n.toNatClampNeg)))) := by rw [← hH1]; simp [Array.getElem?_setIfInBounds, hla]
  have hheap : ((T.setVm vm').setCell a (vp_cell (G.2.2 1) (n1, .inr (.inl (va_cpy (aL h a0) (aL h a) sp.toNatClampNeg dp.toNatClampNeg n.toNatClampNeg))))).heap = H1 := by rw [← hH1, ← hT]; rfl
  obtain ⟨t, a1, b1⟩ := kk H1 _ (P.set rfl co_Lf (by
      rw [cell_long (n := n1) (h := sLf h a (va_cpy (aL h a0) (aL h a) sp.toNatClampNeg dp.toNatClampNeg n.toNatClampNeg)) ha.2.2]
      show H1[a]? = some (vp_cell _ (n1, .inr (.inl (aL (sLf h a _) a))))
      rw [eq]
      simp [aL, sLf, va_up]) hz oq) ⟨by rw [hz]; exact S.1, fun q g1 g2 => by
      rw [oq q (fun e => g2 (by rw [e]; exact ha.1))]
      exact S.2.1 q g1 g2, fun q hq => by
      rcases List.mem_append.mp hq with h | h
      · exact S.2.2 q h
      · obtain ⟨z, -, hz⟩ := List.mem_map.mp h
        rw [← hz]
        exact ha.1⟩ _ hheap X'
  exact ⟨t, step t a1, b1⟩
end RK

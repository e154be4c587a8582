/-! LAYER 1: array stores, new cells -/
set_option maxRecDepth 100000
section RA
variable {G : GG} {M : MD} {d pc : Nat} {lv : List (Nat × Value)} {st : List Value} {h : AH} {Q : Outcome → AH → Prop}
theorem co_A {dA : Nat → ClassId} {a k : Nat} {v : Int32} : ∀ b, b ≠ a → cellOf dA (sA h a k v) b = cellOf dA h b := by
  intro b hb
  have e : aA (sA h a k v) b = aA h b := by
    funext q
    simp [aA, sA, up2, hb]
  have e2 : aV (sA h a k v) b = aV h b := rfl
  show cellOf dA (sA h a k v) b = cellOf dA h b
  simp only [cellOf, e, e2]
  rfl
theorem co_L {dA : Nat → ClassId} {a k : Nat} {v : Int64} : ∀ b, b ≠ a → cellOf dA (sL h a k v) b = cellOf dA h b := by
  intro b hb
  have e : aL (sL h a k v) b = aL h b := by
    funext q
    simp [aL, sL, up2, hb]
  have e2 : aV (sL h a k v) b = aV h b := rfl
  show cellOf dA (sL h a k v) b = cellOf dA h b
  simp only [cellOf, e, e2]
  rfl
theorem co_R {dA : Nat → ClassId} {a k : Nat} {v : Option Nat} : ∀ b, b ≠ a → cellOf dA (sR h a k v) b = cellOf dA h b := by
  intro b hb
  have e : aR (sR h a k v) b = aR h b := by
    funext q
    simp [aR, sR, up2, hb]
  have e2 : aV (sR h a k v) b = aV h b := rfl
  show cellOf dA (sR h a k v) b = cellOf dA h b
  simp only [cellOf, e, e2]
  rfl
theorem R_iast {a n : Nat} {i x : Int32} (hd : decode M.2.1 pc = .ok (.iastore, 1)) (ha : IsK G h a (100, n)) (hi : vp_in i n) (kk : Run G M d (pc + 1) lv st (sA h a i.toNatClampNeg x) Q) : Run G M d pc lv (.int x :: .int i :: .ref a :: st) h Q := by
  refine R_liftW (h' := sA h a i.toNatClampNeg x) rfl rfl (fun {p l e R s m args below meth c H locs cells slots ls Q'} C' _ _ P S L kk => ?_) kk
  have h0 := P.2.2 a ha.1 ha.2.1
  rw [cell_int (j := 0) ha.2.2 (by decide) (by decide)] at h0
  have hk := (C'.va.2 0 _ (tys_at (by decide))).1 n (fun j => .int (aA h a j))
  refine W.iast C'.1 C'.2.1 (cell := vp_cell (G.2.2 0) (n, .inl (aA h a))) h0 hk (fun q => by cases q) (by show ¬ (i < 0 ∨ (arrV _ _ _).slots.size ≤ _); rw [arrV_size]; exact hi) rfl rfl hd fun H1 e z oq => ?_
  refine kk H1 _ (P.set rfl co_A ?_ z oq) (S.put z oq ha.1)
  rw [cell_int (j := 0) (h := sA h a i.toNatClampNeg x) ha.2.2 (by decide) (by decide)]
  show H1[a]? = some (vp_cell _ _)
  rw [e, vp_cell_i, vp_cell_i, arrV_store]
  congr 2
  funext q
  by_cases hq : q = i.toNatClampNeg
  · subst hq
    simp [updV, sA, aA, up2, vp_nar]
    try rfl
  · simp [updV, sA, aA, up2, hq]
theorem R_bast {a n : Nat} {i x : Int32} (hd : decode M.2.1 pc = .ok (.bastore, 1)) (ha : IsK G h a (102, n)) (hi : vp_in i n) (kk : Run G M d (pc + 1) lv st (sA h a i.toNatClampNeg (vp_nar .byte x)) Q) : Run G M d pc lv (.int x :: .int i :: .ref a :: st) h Q := by
  refine R_liftW (h' := sA h a i.toNatClampNeg (vp_nar .byte x)) rfl rfl (fun {p l e R s m args below meth c H locs cells slots ls Q'} C' _ _ P S L kk => ?_) kk
  have h0 := P.2.2 a ha.1 ha.2.1
  rw [cell_int (j := 2) ha.2.2 (by decide) (by decide)] at h0
  have hk := (C'.va.2 2 _ (tys_at (by decide))).1 n (fun j => .int (aA h a j))
  refine W.bast C'.1 C'.2.1 (cell := vp_cell (G.2.2 2) (n, .inl (aA h a))) h0 hk (fun q => by cases q) (by show ¬ (i < 0 ∨ (arrV _ _ _).slots.size ≤ _); rw [arrV_size]; exact hi) rfl rfl hd fun H1 e z oq => ?_
  refine kk H1 _ (P.set rfl co_A ?_ z oq) (S.put z oq ha.1)
  rw [cell_int (j := 2) (h := sA h a i.toNatClampNeg (vp_nar .byte x)) ha.2.2 (by decide) (by decide)]
  show H1[a]? = some (vp_cell _ _)
  rw [e, vp_cell_i, vp_cell_i, arrV_store]
  congr 2
  funext q
  by_cases hq : q = i.toNatClampNeg
  · subst hq
    simp [updV, sA, aA, up2, vp_nar]
    try rfl
  · simp [updV, sA, aA, up2, hq]
theorem R_zast {a n : Nat} {i x : Int32} (hd : decode M.2.1 pc = .ok (.bastore, 1)) (ha : IsK G h a (104, n)) (hi : vp_in i n) (kk : Run G M d (pc + 1) lv st (sA h a i.toNatClampNeg (vp_nar .boolean x)) Q) : Run G M d pc lv (.int x :: .int i :: .ref a :: st) h Q := by
  refine R_liftW (h' := sA h a i.toNatClampNeg (vp_nar .boolean x)) rfl rfl (fun {p l e R s m args below meth c H locs cells slots ls Q'} C' _ _ P S L kk => ?_) kk
  have h0 := P.2.2 a ha.1 ha.2.1
  rw [cell_int (j := 4) ha.2.2 (by decide) (by decide)] at h0
  have hk := (C'.va.2 4 _ (tys_at (by decide))).1 n (fun j => .int (aA h a j))
  refine W.zast C'.1 C'.2.1 (cell := vp_cell (G.2.2 4) (n, .inl (aA h a))) h0 hk (fun q => by cases q) (by show ¬ (i < 0 ∨ (arrV _ _ _).slots.size ≤ _); rw [arrV_size]; exact hi) rfl rfl hd fun H1 e z oq => ?_
  refine kk H1 _ (P.set rfl co_A ?_ z oq) (S.put z oq ha.1)
  rw [cell_int (j := 4) (h := sA h a i.toNatClampNeg (vp_nar .boolean x)) ha.2.2 (by decide) (by decide)]
  show H1[a]? = some (vp_cell _ _)
  rw [e, vp_cell_i, vp_cell_i, arrV_store]
  congr 2
  funext q
  by_cases hq : q = i.toNatClampNeg
  · subst hq
    simp [updV, sA, aA, up2, vp_nar]
    try rfl
  · simp [updV, sA, aA, up2, hq]
theorem R_sast {a n : Nat} {i x : Int32} (hd : decode M.2.1 pc = .ok (.sastore, 1)) (ha : IsK G h a (103, n)) (hi : vp_in i n) (kk : Run G M d (pc + 1) lv st (sA h a i.toNatClampNeg (vp_nar .short x)) Q) : Run G M d pc lv (.int x :: .int i :: .ref a :: st) h Q := by
  refine R_liftW (h' := sA h a i.toNatClampNeg (vp_nar .short x)) rfl rfl (fun {p l e R s m args below meth c H locs cells slots ls Q'} C' _ _ P S L kk => ?_) kk
  have h0 := P.2.2 a ha.1 ha.2.1
  rw [cell_int (j := 3) ha.2.2 (by decide) (by decide)] at h0
  have hk := (C'.va.2 3 _ (tys_at (by decide))).1 n (fun j => .int (aA h a j))
  refine W.sast C'.1 C'.2.1 (cell := vp_cell (G.2.2 3) (n, .inl (aA h a))) h0 hk (fun q => by cases q) (by show ¬ (i < 0 ∨ (arrV _ _ _).slots.size ≤ _); rw [arrV_size]; exact hi) rfl rfl hd fun H1 e z oq => ?_
  refine kk H1 _ (P.set rfl co_A ?_ z oq) (S.put z oq ha.1)
  rw [cell_int (j := 3) (h := sA h a i.toNatClampNeg (vp_nar .short x)) ha.2.2 (by decide) (by decide)]
  show H1[a]? = some (vp_cell _ _)
  rw [e, vp_cell_i, vp_cell_i, arrV_store]
  congr 2
  funext q
  by_cases hq : q = i.toNatClampNeg
  · subst hq
    simp [updV, sA, aA, up2, vp_nar]
    try rfl
  · simp [updV, sA, aA, up2, hq]
theorem R_last {a n : Nat} {i : Int32} {x : Int64} (hd : decode M.2.1 pc = .ok (.lastore, 1)) (ha : IsK G h a (101, n)) (hi : vp_in i n) (kk : Run G M d (pc + 1) lv st (sL h a i.toNatClampNeg x) Q) : Run G M d pc lv (.long x :: .int i :: .ref a :: st) h Q := by
  refine R_liftW (h' := sL h a i.toNatClampNeg x) rfl rfl (fun {p l e R s m args below meth c H locs cells slots ls Q'} C' _ _ P S L kk => ?_) kk
  have h0 := P.2.2 a ha.1 ha.2.1
  rw [cell_long ha.2.2] at h0
  have hk := (C'.va.2 1 _ (tys_at (by decide))).1 n (fun j => .long (aL h a j))
  refine W.last C'.1 C'.2.1 (cell := vp_cell (G.2.2 1) (n, .inr (.inl (aL h a)))) h0 hk (fun q => by cases q) (by show ¬ (i < 0 ∨ (arrV _ _ _).slots.size ≤ _); rw [arrV_size]; exact hi) rfl rfl hd fun H1 e z oq => ?_
  refine kk H1 _ (P.set rfl co_L ?_ z oq) (S.put z oq ha.1)
  rw [cell_long (h := sL h a i.toNatClampNeg x) ha.2.2]
  show H1[a]? = some (vp_cell _ _)
  rw [e, vp_cell_l, vp_cell_l, arrV_store]
  congr 2
  funext q
  by_cases hq : q = i.toNatClampNeg
  · subst hq
    simp [updV, sL, aL, up2]
  · simp [updV, sL, aL, up2, hq]
/-- what an array over E takes -/
def Fit (G : GG) (h : AH) (E : String) (v : Nat) : Prop := ∀ (s : State) (args : Array Value) (H : Heap), (∀ w ∈ lw_all, w.before args s = true) → KK G s → Rep G h H → va_Any E s H v
theorem R_aast {a n j v : Nat} {i : Int32} {E : String} (hd : decode M.2.1 pc = .ok (.aastore, 1)) (h5 : 5 ≤ j) (hj : j < 11) (hE : kty j = .object E) (ha : IsK G h a (100 + j, n)) (hi : vp_in i n) (hv : Fit G h E v) (kk : Run G M d (pc + 1) lv st (sR h a i.toNatClampNeg (some v)) Q) : Run G M d pc lv (.ref v :: .int i :: .ref a :: st) h Q := by
  refine R_liftW (h' := sR h a i.toNatClampNeg (some v)) rfl rfl (fun {p l e R s m args below meth c H locs cells slots ls Q'} C' _ _ P S L kk => ?_) kk
  have h0 := P.2.2 a ha.1 ha.2.1
  rw [cell_ref ha.2.2 h5] at h0
  have hlt : i.toNatClampNeg < n := Nat.not_le.mp fun q => hi (Or.inr q)
  have hi0 : ¬ i < 0 := fun q => hi (Or.inl q)
  obtain ⟨cellV, g1, g3, ⟨kC, hkC⟩, hasg⟩ := hv s args H C'.wd C'.kk P
  have hty := (C'.va.2 j _ (tys_at hj)).2
  rw [hE] at hty
  obtain ⟨kA, comp, k1, k2, k3, -⟩ := hty
  obtain ⟨kE, hkE, -⟩ := Vm.findClass_spec k3
  refine W.aast C'.1 C'.2.1 (cell := vp_cell (G.2.2 j) (n, .inr (.inr (.inr (.inr (aR h a)))))) h0 (fun q h => by cases h) (fun h => by cases h) k1 k2 rfl hkE ⟨hi0, by show _ < (arrV _ _ _).slots.size; rw [arrV_size]; exact hlt⟩ g1 (fun q h => by rw [h] at g3; cases g3) hkC (hasg _ k3) rfl rfl hd fun H1 e z oq => ?_
  refine kk H1 _ (P.set rfl co_R ?_ z oq) (S.put z oq ha.1)
  rw [cell_ref (h := sR h a i.toNatClampNeg (some v)) ha.2.2 h5]
  show H1[a]? = some (vp_cell _ _)
  rw [e, vp_cell_q, vp_cell_q, arrV_store]
  congr 2
  funext q
  by_cases hq : q = i.toNatClampNeg
  · subst hq
    simp [updV, sR, aR, up2, va_rf]
  · simp [updV, sR, aR, up2, hq]
theorem R_aastN {a n j : Nat} {i : Int32} {E : String} (hd : decode M.2.1 pc = .ok (.aastore, 1)) (h5 : 5 ≤ j) (hj : j < 11) (hE : kty j = .object E) (ha : IsK G h a (100 + j, n)) (hi : vp_in i n) (kk : Run G M d (pc + 1) lv st (sR h a i.toNatClampNeg none) Q) : Run G M d pc lv (.null :: .int i :: .ref a :: st) h Q := by
  refine R_liftW (h' := sR h a i.toNatClampNeg none) rfl rfl (fun {p l e R s m args below meth c H locs cells slots ls Q'} C' _ _ P S L kk => ?_) kk
  have h0 := P.2.2 a ha.1 ha.2.1
  rw [cell_ref ha.2.2 h5] at h0
  have hk := (C'.va.2 j _ (tys_at hj)).1 n (fun q => va_rf (aR h a q))
  rw [hE] at hk
  refine va_WaastN (C := E) C'.1 C'.2.1 (cell := vp_cell (G.2.2 j) (n, .inr (.inr (.inr (.inr (aR h a)))))) h0 hk (fun h => by cases h) (by show ¬ (i < 0 ∨ (arrV _ _ _).slots.size ≤ _); rw [arrV_size]; exact hi) rfl rfl hd fun H1 e z oq => ?_
  refine kk H1 _ (P.set rfl co_R ?_ z oq) (S.put z oq ha.1)
  rw [cell_ref (h := sR h a i.toNatClampNeg none) ha.2.2 h5]
  show H1[a]? = some (vp_cell _ _)
  rw [e, vp_cell_q, vp_cell_q, arrV_store]
  congr 2
  funext q
  by_cases hq : q = i.toNatClampNeg
  · subst hq
    simp [updV, sR, aR, up2, va_rf]
  · simp [updV, sR, aR, up2, hq]
theorem fit_self {ci v : Nat} {C : String} {T : u_T} {N : Nat} {ty : Nat → FieldType} (K : ClOK ci C T N ty) (hc : ci < 100) (hv : IsK G h v (ci, 0)) : Fit G h C v := by
  intro s args H hw hk P
  have h0 := P.2.2 v hv.1 hv.2.1
  rw [cell_obj hv.2.2 hc] at h0
  obtain ⟨r, h1, cell, q1, q2, q3, q4⟩ := h0
  have hr : r = (C, T, N) := Option.some.inj (h1.symm.trans K.1)
  subst hr
  obtain ⟨hS, hfc, kC, hkC, hkind⟩ := hk.1.1 ci _ K.1
  refine ⟨cell, q1, by rw [q3]; rfl, ⟨kC, by rw [q2]; exact hkC⟩, fun comp hcomp => ?_⟩
  cases hfc.symm.trans hcomp
  rw [q2]
  exact va_assign ⟨hfc, kC, hkC, hkind⟩
theorem fit_cast {ci v : Nat} {C E : String} {T : u_T} {N : Nat} {ty : Nat → FieldType} (K : ClOK ci C T N ty) (hc : ci < 100) (hv : IsK G h v (ci, 0)) (hw : Cond.castable C E ∈ lw_tbl) : Fit G h E v := by
  intro s args H _ hk P
  have h0 := P.2.2 v hv.1 hv.2.1
  rw [cell_obj hv.2.2 hc] at h0
  obtain ⟨r, h1, cell, q1, q2, q3, q4⟩ := h0
  have hr : r = (C, T, N) := Option.some.inj (h1.symm.trans K.1)
  subst hr
  obtain ⟨hS, hfc, kC, hkC, hkind⟩ := hk.1.1 ci _ K.1
  obtain ⟨c0, t0, f1, f2, f3⟩ := Cond.castable_spec (hk.2.1 _ hw rfl)
  refine ⟨cell, q1, by rw [q3]; rfl, ⟨kC, by rw [q2]; exact hkC⟩, fun comp hcomp => ?_⟩
  cases f2.symm.trans hcomp
  cases hfc.symm.trans f1
  rw [q2]
  exact f3
theorem fit_arr {j v n : Nat} {E : String} (hj : j < 5) (hv : IsK G h v (100 + j, n)) (hw : Cond.castable ("[" ++ (kty j).toString) E ∈ lw_tbl) : Fit G h E v := by
  intro s args H _ hk P
  have h0 := P.2.2 v hv.1 hv.2.1
  obtain ⟨cell, hcell, hcls, hvm⟩ : ∃ cell : Cell, H[v]? = some cell ∧ cell.cls = G.2.2 j ∧ cell.vm = .none := by
    by_cases h1 : j = 1
    · subst h1
      rw [cell_long hv.2.2] at h0
      exact ⟨_, h0, rfl, rfl⟩
    · rw [cell_int hv.2.2 h1 hj] at h0
      exact ⟨_, h0, rfl, rfl⟩
  obtain ⟨c0, t0, f1, f2, f3⟩ := Cond.castable_spec (hk.2.1 _ hw rfl)
  have hra := (hk.1.2 j _ (tys_at (by omega))).2
  have hfc : s.vm.findClass ("[" ++ (kty j).toString) = some (G.2.2 j) := by
    match j, hj, hra with
    | 0, _, h => exact h
    | 1, _, h => exact h
    | 2, _, h => exact h
    | 3, _, h => exact h
    | 4, _, h => exact h
  obtain ⟨kC, hkC, -⟩ := Vm.findClass_spec hfc
  refine ⟨cell, hcell, by rw [hvm]; rfl, ⟨kC, by rw [hcls]; exact hkC⟩, fun comp hcomp => ?_⟩
  cases f2.symm.trans hcomp
  cases hfc.symm.trans f1
  rw [hcls]
  exact f3
-- new cells
theorem Rep.push {t : Nat × Nat} {u : Nat} {H H1 : Heap} (P : Rep G h H) (hz : H1.size = H.size + 1) (hq : ∀ q : Nat, q < H.size → H1[q]? = H[q]?) (hc : va_at G.2.1 cl0 (aN h, cellOf G.2.2 (sNew h t u) (aN h)) H1) : Rep G (sNew h t u) H1 := by
  refine ⟨by rw [hz, P.1]; rfl, Nat.le_succ_of_le P.2.1, fun b h1 h2 => ?_⟩
  by_cases hb : b = aN h
  · subst hb; exact hc
  · have hlt : b < aN h := by
      have : b < aN h + 1 := h2
      omega
    have e : cellOf G.2.2 (sNew h t u) b = cellOf G.2.2 h b := by
      have e0 : aT (sNew h t u) b = aT h b := by simp [aT, sNew, va_up, hb]
      have e1 : aV (sNew h t u) b = aV h b := by
        funext q
        simp [aV, sNew, aI, aP, hb]
      have e2 : aA (sNew h t u) b = aA h b := by simp [aA, sNew, va_up, hb]
      have e3 : aL (sNew h t u) b = aL h b := by simp [aL, sNew, va_up, hb]
      have e4 : aR (sNew h t u) b = aR h b := by simp [aR, sNew, va_up, hb]
      simp only [cellOf, e0, e1, e2, e3, e4]
    rw [e]
    exact (P.2.2 b h1 hlt).kept (hq b (by rw [P.1]; exact hlt))
theorem R_liftN {pc' : Nat} {st st' : List Value} {t : Nat × Nat} {u : Nat}
    (f : ∀ {p : Program} {l : Launch} {e : Env} {R : Room} {s : State} {m : MethodId} {args : Array Value} {below : List Frame} {meth : Method} {c : Code} {H : Heap} {locs : List Loc} {cells slots : Nat} {ls : Array Slot} {Q' : State → Prop},
      Cx G M p s m args meth c → cells + 1 ≤ R.cells → slots + u ≤ R.slots → Rep G h H → va_S (AG G) s.heap H locs → lv_has ls M.2.2.1 lv → (∀ (H1 : Heap), H1.size = H.size + 1 → (∀ q : Nat, q < H.size → H1[q]? = H[q]?) → va_at G.2.1 cl0 (aN h, cellOf G.2.2 (sNew h t u) (aN h)) H1 → W p l e R s m args below meth c H1 locs (cells + 1) (slots + u) Q' (F0 m pc' ls st')) → W p l e R s m args below meth c H locs cells slots Q' (F0 m pc ls st))
    (k : Run G M d pc' lv st' (sNew h t u) Q) : Run G M d pc lv st h Q := by
  obtain ⟨o, h2, q, h3, h4, r⟩ := k
  have h3' : aN h + 1 ≤ aN h2 := h3
  have h4' : aU h + u ≤ aU h2 := h4
  refine ⟨o, h2, q, by omega, by omega, fun p l e R s m args below meth c H locs cells slots ls C a1 a2 a3 a4 P S L => f C (by omega) (by omega) P S L (fun H1 z1 o1 c1 => ?_)⟩
  have key := r p l e R s m args below meth c H1 locs (cells + 1) (slots + u) ls C a1 a2 (by show cells + 1 + (aN h2 - (aN h + 1)) ≤ _; omega) (by show slots + u + (aU h2 - (aU h + u)) ≤ _; omega) (P.push z1 o1 c1) ⟨Nat.le_trans S.1 (by omega), fun q g1 g2 => (o1 q (Nat.lt_of_lt_of_le g1 S.1)).trans (S.2.1 q g1 g2), S.2.2⟩ L
  have e1 : cells + 1 + (aN h2 - aN (sNew h t u)) = cells + (aN h2 - aN h) := by show cells + 1 + (aN h2 - (aN h + 1)) = _; omega
  have e2 : slots + u + (aU h2 - aU (sNew h t u)) = slots + (aU h2 - aU h) := by show slots + u + (aU h2 - (aU h + u)) = _; omega
  rw [e1, e2] at key
  exact key
theorem new_dflt {ci k : Nat} {N : Nat} {ty : Nat → FieldType} {t : Nat × Nat} {u : Nat} (hfd : ∀ j, j < N → ∃ f b, (fl ci)[j]? = some (f, b) ∧ defaultValue (ty j) = if b = true then .int 0 else .null) : ∀ j, j < N → defaultValue (ty j) = vp_V ((fl ci).map (aV (sNew h t u) (aN h))) j := by
  intro j hj
  obtain ⟨f, b, h1, h2⟩ := hfd j hj
  rw [h2]
  cases b <;> simp [vp_V, h1, aV, sNew, aI, aP, va_rf]
theorem R_new {ix ci : Nat} {C : String} {T : u_T} {N : Nat} {ty : Nat → FieldType} (K : ClOK ci C T N ty) (hd : decode M.2.1 pc = .ok (.new ix, 3)) (hw : Cond.classLink M.1.cls ix C ∈ lw_all) (hins : Cond.instantiable C N ∈ lw_all) (hini : Cond.initialized C ∈ lw_all) (hc : ci < 100) (hfd : ∀ j, j < N → ∃ f b, (fl ci)[j]? = some (f, b) ∧ defaultValue (ty j) = if b = true then .int 0 else .null)
    (kk : Run G M d (pc + 3) lv (.ref (aN h) :: st) (sNew h (ci, 0) N) Q) : Run G M d pc lv st h Q := by
  refine R_liftN (fun {p l e R s m args below meth c H locs cells slots ls Q'} C' hce hsl P S L kk => ?_) kk
  refine W.newc C'.1 C'.2.1 C'.own (C'.wd _ hw) (C'.wd _ hins) (C'.wd _ hini) rfl hd hce hsl fun cC kC f1 f2 f3 f4 => ?_
  obtain ⟨hS, hfc, -⟩ := C'.va.1 ci _ K.1
  have e0 : G.2.1.1 ci = cC := Option.some.inj (hfc.symm.trans f1)
  generalize hH1 : H.push ({ cls := cC, slots := kC.instanceTypes.map defaultValue, vm := .none } : Cell) = H1
  have z1 : H1.size = H.size + 1 := by rw [← hH1, Array.size_push]
  have e1 : H1[H.size]? = some (blank cC kC) := by rw [← hH1, Array.getElem?_push_size]; rfl
  have o1 : ∀ q : Nat, q < H.size → H1[q]? = H[q]? := fun q hq => by rw [← hH1, Array.getElem?_push, if_neg (Nat.ne_of_lt hq)]
  have e2 : H.size = aN h := P.1
  rw [e2]
  refine kk H1 z1 o1 ?_
  rw [cell_obj (ci := ci) (n := 0) (by simp [aT, sNew, va_up]) hc]
  refine ⟨_, K.1, ?_⟩
  rw [e2] at e1
  have hKn : u_Kn s C T N cC (G.2.1.2 ci) := by rw [← e0]; exact C'.va.1 ci _ K.1
  have := u_born ty C'.wd K.2.1 hKn f2 e1 K.2.2.1
  show t_OB (aN h) (G.2.1.1 ci) N (G.2.1.2 ci) H1 _
  rw [e0]
  exact t_OB.to this (new_dflt (k := 0) hfd)
theorem R_newa {j n : Nat} {at0 : ArrayType} {i : Int32} (hd : decode M.2.1 pc = .ok (.newarray at0, 2)) (hj : j < 5) (hty : newarray.typeOf at0 = kty j) (hw : Cond.arrayClass (kty j) ∈ lw_all) (hi : ¬ i < 0) (hn : i.toNatClampNeg = n) (hsm : n ≤ 65536)
    (kk : Run G M d (pc + 2) lv (.ref (aN h) :: st) (sNew h (100 + j, n) n) Q) : Run G M d pc lv (.int i :: st) h Q := by
  refine R_liftN (fun {p l e R s m args below meth c H locs cells slots ls Q'} C' hce hsl P S L kk => ?_) kk
  have e2 : H.size = aN h := P.1
  have hb : n * componentBytes (newarray.typeOf at0) ≤ 536870912 := by
    have : componentBytes (newarray.typeOf at0) ≤ 8 := by
      rw [hty]
      match j, hj with
      | 0, _ => decide
      | 1, _ => decide
      | 2, _ => decide
      | 3, _ => decide
      | 4, _ => decide
    exact Nat.le_trans (Nat.mul_le_mul hsm this) (by decide)
  refine va_newaK C'.1 C'.2.1 (by rw [hty]; exact C'.wd _ hw) (g := F0 m pc ls (.int i :: st)) rfl hd rfl hi hn hb hce hsl e2 fun H1 cA f1 f2 f3 f4 f5 => ?_
  have hra := (C'.va.2 j _ (tys_at (by omega))).2
  rw [hty] at f5 f1
  have ec : cA = G.2.2 j := by
    match j, hj, hra, f5 with
    | 0, _, h, g => exact Option.some.inj (g.symm.trans h)
    | 1, _, h, g => exact Option.some.inj (g.symm.trans h)
    | 2, _, h, g => exact Option.some.inj (g.symm.trans h)
    | 3, _, h, g => exact Option.some.inj (g.symm.trans h)
    | 4, _, h, g => exact Option.some.inj (g.symm.trans h)
  subst ec
  refine kk H1 (by rw [f2, e2]) (fun q hq => f3 q (by rw [← e2]; exact hq)) ?_
  have et : aT (sNew h (100 + j, n) n) (aN h) = (100 + j, n) := by simp [aT, sNew, va_up]
  by_cases h1 : j = 1
  · subst h1
    rw [cell_long et]
    show H1[aN h]? = some (vp_cell _ _)
    rw [f1, vp_cell_l]
    congr 2
    funext q
    simp [aL, sNew, va_up]
    rfl
  · rw [cell_int et h1 hj]
    show H1[aN h]? = some (vp_cell _ _)
    rw [f1, vp_cell_i]
    congr 2
    funext q
    simp [aA, sNew, va_up]
    match j, hj, h1 with
    | 0, _, _ => rfl
    | 2, _, _ => rfl
    | 3, _, _ => rfl
    | 4, _, _ => rfl
theorem R_newq {j n ix : Nat} {E : String} {i : Int32} (hd : decode M.2.1 pc = .ok (.anewarray ix, 3)) (h5 : 5 ≤ j) (hj : j < 11) (hE : kty j = .object E) (hw : Cond.classLink M.1.cls ix E ∈ lw_all) (hao : E ∈ aoC) (hi : ¬ i < 0) (hn : i.toNatClampNeg = n) (hsm : n ≤ 65536)
    (kk : Run G M d (pc + 3) lv (.ref (aN h) :: st) (sNew h (100 + j, n) n) Q) : Run G M d pc lv (.int i :: st) h Q := by
  refine R_liftN (fun {p l e R s m args below meth c H locs cells slots ls Q'} C' hce hsl P S L kk => ?_) kk
  have e2 : H.size = aN h := P.1
  subst hn
  refine W.anew C'.1 C'.2.1 C'.own (C'.wd _ hw) (va_AO.use (C'.kk.2.2.1 _ hao)) rfl hd rfl hi (Nat.le_trans (Nat.mul_le_mul_right 4 hsm) (by decide)) hce hsl fun cA kA comp f1 f2 f3 f4 => ?_
  generalize hH1 : H.push ({ cls := cA, slots := Array.replicate i.toNatClampNeg .null, vm := .none } : Cell) = H1
  have z1 : H1.size = H.size + 1 := by rw [← hH1, Array.size_push]
  have e1 : H1[H.size]? = some (arrV cA i.toNatClampNeg (fun _ => .null)) := by rw [← hH1, Array.getElem?_push_size, ← arrV_new]
  have o1 : ∀ q : Nat, q < H.size → H1[q]? = H[q]? := fun q hq => by rw [← hH1, Array.getElem?_push, if_neg (Nat.ne_of_lt hq)]
  have hra := (C'.va.2 j _ (tys_at hj)).2
  rw [hE] at hra
  obtain ⟨kA', comp', g1, g2, g3, g4⟩ := hra
  have ec : cA = G.2.2 j := Option.some.inj (f1.symm.trans g4)
  subst ec
  rw [e2] at e1 ⊢
  refine kk H1 z1 o1 ?_
  rw [cell_ref (j := j) (n := i.toNatClampNeg) (by simp [aT, sNew, va_up]) h5]
  show H1[aN h]? = some (vp_cell _ _)
  rw [e1, vp_cell_q]
  congr 2
  funext q
  simp [aR, sNew, va_up, va_rf]
end RA

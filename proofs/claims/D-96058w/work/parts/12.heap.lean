/-! LAYER 1: rows that read or write the typed heap -/
set_option maxRecDepth 100000
theorem Cx.own {G : GG} {M : MD} {p : Program} {s : State} {m : MethodId} {args : Array Value} {meth : Method} {c : Code} (C : Cx G M p s m args meth c) : s.vm.findClass M.1.cls = some m.cls := C.2.2.2.2.2.1
theorem Cx.wd {G : GG} {M : MD} {p : Program} {s : State} {m : MethodId} {args : Array Value} {meth : Method} {c : Code} (C : Cx G M p s m args meth c) : ∀ w ∈ lw_all, w.before args s = true := C.2.2.2.2.2.2.1
theorem Cx.kk {G : GG} {M : MD} {p : Program} {s : State} {m : MethodId} {args : Array Value} {meth : Method} {c : Code} (C : Cx G M p s m args meth c) : KK G s := C.2.2.2.2.2.2.2.1
theorem Cx.va {G : GG} {M : MD} {p : Program} {s : State} {m : MethodId} {args : Array Value} {meth : Method} {c : Code} (C : Cx G M p s m args meth c) : va_K G.2.1 cl0 (tys0 G.2.2) s := C.kk.1
theorem Cx.nest {G : GG} {M : MD} {p : Program} {s : State} {m : MethodId} {args : Array Value} {meth : Method} {c : Code} (C : Cx G M p s m args meth c) {w : Cond} (hw : w ∈ lw_tbl) (hm : mv w = true) (ht : w.onTables = true) : w.before args s = true := va_Nw.use ht (C.kk.2.1 w hw hm)
/-- a cell of this kind lies at a -/
def IsK (G : GG) (h : AH) (a : Nat) (t : Nat × Nat) : Prop := G.1 ≤ a ∧ a < aN h ∧ aT h a = t
theorem Rep.one {G : GG} {h : AH} {H : Heap} {a : Nat} {t : Nat × Nat} (P : Rep G h H) (ha : IsK G h a t) : va_P G.2.1 cl0 [(a, cellOf G.2.2 h a)] H := by
  intro k q hk
  match k, hk with
  | 0, hk =>
    cases hk
    exact P.2.2 a ha.1 ha.2.1
  | k + 1, hk => simp at hk
theorem cell_obj {dA : Nat → ClassId} {h : AH} {a ci n : Nat} (ht : aT h a = (ci, n)) (hc : ci < 100) : cellOf dA h a = .inr (ci, (fl ci).map (aV h a)) := by
  simp [cellOf, ht, hc]
theorem cell_int {dA : Nat → ClassId} {h : AH} {a j n : Nat} (ht : aT h a = (100 + j, n)) (h1 : ¬ j = 1) (h5 : j < 5) : cellOf dA h a = .inl (dA j, n, .inl (aA h a)) := by
  have e1 : ¬ 100 + j < 100 := by omega
  have e2 : ¬ 100 + j = 101 := by omega
  have e3 : 100 + j < 105 := by omega
  simp [cellOf, ht, e1, e2, e3, h1]
theorem cell_long {dA : Nat → ClassId} {h : AH} {a n : Nat} (ht : aT h a = (101, n)) : cellOf dA h a = .inl (dA 1, n, .inr (.inl (aL h a))) := by
  simp [cellOf, ht]
theorem cell_ref {dA : Nat → ClassId} {h : AH} {a j n : Nat} (ht : aT h a = (100 + j, n)) (h5 : 5 ≤ j) : cellOf dA h a = .inl (dA j, n, .inr (.inr (.inr (.inr (aR h a))))) := by
  have e1 : ¬ 100 + j < 100 := by omega
  have e2 : ¬ 100 + j = 101 := by omega
  have e3 : ¬ 100 + j < 105 := by omega
  have e4 : ¬ j = 1 := by omega
  have e5 : ¬ j < 5 := by omega
  simp [cellOf, ht, e1, e2, e3, e4, e5]
theorem tys_at {dA : Nat → ClassId} {j : Nat} (hj : j < 11) : (tys0 dA)[j]? = some (dA j, kty j) := by
  simp [tys0, hj]
section RH
variable {G : GG} {M : MD} {d pc : Nat} {lv lv' : List (Nat × Value)} {st : List Value} {h : AH} {Q : Outcome → AH → Prop}
theorem R_getV {ix ci k a : Nat} {C : String} {T : u_T} {N : Nat} {ty : Nat → FieldType} {v : Value} (K : ClOK ci C T N ty) (hd : decode M.2.1 pc = .ok (.getfield ix, 3)) (hw : Cond.fieldLink M.1.cls ix (T k).1 (T k).2.1 (T k).2.2.1 ∈ lw_all) (hk : k < N) (hv : ((fl ci).map (aV h a))[k]? = some v) (hc : ci < 100) (ha : IsK G h a (ci, 0)) (kk : Run G M d (pc + 3) lv (v :: st) h Q) : Run G M d pc lv (.ref a :: st) h Q :=
  R_lift (fun C' _ _ P L kk => va_get (D := G.2.1) (cl := cl0) (ci := ci) (C := C) (T := T) (N := N) (tys := tys0 G.2.2) (ref := (T k).1) (ws := [(a, cellOf G.2.2 h a)]) (fs := (fl ci).map (aV h a)) C'.1 C'.2.1 C'.wd K.2.1 C'.own C'.va (P.one ha) 0 (by rw [cell_obj ha.2.2 hc]; rfl) K.1 k hk (C'.wd _ hw) (fun _ x => x) hv hd kk) kk
theorem R_getVN {ix ci k a : Nat} {C host : String} {T : u_T} {N : Nat} {ty : Nat → FieldType} {v : Value} (K : ClOK ci C T N ty) (hd : decode M.2.1 pc = .ok (.getfield ix, 3)) (hw : Cond.fieldLinkNest M.1.cls ix (T k).1 (T k).2.1 (T k).2.2.1 host ∈ lw_tbl) (hk : k < N) (hv : ((fl ci).map (aV h a))[k]? = some v) (hc : ci < 100) (ha : IsK G h a (ci, 0)) (kk : Run G M d (pc + 3) lv (v :: st) h Q) : Run G M d pc lv (.ref a :: st) h Q :=
  R_lift (fun C' _ _ P L kk => va_getN (D := G.2.1) (cl := cl0) (ci := ci) (C := C) (host := host) (T := T) (N := N) (tys := tys0 G.2.2) (ref := (T k).1) (ws := [(a, cellOf G.2.2 h a)]) (fs := (fl ci).map (aV h a)) C'.1 C'.2.1 C'.wd K.2.1 C'.own C'.va (P.one ha) 0 (by rw [cell_obj ha.2.2 hc]; rfl) K.1 k hk (C'.nest hw rfl rfl) (fun _ x => x) hv hd kk) kk
theorem fv_I {ci k f a : Nat} (hf : (fl ci)[k]? = some (f, true)) : ((fl ci).map (aV h a))[k]? = some (.int (aI h f a)) := by simp [hf, aV]
theorem fv_P {ci k f a : Nat} (hf : (fl ci)[k]? = some (f, false)) : ((fl ci).map (aV h a))[k]? = some (va_rf (aP h f a)) := by simp [hf, aV]
theorem R_getI {ix ci k f a : Nat} {C : String} {T : u_T} {N : Nat} {ty : Nat → FieldType} (K : ClOK ci C T N ty) (hd : decode M.2.1 pc = .ok (.getfield ix, 3)) (hw : Cond.fieldLink M.1.cls ix (T k).1 (T k).2.1 (T k).2.2.1 ∈ lw_all) (hk : k < N) (hf : (fl ci)[k]? = some (f, true)) (hc : ci < 100) (ha : IsK G h a (ci, 0)) (kk : Run G M d (pc + 3) lv (.int (aI h f a) :: st) h Q) : Run G M d pc lv (.ref a :: st) h Q := R_getV K hd hw hk (fv_I hf) hc ha kk
theorem R_getP {ix ci k f a : Nat} {C : String} {T : u_T} {N : Nat} {ty : Nat → FieldType} (K : ClOK ci C T N ty) (hd : decode M.2.1 pc = .ok (.getfield ix, 3)) (hw : Cond.fieldLink M.1.cls ix (T k).1 (T k).2.1 (T k).2.2.1 ∈ lw_all) (hk : k < N) (hf : (fl ci)[k]? = some (f, false)) (hc : ci < 100) (ha : IsK G h a (ci, 0)) (kk : Run G M d (pc + 3) lv (va_rf (aP h f a) :: st) h Q) : Run G M d pc lv (.ref a :: st) h Q := R_getV K hd hw hk (fv_P hf) hc ha kk
theorem R_getIN {ix ci k f a : Nat} {C host : String} {T : u_T} {N : Nat} {ty : Nat → FieldType} (K : ClOK ci C T N ty) (hd : decode M.2.1 pc = .ok (.getfield ix, 3)) (hw : Cond.fieldLinkNest M.1.cls ix (T k).1 (T k).2.1 (T k).2.2.1 host ∈ lw_tbl) (hk : k < N) (hf : (fl ci)[k]? = some (f, true)) (hc : ci < 100) (ha : IsK G h a (ci, 0)) (kk : Run G M d (pc + 3) lv (.int (aI h f a) :: st) h Q) : Run G M d pc lv (.ref a :: st) h Q := R_getVN K hd hw hk (fv_I hf) hc ha kk
theorem R_getPN {ix ci k f a : Nat} {C host : String} {T : u_T} {N : Nat} {ty : Nat → FieldType} (K : ClOK ci C T N ty) (hd : decode M.2.1 pc = .ok (.getfield ix, 3)) (hw : Cond.fieldLinkNest M.1.cls ix (T k).1 (T k).2.1 (T k).2.2.1 host ∈ lw_tbl) (hk : k < N) (hf : (fl ci)[k]? = some (f, false)) (hc : ci < 100) (ha : IsK G h a (ci, 0)) (kk : Run G M d (pc + 3) lv (va_rf (aP h f a) :: st) h Q) : Run G M d pc lv (.ref a :: st) h Q := R_getVN K hd hw hk (fv_P hf) hc ha kk
-- arrays: reading
theorem R_alen {a j n : Nat} (hd : decode M.2.1 pc = .ok (.arraylength, 1)) (hj : j < 11) (ha : IsK G h a (100 + j, n)) (kk : Run G M d (pc + 1) lv (.int (nI n) :: st) h Q) : Run G M d pc lv (.ref a :: st) h Q := by
  refine R_lift (fun C' _ _ P L kk => ?_) kk
  by_cases h1 : j = 1
  · subst h1
    exact va_alen (v := nI n) (ws := [(a, cellOf G.2.2 h a)]) C'.1 C'.2.1 C'.va (P.one ha) 0 1 (by rw [cell_long ha.2.2]; rfl) (tys_at (by omega)) rfl hd kk
  · by_cases h5 : j < 5
    · exact va_alen (v := nI n) (ws := [(a, cellOf G.2.2 h a)]) C'.1 C'.2.1 C'.va (P.one ha) 0 j (by rw [cell_int ha.2.2 h1 h5]; rfl) (tys_at hj) rfl hd kk
    · exact va_alen (v := nI n) (ws := [(a, cellOf G.2.2 h a)]) C'.1 C'.2.1 C'.va (P.one ha) 0 j (by rw [cell_ref ha.2.2 (by omega)]; rfl) (tys_at hj) rfl hd kk
theorem R_iald {a n : Nat} {i : Int32} (hd : decode M.2.1 pc = .ok (.iaload, 1)) (ha : IsK G h a (100, n)) (hi : vp_in i n) (kk : Run G M d (pc + 1) lv (.int (aA h a i.toNatClampNeg) :: st) h Q) : Run G M d pc lv (.int i :: .ref a :: st) h Q :=
  R_lift (fun C' _ _ P L kk => va_iald (ws := [(a, cellOf G.2.2 h a)]) C'.1 C'.2.1 C'.va (P.one ha) 0 0 (by rw [cell_int (j := 0) ha.2.2 (by decide) (by decide)]; rfl) (tys_at (by decide)) hi hd kk) kk
theorem R_bald {a n : Nat} {i : Int32} (hd : decode M.2.1 pc = .ok (.baload, 1)) (ha : IsK G h a (102, n)) (hi : vp_in i n) (kk : Run G M d (pc + 1) lv (.int (aA h a i.toNatClampNeg) :: st) h Q) : Run G M d pc lv (.int i :: .ref a :: st) h Q :=
  R_lift (fun C' _ _ P L kk => va_bald (ws := [(a, cellOf G.2.2 h a)]) C'.1 C'.2.1 C'.va (P.one ha) 0 2 (by rw [cell_int (j := 2) ha.2.2 (by decide) (by decide)]; rfl) (tys_at (by decide)) hi hd kk) kk
theorem R_zald {a n : Nat} {i : Int32} (hd : decode M.2.1 pc = .ok (.baload, 1)) (ha : IsK G h a (104, n)) (hi : vp_in i n) (kk : Run G M d (pc + 1) lv (.int (aA h a i.toNatClampNeg) :: st) h Q) : Run G M d pc lv (.int i :: .ref a :: st) h Q :=
  R_lift (fun C' _ _ P L kk => va_zald (ws := [(a, cellOf G.2.2 h a)]) C'.1 C'.2.1 C'.va (P.one ha) 0 4 (by rw [cell_int (j := 4) ha.2.2 (by decide) (by decide)]; rfl) (tys_at (by decide)) hi hd kk) kk
theorem R_sald {a n : Nat} {i : Int32} (hd : decode M.2.1 pc = .ok (.saload, 1)) (ha : IsK G h a (103, n)) (hi : vp_in i n) (kk : Run G M d (pc + 1) lv (.int (aA h a i.toNatClampNeg) :: st) h Q) : Run G M d pc lv (.int i :: .ref a :: st) h Q :=
  R_lift (fun C' _ _ P L kk => va_sald (ws := [(a, cellOf G.2.2 h a)]) C'.1 C'.2.1 C'.va (P.one ha) 0 3 (by rw [cell_int (j := 3) ha.2.2 (by decide) (by decide)]; rfl) (tys_at (by decide)) hi hd kk) kk
theorem R_lald {a n : Nat} {i : Int32} (hd : decode M.2.1 pc = .ok (.laload, 1)) (ha : IsK G h a (101, n)) (hi : vp_in i n) (kk : Run G M d (pc + 1) lv (.long (aL h a i.toNatClampNeg) :: st) h Q) : Run G M d pc lv (.int i :: .ref a :: st) h Q :=
  R_lift (fun C' _ _ P L kk => va_lald (ws := [(a, cellOf G.2.2 h a)]) C'.1 C'.2.1 C'.va (P.one ha) 0 1 (by rw [cell_long ha.2.2]; rfl) (tys_at (by decide)) hi hd kk) kk
theorem R_aald {a n j : Nat} {i : Int32} {E : String} (hd : decode M.2.1 pc = .ok (.aaload, 1)) (h5 : 5 ≤ j) (hj : j < 11) (hE : kty j = .object E) (ha : IsK G h a (100 + j, n)) (hi : vp_in i n) (kk : Run G M d (pc + 1) lv (va_rf (aR h a i.toNatClampNeg) :: st) h Q) : Run G M d pc lv (.int i :: .ref a :: st) h Q :=
  R_lift (fun C' _ _ P L kk => va_aldq (C := E) (ws := [(a, cellOf G.2.2 h a)]) C'.1 C'.2.1 C'.va (P.one ha) 0 j (by rw [cell_ref ha.2.2 h5]; rfl) (by rw [← hE]; exact tys_at hj) hi hd kk) kk
-- writing
theorem Rep.set {h' : AH} {H H1 : Heap} {a : Nat} (P : Rep G h H) (hn : aN h' = aN h) (ho : ∀ b, b ≠ a → cellOf G.2.2 h' b = cellOf G.2.2 h b) (hc : va_at G.2.1 cl0 (a, cellOf G.2.2 h' a) H1) (hz : H1.size = H.size) (hq : ∀ q : Nat, q ≠ a → H1[q]? = H[q]?) : Rep G h' H1 := by
  refine ⟨by rw [hz, hn]; exact P.1, by rw [hn]; exact P.2.1, fun b h1 h2 => ?_⟩
  by_cases hb : b = a
  · subst hb; exact hc
  · rw [ho b hb]
    exact (P.2.2 b h1 (by rw [← hn]; exact h2)).kept (hq b hb)
/-- a row that changes the heap: nothing is made -/
theorem R_liftW {pc' : Nat} {st st' : List Value} {h h' : AH} (hn : aN h' = aN h) (hu : aU h' = aU h)
    (f : ∀ {p : Program} {l : Launch} {e : Env} {R : Room} {s : State} {m : MethodId} {args : Array Value} {below : List Frame} {meth : Method} {c : Code} {H : Heap} {locs : List Loc} {cells slots : Nat} {ls : Array Slot} {Q' : State → Prop},
      Cx G M p s m args meth c → d ≤ R.frames → 64 * d ≤ R.locals → Rep G h H → va_S (AG G) s.heap H locs → lv_has ls M.2.2.1 lv → (∀ (H1 : Heap) (locs1 : List Loc), Rep G h' H1 → va_S (AG G) s.heap H1 locs1 → W p l e R s m args below meth c H1 locs1 cells slots Q' (F0 m pc' ls st')) → W p l e R s m args below meth c H locs cells slots Q' (F0 m pc ls st))
    (k : Run G M d pc' lv st' h' Q) : Run G M d pc lv st h Q := by
  obtain ⟨o, h2, q, h3, h4, r⟩ := k
  rw [hn] at h3 r; rw [hu] at h4 r
  exact ⟨o, h2, q, h3, h4, fun p l e R s m args below meth c H locs cells slots ls C a1 a2 a3 a4 P S L => f C a1 a2 P S L (fun H1 locs1 P1 S1 => r p l e R s m args below meth c H1 locs1 cells slots ls C a1 a2 a3 a4 P1 S1 L)⟩
theorem fl_lt : ∀ ci, ci < 22 → ∀ j, j < (fl ci).length → ((fl ci)[j]?.map (·.1)) = some (64 * (if 14 ≤ ci then 14 else ci) + j) := by decide +kernel
theorem fl_ap {ci j k : Nat} {q r : Nat × Bool} (hj : (fl ci)[j]? = some q) (hk : (fl ci)[k]? = some r) (e : q.1 = r.1) : j = k := by
  by_cases hc : ci < 22
  · have h1 := fl_lt ci hc j (List.getElem?_eq_some_iff.mp hj).1
    have h2 := fl_lt ci hc k (List.getElem?_eq_some_iff.mp hk).1
    rw [hj] at h1; rw [hk] at h2
    simp at h1 h2
    omega
  · have : fl ci = [] := by
      unfold fl
      split <;> first | rfl | omega
    rw [this] at hj
    simp at hj
/-- slots of fields are apart -/
theorem ap_slots {ci : Nat} {C : String} {T : u_T} {N : Nat} {ty : Nat → FieldType} {s : State} {args : Array Value} {D : va_G} {tys : List (ClassId × FieldType)} (K : ClOK ci C T N ty) (hts : ∀ w ∈ lw_all, w.before args s = true) (hK : va_K D cl0 tys s) : ∀ x y, x < N → y < N → x ≠ y → (D.2 ci) x ≠ (D.2 ci) y := by
  intro x y hx hy hne
  obtain ⟨hS, -⟩ := hK.1 ci _ K.1
  obtain ⟨_, _, _, fa, hia, ea⟩ := hS x hx
  obtain ⟨_, _, _, fb, hib, eb⟩ := hS y hy
  rw [← ea, ← eb]
  rcases K.2.2.2 x hx y hy hne with hnm | ⟨how, hf1, hf2⟩
  · refine u_apart (u_lays hts K.2.1 hx) (u_lays hts K.2.1 hy) hia hib ?_
    rw [(State.fieldFound?_type hia (K.2.2.1 x hx)).1, (State.fieldFound?_type hib (K.2.2.1 y hy)).1]
    exact hnm
  · have l1 := hts _ (K.2.1 _ (u_in_lay hx))
    have l2 := hts _ (K.2.1 _ (u_in_lay hy))
    unfold u_lay at l1 l2
    rw [if_pos hf1] at l1
    rw [if_pos hf2] at l2
    obtain ⟨c1, k1, o1, ko1, i1, f1, a1, a2, a3, -, -, -, a4, -, d1, a5, a6, -⟩ := Cond.laysFinal_spec l1
    obtain ⟨c2, k2, o2, ko2, i2, f2, b1, b2, b3, -, -, -, b4, -, d2, b5, b6, -⟩ := Cond.laysFinal_spec l2
    cases hia.symm.trans a3
    cases hib.symm.trans b3
    cases a1.symm.trans b1
    intro e
    rw [e] at a5
    cases a5.symm.trans b5
    obtain ⟨k1', x1, x2⟩ := Vm.findClass_spec a4
    obtain ⟨k2', y1, y2⟩ := Vm.findClass_spec b4
    cases (State.fieldFound?_class hia).symm.trans x1
    cases (State.fieldFound?_class hib).symm.trans y1
    exact how (by rw [← x2, ← y2, ← a6, ← b6])
theorem put_at {D : va_G} {ci k a : Nat} {C : String} {T : u_T} {N : Nat} {ty : Nat → FieldType} {fs fs' : List Value} {V : Value} {cell : Cell} {H1 : Heap} (K : ClOK ci C T N ty) (hap : ∀ x y, x < N → y < N → x ≠ y → (D.2 ci) x ≠ (D.2 ci) y) (q2 : cell.cls = D.1 ci) (q3 : cell.vm = .none) (q4 : ∀ j, j < N → cell.slots[D.2 ci j]? = some (vp_V fs j)) (hk : k < N) (e1 : H1[a]? = some (cell.setSlot (D.2 ci k) V)) (hfs : ∀ j, j < N → updV (vp_V fs) k V j = vp_V fs' j) : va_at D cl0 (a, .inr (ci, fs')) H1 :=
  ⟨_, K.1, t_OB.to (V := updV (vp_V fs) k V) ⟨_, e1, q2, q3, t_set q4 hap hk V⟩ hfs⟩
theorem R_putV {ix ci k a : Nat} {C : String} {T : u_T} {N : Nat} {ty : Nat → FieldType} {V : Value} {h' : AH} (K : ClOK ci C T N ty) (hd : decode M.2.1 pc = .ok (.putfield ix, 3)) (hw : Cond.fieldLink M.1.cls ix (T k).1 (T k).2.1 (T k).2.2.1 ∈ lw_all) (hk : k < N) (hfin : (T k).2.2.2 = false ∨ ((T k).2.2.2 = true ∧ M.1.name = "<init>" ∧ (T k).1 = M.1.cls)) (hN : narrow (ty k) V = V) (hF : fits (ty k) V = true) (hc : ci < 100) (ha : IsK G h a (ci, 0))
    (hn : aN h' = aN h) (hu : aU h' = aU h) (ht : aT h' = aT h) (ho : ∀ b, b ≠ a → cellOf G.2.2 h' b = cellOf G.2.2 h b) (hfs : ∀ j, j < N → updV (vp_V ((fl ci).map (aV h a))) k V j = vp_V ((fl ci).map (aV h' a)) j)
    (kk : Run G M d (pc + 3) lv st h' Q) : Run G M d pc lv (V :: .ref a :: st) h Q := by
  refine R_liftW hn hu (fun {p l e R s m args below meth c H locs cells slots ls Q'} C' _ _ P S L kk => ?_) kk
  have hap := ap_slots K C'.wd C'.va
  have h0 := P.2.2 a ha.1 ha.2.1
  rw [cell_obj ha.2.2 hc] at h0
  obtain ⟨r, h1, cell, q1, q2, q3, q4⟩ := h0
  have hr : r = (C, T, N) := Option.some.inj (h1.symm.trans K.1)
  subst hr
  obtain ⟨hS, hfc, kC, hkC, hkind⟩ := C'.va.1 ci _ K.1
  obtain ⟨cf, kf, fi, f, hi, hsl⟩ := hS k hk
  have hst := (u_facts hfc hkC (u_lays C'.wd K.2.1 hk) hi).1
  have fin : ∀ H1 : Heap, H1[a]? = some (cell.setSlot f.slot V) → H1.size = H.size → (∀ q, q ≠ a → H1[q]? = H[q]?) → W p l e R s m args below meth c H1 (locs ++ [⟨a, f.slot⟩]) cells slots Q' (F0 m (pc + 3) ls st) := by
    intro H1 e1 e2 e3
    rw [hsl] at e1
    refine kk H1 _ (P.set hn ho ?_ e2 e3) (S.put e2 e3 ha.1)
    rw [cell_obj (by rw [ht]; exact ha.2.2) hc]
    exact put_at K hap q2 q3 q4 hk e1 hfs
  have hlay := C'.wd _ (K.2.1 _ (u_in_lay hk))
  unfold u_lay at hlay
  rcases hfin with hf | ⟨hf, hin, hdecl⟩
  · rw [if_neg (by rw [hf]; decide)] at hlay
    have h6 := u_store hfc hkC hkind hlay hi (K.2.2.1 k hk) hN hF
    exact W.putK C'.1 C'.2.1 (f := f) ⟨C'.own, C'.wd _ hw, ⟨_, _, _, hi⟩, hst⟩ (by rw [q2]; exact h6) q1 q3 (by rw [hsl]; exact k2_hasslot (q4 k hk)) rfl rfl hd fin
  · rw [if_pos hf] at hlay
    have hcf : m.cls = cf := by
      obtain ⟨_, _, c', _, _, _, -, -, hf', -, -, -, hown2, -⟩ := Cond.laysFinal_spec hlay
      have e1 : c' = cf := by have := hi.symm.trans hf'; simp at this; exact this.1.symm
      rw [hdecl] at hown2
      rw [← e1]; exact Option.some.inj (C'.own.symm.trans hown2)
    have h6 := u_fits hfc hkC hkind (Or.inr hlay) hi (K.2.2.1 k hk) hN hF
    exact W.putFinK C'.1 C'.2.1 C'.own (C'.wd _ hw) hi hst hcf (C'.2.2.2.2.2.2.2.2.1.trans hin) (by rw [q2]; exact h6) q1 q3 (by rw [hsl]; exact k2_hasslot (q4 k hk)) rfl rfl hd fin
theorem R_putVN {ix ci k a : Nat} {C host : String} {T : u_T} {N : Nat} {ty : Nat → FieldType} {V : Value} {h' : AH} (K : ClOK ci C T N ty) (hd : decode M.2.1 pc = .ok (.putfield ix, 3)) (hw : Cond.fieldLinkNest M.1.cls ix (T k).1 (T k).2.1 (T k).2.2.1 host ∈ lw_tbl) (hk : k < N) (hfin : (T k).2.2.2 = false) (hN : narrow (ty k) V = V) (hF : fits (ty k) V = true) (hc : ci < 100) (ha : IsK G h a (ci, 0))
    (hn : aN h' = aN h) (hu : aU h' = aU h) (ht : aT h' = aT h) (ho : ∀ b, b ≠ a → cellOf G.2.2 h' b = cellOf G.2.2 h b) (hfs : ∀ j, j < N → updV (vp_V ((fl ci).map (aV h a))) k V j = vp_V ((fl ci).map (aV h' a)) j)
    (kk : Run G M d (pc + 3) lv st h' Q) : Run G M d pc lv (V :: .ref a :: st) h Q := by
  refine R_liftW hn hu (fun {p l e R s m args below meth c H locs cells slots ls Q'} C' _ _ P S L kk => ?_) kk
  have hap := ap_slots K C'.wd C'.va
  have h0 := P.2.2 a ha.1 ha.2.1
  rw [cell_obj ha.2.2 hc] at h0
  obtain ⟨r, h1, cell, q1, q2, q3, q4⟩ := h0
  have hr : r = (C, T, N) := Option.some.inj (h1.symm.trans K.1)
  subst hr
  obtain ⟨hS, hfc, kC, hkC, hkind⟩ := C'.va.1 ci _ K.1
  obtain ⟨cf, kf, fi, f, hi, hsl⟩ := hS k hk
  have hst := (u_facts hfc hkC (u_lays C'.wd K.2.1 hk) hi).1
  have hlay := C'.wd _ (K.2.1 _ (u_in_lay hk))
  unfold u_lay at hlay
  rw [if_neg (by rw [hfin]; decide)] at hlay
  have h6 := u_store hfc hkC hkind hlay hi (K.2.2.1 k hk) hN hF
  refine va_WputK C'.1 C'.2.1 (f := f) C'.own (C'.nest hw rfl rfl) hi hst (by rw [q2]; exact h6) q1 q3 (by rw [hsl]; exact k2_hasslot (q4 k hk)) rfl rfl hd fun H1 e1 e2 e3 => ?_
  rw [hsl] at e1
  refine kk H1 _ (P.set hn ho ?_ e2 e3) (S.put e2 e3 ha.1)
  rw [cell_obj (by rw [ht]; exact ha.2.2) hc]
  exact put_at K hap q2 q3 q4 hk e1 hfs
theorem fs_I {ci k f a N : Nat} {v : Int32} (hN : (fl ci).length = N) (hf : (fl ci)[k]? = some (f, true)) : ∀ j, j < N → updV (vp_V ((fl ci).map (aV h a))) k (.int v) j = vp_V ((fl ci).map (aV (sI h f a v) a)) j := by
  intro j hj
  have hj2 : (fl ci)[j]? = some ((fl ci)[j]'(by omega)) := List.getElem?_eq_getElem (by omega)
  by_cases e : j = k
  · subst e
    simp [updV, vp_V, hf, aV, sI, aI, up2]
  · have hne : ((fl ci)[j]'(by omega)).1 ≠ f := fun e2 => e (fl_ap hj2 hf e2)
    simp [updV, vp_V, e, aV, sI, aI, aP, up2, hne, hj2]
theorem fs_P {ci k f a N : Nat} {v : Option Nat} (hN : (fl ci).length = N) (hf : (fl ci)[k]? = some (f, false)) : ∀ j, j < N → updV (vp_V ((fl ci).map (aV h a))) k (va_rf v) j = vp_V ((fl ci).map (aV (sP h f a v) a)) j := by
  intro j hj
  have hj2 : (fl ci)[j]? = some ((fl ci)[j]'(by omega)) := List.getElem?_eq_getElem (by omega)
  by_cases e : j = k
  · subst e
    simp [updV, vp_V, hf, aV, sP, aP, up2]
  · have hne : ((fl ci)[j]'(by omega)).1 ≠ f := fun e2 => e (fl_ap hj2 hf e2)
    simp [updV, vp_V, e, aV, sP, aI, aP, up2, hne, hj2]
theorem co_I {dA : Nat → ClassId} {f a : Nat} {v : Int32} : ∀ b, b ≠ a → cellOf dA (sI h f a v) b = cellOf dA h b := by
  intro b hb
  have e : aV (sI h f a v) b = aV h b := by
    funext q
    simp [aV, sI, aI, aP, up2, hb]
  show cellOf dA (sI h f a v) b = cellOf dA h b
  simp only [cellOf, e]
  rfl
theorem co_P {dA : Nat → ClassId} {f a : Nat} {v : Option Nat} : ∀ b, b ≠ a → cellOf dA (sP h f a v) b = cellOf dA h b := by
  intro b hb
  have e : aV (sP h f a v) b = aV h b := by
    funext q
    simp [aV, sP, aI, aP, up2, hb]
  show cellOf dA (sP h f a v) b = cellOf dA h b
  simp only [cellOf, e]
  rfl
theorem R_putI {ix ci k f a : Nat} {C : String} {T : u_T} {N : Nat} {ty : Nat → FieldType} {v : Int32} (K : ClOK ci C T N ty) (hd : decode M.2.1 pc = .ok (.putfield ix, 3)) (hw : Cond.fieldLink M.1.cls ix (T k).1 (T k).2.1 (T k).2.2.1 ∈ lw_all) (hk : k < N) (hf : (fl ci)[k]? = some (f, true)) (hlen : (fl ci).length = N) (hfin : (T k).2.2.2 = false ∨ ((T k).2.2.2 = true ∧ M.1.name = "<init>" ∧ (T k).1 = M.1.cls)) (hN : narrow (ty k) (.int v) = .int v) (hF : fits (ty k) (.int v) = true) (hc : ci < 100) (ha : IsK G h a (ci, 0))
    (kk : Run G M d (pc + 3) lv st (sI h f a v) Q) : Run G M d pc lv (.int v :: .ref a :: st) h Q :=
  R_putV (h' := sI h f a v) K hd hw hk hfin hN hF hc ha rfl rfl rfl co_I (fs_I hlen hf) kk
theorem R_putP {ix ci k f a : Nat} {C : String} {T : u_T} {N : Nat} {ty : Nat → FieldType} {v : Option Nat} (K : ClOK ci C T N ty) (hd : decode M.2.1 pc = .ok (.putfield ix, 3)) (hw : Cond.fieldLink M.1.cls ix (T k).1 (T k).2.1 (T k).2.2.1 ∈ lw_all) (hk : k < N) (hf : (fl ci)[k]? = some (f, false)) (hlen : (fl ci).length = N) (hfin : (T k).2.2.2 = false ∨ ((T k).2.2.2 = true ∧ M.1.name = "<init>" ∧ (T k).1 = M.1.cls)) (hN : narrow (ty k) (va_rf v) = va_rf v) (hF : fits (ty k) (va_rf v) = true) (hc : ci < 100) (ha : IsK G h a (ci, 0))
    (kk : Run G M d (pc + 3) lv st (sP h f a v) Q) : Run G M d pc lv (va_rf v :: .ref a :: st) h Q :=
  R_putV (h' := sP h f a v) K hd hw hk hfin hN hF hc ha rfl rfl rfl co_P (fs_P hlen hf) kk
theorem R_putIN {ix ci k f a : Nat} {C host : String} {T : u_T} {N : Nat} {ty : Nat → FieldType} {v : Int32} (K : ClOK ci C T N ty) (hd : decode M.2.1 pc = .ok (.putfield ix, 3)) (hw : Cond.fieldLinkNest M.1.cls ix (T k).1 (T k).2.1 (T k).2.2.1 host ∈ lw_tbl) (hk : k < N) (hf : (fl ci)[k]? = some (f, true)) (hlen : (fl ci).length = N) (hfin : (T k).2.2.2 = false) (hN : narrow (ty k) (.int v) = .int v) (hF : fits (ty k) (.int v) = true) (hc : ci < 100) (ha : IsK G h a (ci, 0))
    (kk : Run G M d (pc + 3) lv st (sI h f a v) Q) : Run G M d pc lv (.int v :: .ref a :: st) h Q :=
  R_putVN (h' := sI h f a v) K hd hw hk hfin hN hF hc ha rfl rfl rfl co_I (fs_I hlen hf) kk
theorem R_putPN {ix ci k f a : Nat} {C host : String} {T : u_T} {N : Nat} {ty : Nat → FieldType} {v : Option Nat} (K : ClOK ci C T N ty) (hd : decode M.2.1 pc = .ok (.putfield ix, 3)) (hw : Cond.fieldLinkNest M.1.cls ix (T k).1 (T k).2.1 (T k).2.2.1 host ∈ lw_tbl) (hk : k < N) (hf : (fl ci)[k]? = some (f, false)) (hlen : (fl ci).length = N) (hfin : (T k).2.2.2 = false) (hN : narrow (ty k) (va_rf v) = va_rf v) (hF : fits (ty k) (va_rf v) = true) (hc : ci < 100) (ha : IsK G h a (ci, 0))
    (kk : Run G M d (pc + 3) lv st (sP h f a v) Q) : Run G M d pc lv (va_rf v :: .ref a :: st) h Q :=
  R_putVN (h' := sP h f a v) K hd hw hk hfin hN hF hc ha rfl rfl rfl co_P (fs_P hlen hf) kk
end RH

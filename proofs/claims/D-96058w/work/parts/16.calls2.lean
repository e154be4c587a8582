/-! LAYER 1: more calls: nest mates, inherited, super, interface; Math; casts -/
set_option maxRecDepth 100000
section RC2
variable {G : GG} {M : MD} {d pc : Nat} {lv : List (Nat × Value)} {st : List Value} {h : AH} {Q : Outcome → AH → Prop}
theorem R_invSN {Mc : MD} {d' ix n : Nat} {As : List Value} {host : String} (hd : decode M.2.1 pc = .ok (.invokestatic ix, 3)) (hl : Cond.methodLinkNest M.1.cls ix Mc.1 host ∈ lw_tbl) (hs : Cond.static Mc.1 ∈ lw_all) (hini : Cond.initialized Mc.1.cls ∈ lw_all) (hcw : mword Mc ∈ lw_all)
    (hq : plainName Mc.1.cls = true ∧ (Mc.1.cls ≠ "java/lang/invoke/MethodHandle" ∧ Mc.1.cls ≠ "java/lang/invoke/VarHandle") ∧ (parseMethodDescriptor Mc.1.desc).map (fun d => d.parameters.length) = some n) (hn : As.length = n) (hlen : (lg_sl As).length ≤ Mc.2.2.1) (hL45 : Mc.2.2.1 ≤ 45) (hdd : d' + 1 ≤ d) (hst : (st.map fun v => v.category).sum ≤ 8)
    (hc : Run G Mc d' 0 (lv_args 0 As) [] h (Aft G M d pc 3 lv st Q)) : Run G M d pc lv (As.reverse ++ st) h Q := by
  refine R_inv hc hq.1 hlen hL45 hdd hst hd hcw hini (fun {p l e R s m args below meth c T locs cells slots ls} C P hls X => ?_)
  have hcm := C.wd _ hcw
  have hinit := C.wd _ hini
  obtain ⟨mk, methM, hnamed, hmethM, hsigM⟩ : ∃ mk methM, s.methodNamed? Mc.1 = some mk ∧ s.vm.method? mk = some methM ∧ parseMethodDescriptor Mc.1.desc = some methM.sig := by
    unfold mword at hcm
    split at hcm
    · obtain ⟨mk, hnamed⟩ := Cond.code_named hcm
      obtain ⟨methM, cM, hmethM, -, -, -, -, -, -, hsigM⟩ := Cond.code_spec hnamed hcm
      exact ⟨mk, methM, hnamed, hmethM, hsigM⟩
    · obtain ⟨m9, meth9, c9, hn9, g1, -, -, -, -, -, -, g8⟩ := Cond.codeWith_spec hcm
      exact ⟨m9, meth9, hn9, g1, g8⟩
  have hstatic : methM.isStatic = true := Cond.static_spec hnamed hmethM (C.wd _ hs)
  obtain ⟨kP, hkP, -⟩ := className_of_methodNamed hnamed
  have hinitP : kP.init = .initialized := Cond.initialized_spec (findClass_of_methodNamed hnamed) hkP hinit
  have hlenA : As.length = methM.sig.parameters.length := by
    have h2 := hq.2.2
    rw [hsigM] at h2
    rw [hn]
    exact (Option.some.inj h2).symm
  obtain ⟨vm₁, X₁, hstep₁⟩ := X.invokestaticNest C.1 C.own (C.nest hl rfl rfl) hnamed hmethM hstatic hkP hinitP hq.2.1 (g := F0 m pc ls (As.reverse ++ st)) rfl (argsL := As) (rest := st) hlenA rfl (by rw [C.2.1]; exact hd)
  exact ⟨vm₁, mk, hnamed, X₁, fun target ht => hstep₁ _ ht⟩
theorem R_invIN {Mc : MD} {d' ix n b : Nat} {As : List Value} {host : String} (hd : decode M.2.1 pc = .ok (.invokespecial ix, 3)) (hl : Cond.methodLinkNest M.1.cls ix Mc.1 host ∈ lw_tbl) (hin : Cond.instanceMethod Mc.1 ∈ lw_all) (hini : Cond.initialized Mc.1.cls ∈ lw_all) (hy1 : Mc.1.name = "<init>") (hcw : Cond.code Mc.1 Mc.2.1 Mc.2.2.1 none ∈ lw_all) (hm : mword Mc = Cond.code Mc.1 Mc.2.1 Mc.2.2.1 none)
    (hq : plainName Mc.1.cls = true ∧ (Mc.1.cls ≠ "java/lang/invoke/MethodHandle" ∧ Mc.1.cls ≠ "java/lang/invoke/VarHandle") ∧ (parseMethodDescriptor Mc.1.desc).map (fun d => d.parameters.length) = some n) (hn : As.length = n) (hlen : (lg_sl (.ref b :: As)).length ≤ Mc.2.2.1) (hL45 : Mc.2.2.1 ≤ 45) (hdd : d' + 1 ≤ d) (hst : (st.map fun v => v.category).sum ≤ 8)
    (hc : Run G Mc d' 0 (lv_args 0 (.ref b :: As)) [] h (Aft G M d pc 3 lv st Q)) : Run G M d pc lv (As.reverse ++ .ref b :: st) h Q := by
  refine R_inv hc hq.1 hlen hL45 hdd hst hd (by rw [hm]; exact hcw) hini (fun {p l e R s m args below meth c T locs cells slots ls} C P hls X => ?_)
  have hpl : e.platform.magicAccessors = ({} : Platform).magicAccessors := by rw [X.admits.platform]
  have hlenA : ∀ sig, parseMethodDescriptor Mc.1.desc = some sig → As.length = sig.parameters.length := by
    intro sig h
    have h2 := hq.2.2
    rw [h] at h2
    rw [hn]
    exact (Option.some.inj h2).symm
  obtain ⟨mk, methM, cM, kP, vm₁, hnamed, hmethM, hcodeM, -, hlocalsM, -, hkP, -, hW₁, hstep₁⟩ := Steps.initColdArgsNest (e := e) X.here C.1 X.warmed hpl C.own hy1 hq.2.1 (C.nest hl rfl rfl) (C.wd _ hin) (C.wd _ hcw) (f := F0 m pc ls (As.reverse ++ .ref b :: st)) rfl hlenA rfl (by rw [C.2.1]; exact hd)
  exact ⟨vm₁, mk, hnamed, X.noted hW₁, fun target ht => hstep₁ _ ht⟩
/-- a virtual call by a name x that another class may declare: the object's class selects y -/
theorem R_invVU {Mc : MD} {d' ix n ci b : Nat} {As : List Value} {x : MethodName} {owner : String} {C0 : String} {T0 : u_T} {N : Nat} {ty : Nat → FieldType} (K : ClOK ci C0 T0 N ty) (hci : ci < 100) (hb : IsK G h b (ci, 0)) (hd : decode M.2.1 pc = .ok (.invokevirtual ix, 3)) (hl : Cond.methodLink M.1.cls ix x ∈ lw_all) (hsm : Cond.sameMethod x.cls owner x.name x.desc ∈ lw_all) (hde : Cond.instanceMethod ⟨owner, x.name, x.desc⟩ ∈ lw_all ∨ Cond.declares ⟨owner, x.name, x.desc⟩ ∈ lw_tbl) (how : owner ≠ "java/lang/invoke/MethodHandle" ∧ owner ≠ "java/lang/invoke/VarHandle")
    (hse : Cond.selects C0 x Mc.1 ∈ lw_all) (hin : Cond.instanceMethod Mc.1 ∈ lw_all) (hini : Cond.initialized Mc.1.cls ∈ lw_all) (hcw : mword Mc ∈ lw_all) (hpd : (parseMethodDescriptor x.desc).map (fun d => d.parameters.length) = some n)
    (hq : plainName Mc.1.cls = true ∧ (Mc.1.cls ≠ "java/lang/invoke/MethodHandle" ∧ Mc.1.cls ≠ "java/lang/invoke/VarHandle") ∧ (parseMethodDescriptor Mc.1.desc).map (fun d => d.parameters.length) = some n) (hn : As.length = n) (hlen : (lg_sl (.ref b :: As)).length ≤ Mc.2.2.1) (hL45 : Mc.2.2.1 ≤ 45) (hdd : d' + 1 ≤ d) (hst : (st.map fun v => v.category).sum ≤ 8)
    (hco : ∀ w, Cond.instanceMethod ⟨owner, x.name, x.desc⟩ ∈ lw_all → w = ⟨owner, x.name, x.desc⟩ → ∃ Mo : MD, Mo.1 = w ∧ mword Mo ∈ lw_all)
    (hc : Run G Mc d' 0 (lv_args 0 (.ref b :: As)) [] h (Aft G M d pc 3 lv st Q)) : Run G M d pc lv (As.reverse ++ .ref b :: st) h Q := by
  refine R_inv hc hq.1 hlen hL45 hdd hst hd hcw hini (fun {p l e R s m args below meth c T locs cells slots ls} C P hls X => ?_)
  obtain ⟨r0, r, hnr, hrm, hstR, hsigR⟩ : va_Decl s ⟨owner, x.name, x.desc⟩ := by
    rcases hde with hi | hi
    · obtain ⟨Mo, e1, hw⟩ := hco _ hi rfl
      obtain ⟨r0, r, hn, hrm, hst, -⟩ := Cond.instanceMethod_spec (C.wd _ hi)
      have hw := C.wd _ hw
      unfold mword at hw
      split at hw
      · rw [e1] at hw
        obtain ⟨r', c0, hrm', -, -, -, -, -, -, hsig⟩ := Cond.code_spec hn hw
        cases hrm.symm.trans hrm'
        exact ⟨r0, r, hn, hrm, hst, hsig⟩
      · rw [e1] at hw
        obtain ⟨m9, meth9, c9, hn9, g1, -, -, -, -, -, -, g8⟩ := Cond.codeWith_spec hw
        cases hn.symm.trans hn9
        cases hrm.symm.trans g1
        exact ⟨r0, r, hn, hrm, hst, g8⟩
    · exact va_Decl.abs (C.kk.2.1 _ hi rfl)
  obtain ⟨cn, ck, r1, hcn, hck, hni, hf, hn1⟩ := Cond.sameMethod_found (C.wd _ hsm)
  cases hnr.symm.trans hn1
  obtain ⟨mk, methM, hnamed, hmethM, -, habM⟩ := Cond.instanceMethod_spec (C.wd _ hin)
  have h0 := P.2.2 b hb.1 hb.2.1
  rw [cell_obj hb.2.2 hci] at h0
  obtain ⟨r9, h1, cellB, q1, q2, q3, q4⟩ := h0
  have hr : r9 = (C0, T0, N) := Option.some.inj (h1.symm.trans K.1)
  subst hr
  obtain ⟨hS, hfc, kC, hkC, hkind⟩ := C.va.1 ci _ K.1
  obtain ⟨c2, r2, m2, s1, s2, s3, s4, kP, hkP, hkPi⟩ := Cond.selects_spec (C.wd _ hse)
  cases hfc.symm.trans s1
  cases hf.symm.trans s2
  cases hnamed.symm.trans s3
  have hselP : selectMethod e.platform s.vm cellB.cls r0 = .method mk := by rw [Launch.admits_selectMethod X.admits, q2]; exact s4
  have hlenA : As.length = r.sig.parameters.length := by
    have h2 := hpd
    have h3 : parseMethodDescriptor x.desc = some r.sig := hsigR
    rw [h3] at h2
    rw [hn]
    exact (Option.some.inj h2).symm
  obtain ⟨vm₁, X₁, hstep₁⟩ := X.invokevirtualUp C.1 C.own (C.wd _ hl) (C.wd _ hsm) how hnr hrm hstR (a := b) (cell := cellB) q1
    (fun z h => by rw [q3] at h; cases h) hselP hmethM habM hkP hkPi (g := F0 m pc ls (As.reverse ++ .ref b :: st)) rfl (argsL := As) (rest := st) hlenA rfl (by rw [C.2.1]; exact hd)
  exact ⟨vm₁, mk, hnamed, X₁, fun target ht => hstep₁ _ ht⟩
theorem R_mmax {ix : Nat} {x y : Int32} (hd : decode M.2.1 pc = .ok (.invokestatic ix, 3)) (hl : Cond.methodLink M.1.cls ix Lib.Math.max.name ∈ lw_all) (hs : Cond.static Lib.Math.max.name ∈ lw_all) (hini : Cond.initialized "java/lang/Math" ∈ lw_all) (hcw : Cond.code Lib.Math.max.name Lib.Math.max.code 2 (some .int) ∈ lw_all) (hdd : 1 ≤ d) (hst : (st.map fun v => v.category).sum ≤ 8) (kk : Run G M d (pc + 3) lv (.int (if x < y then y else x) :: st) h Q) : Run G M d pc lv (.int y :: .int x :: st) h Q := by
  obtain ⟨o, h', q, h1, h2, r⟩ := kk
  refine ⟨o, h', q, h1, h2, fun p l e R s m args below meth c H locs cells slots ls C a1 a2 a3 a4 P S L => ?_⟩
  exact va_mmax C.1 C.2.1 (by rw [C.2.2.1]; exact L.1.symm) C.own (C.wd _ hl) (C.wd _ hs) (C.wd _ hini) (C.wd _ hcw) (by omega) (by omega) (by omega) (by omega) hd (r p l e R s m args below meth c H locs cells slots ls C a1 a2 a3 a4 P S L)
theorem R_mmin {ix : Nat} {x y : Int32} (hd : decode M.2.1 pc = .ok (.invokestatic ix, 3)) (hl : Cond.methodLink M.1.cls ix Lib.Math.min.name ∈ lw_all) (hs : Cond.static Lib.Math.min.name ∈ lw_all) (hini : Cond.initialized "java/lang/Math" ∈ lw_all) (hcw : Cond.code Lib.Math.min.name Lib.Math.min.code 2 (some .int) ∈ lw_all) (hdd : 1 ≤ d) (hst : (st.map fun v => v.category).sum ≤ 8) (kk : Run G M d (pc + 3) lv (.int (if y < x then y else x) :: st) h Q) : Run G M d pc lv (.int y :: .int x :: st) h Q := by
  obtain ⟨o, h', q, h1, h2, r⟩ := kk
  refine ⟨o, h', q, h1, h2, fun p l e R s m args below meth c H locs cells slots ls C a1 a2 a3 a4 P S L => ?_⟩
  exact va_mmin C.1 C.2.1 (by rw [C.2.2.1]; exact L.1.symm) C.own (C.wd _ hl) (C.wd _ hs) (C.wd _ hini) (C.wd _ hcw) (by omega) (by omega) (by omega) (by omega) hd (r p l e R s m args below meth c H locs cells slots ls C a1 a2 a3 a4 P S L)
theorem R_aret {v : Option Nat} {E : String} (hd : decode M.2.1 pc = .ok (.areturn, 1)) (hr : M.2.2.2.1 = some (.object E)) (q : Q (.returned (some (va_rf v))) h) : Run G M d pc lv [va_rf v] h Q :=
  R_end (fun C hq hf => W_mono (fun _ => MQ_X) (W.aret C.1 C.2.1 (C.2.2.2.1.trans hr) (Or.inl ⟨_, rfl⟩) (by cases v with
    | none => exact Or.inl rfl
    | some a => exact Or.inr ⟨a, rfl⟩) hq hf hd C.2.2.2.2.1)) q
-- casts
theorem obj_at {b ci : Nat} {C0 : String} {T0 : u_T} {N : Nat} {ty : Nat → FieldType} {s : State} {H : Heap} {G : GG} {h : AH} (K : ClOK ci C0 T0 N ty) (hci : ci < 100) (hb : IsK G h b (ci, 0)) (P : Rep G h H) (hk : KK G s) : ∃ cell : Cell, H[b]? = some cell ∧ cell.vm.isStatics = false ∧ s.vm.findClass C0 = some cell.cls := by
  have h0 := P.2.2 b hb.1 hb.2.1
  rw [cell_obj hb.2.2 hci] at h0
  obtain ⟨r9, h1, cellB, q1, q2, q3, q4⟩ := h0
  have hr : r9 = (C0, T0, N) := Option.some.inj (h1.symm.trans K.1)
  subst hr
  obtain ⟨hS, hfc, -⟩ := hk.1.1 ci _ K.1
  exact ⟨cellB, q1, by rw [q3]; rfl, by rw [q2]; exact hfc⟩
theorem arr_at {b j n : Nat} {s : State} {H : Heap} {G : GG} {h : AH} (hj : j < 5) (hb : IsK G h b (100 + j, n)) (P : Rep G h H) (hk : KK G s) : ∃ cell : Cell, H[b]? = some cell ∧ cell.vm.isStatics = false ∧ s.vm.findClass ("[" ++ (kty j).toString) = some cell.cls := by
  have h0 := P.2.2 b hb.1 hb.2.1
  obtain ⟨cell, hcell, hcls, hvm⟩ : ∃ cell : Cell, H[b]? = some cell ∧ cell.cls = G.2.2 j ∧ cell.vm = .none := by
    by_cases h1 : j = 1
    · subst h1
      rw [cell_long hb.2.2] at h0
      exact ⟨_, h0, rfl, rfl⟩
    · rw [cell_int hb.2.2 h1 hj] at h0
      exact ⟨_, h0, rfl, rfl⟩
  have hra := (hk.1.2 j _ (tys_at (by omega))).2
  have hfc : s.vm.findClass ("[" ++ (kty j).toString) = some (G.2.2 j) := by
    match j, hj, hra with
    | 0, _, h => exact h
    | 1, _, h => exact h
    | 2, _, h => exact h
    | 3, _, h => exact h
    | 4, _, h => exact h
  exact ⟨cell, hcell, by rw [hvm]; rfl, by rw [hcls]; exact hfc⟩
end RC2

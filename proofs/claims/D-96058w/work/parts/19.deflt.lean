/-! LAYER 1: calls that land in an interface's default method -/
set_option maxRecDepth 100000
theorem steps_weaken {tb : Tables} {e : Env} {f : Frame} {below : List Frame} {a b : State} (h : Steps tb e (f :: below) a b) : Steps tb e below a b := Steps.weaken (mid := [f]) h
/-- the frame of every call, once more: the callee is walked in place: nothing is asked of its class's state -/
theorem R_inv3 {G : GG} {M : MD} {d pc : Nat} {lv : List (Nat × Value)} {st : List Value} {h : AH} {Q : Outcome → AH → Prop} {Mc : MD} {d' len : Nat} {As : List Value} {stk : List Value} {ig : Instr} (hc : Run G Mc d' 0 (lv_args 0 As) [] h (Aft G M d pc len lv st Q)) (hy : plainName Mc.1.cls = true) (hlen : (lg_sl As).length ≤ Mc.2.2.1) (hL45 : Mc.2.2.1 ≤ 45) (hdd : d' + 1 ≤ d) (hst : (st.map fun v => v.category).sum ≤ 8)
    (hd : decode M.2.1 pc = .ok (ig, len)) (hcw : mword Mc ∈ lw_all)
    (go : ∀ {p : Program} {l : Launch} {e : Env} {R : Room} {s : State} {m : MethodId} {args : Array Value} {below : List Frame} {meth : Method} {c : Code} {T : State} {locs : List Loc} {cells slots : Nat} {ls : Array Slot},
      Cx G M p s m args meth c → Rep G h T.heap → ls.size = M.2.2.1 → Stand p l e R s m args below meth c T locs cells slots → ∃ (vm₁ : Vm) (mk : MethodId), s.methodNamed? Mc.1 = some mk ∧ Stand p l e R s m args below meth c (T.setVm vm₁) locs cells slots ∧
        ∀ target, (∀ acts, Steps p.tables e below (doInvoke e ((T.setVm vm₁).setTop (F0 m pc ls st)) acts mk As.toArray).1 target) → Steps p.tables e below (T.setTop (F0 m pc ls stk)) target) :
    Run G M d pc lv stk h Q := by
  obtain ⟨o1, h1, P1, n1, u1, rc⟩ := hc
  have fin : ∀ (o2 : Outcome) (h2 : AH), aN h1 ≤ aN h2 → aU h1 ≤ aU h2 → Q o2 h2 →
      (∀ (p : Program) (l : Launch) (e : Env) (R : Room) (s : State) (m : MethodId) (args : Array Value) (below : List Frame) (meth : Method) (c : Code) (H : Heap) (locs : List Loc) (cells slots : Nat) (ls : Array Slot),
        Cx G M p s m args meth c → d ≤ R.frames → 64 * d ≤ R.locals → cells + (aN h2 - aN h1) ≤ R.cells → slots + (aU h2 - aU h1) ≤ R.slots → Rep G h1 H → va_S (AG G) s.heap H locs → lv_has ls M.2.2.1 lv →
        ∀ (T : State), T.heap = H → Stand p l e R s m args below meth c T locs cells slots → ∃ t, ((∀ v, o1 = .returned v → Steps p.tables e below (T.setTop (F0 m (pc + len) ls (v.toList ++ st))) t) ∧ (∀ x, o1 = .threw x → Steps p.tables e below ((T.setTop (F0 m pc ls st)).pushFrame (.throwing x)) t)) ∧ MQX below (QX G o2 h2) args s (cells + (aN h2 - aN h1)) (slots + (aU h2 - aU h1)) (AG G) t) →
      Run G M d pc lv stk h Q := by
    intro o2 h2 n2 u2 q2 r2
    refine ⟨o2, h2, q2, Nat.le_trans n1 n2, Nat.le_trans u1 u2, fun p l e R s m args below meth c H locs cells slots ls C a1 a2 a3 a4 P S L => ?_⟩
    intro T hT X
    obtain ⟨vm₁, mk, hnm, X₁, hstep⟩ := go (ls := ls) C (by rw [hT]; exact P) L.1 X
    have hW' : s.WarmedH (T.setVm vm₁).vm := X₁.warmed
    have hwd : ∀ w ∈ lw_all, ∀ (a' : Array Value) (U : State), s.WarmedH U.vm → w.before a' U = true := fun w hw a' U hWU => word_at hWU (lw_self w hw).2 (C.wd w hw)
    have hnU : (T.setVm vm₁).methodNamed? Mc.1 = some mk := X₁.named hnm
    obtain ⟨methY, cY, hmY, hcY, hbY, hlY, hretY, hlkY, hhY⟩ : ∃ methY cY, (T.setVm vm₁).vm.method? mk = some methY ∧ methY.code = some cY ∧ cY.code = Mc.2.1 ∧ cY.maxLocals = Mc.2.2.1 ∧ methY.sig.returnType = Mc.2.2.2.1 ∧ methY.locks = false ∧ cY.exceptionTable.toList.map (fun x => (x.startPc, x.endPc, x.handlerPc, x.catchType)) = Mc.2.2.2.2 := by
      have hw := hwd _ hcw As.toArray _ hW'
      unfold mword at hw
      split at hw
      · next he =>
        obtain ⟨meth9, c9, g1, g2, g3, g4, g5, g6, g7, -⟩ := Cond.code_spec hnU hw
        refine ⟨meth9, c9, g1, g2, g3, g4, g5, g6, ?_⟩
        have h4 : Mc.2.2.2.2 = [] := by simpa using he
        have h5 : c9.exceptionTable.toList = [] := by simpa using g7
        rw [h4, h5]; rfl
      · obtain ⟨m9, meth9, c9, hn9, g1, g2, g3, g4, g5, g6, g7, -⟩ := Cond.codeWith_spec hw
        cases hnU.symm.trans hn9
        exact ⟨meth9, c9, g1, g2, g3, g4, g6, g7, g5⟩
    have hpk : (T.setVm vm₁).plainMethod mk := State.plainMethod.of_name (fun k hk => by
      obtain ⟨k', hk', hn'⟩ := className_of_methodNamed hnU
      cases hk.symm.trans hk'
      rw [hn']; exact hy)
    obtain ⟨Y, hin⟩ := X₁.into (g := F0 m pc ls st) (R' := { frames := d', cells := aN h1 - aN h, slots := aU h1 - aU h, locals := 64 * d' }) rfl (by rw [C.2.2.1]; exact L.1) (ig := ig) (len := len) (by rw [C.2.1]; exact hd) As.toArray hmY hcY hlkY hpk
      (by show d' + 1 ≤ R.frames; omega) (by show 2 * 0 + (st.map fun v => v.category).sum + (cY.maxLocals + 11) + 64 * d' ≤ R.locals; rw [hlY]; omega) (by show cells + (aN h1 - aN h) ≤ R.cells; omega) (by show slots + (aU h1 - aU h) ≤ R.slots; omega)
    have hWc : s.WarmedH ((T.setVm vm₁).calling (F0 m pc ls st) mk As.toArray).vm := hW'
    have hnC : ((T.setVm vm₁).calling (F0 m pc ls st) mk As.toArray).methodNamed? Mc.1 = some mk := hnU
    have hmC : ((T.setVm vm₁).calling (F0 m pc ls st) mk As.toArray).vm.method? mk = some methY := hmY
    have C' : Cx G Mc p ((T.setVm vm₁).calling (F0 m pc ls st) mk As.toArray) mk As.toArray methY cY := ⟨C.1, hbY, hlY, hretY, hlkY, findClass_of_methodNamed hnC, fun w hw => hwd w hw _ _ hWc, C.kk.moved (u := s) (U := (T.setVm vm₁).calling (F0 m pc ls st) mk As.toArray) hWc (fun q g1 g2 => by show T.heap[q]? = _; rw [hT]; exact S.2.1 q g1 g2), (name_of_methodNamed hnC hmC).1, hhY⟩
    have hl := lv_entry As (n := Mc.2.2.1) hlen
    have hCh : ((T.setVm vm₁).calling (F0 m pc ls st) mk As.toArray).heap = T.heap := rfl
    have key := rc p l e { frames := d', cells := aN h1 - aN h, slots := aU h1 - aU h, locals := 64 * d' } ((T.setVm vm₁).calling (F0 m pc ls st) mk As.toArray) mk As.toArray (.java (F0 m pc ls st) :: below) methY cY T.heap [] 0 0 _ C' (Nat.le_refl _) (Nat.le_refl _) (Nat.le_of_eq (Nat.zero_add _)) (Nat.le_of_eq (Nat.zero_add _)) (by rw [hT]; exact P) (by rw [hCh]; exact va_S.rf) hl
    rw [← lg_entry_eq, Nat.zero_add, Nat.zero_add, ← hlY] at key
    have hYh : (((T.setVm vm₁).setTop (F0 m pc ls st)).pushFrame (.java (entryFrame mk As.toArray cY.maxLocals))).heap = T.heap := by
      show ((T.setVm vm₁).setTop (F0 m pc ls st)).heap = T.heap
      rw [heap_top]; rfl
    obtain ⟨t, hst1, o, -, hend, ⟨hoo, R1, F1⟩, Lc, hE, hLc⟩ := key _ hYh Y
    subst hoo
    have hst2 : ∀ acts, Steps p.tables e below (doInvoke e ((T.setVm vm₁).setTop (F0 m pc ls st)) acts mk As.toArray).1 t := fun acts => by
      rw [hin acts]; exact steps_weaken hst1
    have fin2 : ∀ T' : State, Stand p l e R s m args below meth c T' (locs ++ Lc) (cells + (aN h1 - aN h)) (slots + (aU h1 - aU h)) → T'.heap = t.heap → ((∀ v, o = .returned v → t = T'.setTop (F0 m (pc + len) ls (v.toList ++ st))) ∧ (∀ x, o = .threw x → t = (T'.setTop (F0 m pc ls st)).pushFrame (.throwing x))) → ∃ tf, Steps p.tables e below (T.setTop (F0 m pc ls stk)) tf ∧ MQX below (QX G o2 h2) args s (cells + (aN h2 - aN h)) (slots + (aU h2 - aU h)) (AG G) tf := by
      intro T' X' hheap hsh
      have F1' : T.heap.size ≤ t.heap.size ∧ ∀ q : Nat, q < T.heap.size → ¬ G.1 ≤ q → t.heap[q]? = T.heap[q]? := F1
      rw [hT] at F1'
      have S' : va_S (AG G) s.heap T'.heap (locs ++ Lc) := by
        rw [hheap]
        refine ⟨Nat.le_trans S.1 F1'.1, fun q g1 g2 => (F1'.2 q (Nat.lt_of_lt_of_le g1 S.1) g2).trans (S.2.1 q g1 g2), fun q hq => ?_⟩
        rcases List.mem_append.mp hq with g | g
        · exact S.2.2 q g
        · exact hLc q g
      obtain ⟨tf, ⟨f1, f2⟩, f3⟩ := r2 p l e R s m args below meth c T'.heap (locs ++ Lc) (cells + (aN h1 - aN h)) (slots + (aU h1 - aU h)) ls C a1 a2 (by omega) (by omega) (by rw [hheap]; exact R1) S' L T' rfl X'
      refine ⟨tf, ?_, ?_⟩
      · refine hstep tf fun acts => (hst2 acts).trans ?_
        cases o with
        | returned v => rw [hsh.1 v rfl]; exact f1 v rfl
        | threw x => rw [hsh.2 x rfl]; exact f2 x rfl
      · have e1 : cells + (aN h1 - aN h) + (aN h2 - aN h1) = cells + (aN h2 - aN h) := by omega
        have e2 : slots + (aU h1 - aU h) + (aU h2 - aU h1) = slots + (aU h2 - aU h) := by omega
        rw [e1, e2] at f3
        exact f3
    cases o with
    | returned v =>
      obtain ⟨T', b1, b2, b3, b4⟩ := X₁.outOf (g := F0 m pc ls st) rfl (ig := ig) (len := len) (by rw [C.2.1]; exact hd) hend hE.1 hE.2
      exact fin2 T' b1 (by rw [b4]; exact (heap_top _ _).symm) ⟨(fun w hw => (by cases hw; exact b4)), (fun x hx => (by cases hx))⟩
    | threw x =>
      obtain ⟨T', b1, b2, b3, b4⟩ := X₁.outOfThrown (g := F0 m pc ls st) rfl hend hE.1 hE.2
      exact fin2 T' b1 (by rw [b4, Stand.throwing_heap]) ⟨(fun w hw => (by cases hw)), (fun y hy => (by cases hy; exact b4))⟩
  rcases P1 with ⟨v, rfl, k⟩ | ⟨x, rfl, k⟩
  · obtain ⟨o2, h2, q2, n2, u2, r⟩ := k
    refine fin o2 h2 n2 u2 q2 fun p l e R s m args below meth c H locs cells slots ls C a1 a2 a3 a4 P S L T hT X => ?_
    obtain ⟨t, b1, b2⟩ := r p l e R s m args below meth c H locs cells slots ls C a1 a2 a3 a4 P S L T hT X
    exact ⟨t, ⟨fun w hw => by cases hw; exact b1, fun x hx => by cases hx⟩, b2⟩
  · obtain ⟨o2, h2, q2, n2, u2, r⟩ := k
    refine fin o2 h2 n2 u2 q2 fun p l e R s m args below meth c H locs cells slots ls C a1 a2 a3 a4 P S L T hT X => ?_
    obtain ⟨t, b1, b2⟩ := r p l e R s m args below meth c H locs cells slots ls C a1 a2 a3 a4 P S L st T hT X
    exact ⟨t, ⟨(fun w hw => (by cases hw)), (fun y hy => (by cases hy; exact b1))⟩, b2⟩
theorem selV_default {Q : Selection → Pre} {E : CtlPost} {e : Env} {d : Bool} {acts : List Action} {s : State} {c : ClassId} {r m : MethodId} {rmeth meth : Method} {mk : Class} (hsel : selectMethod e.platform s.vm c r = .method m) (hrm : s.vm.method? r = some rmeth) (hm : s.vm.method? m = some meth) (hmk : s.vm.classes[m.cls]? = some mk) (hnh : nhOK s.vm c rmeth.name rmeth.desc m = true) :
    wp (Op.invokeinterface.selectVirtual c r) Q E e d acts s ↔ Q (.method m) d acts s := by
  cases hi : mk.isInterface with
  | false => exact Op.selectVirtual_method hsel hrm hm hmk hi
  | true =>
    cases hp : e.platform.privateHidesDefault with
    | false => simp [Op.invokeinterface.selectVirtual, hrm, Op.selectFor_method hsel hm, hmk, hi, hp]
    | true =>
      unfold nhOK at hnh
      cases hn : nearestHeld s.vm c rmeth.name rmeth.desc with
      | none => simp [Op.invokeinterface.selectVirtual, hrm, Op.selectFor_method hsel hm, hmk, hi, hp, hn]
      | some q =>
        obtain ⟨k, hd⟩ := q
        rw [hn] at hnh
        cases hd with
        | nothing => simp [Op.invokeinterface.selectVirtual, hrm, Op.selectFor_method hsel hm, hmk, hi, hp, hn]
        | default d0 =>
          have : d0 = m := by simpa using hnh
          subst this
          simp [Op.invokeinterface.selectVirtual, hrm, Op.selectFor_method hsel hm, hmk, hi, hp, hn]
        | thrower b => simp at hnh
theorem invV_default {Q : Unit → Pre} {E : CtlPost} {e : Env} {d : Bool} {acts : List Action} {s : State} {f : JFrame} {index a : Nat} {r m : MethodId} {c' : ClassId} {k k' mk : Class} {rmeth meth : Method} {args rest : List Value} {cell : Cell}
    (hs : s.topJava?.isSome) (hnamed : namesResolved s.vm f.method.cls index c') (hk' : s.vm.classes[c']? = some k') (hclass : k'.isInterface = false)
    (hr : s.vm.methodReady f.method.cls index r)
    (hk : s.vm.classes[r.cls]? = some k) (hrm : s.vm.method? r = some rmeth) (hpoly : signaturePolymorphic k rmeth = false)
    (hstatic : rmeth.isStatic = false)
    (hlen : args.length = rmeth.sig.parameters.length) (hstack : f.stack = args.reverse ++ .ref a :: rest)
    (hcell : s.heap[a]? = some cell) (hobj : ∀ c, cell.vm ≠ .statics c)
    (hsel : selectMethod e.platform s.vm cell.cls r = .method m) (hm : s.vm.method? m = some meth) (habs : meth.isAbstract = false)
    (hmk : s.vm.classes[m.cls]? = some mk) (hnh : nhOK s.vm cell.cls rmeth.name rmeth.desc m = true) :
    wp (Op.invokevirtual.sem index) Q E e d acts (s.setTop f) ↔
      E (.invoke m (.ref a :: args).toArray) acts (s.setTop { f with stack := rest }) := by
  obtain ⟨kc, cf, ci, n, h1, h2, h3, h4⟩ := hnamed
  have hpre : ∀ {Q' : ClassId → Pre}, wp (Jvm.refClassAt index) Q' E e d acts (s.setTop f) ↔ Q' c' d acts (s.setTop f) := by
    intro Q'
    rcases h3 with h3 | h3 <;>
      simp [Jvm.refClassAt, Jvm.constantAt, State.method?_setTop f hs, h1, h2, h3, W.resolveClassAt_ready (State.method?_setTop f hs) h4]
  simp only [Op.invokevirtual.sem, wp_bind', hpre, W.theClass, State.vm_setTop, hk', Option.some.injEq, exists_eq_left', W.ite, hclass, Bool.false_eq_true, if_false, wp_pure',
    W.resolveMethodAt_ready (State.method?_setTop f hs) hr]
  simp only [W.theMethod, State.vm_setTop, hrm, Option.some.injEq, exists_eq_left', Seam.isPolymorphic, wp_bind', W.theClass, hk, wp_pure', hpoly,
    W.ite, Bool.false_eq_true, if_false, hstatic, Jvm.popArgs, ← hlen, Op.popN_top hs hstack]
  simp [hs, hcell, hobj, selV_default (s := s.setTop _) (show selectMethod e.platform (s.setTop _).vm cell.cls r = .method m from hsel) hrm hm hmk hnh, hm, habs]
theorem st_invVD {p : Program} {l : Launch} {e : Env} {R : Room} {s : State} {m : MethodId} {args : Array Value} {below : List Frame} {meth : Method} {c : Code} {T : State} {locs : List Loc} {cells slots : Nat} (X : Stand p l e R s m args below meth c T locs cells slots) (hexec : p.tables.exec = Jvm.exec)
    {own owner : String} {index : Nat} {x : MethodName} (hown : s.vm.findClass own = some m.cls) (hlink : (Cond.methodLink own index x).before args s = true)
    (hsame : (Cond.sameMethod x.cls owner x.name x.desc).before args s = true) (howner : owner ≠ "java/lang/invoke/MethodHandle" ∧ owner ≠ "java/lang/invoke/VarHandle")
    {r0 : MethodId} {r : Method} (hn : s.methodNamed? ⟨owner, x.name, x.desc⟩ = some r0) (hrm : s.vm.method? r0 = some r) (hstatic : r.isStatic = false)
    {a : Addr} {cell : Cell} (hcell : T.heap[a]? = some cell) (hobj : ∀ c, cell.vm ≠ .statics c)
    {m' : MethodId} {meth' : Method} {mk : Class} (hsel : selectMethod e.platform s.vm cell.cls r0 = .method m') (hm' : s.vm.method? m' = some meth') (habs : meth'.isAbstract = false)
    (hmk : s.vm.classes[m'.cls]? = some mk) (hnh : nhOK s.vm cell.cls r.name r.desc m' = true)
    {g : JFrame} (hg : g.method = m) {argsL rest : List Value} (hlen : argsL.length = r.sig.parameters.length) (hstack : g.stack = argsL.reverse ++ .ref a :: rest)
    (hdg : decode c.code g.pc = .ok (.invokevirtual index, 3)) :
    ∃ vm', Stand p l e R s m args below meth c (T.setVm vm') locs cells slots ∧
      ∀ target, (∀ acts, Steps p.tables e below (doInvoke e ((T.setVm vm').setTop { g with stack := rest }) acts m' (.ref a :: argsL).toArray).1 target) → Steps p.tables e below (T.setTop g) target := by
  have hpl : e.platform.magicAccessors = ({} : Platform).magicAccessors := by rw [X.admits.platform]
  obtain ⟨cn, ck, r1, hcn, hck, hni, hf, hn1⟩ := Cond.sameMethod_found hsame
  cases hn.symm.trans hn1
  obtain ⟨ci, hl, hright⟩ := Cond.methodLink_specUp hown hcn hck hni hf hlink e.platform hpl (by rw [X.admits.platform])
  have hE : s.MethodEntryUp e T.vm m.cls index cn r0 ci := State.methodEntryUp X.warmed hl hright
  obtain ⟨kr, hkr, hnr⟩ := className_of_methodNamed hn
  obtain ⟨dk, cfile, nt, _, _, _, _, _, hd, hcf, hcp, -⟩ := hl.here
  have alike := hE.warmed.alike
  obtain ⟨dk₂, hdk₂, hres⟩ := hE.classReady
  obtain ⟨dk₃, hdk₃, hed⟩ := alike.2.2 _ _ hd
  cases hdk₂.symm.trans hdk₃
  obtain ⟨kr₂, hkr₂, her⟩ := alike.2.2 _ _ hkr
  obtain ⟨ck₂, hck₂, hec⟩ := alike.2.2 _ _ hck
  obtain ⟨mk₂, hmk₂, hem⟩ := alike.2.2 _ _ hmk
  refine ⟨T.vm.calledUp m.cls ci index cn r0, X.noted hE.warmed, fun target hrest => ?_⟩
  subst hg
  jvm_step X.here [hexec, hdg, Op.invokevirtual.wp_coldUp (e := e) (s := T) (s₀ := s) (f := g) X.here.top X.warmed hE hd hcf (Or.inl hcp) hck hni,
    invV_default (e := e) (s := T.setVm (T.vm.calledUp g.method.cls ci index cn r0)) (f := g) (r := r0) (m := m') (c' := cn) (k := kr₂) (k' := ck₂) (mk := mk₂) (rmeth := r) (meth := meth') (a := a) (args := argsL) (rest := rest) (cell := cell)
      X.here.top ⟨dk₂, cfile, ci, nt, hdk₂, by rw [hed]; exact hcf, Or.inl hcp, dk₂, hdk₂, hres⟩ hck₂ (by rw [hec]; exact hni) hE.ready hkr₂
      (by show (T.vm.calledUp g.method.cls ci index cn r0).method? r0 = some r; rw [alike.method?]; exact hrm)
      (by rw [her]; show signaturePolymorphic kr r = false; simp [signaturePolymorphic, hnr, howner.1, howner.2]) hstatic hlen hstack hcell hobj
      (by show selectMethod e.platform (T.vm.calledUp g.method.cls ci index cn r0) cell.cls r0 = .method m'; rw [alike.selectMethod]; exact hsel)
      (by show (T.vm.calledUp g.method.cls ci index cn r0).method? m' = some meth'; rw [alike.method?]; exact hm') habs hmk₂ (by show nhOK (T.vm.calledUp g.method.cls ci index cn r0) cell.cls r.name r.desc m' = true; unfold nhOK; rw [nearestHeld_alike alike]; exact hnh)]
  exact hrest
/-- a virtual call that lands in the default method of an interface -/
theorem R_invVD {G : GG} {M : MD} {d pc : Nat} {lv : List (Nat × Value)} {st : List Value} {h : AH} {Q : Outcome → AH → Prop} {Mc : MD} {d' ix n ci b : Nat} {As : List Value} {x : MethodName} {C0 : String} {T0 : u_T} {N : Nat} {ty : Nat → FieldType} (K : ClOK ci C0 T0 N ty) (hci : ci < 100) (hb : IsK G h b (ci, 0)) (hd : decode M.2.1 pc = .ok (.invokevirtual ix, 3)) (hl : Cond.methodLink M.1.cls ix x ∈ defaultWords_1) (hsm : Cond.sameMethod x.cls Mc.1.cls x.name x.desc ∈ defaultWords_1) (hnd : x.name = Mc.1.name ∧ x.desc = Mc.1.desc)
    (hld : (C0, Mc.1) ∈ ldL) (hin : Cond.instanceMethod Mc.1 ∈ lw_all) (hcw : mword Mc ∈ lw_all)
    (hq : plainName Mc.1.cls = true ∧ (Mc.1.cls ≠ "java/lang/invoke/MethodHandle" ∧ Mc.1.cls ≠ "java/lang/invoke/VarHandle") ∧ (parseMethodDescriptor Mc.1.desc).map (fun d => d.parameters.length) = some n) (hn : As.length = n) (hlen : (lg_sl (.ref b :: As)).length ≤ Mc.2.2.1) (hL45 : Mc.2.2.1 ≤ 45) (hdd : d' + 1 ≤ d) (hst : (st.map fun v => v.category).sum ≤ 8)
    (hc : Run G Mc d' 0 (lv_args 0 (.ref b :: As)) [] h (Aft G M d pc 3 lv st Q)) : Run G M d pc lv (As.reverse ++ .ref b :: st) h Q := by
  refine R_inv3 hc hq.1 hlen hL45 hdd hst hd hcw (fun {p l e R s m args below meth c T locs cells slots ls} C P hls X => ?_)
  obtain ⟨mk, methM, hnamed, hmethM, hstM, habM⟩ := Cond.instanceMethod_spec (C.wd _ hin)
  have hcm := C.wd _ hcw
  have hsigM : parseMethodDescriptor Mc.1.desc = some methM.sig := by
    unfold mword at hcm
    split at hcm
    · obtain ⟨methM', cM, hmethM', -, -, -, -, -, -, hsigM⟩ := Cond.code_spec hnamed hcm
      cases hmethM.symm.trans hmethM'
      exact hsigM
    · obtain ⟨m9, meth9, c9, hn9, g1, -, -, -, -, -, -, g8⟩ := Cond.codeWith_spec hcm
      cases hnamed.symm.trans hn9
      cases hmethM.symm.trans g1
      exact g8
  have hlenA : As.length = methM.sig.parameters.length := by
    have h2 := hq.2.2
    rw [hsigM] at h2
    rw [hn]
    exact (Option.some.inj h2).symm
  have h0 := P.2.2 b hb.1 hb.2.1
  rw [cell_obj hb.2.2 hci] at h0
  obtain ⟨r9, h1, cellB, q1, q2, q3, q4⟩ := h0
  have hr : r9 = (C0, T0, N) := Option.some.inj (h1.symm.trans K.1)
  subst hr
  obtain ⟨hS, hfc, kC, hkC, hkind⟩ := C.va.1 ci _ K.1
  obtain ⟨c0, m0, rm, l1, l2, l3, l4, l5, -, -⟩ := C.kk.2.2.2.2.2.1 _ hld
  cases hfc.symm.trans l1
  cases hnamed.symm.trans l2
  cases hmethM.symm.trans l3
  obtain ⟨kP, hkP, -⟩ := className_of_methodNamed hnamed
  have hdw : ∀ w ∈ defaultWords_1, w.before args s = true := fun w hw => by
    have g := xw_ok w hw
    have h9 := word_at (a' := args) (State.WarmedH.refl s) (good_of_word g) (C.kk.2.2.2.2.1 w hw)
    exact h9
  have hnx : s.methodNamed? ⟨Mc.1.cls, x.name, x.desc⟩ = some mk := by rw [hnd.1, hnd.2]; exact hnamed
  have hselP : selectMethod e.platform s.vm cellB.cls mk = .method mk := by rw [Launch.admits_selectMethod X.admits, q2]; exact l4
  obtain ⟨vm₁, X₁, hstep₁⟩ := st_invVD X C.1 C.own (hdw _ hl) (hdw _ hsm) hq.2.1 hnx hmethM hstM (a := b) (cell := cellB) q1
    (fun z h => by rw [q3] at h; cases h) hselP hmethM habM hkP (by rw [q2]; exact l5) (g := F0 m pc ls (As.reverse ++ .ref b :: st)) rfl (argsL := As) (rest := st) hlenA rfl (by rw [C.2.1]; exact hd)
  exact ⟨vm₁, mk, hnamed, X₁, fun target ht => hstep₁ _ ht⟩
-- super calls
theorem pigeon : ∀ (n : Nat) (f : Nat → Nat), (∀ i, i ≤ n → f i < n) → ∃ i j, i < j ∧ j ≤ n ∧ f i = f j := by
  intro n
  induction n with
  | zero => intro f h; exact absurd (h 0 (Nat.le_refl 0)) (by omega)
  | succ n ih =>
    intro f h
    by_cases hx : ∃ i, i ≤ n ∧ f i = f (n + 1)
    · obtain ⟨i, h1, h2⟩ := hx
      exact ⟨i, n + 1, by omega, Nat.le_refl _, h2⟩
    · have hne : ∀ i, i ≤ n → f i ≠ f (n + 1) := fun i hi e => hx ⟨i, hi, e⟩
      obtain ⟨i, j, h1, h2, h3⟩ := ih (fun i => if f i = n then f (n + 1) else f i) (fun i hi => by
        have a1 := h i (by omega)
        have a2 := h (n + 1) (Nat.le_refl _)
        have a3 := hne i hi
        by_cases e : f i = n
        · simp only [e, if_true]; omega
        · simp only [e, if_false]; omega)
      refine ⟨i, j, h1, by omega, ?_⟩
      have b1 := hne i (by omega)
      have b2 := hne j h2
      by_cases e1 : f i = n <;> by_cases e2 : f j = n
      · rw [e1, e2]
      · simp only [e1, e2, if_true, if_false] at h3; exact absurd h3.symm b2
      · simp only [e1, e2, if_true, if_false] at h3; exact absurd h3 b1
      · simp only [e1, e2, if_false] at h3; exact h3
/-- the k-th superclass -/
def supN (vm : Vm) (c : ClassId) : Nat → Option ClassId
  | 0 => some c
  | k + 1 => (supN vm c k).bind fun q => (vm.classes[q]?).bind (·.super)
theorem supN_shift (vm : Vm) (c : ClassId) : ∀ k, supN vm c (k + 1) = ((vm.classes[c]?).bind (·.super)).bind fun q => supN vm q k := by
  intro k
  induction k with
  | zero => simp [supN]
  | succ k ih =>
    show (supN vm c (k + 1)).bind _ = _
    rw [ih]
    cases (vm.classes[c]?).bind (·.super) with
    | none => rfl
    | some q => rfl
theorem look_none (vm : Vm) (name desc : String) : ∀ (n : Nat) (c : ClassId), lookupInSuperclasses vm name desc n c = none ↔ ∀ k, k < n → ∀ q, supN vm c k = some q → ownMethod vm name desc q = none := by
  intro n
  induction n with
  | zero => intro c; simp [lookupInSuperclasses]
  | succ n ih =>
    intro c
    unfold lookupInSuperclasses
    cases hk : vm.classes[c]? with
    | none =>
      simp only [Option.bind_eq_bind, Option.bind_none, true_iff]
      intro k hk2 q hq
      cases k with
      | zero => cases hq; simp [ownMethod, hk]
      | succ k => rw [supN_shift, hk] at hq; simp at hq
    | some kc =>
      simp only [Option.bind_eq_bind, Option.bind_some]
      cases hf : kc.findMethod name desc with
      | some i =>
        simp only [reduceCtorEq, false_iff]
        intro h
        have := h 0 (by omega) c rfl
        simp [ownMethod, hk, hf] at this
      | none =>
        simp only
        have hown : ownMethod vm name desc c = none := by simp [ownMethod, hk, hf]
        cases hs : kc.super with
        | none =>
          simp only [Option.bind_none, true_iff]
          intro k hk2 q hq
          cases k with
          | zero => cases hq; exact hown
          | succ k => rw [supN_shift, hk] at hq; simp [hs] at hq
        | some p =>
          simp only [Option.bind_some]
          rw [ih p]
          constructor
          · intro h k hk2 q hq
            cases k with
            | zero => cases hq; exact hown
            | succ k =>
              rw [supN_shift, hk] at hq
              simp only [Option.bind_some, hs] at hq
              exact h k (by omega) q hq
          · intro h k hk2 q hq
            refine h (k + 1) (by omega) q ?_
            rw [supN_shift, hk]
            simp only [Option.bind_some, hs]
            exact hq
theorem supN_valid {vm : Vm} {c q : ClassId} {k : Nat} (h : supN vm c (k + 1) = some q) : ∃ p, supN vm c k = some p ∧ p < vm.classes.size := by
  simp only [supN] at h
  cases hp : supN vm c k with
  | none => rw [hp] at h; simp at h
  | some p =>
    rw [hp] at h
    refine ⟨p, rfl, ?_⟩
    cases hc : vm.classes[p]? with
    | none => simp [hc] at h
    | some x => exact (Array.getElem?_eq_some_iff.mp hc).1
theorem supN_add {vm : Vm} {c p : ClassId} {i : Nat} (h : supN vm c i = some p) : ∀ k, supN vm c (i + k) = supN vm p k := by
  intro k
  induction k with
  | zero => exact h
  | succ k ih =>
    show (supN vm c (i + k)).bind _ = (supN vm p k).bind _
    rw [ih]
theorem look_all {vm : Vm} {name desc : String} {c : ClassId} (h : lookupInSuperclasses vm name desc (vm.classes.size + 1) c = none) : ∀ k q, supN vm c k = some q → ownMethod vm name desc q = none := by
  have h0 := (look_none vm name desc (vm.classes.size + 1) c).mp h
  intro k
  induction k using Nat.strongRecOn with
  | _ k ih =>
    intro q hq
    by_cases hk : k < vm.classes.size + 1
    · exact h0 k hk q hq
    · -- two of the first are one
      have hdef : ∀ i, i < k → ∃ p, supN vm c i = some p ∧ p < vm.classes.size := by
        intro i hi
        have : ∀ t, t ≤ k → ∃ p, supN vm c t = some p := by
          intro t ht
          induction hn : k - t generalizing t with
          | zero => exact ⟨q, by rw [show t = k by omega]; exact hq⟩
          | succ n ihn =>
            obtain ⟨p, hp⟩ := ihn (t + 1) (by omega) (by omega)
            obtain ⟨p', hp', -⟩ := supN_valid hp
            exact ⟨p', hp'⟩
        obtain ⟨p, hp⟩ := this (i + 1) (by omega)
        exact supN_valid hp
      obtain ⟨i, j, h1, h2, h3⟩ := pigeon vm.classes.size (fun i => (supN vm c i).getD 0) (fun i hi => by
        obtain ⟨p, hp, hl⟩ := hdef i (by omega)
        simp [hp, hl])
      obtain ⟨pi, hpi, -⟩ := hdef i (by omega)
      obtain ⟨pj, hpj, -⟩ := hdef j (by omega)
      simp only [hpi, hpj, Option.getD_some] at h3
      subst h3
      have e1 := supN_add hpj (k - j)
      have e2 := supN_add hpi (k - j)
      rw [show j + (k - j) = k by omega, hq] at e1
      exact ih (i + (k - j)) (by omega) q (by rw [e2, ← e1])
theorem sup_mem (vm : Vm) : ∀ (n : Nat) (c p : ClassId), p ∈ vm.superclassesAux n c → ∃ k, supN vm c k = some p := by
  intro n
  induction n with
  | zero => intro c p h; simp [Vm.superclassesAux] at h
  | succ n ih =>
    intro c p h
    cases hk : vm.classes[c]? with
    | none => simp [Vm.superclassesAux, hk] at h
    | some kc =>
      cases hs : kc.super with
      | none => simp [Vm.superclassesAux, hk, hs] at h
      | some q =>
        have haux : vm.superclassesAux (n + 1) c = q :: vm.superclassesAux n q := by simp [Vm.superclassesAux, hk, hs]
        rw [haux] at h
        rcases List.mem_cons.mp h with e | e
        · exact ⟨1, by rw [e]; simp [supN, hk, hs]⟩
        · obtain ⟨k, hk2⟩ := ih q p e
          exact ⟨k + 1, by rw [supN_shift, hk]; simp [hs, hk2]⟩
theorem sel_none {vm : Vm} {r : MethodId} {name desc : String} : ∀ (n : Nat) (c : ClassId), lookupInSuperclasses vm name desc n c = none → selectInSuperclasses vm r name desc n c = none := by
  intro n
  induction n with
  | zero => intro c _; rfl
  | succ n ih =>
    intro c h
    unfold lookupInSuperclasses at h
    unfold selectInSuperclasses
    cases hk : vm.classes[c]? with
    | none => simp
    | some kc =>
      simp only [hk, Option.bind_eq_bind, Option.bind_some] at h
      cases hf : kc.findMethod name desc with
      | some i => simp [hf] at h
      | none =>
        simp only [hf] at h
        cases hs : kc.super with
        | none => simp [hf, hs]
        | some p =>
          simp only [hs, Option.bind_some] at h
          simp [hf, hs, ih p h]
theorem special_default {vm : Vm} {c : ClassId} {k : Class} {name desc : String} {r0 : MethodId} {rm : Method} (hk : vm.classes[c]? = some k) (hni : k.isInterface = false) (hl : vm.lookupUp c name desc = some r0) (hm : vm.method? r0 = some rm) (hst : rm.isStatic = false) (hname : rm.name = name) (hdesc : rm.desc = desc) (hpriv : rm.isPrivate = false) (hitf : (vm.classes[r0.cls]?).any (·.isInterface) = true) (hsel : selectMethod {} vm c r0 = .method r0) : lookupSpecial vm c name desc = .method r0 := by
  cases hx : lookupInSuperclasses vm name desc (vm.classes.size + 1) c with
  | some x => exact lookupSpecial_of_lookupUp hk hni hl (by rw [hx]; rfl) hm hst
  | none =>
    have hall := look_all hx
    have hsm : superclassMethods vm c name desc = [] := by
      show (vm.superclasses c).filterMap (ownMethod vm name desc) = []
      rw [List.filterMap_eq_nil_iff]
      intro p hp
      obtain ⟨n, hn⟩ := sup_mem vm _ c p hp
      exact hall n p hn
    have hown : ((vm.classes[c]?.bind (·.findMethod name desc)).map fun i => (⟨c, i⟩ : MethodId)) = none := hall 0 c rfl
    have hsn : selectInSuperclasses vm r0 name desc (vm.classes.size + 1) c = none := sel_none _ c hx
    unfold selectMethod at hsel
    rw [hm] at hsel
    simp only [hpriv, hname, hdesc, hsn, hitf, Bool.false_eq_true, if_false, Bool.not_true, Bool.and_false] at hsel
    unfold lookupSpecial
    simp only [hown, hsm, List.filter_nil, Option.toList_none, List.append_nil, List.find?_nil]
    split at hsel
    · cases hsel
    · exact hsel
theorem st_invSU {p : Program} {l : Launch} {e : Env} {R : Room} {s : State} {m : MethodId} {args : Array Value} {below : List Frame} {meth : Method} {c : Code} {T : State} {locs : List Loc} {cells slots : Nat} (X : Stand p l e R s m args below meth c T locs cells slots) (hexec : p.tables.exec = Jvm.exec)
    {own owner : String} {index : Nat} {x : MethodName} (hown : s.vm.findClass own = some m.cls) (hlink : (Cond.methodLink own index x).before args s = true)
    (hsame : (Cond.sameMethod x.cls owner x.name x.desc).before args s = true)
    {r0 : MethodId} {r : Method} (hn : s.methodNamed? ⟨owner, x.name, x.desc⟩ = some r0) (hrm : s.vm.method? r0 = some r) (hstatic : r.isStatic = false) (habs : r.isAbstract = false) (hnoinit : x.name ≠ "<init>")
    {dk : Class} {cn : ClassId} (hd : s.vm.classes[m.cls]? = some dk) (hnid : dk.isInterface = false) (hcn : s.vm.findClass x.cls = some cn) (hsuper : dk.super = some cn)
    (hfound : ∀ k, s.vm.classes[cn]? = some k → k.isInterface = false → s.vm.lookupUp cn x.name x.desc = some r0 → lookupSpecial s.vm cn x.name x.desc = .method r0)
    {a : Addr} {cell : Cell} {kcell : Class} (hcell : T.heap[a]? = some cell) (hobj : ∀ c, cell.vm ≠ .statics c) (hkcell : s.vm.classes[cell.cls]? = some kcell)
    {g : JFrame} (hg : g.method = m) {argsL rest : List Value} (hlen : argsL.length = r.sig.parameters.length) (hstack : g.stack = argsL.reverse ++ .ref a :: rest)
    (hdg : decode c.code g.pc = .ok (.invokespecial index, 3)) :
    ∃ vm', Stand p l e R s m args below meth c (T.setVm vm') locs cells slots ∧
      ∀ target, Steps p.tables e below (doInvoke e ((T.setVm vm').setTop { g with stack := rest }) [] r0 (.ref a :: argsL).toArray).1 target → Steps p.tables e below (T.setTop g) target := by
  have hpl : e.platform.magicAccessors = ({} : Platform).magicAccessors := by rw [X.admits.platform]
  obtain ⟨cn', ck, r1, hcn', hck, hni, hf, hn1⟩ := Cond.sameMethod_found hsame
  cases hn.symm.trans hn1
  cases hcn.symm.trans hcn'
  obtain ⟨ci, hl, hright⟩ := Cond.methodLink_specUp hown hcn hck hni hf hlink e.platform hpl (by rw [X.admits.platform])
  obtain ⟨kr, hkr, -⟩ := className_of_methodNamed hn
  obtain ⟨hrn, hrd⟩ := name_of_methodNamed hn hrm
  obtain ⟨dk₀, cfile, nt, _, _, ck₀, _, _, hd₀, hcf, hcp, -, -, -, hc₀, -, hpoly, -⟩ := hl.here
  cases hd.symm.trans hd₀
  cases hck.symm.trans hc₀
  have hup : s.vm.lookupUp cn x.name x.desc = some r0 := ((State.methodFound?_class hcn hck hni hpoly r0).mp hf).1
  have hfound0 : lookupSpecial s.vm cn x.name x.desc = .method r0 := hfound ck hck hni hup
  subst hg
  obtain ⟨vm', hW', st⟩ := Steps.invokeSuperColdArgs (tb := p.tables) (e := e) (s₀ := s) (U := T) (f := g) (args := argsL) (rest := rest) (a := a) (cell := cell) (m := r0) X.here hexec hdg X.warmed hl hright hd hcf hcp hrm hck
    (by rw [hrn]; simp [hnoinit]) hstatic (by rw [hrn, hrd, hsuper]; simpa using hfound0) hnid hkr habs hlen hstack hcell hobj hkcell
  exact ⟨vm', X.noted hW', st⟩
/-- from the class x.cls up, the search for x ends at y -/
def Sp (G : GG) (x y : MethodName) : Prop := ∀ (s : State) (args : Array Value), (∀ w ∈ lw_all, w.before args s = true) → KK G s → ∀ (cn : ClassId) (r0 : MethodId) (r : Method) (k : Class), s.vm.findClass x.cls = some cn → s.methodNamed? y = some r0 → s.vm.method? r0 = some r → r.isStatic = false → s.vm.classes[cn]? = some k → k.isInterface = false → s.vm.lookupUp cn x.name x.desc = some r0 → lookupSpecial s.vm cn x.name x.desc = .method r0
theorem named_decl {s : State} {y : MethodName} {r0 : MethodId} {kr : Class} (hn : s.methodNamed? y = some r0) (hkr : s.vm.classes[r0.cls]? = some kr) : kr.findMethod y.name y.desc = some r0.idx := by
  have hc := findClass_of_methodNamed hn
  have h' := hn
  simp only [State.methodNamed?, hc, hkr, Option.bind_eq_bind, Option.bind_some, Option.bind_eq_some_iff, Option.pure_def, Option.some.injEq] at h'
  obtain ⟨i, hi, hmi⟩ := h'
  rw [← hmi]; exact hi
theorem Sp.same {G : GG} {x : MethodName} : Sp G x x := by
  intro s args hw hk cn r0 r k hcn hn hm hst hck hni hl
  obtain ⟨kr, hkr, -⟩ := className_of_methodNamed hn
  have e : cn = r0.cls := Option.some.inj (hcn.symm.trans (findClass_of_methodNamed hn))
  exact lookupSpecial_of_declared hck hni hl hkr (named_decl hn hkr) (by rw [e]; simp [Vm.isSubclass, Vm.isSubclassAux]) hm hst
theorem Sp.up {G : GG} {x y : MethodName} (hnd : x.name = y.name ∧ x.desc = y.desc) (hs : Cond.superclass x.cls y.cls ∈ lw_all) : Sp G x y := by
  intro s args hw hk cn r0 r k hcn hn hm hst hck hni hl
  obtain ⟨kr, hkr, -⟩ := className_of_methodNamed hn
  obtain ⟨ps, dk, kp, hps, hdk, hkp, hsuper, -⟩ := Cond.superclass_spec hcn (hw _ hs)
  cases hck.symm.trans hdk
  have e : ps = r0.cls := Option.some.inj (hps.symm.trans (findClass_of_methodNamed hn))
  have hsz : 0 < s.vm.classes.size := Nat.lt_of_le_of_lt (Nat.zero_le _) (Array.getElem?_eq_some_iff.mp hck).1
  have hsub : s.vm.isSubclass cn r0.cls = true := by
    rw [← e]
    unfold Vm.isSubclass
    obtain ⟨n, hn⟩ : ∃ n, s.vm.classes.size = n + 1 := ⟨s.vm.classes.size - 1, by omega⟩
    simp [Vm.isSubclassAux, hck, hsuper, hn]
  exact lookupSpecial_of_declared hck hni hl hkr (by rw [hnd.1, hnd.2]; exact named_decl hn hkr) hsub hm hst
theorem Sp.dflt {G : GG} {x y : MethodName} (hnd : x.name = y.name ∧ x.desc = y.desc) (hld : (x.cls, y) ∈ ldL) : Sp G x y := by
  intro s args hw hk cn r0 r k hcn hn hm hst hck hni hl
  obtain ⟨c0, m0, rm, l1, l2, l3, l4, l5, l6, l7⟩ := hk.2.2.2.2.2.1 _ hld
  cases hcn.symm.trans l1
  cases hn.symm.trans l2
  cases hm.symm.trans l3
  obtain ⟨hrn, hrd⟩ := name_of_methodNamed hn hm
  exact special_default hck hni hl hm hst (by rw [hrn, hnd.1]) (by rw [hrd, hnd.2]) l6 l7 l4
theorem R_invSU {G : GG} {M : MD} {d pc : Nat} {lv : List (Nat × Value)} {st : List Value} {h : AH} {Q : Outcome → AH → Prop} {Mc : MD} {d' ix n ci b : Nat} {As : List Value} {x : MethodName} {C0 : String} {T0 : u_T} {N : Nat} {ty : Nat → FieldType} (K : ClOK ci C0 T0 N ty) (hci : ci < 100) (hb : IsK G h b (ci, 0)) (hd : decode M.2.1 pc = .ok (.invokespecial ix, 3)) (hl : Cond.methodLink M.1.cls ix x ∈ lw_all ∨ Cond.methodLink M.1.cls ix x ∈ defaultWords_1) (hsm : Cond.sameMethod x.cls Mc.1.cls x.name x.desc ∈ lw_all ∨ Cond.sameMethod x.cls Mc.1.cls x.name x.desc ∈ defaultWords_1) (hnd : x.name = Mc.1.name ∧ x.desc = Mc.1.desc) (hno : x.name ≠ "<init>") (hsup : Cond.superclass M.1.cls x.cls ∈ lw_all) (hsp : Sp G x Mc.1)
    (hin : Cond.instanceMethod Mc.1 ∈ lw_all) (hcw : mword Mc ∈ lw_all)
    (hq : plainName Mc.1.cls = true ∧ (Mc.1.cls ≠ "java/lang/invoke/MethodHandle" ∧ Mc.1.cls ≠ "java/lang/invoke/VarHandle") ∧ (parseMethodDescriptor Mc.1.desc).map (fun d => d.parameters.length) = some n) (hn : As.length = n) (hlen : (lg_sl (.ref b :: As)).length ≤ Mc.2.2.1) (hL45 : Mc.2.2.1 ≤ 45) (hdd : d' + 1 ≤ d) (hst : (st.map fun v => v.category).sum ≤ 8)
    (hc : Run G Mc d' 0 (lv_args 0 (.ref b :: As)) [] h (Aft G M d pc 3 lv st Q)) : Run G M d pc lv (As.reverse ++ .ref b :: st) h Q := by
  refine R_inv3 hc hq.1 hlen hL45 hdd hst hd hcw (fun {p l e R s m args below meth c T locs cells slots ls} C P hls X => ?_)
  obtain ⟨mk, methM, hnamed, hmethM, hstM, habM⟩ := Cond.instanceMethod_spec (C.wd _ hin)
  have hcm := C.wd _ hcw
  have hsigM : parseMethodDescriptor Mc.1.desc = some methM.sig := by
    unfold mword at hcm
    split at hcm
    · obtain ⟨methM', cM, hmethM', -, -, -, -, -, -, hsigM⟩ := Cond.code_spec hnamed hcm
      cases hmethM.symm.trans hmethM'
      exact hsigM
    · obtain ⟨m9, meth9, c9, hn9, g1, -, -, -, -, -, -, g8⟩ := Cond.codeWith_spec hcm
      cases hnamed.symm.trans hn9
      cases hmethM.symm.trans g1
      exact g8
  have hlenA : As.length = methM.sig.parameters.length := by
    have h2 := hq.2.2
    rw [hsigM] at h2
    rw [hn]
    exact (Option.some.inj h2).symm
  have h0 := P.2.2 b hb.1 hb.2.1
  rw [cell_obj hb.2.2 hci] at h0
  obtain ⟨r9, h1, cellB, q1, q2, q3, q4⟩ := h0
  have hr : r9 = (C0, T0, N) := Option.some.inj (h1.symm.trans K.1)
  subst hr
  obtain ⟨hS, hfc, kC, hkC, hkind⟩ := C.va.1 ci _ K.1
  have hdw : ∀ w, (w ∈ lw_all ∨ w ∈ defaultWords_1) → w.before args s = true := fun w hw => by
    rcases hw with hw | hw
    · exact C.wd _ hw
    · exact word_at (a' := args) (State.WarmedH.refl s) (good_of_word (xw_ok w hw)) (C.kk.2.2.2.2.1 w hw)
  have hnx : s.methodNamed? ⟨Mc.1.cls, x.name, x.desc⟩ = some mk := by rw [hnd.1, hnd.2]; exact hnamed
  obtain ⟨ps, dk, kp, hps, hdk, hkp, hsuper, -, -, hnid⟩ := Cond.superclass_spec C.own (C.wd _ hsup)
  obtain ⟨vm₁, X₁, hstep₁⟩ := st_invSU X C.1 C.own (hdw _ hl) (hdw _ hsm) hnx hmethM hstM habM hno hdk hnid hps hsuper
    (fun k hk hki hlk => hsp s args C.wd C.kk ps mk methM k hps hnamed hmethM hstM hk hki hlk) (a := b) (cell := cellB) (kcell := kC) q1
    (fun z h => by rw [q3] at h; cases h) (by rw [q2]; exact hkC) (g := F0 m pc ls (As.reverse ++ .ref b :: st)) rfl (argsL := As) (rest := st) hlenA rfl (by rw [C.2.1]; exact hd)
  exact ⟨vm₁, mk, hnamed, X₁, fun target ht => hstep₁ _ (ht [])⟩
/-- a call through an interface -/
theorem R_invF {G : GG} {M : MD} {d pc : Nat} {lv : List (Nat × Value)} {st : List Value} {h : AH} {Q : Outcome → AH → Prop} {Mc : MD} {d' ix cnt n ci b : Nat} {As : List Value} {x : MethodName} {C0 : String} {T0 : u_T} {N : Nat} {ty : Nat → FieldType} (K : ClOK ci C0 T0 N ty) (hci : ci < 100) (hb : IsK G h b (ci, 0)) (hd : decode M.2.1 pc = .ok (.invokeinterface ix cnt, 5)) (hl : Cond.methodLink M.1.cls ix x ∈ lw_all) (hfw : (C0, x, Mc.1) ∈ fwL) (hse : Cond.selects C0 x Mc.1 ∈ lw_all)
    (hin : Cond.instanceMethod Mc.1 ∈ lw_all) (hini : Cond.initialized Mc.1.cls ∈ lw_all) (hcw : mword Mc ∈ lw_all) (hpd : (parseMethodDescriptor x.desc).map (fun d => d.parameters.length) = some n)
    (hq : plainName Mc.1.cls = true ∧ (Mc.1.cls ≠ "java/lang/invoke/MethodHandle" ∧ Mc.1.cls ≠ "java/lang/invoke/VarHandle") ∧ (parseMethodDescriptor Mc.1.desc).map (fun d => d.parameters.length) = some n) (hn : As.length = n) (hlen : (lg_sl (.ref b :: As)).length ≤ Mc.2.2.1) (hL45 : Mc.2.2.1 ≤ 45) (hdd : d' + 1 ≤ d) (hst : (st.map fun v => v.category).sum ≤ 8)
    (hc : Run G Mc d' 0 (lv_args 0 (.ref b :: As)) [] h (Aft G M d pc 5 lv st Q)) : Run G M d pc lv (As.reverse ++ .ref b :: st) h Q := by
  refine R_inv hc hq.1 hlen hL45 hdd hst hd hcw hini (fun {p l e R s m args below meth c T locs cells slots ls} C P hls X => ?_)
  have hF := C.kk.2.2.2.1 _ hfw
  have hx := fwL_ok _ hfw
  have h0 := P.2.2 b hb.1 hb.2.1
  rw [cell_obj hb.2.2 hci] at h0
  obtain ⟨r9, h1, cellB, q1, q2, q3, q4⟩ := h0
  have hr9 : r9 = (C0, T0, N) := Option.some.inj (h1.symm.trans K.1)
  subst hr9
  obtain ⟨hS, hfc, kC, hkC, hkind⟩ := C.va.1 ci _ K.1
  obtain ⟨r0, r, hnx, hrm, hstR, hsigR⟩ := Cond.declares_spec hF.1
  obtain ⟨cL, kL, r1, hcL, hkL, hiL, hfoundL, hn1⟩ := Cond.interfaceMethod_spec hF.2.1
  cases hnx.symm.trans hn1
  have hr0cls : r0.cls = cL := Option.some.inj ((findClass_of_methodNamed hnx).symm.trans hcL)
  obtain ⟨hnameR, hdescR⟩ := name_of_methodNamed hnx hrm
  obtain ⟨mk, methM, hnamed, hmethM, -, habM⟩ := Cond.instanceMethod_spec (C.wd _ hin)
  obtain ⟨c2, r2, m2, s1, s2, s3, s4, -⟩ := Cond.selects_spec (C.wd _ hse)
  cases hfc.symm.trans s1
  cases hfoundL.symm.trans s2
  cases hnamed.symm.trans s3
  have hselP : selectMethod e.platform s.vm cellB.cls r0 = .method mk := by rw [Launch.admits_selectMethod X.admits, q2]; exact s4
  have hpubM : hasFlag methM.accessFlags Acc.public_ = true := Cond.publicMethod_spec hnamed hmethM hF.2.2.1
  have hcl : s.vm.findClass C0 = some cellB.cls := by rw [q2]; exact hfc
  have hway : ((cellB.cls :: s.vm.superclasses cellB.cls).any fun k => (declaredIn s.vm r.name r.desc k).any fun (_, z) => z.isPrivate || z.isStatic) = false := by
    rw [hnameR, hdescR]; exact Cond.unhidden_spec hcl hF.2.2.2.1
  obtain ⟨c3, t3, w1, w2, w3⟩ := Cond.castable_spec hF.2.2.2.2
  cases hcl.symm.trans w1
  cases hcL.symm.trans w2
  have hlenA : As.length = r.sig.parameters.length := by
    have h2 := hpd
    have h3 : parseMethodDescriptor x.desc = some r.sig := hsigR
    rw [h3] at h2
    rw [hn]
    exact (Option.some.inj h2).symm
  obtain ⟨vm₁, X₁, hstep₁⟩ := X.invokeinterface C.1 C.own (C.wd _ hl) hnx hrm hstR (by rw [hr0cls]; exact hkL) hiL hx (a := b) (cell := cellB) (kcell := kC) q1
    (fun z h => by rw [q3] at h; cases h) (by rw [q2]; exact hkC) (by rw [hr0cls]; exact w3) hselP hmethM hway hpubM habM (g := F0 m pc ls (As.reverse ++ .ref b :: st)) rfl (argsL := As) (rest := st) hlenA rfl (by rw [C.2.1]; exact hd)
  exact ⟨vm₁, mk, hnamed, X₁, fun target ht => hstep₁ _ ht⟩
/-- a virtual call whose name resolves to an interface's default, the object's class having its own method -/
theorem R_invVE {G : GG} {M : MD} {d pc : Nat} {lv : List (Nat × Value)} {st : List Value} {h : AH} {Q : Outcome → AH → Prop} {Mc : MD} {d' ix n ci b : Nat} {As : List Value} {x z : MethodName} {C0 : String} {T0 : u_T} {N : Nat} {ty : Nat → FieldType} (K : ClOK ci C0 T0 N ty) (hci : ci < 100) (hb : IsK G h b (ci, 0)) (hd : decode M.2.1 pc = .ok (.invokevirtual ix, 3)) (hl : Cond.methodLink M.1.cls ix x ∈ defaultWords_1) (hsm : Cond.sameMethod x.cls z.cls x.name x.desc ∈ defaultWords_1) (hnd : x.name = z.name ∧ x.desc = z.desc) (hz : z.cls ≠ "java/lang/invoke/MethodHandle" ∧ z.cls ≠ "java/lang/invoke/VarHandle") (hzi : Cond.instanceMethod z ∈ lw_all) (hzc : ∃ Mz : MD, Mz.1 = z ∧ mword Mz ∈ lw_all)
    (hse : Cond.selects C0 z Mc.1 ∈ lw_all) (hin : Cond.instanceMethod Mc.1 ∈ lw_all) (hcw : mword Mc ∈ lw_all) (hpd : (parseMethodDescriptor x.desc).map (fun d => d.parameters.length) = some n)
    (hq : plainName Mc.1.cls = true ∧ (Mc.1.cls ≠ "java/lang/invoke/MethodHandle" ∧ Mc.1.cls ≠ "java/lang/invoke/VarHandle") ∧ (parseMethodDescriptor Mc.1.desc).map (fun d => d.parameters.length) = some n) (hn : As.length = n) (hlen : (lg_sl (.ref b :: As)).length ≤ Mc.2.2.1) (hL45 : Mc.2.2.1 ≤ 45) (hdd : d' + 1 ≤ d) (hst : (st.map fun v => v.category).sum ≤ 8)
    (hc : Run G Mc d' 0 (lv_args 0 (.ref b :: As)) [] h (Aft G M d pc 3 lv st Q)) : Run G M d pc lv (As.reverse ++ .ref b :: st) h Q := by
  refine R_inv3 hc hq.1 hlen hL45 hdd hst hd hcw (fun {p l e R s m args below meth c T locs cells slots ls} C P hls X => ?_)
  obtain ⟨r0, r, hnr, hrm, hstR, -⟩ := Cond.instanceMethod_spec (C.wd _ hzi)
  obtain ⟨Mz, e1, hwz⟩ := hzc
  have hsigR : parseMethodDescriptor z.desc = some r.sig := by
    have hw := C.wd _ hwz
    unfold mword at hw
    split at hw
    · rw [e1] at hw
      obtain ⟨r', c0, hrm', -, -, -, -, -, -, hsig⟩ := Cond.code_spec hnr hw
      cases hrm.symm.trans hrm'
      exact hsig
    · rw [e1] at hw
      obtain ⟨m9, meth9, c9, hn9, g1, -, -, -, -, -, -, g8⟩ := Cond.codeWith_spec hw
      cases hnr.symm.trans hn9
      cases hrm.symm.trans g1
      exact g8
  have hdw : ∀ w ∈ defaultWords_1, w.before args s = true := fun w hw => word_at (a' := args) (State.WarmedH.refl s) (good_of_word (xw_ok w hw)) (C.kk.2.2.2.2.1 w hw)
  obtain ⟨mk, methM, hnamed, hmethM, -, habM⟩ := Cond.instanceMethod_spec (C.wd _ hin)
  have h0 := P.2.2 b hb.1 hb.2.1
  rw [cell_obj hb.2.2 hci] at h0
  obtain ⟨r9, h1, cellB, q1, q2, q3, q4⟩ := h0
  have hr : r9 = (C0, T0, N) := Option.some.inj (h1.symm.trans K.1)
  subst hr
  obtain ⟨hS, hfc, kC, hkC, hkind⟩ := C.va.1 ci _ K.1
  obtain ⟨c2, r2, m2, s1, s2, s3, s4, kP, hkP, hkPi⟩ := Cond.selects_spec (C.wd _ hse)
  cases hfc.symm.trans s1
  cases (State.methodFound?_of_named hnr hz).symm.trans s2
  cases hnamed.symm.trans s3
  have hnx : s.methodNamed? ⟨z.cls, x.name, x.desc⟩ = some r0 := by rw [hnd.1, hnd.2]; exact hnr
  have hselP : selectMethod e.platform s.vm cellB.cls r0 = .method mk := by rw [Launch.admits_selectMethod X.admits, q2]; exact s4
  have hlenA : As.length = r.sig.parameters.length := by
    have h2 := hpd
    rw [hnd.2, hsigR] at h2
    rw [hn]
    exact (Option.some.inj h2).symm
  obtain ⟨vm₁, X₁, hstep₁⟩ := X.invokevirtualUp C.1 C.own (hdw _ hl) (hdw _ hsm) hz hnx hrm hstR (a := b) (cell := cellB) q1
    (fun z h => by rw [q3] at h; cases h) hselP hmethM habM hkP hkPi (g := F0 m pc ls (As.reverse ++ .ref b :: st)) rfl (argsL := As) (rest := st) hlenA rfl (by rw [C.2.1]; exact hd)
  exact ⟨vm₁, mk, hnamed, X₁, fun target ht => hstep₁ _ ht⟩

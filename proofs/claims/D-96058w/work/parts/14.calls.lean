/-! LAYER 1: ends by a throw, calls -/
set_option maxRecDepth 100000
/-- an exception is on its way over the frame at pc -/
def Thr (G : GG) (M : MD) (d : Nat) (pc : Nat) (lv : List (Nat × Value)) (x : Nat) (h : AH) (Q : Outcome → AH → Prop) : Prop :=
  ∃ (o : Outcome) (h' : AH), Q o h' ∧ aN h ≤ aN h' ∧ aU h ≤ aU h' ∧
    ∀ (p : Program) (l : Launch) (e : Env) (R : Room) (s : State) (m : MethodId) (args : Array Value) (below : List Frame) (meth : Method) (c : Code) (H : Heap) (locs : List Loc) (cells slots : Nat) (ls : Array Slot),
      Cx G M p s m args meth c → d ≤ R.frames → 64 * d ≤ R.locals → cells + (aN h' - aN h) ≤ R.cells → slots + (aU h' - aU h) ≤ R.slots → Rep G h H → va_S (AG G) s.heap H locs → lv_has ls M.2.2.1 lv →
      ∀ (st : List Value) (T : State), T.heap = H → Stand p l e R s m args below meth c T locs cells slots → ∃ t, Steps p.tables e below ((T.setTop (F0 m pc ls st)).pushFrame (.throwing x)) t ∧ MQX below (QX G o h') args s (cells + (aN h' - aN h)) (slots + (aU h' - aU h)) (AG G) t
section RC
variable {G : GG} {M : MD} {d pc : Nat} {lv : List (Nat × Value)} {st : List Value} {h : AH} {Q : Outcome → AH → Prop}
theorem Thr.mono {x : Nat} {Q' : Outcome → AH → Prop} (r : Thr G M d pc lv x h Q) (hq : ∀ o h', Q o h' → Q' o h') : Thr G M d pc lv x h Q' := by
  obtain ⟨o, h', q, r⟩ := r
  exact ⟨o, h', hq _ _ q, r⟩
/-- no handler: the method ends with the exception -/
theorem Thr.leave {x : Nat} (hh : ∀ q ∈ M.2.2.2.2, (decide (q.1 ≤ pc) && decide (pc < q.2.1)) = false) (q : Q (.threw x) h) : Thr G M d pc lv x h Q := by
  refine ⟨.threw x, h, q, Nat.le_refl _, Nat.le_refl _, fun p l e R s m args below meth c H locs cells slots ls C a1 a2 a3 a4 P S L st T hT X => ?_⟩
  have hout : ∀ y ∈ c.exceptionTable.toList, covers y pc = false := by
    intro y hy
    have h1 : (y.startPc, y.endPc, y.handlerPc, y.catchType) ∈ M.2.2.2.2 := by
      rw [← C.2.2.2.2.2.2.2.2.2]
      exact List.mem_map.mpr ⟨y, hy, rfl⟩
    have h2 := hh _ h1
    simpa [covers] using h2
  obtain ⟨b1, b2, b3, b4, b5⟩ := X.leaveThrown x (g := F0 m pc ls st) rfl rfl rfl hout (hlocks := C.2.2.2.2.1)
  rw [Nat.sub_self, Nat.sub_self, Nat.add_zero, Nat.add_zero]
  have hh2 : (T.setFrames (.throwing x :: below)).heap = H := by rw [← hT]; rfl
  exact ⟨_, b1, .threw x, b2, b3, ⟨rfl, by rw [hh2]; exact P, S.F hh2⟩, locs, ⟨b4, b5⟩, S.2.2⟩
theorem R_athrow {x : Nat} (hd : decode M.2.1 pc = .ok (.athrow, 1)) (k : Thr G M d pc lv x h Q) : Run G M d pc lv (.ref x :: st) h Q := by
  obtain ⟨o, h', q, h1, h2, r⟩ := k
  refine ⟨o, h', q, h1, h2, fun p l e R s m args below meth c H locs cells slots ls C a1 a2 a3 a4 P S L => ?_⟩
  intro T hT X
  obtain ⟨t, b1, b2⟩ := r p l e R s m args below meth c H locs cells slots ls C a1 a2 a3 a4 P S L st T hT X
  refine ⟨t, ?_, b2⟩
  jvm_step X.here [C.1, C.2.1, hd, athrow.wp_sem]
  exact b1
theorem met_of {argsL : List Value} (hy : plainName M.1.cls = true) (hlen : (lg_sl argsL).length ≤ M.2.2.1) (r : Run G M d 0 (lv_args 0 argsL) [] h Q) : ∃ (o : Outcome) (h' : AH), Q o h' ∧ aN h ≤ aN h' ∧ aU h ≤ aU h' ∧ ∀ l : Launch, MetX l M.1 (mword M :: lw_all) { frames := d, cells := aN h' - aN h, slots := aU h' - aU h, locals := 64 * d } (va_Pc argsL (fun U => Rep G h U.heap ∧ KK G U)) (QX G o h') (aN h' - aN h) (aU h' - aU h) (AG G) := by
  obtain ⟨o, h', q, h1, h2, r⟩ := r
  refine ⟨o, h', q, h1, h2, fun l => ?_⟩
  have hspec : ∀ (args : Array Value) (s : State), (allAtoms (mword M :: lw_all)).before args s = true → (mword M).before args s = true := fun args s hb => atoms_spec (ws := mword M :: lw_all) hb _ List.mem_cons_self
  refine MetFree.of_bodyS (code := M.2.1) (maxLocals := M.2.2.1) (ret := M.2.2.2.1) hy ?_ ?_
  · intro args s m hb hn
    have hw := hspec args s hb
    unfold mword at hw
    split at hw
    · obtain ⟨meth, c, g1, g2, g3, g4, g5, g6, -, -⟩ := Cond.code_spec hn hw
      exact ⟨meth, c, g1, g2, g3, g4, g5, g6⟩
    · obtain ⟨m9, meth, c, hn9, g1, g2, g3, g4, -, g5, g6, -⟩ := Cond.codeWith_spec hw
      cases hn.symm.trans hn9
      exact ⟨meth, c, g1, g2, g3, g4, g5, g6⟩
  · intro p e s m args below meth c s₁ B hml hP _
    obtain ⟨rfl, hR, hK⟩ := hP
    have hh0 : s₁.heap = s.heap := by rw [B.state]; rfl
    have hts := atoms_spec (ws := mword M :: lw_all) B.pre
    have hw := hts _ List.mem_cons_self
    have hhd : c.exceptionTable.toList.map (fun x => (x.startPc, x.endPc, x.handlerPc, x.catchType)) = M.2.2.2.2 := by
      unfold mword at hw
      split at hw
      · next he =>
        have h3 := B.noHandlers hw
        have h4 : M.2.2.2.2 = [] := by simpa using he
        have h5 : c.exceptionTable.toList = [] := by simpa using h3
        rw [h4, h5]; rfl
      · obtain ⟨m9, meth9, c9, hn9, g1, g2, g3, g4, g5, -⟩ := Cond.codeWith_spec hw
        cases B.named.symm.trans hn9
        cases B.method.symm.trans g1
        cases (Stand.of_body B).code.symm.trans g2
        exact g5
    have C : Cx G M p s m argsL.toArray meth c := ⟨B.exec, B.bytes, hml, B.returns, B.notSynchronized, findClass_of_methodNamed B.named, fun w hw => hts w (List.mem_cons_of_mem _ hw), hK, (name_of_methodNamed B.named B.method).1, hhd⟩
    have hl := lv_entry argsL (n := M.2.2.1) hlen
    have key := r p l e { frames := d, cells := aN h' - aN h, slots := aU h' - aU h, locals := 64 * d } s m argsL.toArray below meth c s.heap [] 0 0 _ C (Nat.le_refl _) (Nat.le_refl _) (Nat.le_of_eq (Nat.zero_add _)) (Nat.le_of_eq (Nat.zero_add _)) hR va_S.rf hl
    rw [← lg_entry_eq, Nat.zero_add, Nat.zero_add] at key
    obtain ⟨t, a1, o', b1, b2, b3⟩ := key s₁ hh0 (Stand.of_body B)
    exact ⟨t, o', a1, b1, b2, b3⟩
theorem heap_top (T : State) (g : JFrame) : (T.setTop g).heap = T.heap := by simp [State.setTop, State.modifyTopJava, State.setFrames]
/-- a call over a contract: it comes back, or throws -/
theorem bx_call {p : Program} {l : Launch} {e : Env} {R : Room} {s : State} {m : MethodId} {args : Array Value} {below : List Frame} {meth : Method} {c : Code} {U : State} {locs : List Loc} {cells slots : Nat} (X : Stand p l e R s m args below meth c U locs cells slots)
    {y : MethodName} {ws : List Cond} {rm : Room} {Pc : Array Value → State → Prop} {Qc : Array Value → State → Outcome → State → Prop} {mc ms : Nat} {free : Addr → Prop} (hM : MetX l y ws rm Pc Qc mc ms free)
    {g : JFrame} {ig : Instr} {len maxL : Nat} {mk : MethodId} {a : Array Value} (hg : g.method = m) (hsize : g.locals.size = c.maxLocals) (hdg : decode c.code g.pc = .ok (ig, len)) (hn : U.methodNamed? y = some mk)
    (hcode : ∃ methY cY, U.vm.method? mk = some methY ∧ methY.code = some cY ∧ cY.maxLocals = maxL) (hinit : (Cond.initialized y.cls).before a U = true) (hpre : (allAtoms ws).before a U = true)
    (hframes : rm.frames + 1 ≤ R.frames) (hlocals : 2 * g.monitorRoom + (g.stack.map fun v => v.category).sum + (maxL + 11) + rm.locals ≤ R.locals) (hcells : cells + rm.cells ≤ R.cells) (hslots : slots + rm.slots ≤ R.slots)
    (hP : Pc a (U.calling g mk a)) :
    ∃ (o : Outcome) (t T' : State) (L : List Loc), Qc a (U.calling g mk a) o t ∧ Stand p l e R s m args below meth c T' (locs ++ L) (cells + mc) (slots + ms) ∧ (∀ q ∈ L, free q.base) ∧ T'.heap = t.heap ∧
      (∀ v, o = .returned v → Steps p.tables e below (doInvoke e (U.setTop g) [] mk a).1 (T'.setTop { g with pc := g.pc + len, stack := v.toList ++ g.stack })) ∧
      (∀ x, o = .threw x → Steps p.tables e below (doInvoke e (U.setTop g) [] mk a).1 ((T'.setTop g).pushFrame (.throwing x))) := by
  obtain ⟨methY, cY, hmY, hcY, hlY⟩ := hcode
  obtain ⟨kY, hkY, -⟩ := className_of_methodNamed hn
  have hinitY : kY.init = .initialized := Cond.initialized_spec (findClass_of_methodNamed hn) hkY hinit
  have h : At U g.method c below := by rw [hg]; exact X.here
  have happ : (headSpec ws rm).appliesLoose y e.platform (U.calling g mk a) = true :=
    Spec.appliesLoose_calling (g := g) h hdg hn hkY hinitY (X.room_calling (g := g) (R' := rm) hsize hmY hcY hframes (by rw [hlY]; exact hlocals) hcells hslots) hpre
  obtain ⟨mid, hmid⟩ := h.above
  have hfr : (U.setTop g).frames = (.java g :: mid) ++ below := by rw [State.frames_setTop' g h.top, hmid]; rfl
  obtain ⟨o, s₂, hsteps, -, hend, hq, L, hE, hL⟩ := Steps.callFree hM p X.admits X.cas X.clock (acts := []) hfr happ hP trivial
  rw [State.frames_setTop' g h.top, X.tail] at hend
  cases o with
  | returned v =>
    obtain ⟨T', b1, b2, b3, b4⟩ := X.outOf hg hdg hend hE.1 hE.2
    refine ⟨.returned v, s₂, T', L, hq, b1, hL, by rw [b4]; exact (heap_top _ _).symm, fun w hw => ?_, fun x hx => by cases hx⟩
    cases hw
    rw [← b4]
    exact hsteps
  | threw x =>
    obtain ⟨T', b1, b2, b3, b4⟩ := X.outOfThrown hg hend hE.1 hE.2
    refine ⟨.threw x, s₂, T', L, hq, b1, hL, by rw [b4, Stand.throwing_heap], (fun w hw => (by cases hw)), fun y hy => ?_⟩
    cases hy
    rw [← b4]
    exact hsteps
/-- what comes behind a call at pc, len bytes long -/
def Aft (G : GG) (M : MD) (d pc len : Nat) (lv : List (Nat × Value)) (st : List Value) (Q : Outcome → AH → Prop) (o : Outcome) (h : AH) : Prop :=
  (∃ v, o = .returned v ∧ Run G M d (pc + len) lv (v.toList ++ st) h Q) ∨ (∃ x, o = .threw x ∧ Thr G M d pc lv x h Q)
/-- the frame of every call: 'go' is the invoking instruction up to doInvoke -/
theorem R_inv {Mc : MD} {d' len : Nat} {As : List Value} {stk : List Value} {ig : Instr} (hc : Run G Mc d' 0 (lv_args 0 As) [] h (Aft G M d pc len lv st Q)) (hy : plainName Mc.1.cls = true) (hlen : (lg_sl As).length ≤ Mc.2.2.1) (hL45 : Mc.2.2.1 ≤ 45) (hdd : d' + 1 ≤ d) (hst : (st.map fun v => v.category).sum ≤ 8)
    (hd : decode M.2.1 pc = .ok (ig, len)) (hcw : mword Mc ∈ lw_all) (hini : Cond.initialized Mc.1.cls ∈ lw_all)
    (go : ∀ {p : Program} {l : Launch} {e : Env} {R : Room} {s : State} {m : MethodId} {args : Array Value} {below : List Frame} {meth : Method} {c : Code} {T : State} {locs : List Loc} {cells slots : Nat} {ls : Array Slot},
      Cx G M p s m args meth c → Rep G h T.heap → ls.size = M.2.2.1 → Stand p l e R s m args below meth c T locs cells slots → ∃ (vm₁ : Vm) (mk : MethodId), s.methodNamed? Mc.1 = some mk ∧ Stand p l e R s m args below meth c (T.setVm vm₁) locs cells slots ∧
        ∀ target, (∀ acts, Steps p.tables e below (doInvoke e ((T.setVm vm₁).setTop (F0 m pc ls st)) acts mk As.toArray).1 target) → Steps p.tables e below (T.setTop (F0 m pc ls stk)) target) :
    Run G M d pc lv stk h Q := by
  obtain ⟨o1, h1, P1, n1, u1, hM⟩ := met_of hy hlen hc
  have fin : ∀ (o2 : Outcome) (h2 : AH), aN h1 ≤ aN h2 → aU h1 ≤ aU h2 → Q o2 h2 →
      (∀ (p : Program) (l : Launch) (e : Env) (R : Room) (s : State) (m : MethodId) (args : Array Value) (below : List Frame) (meth : Method) (c : Code) (H : Heap) (locs : List Loc) (cells slots : Nat) (ls : Array Slot),
        Cx G M p s m args meth c → d ≤ R.frames → 64 * d ≤ R.locals → cells + (aN h2 - aN h1) ≤ R.cells → slots + (aU h2 - aU h1) ≤ R.slots → Rep G h1 H → va_S (AG G) s.heap H locs → lv_has ls M.2.2.1 lv →
        ∀ (T : State), T.heap = H → Stand p l e R s m args below meth c T locs cells slots → ∃ t, ((∀ v, o1 = .returned v → Steps p.tables e below (T.setTop (F0 m (pc + len) ls (v.toList ++ st))) t) ∧ (∀ x, o1 = .threw x → Steps p.tables e below ((T.setTop (F0 m pc ls st)).pushFrame (.throwing x)) t)) ∧ MQX below (QX G o2 h2) args s (cells + (aN h2 - aN h1)) (slots + (aU h2 - aU h1)) (AG G) t) →
      Run G M d pc lv stk h Q := by
    intro o2 h2 n2 u2 q2 r2
    refine ⟨o2, h2, q2, Nat.le_trans n1 n2, Nat.le_trans u1 u2, fun p l e R s m args below meth c H locs cells slots ls C a1 a2 a3 a4 P S L => ?_⟩
    intro T hT X
    obtain ⟨vm₁, mk, hnm, X₁, hstep⟩ := go (ls := ls) C (by rw [hT]; exact P) L.1 X
    have hW := X₁.warmed
    have hW' : s.WarmedH (T.setVm vm₁).vm := hW
    have hwd : ∀ w ∈ lw_all, ∀ (a' : Array Value) (U : State), s.WarmedH U.vm → w.before a' U = true := fun w hw a' U hWU => word_at hWU (lw_self w hw).2 (C.wd w hw)
    have hall : (allAtoms (mword Mc :: lw_all)).before As.toArray (T.setVm vm₁) = true := atoms_intro fun w hw => by
      rcases List.mem_cons.mp hw with e1 | e1
      · rw [e1]; exact hwd _ hcw _ _ hW'
      · exact hwd _ e1 _ _ hW'
    have hnU : (T.setVm vm₁).methodNamed? Mc.1 = some mk := X₁.named hnm
    have hcodeY : ∃ methY cY, (T.setVm vm₁).vm.method? mk = some methY ∧ methY.code = some cY ∧ cY.maxLocals = Mc.2.2.1 := by
      have hw := hwd _ hcw As.toArray _ hW'
      unfold mword at hw
      split at hw
      · obtain ⟨meth9, c9, g1, g2, -, g4, -⟩ := Cond.code_spec hnU hw
        exact ⟨meth9, c9, g1, g2, g4⟩
      · obtain ⟨m9, meth9, c9, hn9, g1, g2, -, g4, -⟩ := Cond.codeWith_spec hw
        cases hnU.symm.trans hn9
        exact ⟨meth9, c9, g1, g2, g4⟩
    obtain ⟨o, t, T', Lc, hq, X', hLc, hheap, hret, hthr⟩ := bx_call X₁ (hM l) (g := F0 m pc ls st) (ig := ig) (len := len) (maxL := Mc.2.2.1) (mk := mk) (a := As.toArray) rfl (by rw [C.2.2.1]; exact L.1) (by rw [C.2.1]; exact hd) hnU hcodeY (hwd _ hini _ _ hW') hall
      (by show d' + 1 ≤ R.frames; omega) (by show 2 * 0 + (st.map fun v => v.category).sum + (Mc.2.2.1 + 11) + 64 * d' ≤ R.locals; omega) (by show cells + (aN h1 - aN h) ≤ R.cells; omega) (by show slots + (aU h1 - aU h) ≤ R.slots; omega)
      ⟨rfl, by show Rep G h T.heap; rw [hT]; exact P, C.kk.moved (u := s) (U := (T.setVm vm₁).calling (F0 m pc ls st) mk As.toArray) hW' (fun q g1 g2 => by show T.heap[q]? = _; rw [hT]; exact S.2.1 q g1 g2)⟩
    obtain ⟨rfl, R1, F1⟩ := hq
    have F1' : T.heap.size ≤ t.heap.size ∧ ∀ q : Nat, q < T.heap.size → ¬ G.1 ≤ q → t.heap[q]? = T.heap[q]? := F1
    rw [hT] at F1'
    have S' : va_S (AG G) s.heap T'.heap (locs ++ Lc) := by
      rw [hheap]
      refine ⟨Nat.le_trans S.1 F1'.1, fun q g1 g2 => (F1'.2 q (Nat.lt_of_lt_of_le g1 S.1) g2).trans (S.2.1 q g1 g2), fun q hq => ?_⟩
      rcases List.mem_append.mp hq with g | g
      · exact S.2.2 q g
      · exact hLc q g
    obtain ⟨tf, ⟨f1, f2⟩, f3⟩ := r2 p l e R s m args below meth c T'.heap (locs ++ Lc) (cells + (aN h1 - aN h)) (slots + (aU h1 - aU h)) ls C a1 a2 (by omega) (by omega) (by rw [hheap]; exact R1) S' L T' rfl X'
    refine ⟨tf, ?_, ?_⟩
    · refine hstep tf fun acts => ?_
      rw [doInvoke_state]
      cases o with
      | returned v => exact (hret v rfl).trans (f1 v rfl)
      | threw x => exact (hthr x rfl).trans (f2 x rfl)
    · have e1 : cells + (aN h1 - aN h) + (aN h2 - aN h1) = cells + (aN h2 - aN h) := by omega
      have e2 : slots + (aU h1 - aU h) + (aU h2 - aU h1) = slots + (aU h2 - aU h) := by omega
      rw [e1, e2] at f3
      exact f3
  rcases P1 with ⟨v, rfl, k⟩ | ⟨x, rfl, k⟩
  · obtain ⟨o2, h2, q2, n2, u2, r⟩ := k
    refine fin o2 h2 n2 u2 q2 fun p l e R s m args below meth c H locs cells slots ls C a1 a2 a3 a4 P S L T hT X => ?_
    obtain ⟨t, b1, b2⟩ := r p l e R s m args below meth c H locs cells slots ls C a1 a2 a3 a4 P S L T hT X
    exact ⟨t, ⟨fun w hw => by cases hw; exact b1, fun x hx => by cases hx⟩, b2⟩
  · obtain ⟨o2, h2, q2, n2, u2, r⟩ := k
    refine fin o2 h2 n2 u2 q2 fun p l e R s m args below meth c H locs cells slots ls C a1 a2 a3 a4 P S L T hT X => ?_
    obtain ⟨t, b1, b2⟩ := r p l e R s m args below meth c H locs cells slots ls C a1 a2 a3 a4 P S L st T hT X
    exact ⟨t, ⟨(fun w hw => (by cases hw)), (fun y hy => (by cases hy; exact b1))⟩, b2⟩
/-- a static call -/
theorem R_invS {Mc : MD} {d' ix n : Nat} {As : List Value} (hd : decode M.2.1 pc = .ok (.invokestatic ix, 3)) (hl : Cond.methodLink M.1.cls ix Mc.1 ∈ lw_all) (hs : Cond.static Mc.1 ∈ lw_all) (hini : Cond.initialized Mc.1.cls ∈ lw_all) (hcw : mword Mc ∈ lw_all)
    (hq : plainName Mc.1.cls = true ∧ (Mc.1.cls ≠ "java/lang/invoke/MethodHandle" ∧ Mc.1.cls ≠ "java/lang/invoke/VarHandle") ∧ (parseMethodDescriptor Mc.1.desc).map (fun d => d.parameters.length) = some n) (hn : As.length = n) (hlen : (lg_sl As).length ≤ Mc.2.2.1) (hL45 : Mc.2.2.1 ≤ 45) (hdd : d' + 1 ≤ d) (hst : (st.map fun v => v.category).sum ≤ 8)
    (hc : Run G Mc d' 0 (lv_args 0 As) [] h (Aft G M d pc 3 lv st Q)) : Run G M d pc lv (As.reverse ++ st) h Q := by
  refine R_inv hc hq.1 hlen hL45 hdd hst hd hcw hini (fun {p l e R s m args below meth c T locs cells slots ls} C P hls X => ?_)
  have hcm := C.wd _ hcw
  have hinit := C.wd _ hini
  obtain ⟨mk, methM, hnamed, hmethM, hsigM⟩ : ∃ mk methM, s.methodNamed? Mc.1 = some mk ∧ s.vm.method? mk = some methM ∧ parseMethodDescriptor Mc.1.desc = some methM.sig := by
    unfold mword at hcm
    split at hcm
    · obtain ⟨mk, hnamed⟩ := Cond.code_named hcm
      obtain ⟨methM, cM, hmethM, -, -, -, -, -, -, hsigM⟩ := Cond.code_spec hnamed hcm
      exact ⟨mk, methM, hnamed, hmethM, hsigM⟩
    · obtain ⟨m9, meth9, c9, hn9, g1, -, -, -, -, -, -, g8⟩ := Cond.codeWith_spec hcm
      exact ⟨m9, meth9, hn9, g1, g8⟩
  have hstatic : methM.isStatic = true := Cond.static_spec hnamed hmethM (C.wd _ hs)
  obtain ⟨kP, hkP, -⟩ := className_of_methodNamed hnamed
  have hinitP : kP.init = .initialized := Cond.initialized_spec (findClass_of_methodNamed hnamed) hkP hinit
  have hlenA : As.length = methM.sig.parameters.length := by
    have h2 := hq.2.2
    rw [hsigM] at h2
    rw [hn]
    exact (Option.some.inj h2).symm
  obtain ⟨vm₁, X₁, hstep₁⟩ := X.invokestatic C.1 C.own (C.wd _ hl) hnamed hmethM hstatic hkP hinitP hq.2.1 (g := F0 m pc ls (As.reverse ++ st)) rfl (argsL := As) (rest := st) hlenA rfl (by rw [C.2.1]; exact hd)
  exact ⟨vm₁, mk, hnamed, X₁, fun target ht => hstep₁ _ ht⟩
/-- a virtual call; the receiver is of the class numbered ci, which selects y itself -/
theorem R_invV {Mc : MD} {d' ix n ci b : Nat} {As : List Value} {C0 : String} {T0 : u_T} {N : Nat} {ty : Nat → FieldType} (K : ClOK ci C0 T0 N ty) (hci : ci < 100) (hb : IsK G h b (ci, 0)) (hd : decode M.2.1 pc = .ok (.invokevirtual ix, 3)) (hl : Cond.methodLink M.1.cls ix Mc.1 ∈ lw_all) (hin : Cond.instanceMethod Mc.1 ∈ lw_all) (hse : Cond.selects C0 Mc.1 Mc.1 ∈ lw_all) (hini : Cond.initialized Mc.1.cls ∈ lw_all) (hcw : mword Mc ∈ lw_all)
    (hq : plainName Mc.1.cls = true ∧ (Mc.1.cls ≠ "java/lang/invoke/MethodHandle" ∧ Mc.1.cls ≠ "java/lang/invoke/VarHandle") ∧ (parseMethodDescriptor Mc.1.desc).map (fun d => d.parameters.length) = some n) (hn : As.length = n) (hlen : (lg_sl (.ref b :: As)).length ≤ Mc.2.2.1) (hL45 : Mc.2.2.1 ≤ 45) (hdd : d' + 1 ≤ d) (hst : (st.map fun v => v.category).sum ≤ 8)
    (hc : Run G Mc d' 0 (lv_args 0 (.ref b :: As)) [] h (Aft G M d pc 3 lv st Q)) : Run G M d pc lv (As.reverse ++ .ref b :: st) h Q := by
  refine R_inv hc hq.1 hlen hL45 hdd hst hd hcw hini (fun {p l e R s m args below meth c T locs cells slots ls} C P hls X => ?_)
  have hcm := C.wd _ hcw
  obtain ⟨mk, methM, hnamed, hmethM, hstM, habM⟩ := Cond.instanceMethod_spec (C.wd _ hin)
  have hsigM : parseMethodDescriptor Mc.1.desc = some methM.sig := by
    unfold mword at hcm
    split at hcm
    · obtain ⟨methM', cM, hmethM', -, -, -, -, -, -, hsigM⟩ := Cond.code_spec hnamed hcm
      cases hmethM.symm.trans hmethM'
      exact hsigM
    · obtain ⟨m9, meth9, c9, hn9, g1, -, -, -, -, -, -, g8⟩ := Cond.codeWith_spec hcm
      cases hnamed.symm.trans hn9
      cases hmethM.symm.trans g1
      exact g8
  have hlenA : As.length = methM.sig.parameters.length := by
    have h2 := hq.2.2
    rw [hsigM] at h2
    rw [hn]
    exact (Option.some.inj h2).symm
  have h0 := P.2.2 b hb.1 hb.2.1
  rw [cell_obj hb.2.2 hci] at h0
  obtain ⟨r, h1, cellB, q1, q2, q3, q4⟩ := h0
  have hr : r = (C0, T0, N) := Option.some.inj (h1.symm.trans K.1)
  subst hr
  obtain ⟨hS, hfc, kC, hkC, hkind⟩ := C.va.1 ci _ K.1
  obtain ⟨c2, r2, m2, s1, s2, s3, s4, kP, hkP, hkPi⟩ := Cond.selects_spec (C.wd _ hse)
  cases hfc.symm.trans s1
  cases (State.methodFound?_of_named hnamed hq.2.1).symm.trans s2
  cases hnamed.symm.trans s3
  have hselP : selectMethod e.platform s.vm cellB.cls mk = .method mk := by rw [Launch.admits_selectMethod X.admits, q2]; exact s4
  obtain ⟨vm₁, X₁, hstep₁⟩ := X.invokevirtual C.1 C.own (C.wd _ hl) hnamed hmethM hstM hkP hkPi hq.2.1 (a := b) (cell := cellB) q1
    (fun z h => by rw [q3] at h; cases h) hselP hmethM habM hkP hkPi (g := F0 m pc ls (As.reverse ++ .ref b :: st)) rfl (argsL := As) (rest := st) hlenA rfl (by rw [C.2.1]; exact hd)
  exact ⟨vm₁, mk, hnamed, X₁, fun target ht => hstep₁ _ ht⟩
/-- a constructor's call -/
theorem R_invI {Mc : MD} {d' ix n b : Nat} {As : List Value} (hd : decode M.2.1 pc = .ok (.invokespecial ix, 3)) (hl : Cond.methodLink M.1.cls ix Mc.1 ∈ lw_all) (hin : Cond.instanceMethod Mc.1 ∈ lw_all) (hini : Cond.initialized Mc.1.cls ∈ lw_all) (hy1 : Mc.1.name = "<init>") (hcw : Cond.code Mc.1 Mc.2.1 Mc.2.2.1 none ∈ lw_all) (hm : mword Mc = Cond.code Mc.1 Mc.2.1 Mc.2.2.1 none)
    (hq : plainName Mc.1.cls = true ∧ (Mc.1.cls ≠ "java/lang/invoke/MethodHandle" ∧ Mc.1.cls ≠ "java/lang/invoke/VarHandle") ∧ (parseMethodDescriptor Mc.1.desc).map (fun d => d.parameters.length) = some n) (hn : As.length = n) (hlen : (lg_sl (.ref b :: As)).length ≤ Mc.2.2.1) (hL45 : Mc.2.2.1 ≤ 45) (hdd : d' + 1 ≤ d) (hst : (st.map fun v => v.category).sum ≤ 8)
    (hc : Run G Mc d' 0 (lv_args 0 (.ref b :: As)) [] h (Aft G M d pc 3 lv st Q)) : Run G M d pc lv (As.reverse ++ .ref b :: st) h Q := by
  refine R_inv hc hq.1 hlen hL45 hdd hst hd (by rw [hm]; exact hcw) hini (fun {p l e R s m args below meth c T locs cells slots ls} C P hls X => ?_)
  have hpl : e.platform.magicAccessors = ({} : Platform).magicAccessors := by rw [X.admits.platform]
  have hlenA : ∀ sig, parseMethodDescriptor Mc.1.desc = some sig → As.length = sig.parameters.length := by
    intro sig h
    have h2 := hq.2.2
    rw [h] at h2
    rw [hn]
    exact (Option.some.inj h2).symm
  obtain ⟨mk, methM, cM, kP, vm₁, hnamed, hmethM, hcodeM, -, hlocalsM, -, hkP, -, hW₁, hstep₁⟩ := Steps.initColdArgs (e := e) X.here C.1 X.warmed hpl C.own hy1 hq.2.1 (C.wd _ hl) (C.wd _ hin) (C.wd _ hcw) (f := F0 m pc ls (As.reverse ++ .ref b :: st)) rfl hlenA rfl (by rw [C.2.1]; exact hd)
  exact ⟨vm₁, mk, hnamed, X.noted hW₁, fun target ht => hstep₁ _ ht⟩
theorem R_objInit {ix a : Nat} (hd : decode M.2.1 pc = .ok (.invokespecial ix, 3)) (hl : Cond.methodLink M.1.cls ix Lib.objectInit ∈ lw_all) (hin : Cond.instanceMethod Lib.objectInit ∈ lw_all) (hcw : Cond.code Lib.objectInit ⟨#[0xb1]⟩ 1 none ∈ lw_all) (hdd : 1 ≤ d) (hst : (st.map fun v => v.category).sum ≤ 8) (kk : Run G M d (pc + 3) lv st h Q) : Run G M d pc lv (.ref a :: st) h Q :=
  R_lift (fun {p l e R s m args below meth c H locs cells slots ls Q'} C a1 a2 P L kk => W.objInit C.1 C.2.1 C.own (C.wd _ hl) (C.wd _ hin) (C.wd _ hcw) (g := F0 m pc ls (.ref a :: st)) rfl (by rw [C.2.2.1]; exact L.1) rfl hd (by omega) (by show 2 * 0 + _ + 12 ≤ _; omega) kk) kk
end RC

/-! LAYER 1: an exception is caught in the method; the catch type's entry may be cold -/
set_option maxRecDepth 100000
theorem fh_cold {Q : Handler → Pre} {E : CtlPost} {e : Env} {d : Bool} {acts : List Action} {s : State} {f : JFrame} {a : Addr} {x : ExceptionTableEntry} {t : List ExceptionTableEntry} {c : ClassId} {cell : Cell} {vm' : Vm} (hx : covers x f.pc = true) (h0 : x.catchType ≠ 0)
    (hg : (Jvm.resolveClass f.method.cls x.catchType).Gives e.toSetting s.vm (.ok c) vm') (hsz : vm'.classes.size ≤ s.vm.classes.size) (hcell : s.heap[a]? = some cell) (hobj : ∀ k, cell.vm ≠ .statics k) (hk : ∃ k, vm'.classes[cell.cls]? = some k) (hc : ∃ k, vm'.classes[c]? = some k) (hfit : vm'.assignable cell.cls c = true) :
    wp (findHandler.go f a (x :: t)) Q E e d acts s ↔ Q (.found x.handlerPc) d acts (s.setVm vm') := by
  obtain ⟨ha, ht⟩ := hg.op (op := VmOp.resolveClass f.method.cls x.catchType) rfl
  simp only [covers] at hx
  have hcell' : (s.setVm vm').heap[a]? = some cell := hcell
  simp [findHandler.go, hx, h0, ha, ht, hsz, hcell, hcell', hobj, hk, hc, hfit, VmOp.dirties, VmOp.acts]
theorem st_cold {e : Env} {s : State} {a : Addr} {f : JFrame} {r : List Frame} {meth : Method} {code : Code} {x : ExceptionTableEntry} {t : List ExceptionTableEntry} {c : ClassId} {cell : Cell} {vm' : Vm} (hm : s.vm.method? f.method = some meth) (hcd : meth.code = some code) (htab : code.exceptionTable.toList = x :: t) (hx : covers x f.pc = true) (h0 : x.catchType ≠ 0)
    (hg : (Jvm.resolveClass f.method.cls x.catchType).Gives e.toSetting s.vm (.ok c) vm') (hsz : vm'.classes.size ≤ s.vm.classes.size) (hcell : s.heap[a]? = some cell) (hobj : ∀ k, cell.vm ≠ .statics k) (hk : ∃ k, vm'.classes[cell.cls]? = some k) (hc : ∃ k, vm'.classes[c]? = some k) (hfit : vm'.assignable cell.cls c = true) :
    (stepThrowing e s a (.java f :: r)).Is ((s.setVm vm').setFrames (.java { f with pc := x.handlerPc, stack := [.ref a] } :: r)) [] := by
  have hfind : ∀ (Q : Handler → Pre) (E : CtlPost) (d : Bool) (acts : List Action), wp (findHandler f a) Q E e d acts s ↔ Q (.found x.handlerPc) d acts (s.setVm vm') := by
    intro Q E d acts
    have h1 := fh_cold (Q := Q) (E := E) (e := e) (d := d) (acts := acts) (t := t) hx h0 hg hsz hcell hobj hk hc hfit
    simp only [findHandler]
    simp [hm, hcd, htab]
    exact h1
  simp only [stepThrowing, searchFrame, vmDo]
  generalize hr : Sem.go _ e false [] s = res
  obtain ⟨as, rfl, ha⟩ := Sem.eq_ok_of hr (a := Handler.found x.handlerPc) (s' := s.setVm vm') (acts' := []) (by simp [hfind _ _ _ _])
  exact ⟨rfl, ha⟩
theorem caught_cold {p : Program} {l : Launch} {e : Env} {R : Room} {s : State} {m : MethodId} {args : Array Value} {below : List Frame} {meth : Method} {c : Code} {T : State} {locs : List Loc} {cells slots : Nat} (X : Stand p l e R s m args below meth c T locs cells slots) {own C : String} {a : Addr} {g : JFrame} (hg : g.method = m) {x : ExceptionTableEntry} {t : List ExceptionTableEntry} {cell : Cell} (hown : s.vm.findClass own = some m.cls) (htab : c.exceptionTable.toList = x :: t) (hx : covers x g.pc = true) (h0 : x.catchType ≠ 0)
    (hlink : (Cond.classLink own x.catchType C).before args s = true) (hcell : T.heap[a]? = some cell) (hobj : ∀ k, cell.vm ≠ .statics k) (hcl : s.vm.findClass C = some cell.cls) :
    ∃ vm', Stand p l e R s m args below meth c (T.setVm vm') locs cells slots ∧ ∀ target, Steps p.tables e below ((T.setVm vm').setTop { g with pc := x.handlerPc, stack := [.ref a] }) target → Steps p.tables e below ((T.setTop g).pushFrame (.throwing a)) target := by
  subst hg
  have hpl : e.platform.magicAccessors = ({} : Platform).magicAccessors := by rw [X.admits.platform]
  obtain ⟨cc, hfcc, hlk⟩ := Cond.classLink_spec hown hlink e.platform hpl
  cases hcl.symm.trans hfcc
  obtain ⟨hg₁, hwarm₁, hready₁⟩ := State.classEntry (e := e) X.warmed hlk
  obtain ⟨k0, hk0, -⟩ := Vm.findClass_spec hcl
  obtain ⟨k1, hk1, he1⟩ := hwarm₁.alike.2.2 _ _ hk0
  have hsz : (T.vm.noted g.method.cls x.catchType (.cls cell.cls)).classes.size ≤ T.vm.classes.size := by
    have h1 := hwarm₁.alike.2.1
    have h2 := X.warmed.alike.2.1
    omega
  generalize T.vm.noted g.method.cls x.catchType (.cls cell.cls) = vm₁ at hg₁ hwarm₁ hready₁ hk1 he1 hsz
  refine ⟨vm₁, X.noted hwarm₁, fun target hrest => ?_⟩
  have h : At T g.method c below := X.here
  obtain ⟨hgo, hw⟩ := h.throwing a
  refine Steps.head hgo hw ?_
  have hvm : ((T.setTop g).pushFrame (.throwing a)).vm = T.vm := Stand.throwing_vm T g a
  have hhp : ((T.setTop g).pushFrame (.throwing a)).heap = T.heap := Stand.throwing_heap T g a
  rw [stepThread_throwing (frames_entered h.top _), (st_cold (s := (T.setTop g).pushFrame (.throwing a)) (meth := meth) (code := c) (x := x) (t := t) (c := cell.cls) (cell := cell) (vm' := vm₁) (by rw [hvm]; exact X.method') X.code htab hx h0 (by rw [hvm]; exact hg₁) (by rw [hvm]; exact hsz) (by rw [hhp]; exact hcell) hobj ⟨k1, hk1⟩ ⟨k1, hk1⟩ (va_asg _ _)).1]
  obtain ⟨g₀, hg0⟩ := Option.isSome_iff_exists.mp h.top
  obtain ⟨r, hr⟩ := State.topJava?_eq_some.mp hg0
  have e1 : ((((T.setTop g).pushFrame (.throwing a)).setVm vm₁).setFrames (.java { g with pc := x.handlerPc, stack := [.ref a] } :: T.frames.tail)) = (T.setVm vm₁).setTop { g with pc := x.handlerPc, stack := [.ref a] } := by
    have hr' : (T.setVm vm₁).frames = .java g₀ :: r := hr
    rw [State.setTop_of_frames _ hr', State.pushFrame, State.setTop_of_frames _ hr, hr]
    show (((T.setFrames (.java g :: r)).setFrames _).setFrames (.java { g with pc := x.handlerPc, stack := [.ref a] } :: r)).setVm vm₁ = (T.setFrames (.java { g with pc := x.handlerPc, stack := [.ref a] } :: r)).setVm vm₁
    rw [State.setFrames_setFrames, State.setFrames_setFrames]
  first
    | (rw [e1]; exact hrest)
    | (simp only [hr, List.tail_cons] at e1 ⊢; rw [e1]; exact hrest)
theorem Thr.caught {G : GG} {M : MD} {d pc hp : Nat} {lv : List (Nat × Value)} {h : AH} {Q : Outcome → AH → Prop} {x s0 e0 ct : Nat} {rest : List (Nat × Nat × Nat × Nat)} {C : String} (hh : M.2.2.2.2 = (s0, e0, hp, ct) :: rest) (hcov : s0 ≤ pc ∧ pc < e0) (hct : ct ≠ 0) (hw : Cond.classLink M.1.cls ct C ∈ lw_all) (hcls : Cls G h x C) (k : Run G M d hp lv [.ref x] h Q) : Thr G M d pc lv x h Q := by
  obtain ⟨o, h', q, h1, h2, r⟩ := k
  refine ⟨o, h', q, h1, h2, fun p l e R s m args below meth c H locs cells slots ls C' a1 a2 a3 a4 P S L st T hT X => ?_⟩
  have htab := C'.2.2.2.2.2.2.2.2.2
  rw [hh] at htab
  obtain ⟨y, t, et⟩ : ∃ y t, c.exceptionTable.toList = y :: t := by
    cases hl : c.exceptionTable.toList with
    | nil => rw [hl] at htab; cases htab
    | cons y t => exact ⟨y, t, rfl⟩
  rw [et, List.map_cons] at htab
  have hy := (List.cons.inj htab).1
  simp only [Prod.mk.injEq] at hy
  obtain ⟨y1, y2, y3, y4⟩ := hy
  obtain ⟨cell, b1, b2, b3⟩ := hcls s H C'.kk P
  obtain ⟨vm', X', step⟩ := caught_cold X (g := F0 m pc ls st) (a := x) (x := y) (t := t) (C := C) (cell := cell) rfl C'.own et (by simp [covers]; rw [y1, y2]; exact hcov) (by rw [y4]; exact hct) (by rw [y4]; exact C'.wd _ hw) (by rw [hT]; exact b1) (fun k hk => by rw [hk] at b2; cases b2) b3
  obtain ⟨tf, c1, c2⟩ := r p l e R s m args below meth c H locs cells slots ls C' a1 a2 a3 a4 P S L (T.setVm vm') hT X'
  refine ⟨tf, step tf ?_, c2⟩
  rw [y3]
  exact c1

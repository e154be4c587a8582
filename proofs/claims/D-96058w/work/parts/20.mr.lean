/-! LAYER 1b: the model's methods over the model's own state: sg.1 k i = field k (place i of an array), sg.2 k i = place i of a long array -/
set_option maxRecDepth 100000
abbrev MS : Type := (Nat → Nat → Int32) × (Nat → Nat → Int64)
def uS (sg : MS) (k i : Nat) (v : Int32) : MS := (up2 sg.1 k i v, sg.2)
def uE (sg : MS) (k i : Nat) (v : Int64) : MS := (sg.1, up2 sg.2 k i v)
/-- array fields of the model: offset of the array from the object, kind, length -/
def mK (k : Nat) : Option (Nat × Nat × Nat) := match k with
  | 2 => some (1, 0, 12)
  | 3 => some (2, 0, 12)
  | 4 => some (3, 0, 12)
  | 6 => some (4, 0, 16)
  | 7 => some (5, 0, 16)
  | 8 => some (6, 0, 16)
  | 10 => some (7, 0, 12)
  | 11 => some (8, 0, 12)
  | 14 => some (9, 0, 40)
  | 15 => some (10, 0, 40)
  | 16 => some (11, 0, 40)
  | 17 => some (12, 0, 40)
  | 18 => some (13, 2, 120)
  | 24 => some (14, 2, 260)
  | 25 => some (15, 0, 260)
  | 26 => some (16, 0, 2)
  | 27 => some (17, 3, 122)
  | 28 => some (18, 3, 122)
  | 29 => some (19, 0, 6)
  | 30 => some (20, 0, 130)
  | 32 => some (21, 0, 12)
  | 33 => some (22, 4, 16)
  | 34 => some (23, 0, 12)
  | 35 => some (24, 0, 12)
  | 38 => some (25, 0, 12)
  | 40 => some (26, 0, 50)
  | 42 => some (27, 0, 24)
  | 43 => some (28, 0, 6)
  | 44 => some (29, 0, 6)
  | 45 => some (30, 1, 360)
  | 46 => some (31, 1, 60)
  | _ => none
theorem mK_inj : ∀ k, k < 47 → ∀ k', k' < 47 → ∀ q, mK k = some q → ∀ q', mK k' = some q' → q.1 = q'.1 → k = k' := by
  intro k hk k' hk' q hq q' hq' e
  have : ∀ k : Fin 47, ∀ k' : Fin 47, (mK k.val).isSome = true → (mK k.val).map (·.1) = (mK k'.val).map (·.1) → k.val = k'.val := by decide +kernel
  exact this ⟨k, hk⟩ ⟨k', hk'⟩ (by rw [hq]; rfl) (by rw [hq, hq']; simp [e])
theorem mK_off : ∀ k, k < 47 → ∀ q, mK k = some q → 1 ≤ q.1 ∧ q.1 ≤ 31 := by
  intro k hk q hq
  have : ∀ k : Fin 47, ((mK k.val).map (fun q => decide (1 ≤ q.1 ∧ q.1 ≤ 31))).getD true = true := by decide +kernel
  have h := this ⟨k, hk⟩
  rw [show mK (⟨k, hk⟩ : Fin 47).val = some q from hq] at h
  simpa using h
def MI (G : GG) (m : Nat) (sg : MS) (h : AH) : Prop := IsK G h m (5, 0) ∧ (∀ k, k < 47 → mK k = none → aI h (320 + k) m = sg.1 k 0) ∧ (∀ k, k < 47 → ∀ q, mK k = some q → aP h (320 + k) m = some (m + q.1) ∧ IsK G h (m + q.1) (100 + q.2.1, q.2.2) ∧ (q.2.1 = 1 → aL h (m + q.1) = sg.2 k) ∧ (¬ q.2.1 = 1 → aA h (m + q.1) = sg.1 k))
/-- nothing but the model's cells has changed -/
def MFr (m : Nat) (h h' : AH) : Prop := aT h' = aT h ∧ aN h' = aN h ∧ aU h' = aU h ∧ aP h' = aP h ∧ aR h' = aR h ∧ (∀ f a, a ≠ m → aI h' f a = aI h f a) ∧ (∀ a, (a < m ∨ m + 31 < a) → aA h' a = aA h a ∧ aL h' a = aL h a)
theorem MFr.refl {m : Nat} {h : AH} : MFr m h h := ⟨rfl, rfl, rfl, rfl, rfl, fun _ _ _ => rfl, fun _ _ => ⟨rfl, rfl⟩⟩
theorem MFr.trans {m : Nat} {h h1 h2 : AH} (a : MFr m h h1) (b : MFr m h1 h2) : MFr m h h2 :=
  ⟨b.1.trans a.1, b.2.1.trans a.2.1, b.2.2.1.trans a.2.2.1, b.2.2.2.1.trans a.2.2.2.1, b.2.2.2.2.1.trans a.2.2.2.2.1, fun f x hx => (b.2.2.2.2.2.1 f x hx).trans (a.2.2.2.2.2.1 f x hx), fun x hx => ⟨(b.2.2.2.2.2.2 x hx).1.trans (a.2.2.2.2.2.2 x hx).1, (b.2.2.2.2.2.2 x hx).2.trans (a.2.2.2.2.2.2 x hx).2⟩⟩
def MR (G : GG) (M : MD) (d : Nat) (pc : Nat) (lv : List (Nat × Value)) (st : List Value) (m : Nat) (sg : MS) (Q : Outcome → MS → Prop) : Prop :=
  ∀ h, MI G m sg h → Run G M d pc lv st h (fun o h' => ∃ sg', MI G m sg' h' ∧ MFr m h h' ∧ Q o sg')
def bi (b : Bool) : Int32 := if b = true then 1 else 0
section MRR
variable {G : GG} {M : MD} {d pc : Nat} {lv lv' : List (Nat × Value)} {st : List Value} {m : Nat} {sg : MS} {Q : Outcome → MS → Prop}
theorem MR.mono {Q' : Outcome → MS → Prop} (r : MR G M d pc lv st m sg Q) (hq : ∀ o s, Q o s → Q' o s) : MR G M d pc lv st m sg Q' := fun h I => (r h I).mono (fun o h' ⟨s', I', F, q⟩ => ⟨s', I', F, hq _ _ q⟩)
theorem MI.setI {h : AH} {k : Nat} {v : Int32} (I : MI G m sg h) (hk : k < 47) (h0 : mK k = none) : MI G m (uS sg k 0 v) (sI h (320 + k) m v) := by
  refine ⟨I.1, fun k' hk' h0' => ?_, fun k' hk' q hq => ?_⟩
  · by_cases e : k' = k
    · subst e; simp [sI, aI, up2, uS]
    · have : ¬ 320 + k' = 320 + k := by omega
      have e2 := I.2.1 k' hk' h0'
      simp [sI, up2, uS, e, aI] at e2 ⊢
      exact e2
  · have e : k' ≠ k := by rintro rfl; rw [h0] at hq; cases hq
    obtain ⟨a1, a2, a3, a4⟩ := I.2.2 k' hk' q hq
    refine ⟨a1, a2, fun j => a3 j, fun j => ?_⟩
    show aA h (m + q.1) = _
    rw [a4 j]
    funext i
    simp [uS, up2, e]
theorem MI.setA {h : AH} {k i o j n : Nat} {v : Int32} (I : MI G m sg h) (hk : k < 47) (h0 : mK k = some (o, j, n)) (hj : ¬ j = 1) : MI G m (uS sg k i v) (sA h (m + o) i v) := by
  refine ⟨I.1, fun k' hk' h0' => ?_, fun k' hk' q hq => ?_⟩
  · have e : k' ≠ k := by rintro rfl; rw [h0] at h0'; cases h0'
    have e2 := I.2.1 k' hk' h0'
    simp [uS, up2, e]
    exact e2
  · obtain ⟨a1, a2, a3, a4⟩ := I.2.2 k' hk' q hq
    refine ⟨a1, a2, fun j => a3 j, fun j' => ?_⟩
    by_cases e : k' = k
    · subst e
      cases hq.symm.trans h0
      have e3 := a4 hj
      funext x
      simp [sA, aA, up2, uS] at e3 ⊢
      split
      · rfl
      · exact congrFun e3 x
    · have ho : q.1 ≠ o := fun e2 => e (mK_inj k' hk' k hk q hq _ h0 e2)
      have e3 := a4 j'
      funext x
      have e4 := congrFun e3 x
      simp [sA, aA, up2, uS, e, ho] at e4 ⊢
      exact e4
theorem MI.setL {h : AH} {k i o n : Nat} {v : Int64} (I : MI G m sg h) (hk : k < 47) (h0 : mK k = some (o, 1, n)) : MI G m (uE sg k i v) (sL h (m + o) i v) := by
  refine ⟨I.1, fun k' hk' h0' => I.2.1 k' hk' h0', fun k' hk' q hq => ?_⟩
  obtain ⟨a1, a2, a3, a4⟩ := I.2.2 k' hk' q hq
  refine ⟨a1, a2, fun j' => ?_, fun j => a4 j⟩
  by_cases e : k' = k
  · subst e
    cases hq.symm.trans h0
    have e3 := a3 rfl
    funext x
    simp [sL, aL, up2, uE] at e3 ⊢
    split
    · rfl
    · exact congrFun e3 x
  · have ho : q.1 ≠ o := fun e2 => e (mK_inj k' hk' k hk q hq _ h0 e2)
    have e3 := a3 j'
    funext x
    have e4 := congrFun e3 x
    simp [sL, aL, up2, uE, e, ho] at e4 ⊢
    exact e4
theorem MFr.I {h : AH} {f : Nat} {v : Int32} : MFr m h (sI h f m v) := ⟨rfl, rfl, rfl, rfl, rfl, fun g a ha => by simp [sI, aI, up2, ha], fun _ _ => ⟨rfl, rfl⟩⟩
theorem MFr.A {h : AH} {o i : Nat} {v : Int32} (ho : o ≤ 31) : MFr m h (sA h (m + o) i v) := ⟨rfl, rfl, rfl, rfl, rfl, fun _ _ _ => rfl, fun a ha => ⟨by
  have : a ≠ m + o := by omega
  funext x
  simp [sA, aA, up2, this], rfl⟩⟩
theorem MFr.L {h : AH} {o i : Nat} {v : Int64} (ho : o ≤ 31) : MFr m h (sL h (m + o) i v) := ⟨rfl, rfl, rfl, rfl, rfl, fun _ _ _ => rfl, fun a ha => ⟨rfl, by
  have : a ≠ m + o := by omega
  funext x
  simp [sL, aL, up2, this]⟩⟩
theorem MR_getS {ix k : Nat} (hd : decode M.2.1 pc = .ok (.getfield ix, 3)) (hw : Cond.fieldLink M.1.cls ix (TX5 k).1 (TX5 k).2.1 (TX5 k).2.2.1 ∈ lw_all) (hk : k < 47) (h0 : mK k = none) (hf : (fl 5)[k]? = some (320 + k, true)) (kk : MR G M d (pc + 3) lv (.int (sg.1 k 0) :: st) m sg Q) : MR G M d pc lv (.ref m :: st) m sg Q :=
  fun h I => R_getI ok5 hd hw hk hf (by decide) I.1 (by rw [I.2.1 k hk h0]; exact kk h I)
theorem MR_getA {ix k o j n : Nat} (hd : decode M.2.1 pc = .ok (.getfield ix, 3)) (hw : Cond.fieldLink M.1.cls ix (TX5 k).1 (TX5 k).2.1 (TX5 k).2.2.1 ∈ lw_all) (hk : k < 47) (h0 : mK k = some (o, j, n)) (hf : (fl 5)[k]? = some (320 + k, false)) (kk : MR G M d (pc + 3) lv (.ref (m + o) :: st) m sg Q) : MR G M d pc lv (.ref m :: st) m sg Q :=
  fun h I => R_getP ok5 hd hw hk hf (by decide) I.1 (by rw [(I.2.2 k hk _ h0).1]; exact kk h I)
theorem MR_putS {ix k : Nat} {v : Int32} (hd : decode M.2.1 pc = .ok (.putfield ix, 3)) (hw : Cond.fieldLink M.1.cls ix (TX5 k).1 (TX5 k).2.1 (TX5 k).2.2.1 ∈ lw_all) (hk : k < 47) (h0 : mK k = none) (hf : (fl 5)[k]? = some (320 + k, true)) (hfin : (TX5 k).2.2.2 = false) (hN : narrow (tyX5 k) (.int v) = .int v) (hF : fits (tyX5 k) (.int v) = true) (kk : MR G M d (pc + 3) lv st m (uS sg k 0 v) Q) : MR G M d pc lv (.int v :: .ref m :: st) m sg Q :=
  fun h I => R_putI ok5 hd hw hk hf rfl (Or.inl hfin) hN hF (by decide) I.1 ((kk _ (I.setI hk h0)).mono (fun o h' ⟨s', I', F, q⟩ => ⟨s', I', MFr.I.trans F, q⟩))

theorem MR_iald {k o n : Nat} {i : Int32} (hd : decode M.2.1 pc = .ok (.iaload, 1)) (hk : k < 47) (h0 : mK k = some (o, 0, n)) (hi : vp_in i n) (kk : MR G M d (pc + 1) lv (.int (sg.1 k i.toNatClampNeg) :: st) m sg Q) : MR G M d pc lv (.int i :: .ref (m + o) :: st) m sg Q :=
  fun h I => R_iald hd (I.2.2 k hk _ h0).2.1 hi (by rw [(I.2.2 k hk _ h0).2.2.2 (show ¬ 0 = 1 by decide)]; exact kk h I)
theorem MR_bald {k o n : Nat} {i : Int32} (hd : decode M.2.1 pc = .ok (.baload, 1)) (hk : k < 47) (h0 : mK k = some (o, 2, n)) (hi : vp_in i n) (kk : MR G M d (pc + 1) lv (.int (sg.1 k i.toNatClampNeg) :: st) m sg Q) : MR G M d pc lv (.int i :: .ref (m + o) :: st) m sg Q :=
  fun h I => R_bald hd (I.2.2 k hk _ h0).2.1 hi (by rw [(I.2.2 k hk _ h0).2.2.2 (show ¬ 2 = 1 by decide)]; exact kk h I)
theorem MR_sald {k o n : Nat} {i : Int32} (hd : decode M.2.1 pc = .ok (.saload, 1)) (hk : k < 47) (h0 : mK k = some (o, 3, n)) (hi : vp_in i n) (kk : MR G M d (pc + 1) lv (.int (sg.1 k i.toNatClampNeg) :: st) m sg Q) : MR G M d pc lv (.int i :: .ref (m + o) :: st) m sg Q :=
  fun h I => R_sald hd (I.2.2 k hk _ h0).2.1 hi (by rw [(I.2.2 k hk _ h0).2.2.2 (show ¬ 3 = 1 by decide)]; exact kk h I)
theorem MR_zald {k o n : Nat} {i : Int32} (hd : decode M.2.1 pc = .ok (.baload, 1)) (hk : k < 47) (h0 : mK k = some (o, 4, n)) (hi : vp_in i n) (kk : MR G M d (pc + 1) lv (.int (sg.1 k i.toNatClampNeg) :: st) m sg Q) : MR G M d pc lv (.int i :: .ref (m + o) :: st) m sg Q :=
  fun h I => R_zald hd (I.2.2 k hk _ h0).2.1 hi (by rw [(I.2.2 k hk _ h0).2.2.2 (show ¬ 4 = 1 by decide)]; exact kk h I)
theorem MR_lald {k o n : Nat} {i : Int32} (hd : decode M.2.1 pc = .ok (.laload, 1)) (hk : k < 47) (h0 : mK k = some (o, 1, n)) (hi : vp_in i n) (kk : MR G M d (pc + 1) lv (.long (sg.2 k i.toNatClampNeg) :: st) m sg Q) : MR G M d pc lv (.int i :: .ref (m + o) :: st) m sg Q :=
  fun h I => R_lald hd (I.2.2 k hk _ h0).2.1 hi (by rw [(I.2.2 k hk _ h0).2.2.1 rfl]; exact kk h I)
theorem MR_iast {k o n : Nat} {i x : Int32} (hd : decode M.2.1 pc = .ok (.iastore, 1)) (hk : k < 47) (h0 : mK k = some (o, 0, n)) (hi : vp_in i n) (kk : MR G M d (pc + 1) lv st m (uS sg k i.toNatClampNeg x) Q) : MR G M d pc lv (.int x :: .int i :: .ref (m + o) :: st) m sg Q :=
  fun h I => R_iast hd (I.2.2 k hk _ h0).2.1 hi (by exact (kk _ (I.setA hk h0 (by decide))).mono (fun o' h' ⟨s', I', F, q⟩ => ⟨s', I', (MFr.A (mK_off k hk _ h0).2).trans F, q⟩))
theorem MR_bast {k o n : Nat} {i x : Int32} (hd : decode M.2.1 pc = .ok (.bastore, 1)) (hk : k < 47) (h0 : mK k = some (o, 2, n)) (hi : vp_in i n) (hx : vp_nar .byte x = x) (kk : MR G M d (pc + 1) lv st m (uS sg k i.toNatClampNeg x) Q) : MR G M d pc lv (.int x :: .int i :: .ref (m + o) :: st) m sg Q :=
  fun h I => R_bast hd (I.2.2 k hk _ h0).2.1 hi (by rw [hx]; exact (kk _ (I.setA hk h0 (by decide))).mono (fun o' h' ⟨s', I', F, q⟩ => ⟨s', I', (MFr.A (mK_off k hk _ h0).2).trans F, q⟩))
theorem MR_sast {k o n : Nat} {i x : Int32} (hd : decode M.2.1 pc = .ok (.sastore, 1)) (hk : k < 47) (h0 : mK k = some (o, 3, n)) (hi : vp_in i n) (hx : vp_nar .short x = x) (kk : MR G M d (pc + 1) lv st m (uS sg k i.toNatClampNeg x) Q) : MR G M d pc lv (.int x :: .int i :: .ref (m + o) :: st) m sg Q :=
  fun h I => R_sast hd (I.2.2 k hk _ h0).2.1 hi (by rw [hx]; exact (kk _ (I.setA hk h0 (by decide))).mono (fun o' h' ⟨s', I', F, q⟩ => ⟨s', I', (MFr.A (mK_off k hk _ h0).2).trans F, q⟩))
theorem MR_zast {k o n : Nat} {i x : Int32} (hd : decode M.2.1 pc = .ok (.bastore, 1)) (hk : k < 47) (h0 : mK k = some (o, 4, n)) (hi : vp_in i n) (hx : vp_nar .boolean x = x) (kk : MR G M d (pc + 1) lv st m (uS sg k i.toNatClampNeg x) Q) : MR G M d pc lv (.int x :: .int i :: .ref (m + o) :: st) m sg Q :=
  fun h I => R_zast hd (I.2.2 k hk _ h0).2.1 hi (by rw [hx]; exact (kk _ (I.setA hk h0 (by decide))).mono (fun o' h' ⟨s', I', F, q⟩ => ⟨s', I', (MFr.A (mK_off k hk _ h0).2).trans F, q⟩))
theorem MR_last {k o n : Nat} {i : Int32} {x : Int64} (hd : decode M.2.1 pc = .ok (.lastore, 1)) (hk : k < 47) (h0 : mK k = some (o, 1, n)) (hi : vp_in i n) (kk : MR G M d (pc + 1) lv st m (uE sg k i.toNatClampNeg x) Q) : MR G M d pc lv (.long x :: .int i :: .ref (m + o) :: st) m sg Q :=
  fun h I => R_last hd (I.2.2 k hk _ h0).2.1 hi ((kk _ (I.setL hk h0)).mono (fun o' h' ⟨s', I', F, q⟩ => ⟨s', I', (MFr.L (mK_off k hk _ h0).2).trans F, q⟩))
theorem MR_iconst {n : Int} {v : Int32} (hd : decode M.2.1 pc = .ok (.iconst n, 1)) (hv : Int32.ofInt n = v) (k : MR G M d (pc + 1) lv (.int v :: st) m sg Q) : MR G M d pc lv (st) m sg Q :=
  fun h I => R_iconst hd hv (k h I)
theorem MR_bipush {n : Int} {v : Int32} (hd : decode M.2.1 pc = .ok (.bipush n, 2)) (hv : (Int8.ofInt n).toInt32 = v) (k : MR G M d (pc + 2) lv (.int v :: st) m sg Q) : MR G M d pc lv (st) m sg Q :=
  fun h I => R_bipush hd hv (k h I)
theorem MR_sipush {n : Int} {v : Int32} (hd : decode M.2.1 pc = .ok (.sipush n, 3)) (hv : (Int16.ofInt n).toInt32 = v) (k : MR G M d (pc + 3) lv (.int v :: st) m sg Q) : MR G M d pc lv (st) m sg Q :=
  fun h I => R_sipush hd hv (k h I)
theorem MR_lconst {n : Fin 2} {v : Int64} (hd : decode M.2.1 pc = .ok (.lconst n, 1)) (hv : Int64.ofNat (n : Nat) = v) (k : MR G M d (pc + 1) lv (.long v :: st) m sg Q) : MR G M d pc lv (st) m sg Q :=
  fun h I => R_lconst hd hv (k h I)
theorem MR_null  (hd : decode M.2.1 pc = .ok (.aconst_null, 1)) (k : MR G M d (pc + 1) lv (.null :: st) m sg Q) : MR G M d pc lv (st) m sg Q :=
  fun h I => R_null hd (k h I)
theorem MR_ldc {ix : Nat} {v : Int32} (hd : decode M.2.1 pc = .ok (.ldc ix, 2)) (hw : Jvm.Cond.constant M.1.cls ix v ∈ lw_all) (k : MR G M d (pc + 2) lv (.int v :: st) m sg Q) : MR G M d pc lv (st) m sg Q :=
  fun h I => R_ldc hd hw (k h I)
theorem MR_ldcw {ix : Nat} {v : Int32} (hd : decode M.2.1 pc = .ok (.ldc_w ix, 3)) (hw : Jvm.Cond.constant M.1.cls ix v ∈ lw_all) (k : MR G M d (pc + 3) lv (.int v :: st) m sg Q) : MR G M d pc lv (st) m sg Q :=
  fun h I => R_ldcw hd hw (k h I)
theorem MR_ldc2 {ix : Nat} {v : Int64} (hd : decode M.2.1 pc = .ok (.ldc2_w ix, 3)) (hw : Jvm.Cond.constantLong M.1.cls ix v ∈ lw_all) (k : MR G M d (pc + 3) lv (.long v :: st) m sg Q) : MR G M d pc lv (st) m sg Q :=
  fun h I => R_ldc2 hd hw (k h I)
theorem MR_iload_n {kf : Fin 4} {x : Int32} (hd : decode M.2.1 pc = .ok (.iload_n kf, 1)) (j : Nat) (hj : lv[j]? = some ((kf : Nat), .int x)) (k : MR G M d (pc + 1) lv (.int x :: st) m sg Q) : MR G M d pc lv (st) m sg Q :=
  fun h I => R_iload_n hd j hj (k h I)
theorem MR_iload {i : Nat} {x : Int32} (hd : decode M.2.1 pc = .ok (.iload i, 2)) (j : Nat) (hj : lv[j]? = some (i, .int x)) (k : MR G M d (pc + 2) lv (.int x :: st) m sg Q) : MR G M d pc lv (st) m sg Q :=
  fun h I => R_iload hd j hj (k h I)
theorem MR_lload_n {kf : Fin 4} {x : Int64} (hd : decode M.2.1 pc = .ok (.lload_n kf, 1)) (j : Nat) (hj : lv[j]? = some ((kf : Nat), .long x)) (k : MR G M d (pc + 1) lv (.long x :: st) m sg Q) : MR G M d pc lv (st) m sg Q :=
  fun h I => R_lload_n hd j hj (k h I)
theorem MR_lload {i : Nat} {x : Int64} (hd : decode M.2.1 pc = .ok (.lload i, 2)) (j : Nat) (hj : lv[j]? = some (i, .long x)) (k : MR G M d (pc + 2) lv (.long x :: st) m sg Q) : MR G M d pc lv (st) m sg Q :=
  fun h I => R_lload hd j hj (k h I)
theorem MR_aload_n {kf : Fin 4} {x : Nat} (hd : decode M.2.1 pc = .ok (.aload_n kf, 1)) (j : Nat) (hj : lv[j]? = some ((kf : Nat), .ref x)) (k : MR G M d (pc + 1) lv (.ref x :: st) m sg Q) : MR G M d pc lv (st) m sg Q :=
  fun h I => R_aload_n hd j hj (k h I)
theorem MR_aload {i : Nat} {x : Nat} (hd : decode M.2.1 pc = .ok (.aload i, 2)) (j : Nat) (hj : lv[j]? = some (i, .ref x)) (k : MR G M d (pc + 2) lv (.ref x :: st) m sg Q) : MR G M d pc lv (st) m sg Q :=
  fun h I => R_aload hd j hj (k h I)
theorem MR_aload_nN {kf : Fin 4} (hd : decode M.2.1 pc = .ok (.aload_n kf, 1)) (j : Nat) (hj : lv[j]? = some ((kf : Nat), .null)) (k : MR G M d (pc + 1) lv (.null :: st) m sg Q) : MR G M d pc lv (st) m sg Q :=
  fun h I => R_aload_nN hd j hj (k h I)
theorem MR_aloadN {i : Nat} (hd : decode M.2.1 pc = .ok (.aload i, 2)) (j : Nat) (hj : lv[j]? = some (i, .null)) (k : MR G M d (pc + 2) lv (.null :: st) m sg Q) : MR G M d pc lv (st) m sg Q :=
  fun h I => R_aloadN hd j hj (k h I)
theorem MR_aload_nQ {kf : Fin 4} {x : Option Nat} (hd : decode M.2.1 pc = .ok (.aload_n kf, 1)) (j : Nat) (hj : lv[j]? = some ((kf : Nat), va_rf x)) (k : MR G M d (pc + 1) lv (va_rf x :: st) m sg Q) : MR G M d pc lv st m sg Q :=
  fun h I => R_aload_nQ hd j hj (k h I)
theorem MR_aloadQ {i : Nat} {x : Option Nat} (hd : decode M.2.1 pc = .ok (.aload i, 2)) (j : Nat) (hj : lv[j]? = some (i, va_rf x)) (k : MR G M d (pc + 2) lv (va_rf x :: st) m sg Q) : MR G M d pc lv st m sg Q :=
  fun h I => R_aloadQ hd j hj (k h I)
theorem MR_istore_n {x : Int32} {kf : Fin 4} {i : Nat} (hd : decode M.2.1 pc = .ok (.istore_n kf, 1)) (hi : (kf : Nat) = i) (hn : i < M.2.2.1) (hl : (i, Value.int x) :: lv.filter (fun q => !(q.1 == i) && !(q.1 + 1 == i && q.2.category == 2)) = lv') (k : MR G M d (pc + 1) lv' st m sg Q) : MR G M d pc lv (.int x :: st) m sg Q :=
  fun h I => R_istore_n hd hi hn hl (k h I)
theorem MR_istore {x : Int32} {i : Nat} (hd : decode M.2.1 pc = .ok (.istore i, 2)) (hn : i < M.2.2.1) (hl : (i, Value.int x) :: lv.filter (fun q => !(q.1 == i) && !(q.1 + 1 == i && q.2.category == 2)) = lv') (k : MR G M d (pc + 2) lv' st m sg Q) : MR G M d pc lv (.int x :: st) m sg Q :=
  fun h I => R_istore hd hn hl (k h I)
theorem MR_lstore_n {x : Int64} {kf : Fin 4} {i : Nat} (hd : decode M.2.1 pc = .ok (.lstore_n kf, 1)) (hi : (kf : Nat) = i) (hn : i + 1 < M.2.2.1) (hl : (i, Value.long x) :: lv.filter (fun q => !(q.1 == i) && (!(q.1 == i + 1) && !(q.1 + 1 == i && q.2.category == 2))) = lv') (k : MR G M d (pc + 1) lv' st m sg Q) : MR G M d pc lv (.long x :: st) m sg Q :=
  fun h I => R_lstore_n hd hi hn hl (k h I)
theorem MR_lstore {x : Int64} {i : Nat} (hd : decode M.2.1 pc = .ok (.lstore i, 2)) (hn : i + 1 < M.2.2.1) (hl : (i, Value.long x) :: lv.filter (fun q => !(q.1 == i) && (!(q.1 == i + 1) && !(q.1 + 1 == i && q.2.category == 2))) = lv') (k : MR G M d (pc + 2) lv' st m sg Q) : MR G M d pc lv (.long x :: st) m sg Q :=
  fun h I => R_lstore hd hn hl (k h I)
theorem MR_astore_n {x : Nat} {kf : Fin 4} {i : Nat} (hd : decode M.2.1 pc = .ok (.astore_n kf, 1)) (hi : (kf : Nat) = i) (hn : i < M.2.2.1) (hl : (i, Value.ref x) :: lv.filter (fun q => !(q.1 == i) && !(q.1 + 1 == i && q.2.category == 2)) = lv') (k : MR G M d (pc + 1) lv' st m sg Q) : MR G M d pc lv (.ref x :: st) m sg Q :=
  fun h I => R_astore_n hd hi hn hl (k h I)
theorem MR_astore {x : Nat} {i : Nat} (hd : decode M.2.1 pc = .ok (.astore i, 2)) (hn : i < M.2.2.1) (hl : (i, Value.ref x) :: lv.filter (fun q => !(q.1 == i) && !(q.1 + 1 == i && q.2.category == 2)) = lv') (k : MR G M d (pc + 2) lv' st m sg Q) : MR G M d pc lv (.ref x :: st) m sg Q :=
  fun h I => R_astore hd hn hl (k h I)
theorem MR_astore_nN  {kf : Fin 4} {i : Nat} (hd : decode M.2.1 pc = .ok (.astore_n kf, 1)) (hi : (kf : Nat) = i) (hn : i < M.2.2.1) (hl : (i, Value.null) :: lv.filter (fun q => !(q.1 == i) && !(q.1 + 1 == i && q.2.category == 2)) = lv') (k : MR G M d (pc + 1) lv' st m sg Q) : MR G M d pc lv (.null :: st) m sg Q :=
  fun h I => R_astore_nN hd hi hn hl (k h I)
theorem MR_astoreN  {i : Nat} (hd : decode M.2.1 pc = .ok (.astore i, 2)) (hn : i < M.2.2.1) (hl : (i, Value.null) :: lv.filter (fun q => !(q.1 == i) && !(q.1 + 1 == i && q.2.category == 2)) = lv') (k : MR G M d (pc + 2) lv' st m sg Q) : MR G M d pc lv (.null :: st) m sg Q :=
  fun h I => R_astoreN hd hn hl (k h I)
theorem MR_astore_nQ {x : Option Nat} {kf : Fin 4} {i : Nat} (hd : decode M.2.1 pc = .ok (.astore_n kf, 1)) (hi : (kf : Nat) = i) (hn : i < M.2.2.1) (hl : (i, va_rf x) :: lv.filter (fun q => !(q.1 == i) && !(q.1 + 1 == i && q.2.category == 2)) = lv') (k : MR G M d (pc + 1) lv' st m sg Q) : MR G M d pc lv (va_rf x :: st) m sg Q :=
  fun h I => R_astore_nQ hd hi hn hl (k h I)
theorem MR_astoreQ {x : Option Nat} {i : Nat} (hd : decode M.2.1 pc = .ok (.astore i, 2)) (hn : i < M.2.2.1) (hl : (i, va_rf x) :: lv.filter (fun q => !(q.1 == i) && !(q.1 + 1 == i && q.2.category == 2)) = lv') (k : MR G M d (pc + 2) lv' st m sg Q) : MR G M d pc lv (va_rf x :: st) m sg Q :=
  fun h I => R_astoreQ hd hn hl (k h I)
theorem MR_iinc {i : Nat} {n : Int} {x v : Int32} (hd : decode M.2.1 pc = .ok (.iinc i n, 3)) (j : Nat) (hj : lv[j]? = some (i, .int x)) (hv : x + Int32.ofInt n = v) (hn : i < M.2.2.1) (hl : (i, Value.int v) :: lv.filter (fun q => !(q.1 == i) && !(q.1 + 1 == i && q.2.category == 2)) = lv') (k : MR G M d (pc + 3) lv' st m sg Q) : MR G M d pc lv st m sg Q :=
  fun h I => R_iinc hd j hj hv hn hl (k h I)
theorem MR_iadd {x y : Int32} (hd : decode M.2.1 pc = .ok (.iadd, 1)) (k : MR G M d (pc + 1) lv (.int (x + y) :: st) m sg Q) : MR G M d pc lv (.int y :: .int x :: st) m sg Q :=
  fun h I => R_iadd hd (k h I)
theorem MR_isub {x y : Int32} (hd : decode M.2.1 pc = .ok (.isub, 1)) (k : MR G M d (pc + 1) lv (.int (x - y) :: st) m sg Q) : MR G M d pc lv (.int y :: .int x :: st) m sg Q :=
  fun h I => R_isub hd (k h I)
theorem MR_imul {x y : Int32} (hd : decode M.2.1 pc = .ok (.imul, 1)) (k : MR G M d (pc + 1) lv (.int (x * y) :: st) m sg Q) : MR G M d pc lv (.int y :: .int x :: st) m sg Q :=
  fun h I => R_imul hd (k h I)
theorem MR_iand {x y : Int32} (hd : decode M.2.1 pc = .ok (.iand, 1)) (k : MR G M d (pc + 1) lv (.int (x &&& y) :: st) m sg Q) : MR G M d pc lv (.int y :: .int x :: st) m sg Q :=
  fun h I => R_iand hd (k h I)
theorem MR_ior {x y : Int32} (hd : decode M.2.1 pc = .ok (.ior, 1)) (k : MR G M d (pc + 1) lv (.int (x ||| y) :: st) m sg Q) : MR G M d pc lv (.int y :: .int x :: st) m sg Q :=
  fun h I => R_ior hd (k h I)
theorem MR_ixor {x y : Int32} (hd : decode M.2.1 pc = .ok (.ixor, 1)) (k : MR G M d (pc + 1) lv (.int (x ^^^ y) :: st) m sg Q) : MR G M d pc lv (.int y :: .int x :: st) m sg Q :=
  fun h I => R_ixor hd (k h I)
theorem MR_ishl {x y : Int32} (hd : decode M.2.1 pc = .ok (.ishl, 1)) (k : MR G M d (pc + 1) lv (.int (x <<< (y &&& 31)) :: st) m sg Q) : MR G M d pc lv (.int y :: .int x :: st) m sg Q :=
  fun h I => R_ishl hd (k h I)
theorem MR_ishr {x y : Int32} (hd : decode M.2.1 pc = .ok (.ishr, 1)) (k : MR G M d (pc + 1) lv (.int (x >>> (y &&& 31)) :: st) m sg Q) : MR G M d pc lv (.int y :: .int x :: st) m sg Q :=
  fun h I => R_ishr hd (k h I)
theorem MR_idiv {x y : Int32} (hd : decode M.2.1 pc = .ok (.idiv, 1)) (hne : ¬ y = 0) (k : MR G M d (pc + 1) lv (.int (x / y) :: st) m sg Q) : MR G M d pc lv (.int y :: .int x :: st) m sg Q :=
  fun h I => R_idiv hd hne (k h I)
theorem MR_irem {x y : Int32} (hd : decode M.2.1 pc = .ok (.irem, 1)) (hne : ¬ y = 0) (k : MR G M d (pc + 1) lv (.int (x - x / y * y) :: st) m sg Q) : MR G M d pc lv (.int y :: .int x :: st) m sg Q :=
  fun h I => R_irem hd hne (k h I)
theorem MR_ineg {x : Int32} (hd : decode M.2.1 pc = .ok (.ineg, 1)) (k : MR G M d (pc + 1) lv (.int (-x) :: st) m sg Q) : MR G M d pc lv (.int x :: st) m sg Q :=
  fun h I => R_ineg hd (k h I)
theorem MR_iushr {x y : Int32} (hd : decode M.2.1 pc = .ok (.iushr, 1)) (k : MR G M d (pc + 1) lv (.int ((x.toUInt32 >>> (y.toUInt32 &&& Int32.toUInt32 31)).toInt32) :: st) m sg Q) : MR G M d pc lv (.int y :: .int x :: st) m sg Q :=
  fun h I => R_iushr hd (k h I)
theorem MR_ladd {x y : Int64} (hd : decode M.2.1 pc = .ok (.ladd, 1)) (k : MR G M d (pc + 1) lv (.long (x + y) :: st) m sg Q) : MR G M d pc lv (.long y :: .long x :: st) m sg Q :=
  fun h I => R_ladd hd (k h I)
theorem MR_lmul {x y : Int64} (hd : decode M.2.1 pc = .ok (.lmul, 1)) (k : MR G M d (pc + 1) lv (.long (x * y) :: st) m sg Q) : MR G M d pc lv (.long y :: .long x :: st) m sg Q :=
  fun h I => R_lmul hd (k h I)
theorem MR_land {x y : Int64} (hd : decode M.2.1 pc = .ok (.land, 1)) (k : MR G M d (pc + 1) lv (.long (x &&& y) :: st) m sg Q) : MR G M d pc lv (.long y :: .long x :: st) m sg Q :=
  fun h I => R_land hd (k h I)
theorem MR_lor {x y : Int64} (hd : decode M.2.1 pc = .ok (.lor, 1)) (k : MR G M d (pc + 1) lv (.long (x ||| y) :: st) m sg Q) : MR G M d pc lv (.long y :: .long x :: st) m sg Q :=
  fun h I => R_lor hd (k h I)
theorem MR_lshl {x : Int64} {y : Int32} (hd : decode M.2.1 pc = .ok (.lshl, 1)) (k : MR G M d (pc + 1) lv (.long (x <<< (y.toInt64 &&& 63)) :: st) m sg Q) : MR G M d pc lv (.int y :: .long x :: st) m sg Q :=
  fun h I => R_lshl hd (k h I)
theorem MR_lcmp {x y : Int64} (hd : decode M.2.1 pc = .ok (.lcmp, 1)) (k : MR G M d (pc + 1) lv (.int (lg_cmp x y) :: st) m sg Q) : MR G M d pc lv (.long y :: .long x :: st) m sg Q :=
  fun h I => R_lcmp hd (k h I)
theorem MR_i2l {x : Int32} (hd : decode M.2.1 pc = .ok (.i2l, 1)) (k : MR G M d (pc + 1) lv (.long x.toInt64 :: st) m sg Q) : MR G M d pc lv (.int x :: st) m sg Q :=
  fun h I => R_i2l hd (k h I)
theorem MR_l2i {x : Int64} (hd : decode M.2.1 pc = .ok (.l2i, 1)) (k : MR G M d (pc + 1) lv (.int x.toInt32 :: st) m sg Q) : MR G M d pc lv (.long x :: st) m sg Q :=
  fun h I => R_l2i hd (k h I)
theorem MR_i2b {x : Int32} (hd : decode M.2.1 pc = .ok (.i2b, 1)) (k : MR G M d (pc + 1) lv (.int x.toInt8.toInt32 :: st) m sg Q) : MR G M d pc lv (.int x :: st) m sg Q :=
  fun h I => R_i2b hd (k h I)
theorem MR_i2s {x : Int32} (hd : decode M.2.1 pc = .ok (.i2s, 1)) (k : MR G M d (pc + 1) lv (.int x.toInt16.toInt32 :: st) m sg Q) : MR G M d pc lv (.int x :: st) m sg Q :=
  fun h I => R_i2s hd (k h I)
theorem MR_dup {va : Value} (hd : decode M.2.1 pc = .ok (.dup, 1)) (hva : va.category = 1) (k : MR G M d (pc + 1) lv (va :: va :: st) m sg Q) : MR G M d pc lv (va :: st) m sg Q :=
  fun h I => R_dup hd hva (k h I)
theorem MR_pop {va : Value} (hd : decode M.2.1 pc = .ok (.pop, 1)) (hva : va.category = 1) (k : MR G M d (pc + 1) lv (st) m sg Q) : MR G M d pc lv (va :: st) m sg Q :=
  fun h I => R_pop hd hva (k h I)
theorem MR_dup_x1 {va vb : Value} (hd : decode M.2.1 pc = .ok (.dup_x1, 1)) (hva : va.category = 1) (hvb : vb.category = 1) (k : MR G M d (pc + 1) lv (va :: vb :: va :: st) m sg Q) : MR G M d pc lv (va :: vb :: st) m sg Q :=
  fun h I => R_dup_x1 hd hva hvb (k h I)
theorem MR_dup2 {va vb : Value} (hd : decode M.2.1 pc = .ok (.dup2, 1)) (hva : va.category = 1) (hvb : vb.category = 1) (k : MR G M d (pc + 1) lv (va :: vb :: va :: vb :: st) m sg Q) : MR G M d pc lv (va :: vb :: st) m sg Q :=
  fun h I => R_dup2 hd hva hvb (k h I)
theorem MR_if_eq {x : Int32} {off : Int} {tgt : Nat} (hd : decode M.2.1 pc = .ok (.ifCond .eq off, 3)) (ht : (pc : Int) + off = (tgt : Int)) (kt : x = 0 → MR G M d tgt lv st m sg Q) (kf : ¬ x = 0 → MR G M d (pc + 3) lv st m sg Q) : MR G M d pc lv (.int x :: st) m sg Q :=
  fun h I => R_if_eq hd ht (fun c => kt c h I) (fun c => kf c h I)
theorem MR_icmp_eq {x y : Int32} {off : Int} {tgt : Nat} (hd : decode M.2.1 pc = .ok (.if_icmp .eq off, 3)) (ht : (pc : Int) + off = (tgt : Int)) (kt : x = y → MR G M d tgt lv st m sg Q) (kf : ¬ x = y → MR G M d (pc + 3) lv st m sg Q) : MR G M d pc lv (.int y :: .int x :: st) m sg Q :=
  fun h I => R_icmp_eq hd ht (fun c => kt c h I) (fun c => kf c h I)
theorem MR_if_ne {x : Int32} {off : Int} {tgt : Nat} (hd : decode M.2.1 pc = .ok (.ifCond .ne off, 3)) (ht : (pc : Int) + off = (tgt : Int)) (kt : ¬ x = 0 → MR G M d tgt lv st m sg Q) (kf : x = 0 → MR G M d (pc + 3) lv st m sg Q) : MR G M d pc lv (.int x :: st) m sg Q :=
  fun h I => R_if_ne hd ht (fun c => kt c h I) (fun c => kf c h I)
theorem MR_icmp_ne {x y : Int32} {off : Int} {tgt : Nat} (hd : decode M.2.1 pc = .ok (.if_icmp .ne off, 3)) (ht : (pc : Int) + off = (tgt : Int)) (kt : ¬ x = y → MR G M d tgt lv st m sg Q) (kf : x = y → MR G M d (pc + 3) lv st m sg Q) : MR G M d pc lv (.int y :: .int x :: st) m sg Q :=
  fun h I => R_icmp_ne hd ht (fun c => kt c h I) (fun c => kf c h I)
theorem MR_if_lt {x : Int32} {off : Int} {tgt : Nat} (hd : decode M.2.1 pc = .ok (.ifCond .lt off, 3)) (ht : (pc : Int) + off = (tgt : Int)) (kt : x < 0 → MR G M d tgt lv st m sg Q) (kf : ¬ x < 0 → MR G M d (pc + 3) lv st m sg Q) : MR G M d pc lv (.int x :: st) m sg Q :=
  fun h I => R_if_lt hd ht (fun c => kt c h I) (fun c => kf c h I)
theorem MR_icmp_lt {x y : Int32} {off : Int} {tgt : Nat} (hd : decode M.2.1 pc = .ok (.if_icmp .lt off, 3)) (ht : (pc : Int) + off = (tgt : Int)) (kt : x < y → MR G M d tgt lv st m sg Q) (kf : ¬ x < y → MR G M d (pc + 3) lv st m sg Q) : MR G M d pc lv (.int y :: .int x :: st) m sg Q :=
  fun h I => R_icmp_lt hd ht (fun c => kt c h I) (fun c => kf c h I)
theorem MR_if_ge {x : Int32} {off : Int} {tgt : Nat} (hd : decode M.2.1 pc = .ok (.ifCond .ge off, 3)) (ht : (pc : Int) + off = (tgt : Int)) (kt : 0 ≤ x → MR G M d tgt lv st m sg Q) (kf : ¬ 0 ≤ x → MR G M d (pc + 3) lv st m sg Q) : MR G M d pc lv (.int x :: st) m sg Q :=
  fun h I => R_if_ge hd ht (fun c => kt c h I) (fun c => kf c h I)
theorem MR_icmp_ge {x y : Int32} {off : Int} {tgt : Nat} (hd : decode M.2.1 pc = .ok (.if_icmp .ge off, 3)) (ht : (pc : Int) + off = (tgt : Int)) (kt : y ≤ x → MR G M d tgt lv st m sg Q) (kf : ¬ y ≤ x → MR G M d (pc + 3) lv st m sg Q) : MR G M d pc lv (.int y :: .int x :: st) m sg Q :=
  fun h I => R_icmp_ge hd ht (fun c => kt c h I) (fun c => kf c h I)
theorem MR_if_gt {x : Int32} {off : Int} {tgt : Nat} (hd : decode M.2.1 pc = .ok (.ifCond .gt off, 3)) (ht : (pc : Int) + off = (tgt : Int)) (kt : 0 < x → MR G M d tgt lv st m sg Q) (kf : ¬ 0 < x → MR G M d (pc + 3) lv st m sg Q) : MR G M d pc lv (.int x :: st) m sg Q :=
  fun h I => R_if_gt hd ht (fun c => kt c h I) (fun c => kf c h I)
theorem MR_icmp_gt {x y : Int32} {off : Int} {tgt : Nat} (hd : decode M.2.1 pc = .ok (.if_icmp .gt off, 3)) (ht : (pc : Int) + off = (tgt : Int)) (kt : y < x → MR G M d tgt lv st m sg Q) (kf : ¬ y < x → MR G M d (pc + 3) lv st m sg Q) : MR G M d pc lv (.int y :: .int x :: st) m sg Q :=
  fun h I => R_icmp_gt hd ht (fun c => kt c h I) (fun c => kf c h I)
theorem MR_if_le {x : Int32} {off : Int} {tgt : Nat} (hd : decode M.2.1 pc = .ok (.ifCond .le off, 3)) (ht : (pc : Int) + off = (tgt : Int)) (kt : x ≤ 0 → MR G M d tgt lv st m sg Q) (kf : ¬ x ≤ 0 → MR G M d (pc + 3) lv st m sg Q) : MR G M d pc lv (.int x :: st) m sg Q :=
  fun h I => R_if_le hd ht (fun c => kt c h I) (fun c => kf c h I)
theorem MR_icmp_le {x y : Int32} {off : Int} {tgt : Nat} (hd : decode M.2.1 pc = .ok (.if_icmp .le off, 3)) (ht : (pc : Int) + off = (tgt : Int)) (kt : x ≤ y → MR G M d tgt lv st m sg Q) (kf : ¬ x ≤ y → MR G M d (pc + 3) lv st m sg Q) : MR G M d pc lv (.int y :: .int x :: st) m sg Q :=
  fun h I => R_icmp_le hd ht (fun c => kt c h I) (fun c => kf c h I)
theorem MR_goto {off : Int} {tgt : Nat} (hd : decode M.2.1 pc = .ok (.goto off, 3)) (ht : (pc : Int) + off = (tgt : Int)) (k : MR G M d tgt lv st m sg Q) : MR G M d pc lv st m sg Q :=
  fun h I => R_goto hd ht (k h I)
theorem MR_ifnull {x : Option Nat} {off : Int} {tgt : Nat} (hd : decode M.2.1 pc = .ok (.ifnull off, 3)) (ht : (pc : Int) + off = (tgt : Int)) (kt : x = none → MR G M d tgt lv st m sg Q) (kf : ∀ a, x = some a → MR G M d (pc + 3) lv st m sg Q) : MR G M d pc lv (va_rf x :: st) m sg Q :=
  fun h I => R_ifnull hd ht (fun c => kt c h I) (fun a e => kf a e h I)
theorem MR_ifnonnull {x : Option Nat} {off : Int} {tgt : Nat} (hd : decode M.2.1 pc = .ok (.ifnonnull off, 3)) (ht : (pc : Int) + off = (tgt : Int)) (kt : ∀ a, x = some a → MR G M d tgt lv st m sg Q) (kf : x = none → MR G M d (pc + 3) lv st m sg Q) : MR G M d pc lv (va_rf x :: st) m sg Q :=
  fun h I => R_ifnonnull hd ht (fun a e => kt a e h I) (fun c => kf c h I)
theorem MR_tableOut {dflt lo hi : Int} {offs : Array Int} {len : Nat} {x : Int32} {tgt : Nat} (hd : decode M.2.1 pc = .ok (.tableswitch dflt lo hi offs, len)) (hc : x.toInt < lo ∨ hi < x.toInt) (ht : (pc : Int) + dflt = (tgt : Int)) (k : MR G M d tgt lv st m sg Q) : MR G M d pc lv (.int x :: st) m sg Q :=
  fun h I => R_tableOut hd hc ht (k h I)
theorem MR_tableIn {dflt lo hi : Int} {offs : Array Int} {len : Nat} {x : Int32} {off : Int} {tgt : Nat} (hd : decode M.2.1 pc = .ok (.tableswitch dflt lo hi offs, len)) (h1 : ¬ x.toInt < lo) (h2 : ¬ hi < x.toInt) (ho : offs[(x.toInt - lo).toNat]? = some off) (ht : (pc : Int) + off = (tgt : Int)) (k : MR G M d tgt lv st m sg Q) : MR G M d pc lv (.int x :: st) m sg Q :=
  fun h I => R_tableIn hd h1 h2 ho ht (k h I)
theorem MR_lookup {dflt : Int} {ps : Array (Int × Int)} {len : Nat} {x : Int32} {off : Int} {tgt : Nat} (hd : decode M.2.1 pc = .ok (.lookupswitch dflt ps, len)) (hp : (ps.toList.zip (ps.toList.drop 1)).all (fun (a, next) => a.1 < next.1) = true) (ho : Op.lookupswitch.offset ps.toList dflt x.toInt = off) (ht : (pc : Int) + off = (tgt : Int)) (k : MR G M d tgt lv st m sg Q) : MR G M d pc lv (.int x :: st) m sg Q :=
  fun h I => R_lookup hd hp ho ht (k h I)
theorem MR_iret {v : Int32} (hd : decode M.2.1 pc = .ok (.ireturn, 1)) (hr : M.2.2.2.1 = some .int) (q : Q (.returned (some (.int v))) sg) : MR G M d pc lv [.int v] m sg Q :=
  fun h I => R_iret hd hr ⟨_, I, MFr.refl, q⟩
theorem MR_zret {v : Int32} (hd : decode M.2.1 pc = .ok (.ireturn, 1)) (hr : M.2.2.2.1 = some .boolean) (hv : narrow .boolean (.int v) = .int v) (q : Q (.returned (some (.int v))) sg) : MR G M d pc lv [.int v] m sg Q :=
  fun h I => R_zret hd hr hv ⟨_, I, MFr.refl, q⟩
theorem MR_lret {v : Int64} (hd : decode M.2.1 pc = .ok (.lreturn, 1)) (hr : M.2.2.2.1 = some .long) (q : Q (.returned (some (.long v))) sg) : MR G M d pc lv [.long v] m sg Q :=
  fun h I => R_lret hd hr ⟨_, I, MFr.refl, q⟩
theorem MR_vret (hd : decode M.2.1 pc = .ok (.return_, 1)) (hr : M.2.2.2.1 = none) (q : Q (.returned none) sg) : MR G M d pc lv [] m sg Q :=
  fun h I => R_vret hd hr ⟨_, I, MFr.refl, q⟩
theorem MR_ifz_eq {b : Bool} {off : Int} {tgt : Nat} (hd : decode M.2.1 pc = .ok (.ifCond .eq off, 3)) (ht : (pc : Int) + off = (tgt : Int)) (kt : b = false → MR G M d tgt lv st m sg Q) (kf : b = true → MR G M d (pc + 3) lv st m sg Q) : MR G M d pc lv (.int (bi b) :: st) m sg Q :=
  MR_if_eq hd ht (fun c => kt (by cases b <;> simp [bi] at c ⊢)) (fun c => kf (by cases b <;> simp [bi] at c ⊢))
theorem MR_ifz_ne {b : Bool} {off : Int} {tgt : Nat} (hd : decode M.2.1 pc = .ok (.ifCond .ne off, 3)) (ht : (pc : Int) + off = (tgt : Int)) (kt : b = true → MR G M d tgt lv st m sg Q) (kf : b = false → MR G M d (pc + 3) lv st m sg Q) : MR G M d pc lv (.int (bi b) :: st) m sg Q :=
  MR_if_ne hd ht (fun c => kt (by cases b <;> simp [bi] at c ⊢)) (fun c => kf (by cases b <;> simp [bi] at c ⊢))
theorem bi_nar (b : Bool) : narrow .boolean (.int (bi b)) = .int (bi b) := by cases b <;> rfl
theorem MR_bret {b : Bool} (hd : decode M.2.1 pc = .ok (.ireturn, 1)) (hr : M.2.2.2.1 = some .boolean) (q : Q (.returned (some (.int (bi b)))) sg) : MR G M d pc lv [.int (bi b)] m sg Q := MR_zret hd hr (bi_nar b) q
theorem MR_invS {Mc : MD} {d' ix n : Nat} {As : List Value} (hd : decode M.2.1 pc = .ok (.invokestatic ix, 3)) (hl : Cond.methodLink M.1.cls ix Mc.1 ∈ lw_all) (hs : Cond.static Mc.1 ∈ lw_all) (hini : Cond.initialized Mc.1.cls ∈ lw_all) (hcw : mword Mc ∈ lw_all) (hq : plainName Mc.1.cls = true ∧ (Mc.1.cls ≠ "java/lang/invoke/MethodHandle" ∧ Mc.1.cls ≠ "java/lang/invoke/VarHandle") ∧ (parseMethodDescriptor Mc.1.desc).map (fun d => d.parameters.length) = some n) (hn : As.length = n) (hlen : (lg_sl As).length ≤ Mc.2.2.1) (hL45 : Mc.2.2.1 ≤ 45) (hdd : d' + 1 ≤ d) (hst : (st.map fun v => v.category).sum ≤ 8)
    (hc : MR G Mc d' 0 (lv_args 0 As) [] m sg (fun o s => ∃ v, o = .returned v ∧ MR G M d (pc + 3) lv (v.toList ++ st) m s Q)) : MR G M d pc lv (As.reverse ++ st) m sg Q :=
  fun h I => R_invS hd hl hs hini hcw hq hn hlen hL45 hdd hst ((hc h I).mono (fun o h' ⟨s', I', F, v, e, k⟩ => Or.inl ⟨v, e, (k h' I').mono (fun o2 h2 ⟨s2, I2, F2, q⟩ => ⟨s2, I2, F.trans F2, q⟩)⟩))
theorem MR_invV {Mc : MD} {d' ix n : Nat} {As : List Value} (hd : decode M.2.1 pc = .ok (.invokevirtual ix, 3)) (hl : Cond.methodLink M.1.cls ix Mc.1 ∈ lw_all) (hin : Cond.instanceMethod Mc.1 ∈ lw_all) (hse : Cond.selects RX5 Mc.1 Mc.1 ∈ lw_all) (hini : Cond.initialized Mc.1.cls ∈ lw_all) (hcw : mword Mc ∈ lw_all) (hq : plainName Mc.1.cls = true ∧ (Mc.1.cls ≠ "java/lang/invoke/MethodHandle" ∧ Mc.1.cls ≠ "java/lang/invoke/VarHandle") ∧ (parseMethodDescriptor Mc.1.desc).map (fun d => d.parameters.length) = some n) (hn : As.length = n) (hlen : (lg_sl (.ref m :: As)).length ≤ Mc.2.2.1) (hL45 : Mc.2.2.1 ≤ 45) (hdd : d' + 1 ≤ d) (hst : (st.map fun v => v.category).sum ≤ 8)
    (hc : MR G Mc d' 0 (lv_args 0 (.ref m :: As)) [] m sg (fun o s => ∃ v, o = .returned v ∧ MR G M d (pc + 3) lv (v.toList ++ st) m s Q)) : MR G M d pc lv (As.reverse ++ .ref m :: st) m sg Q :=
  fun h I => R_invV ok5 (by decide) I.1 hd hl hin hse hini hcw hq hn hlen hL45 hdd hst ((hc h I).mono (fun o h' ⟨s', I', F, v, e, k⟩ => Or.inl ⟨v, e, (k h' I').mono (fun o2 h2 ⟨s2, I2, F2, q⟩ => ⟨s2, I2, F.trans F2, q⟩)⟩))
end MRR

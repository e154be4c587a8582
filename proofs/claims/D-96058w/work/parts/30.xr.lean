/-! LAYER 1c: the component's object x: its own cells; call rows by the kind of the answer -/
set_option maxRecDepth 100000
/-- final reference fields of NameRests: offset from the object, kind -/
def xK (k : Nat) : Option (Nat × Nat × Nat) := match k with
  | 0 => some (1, 105, 40)
  | 3 => some (2, 100, 120)
  | 5 => some (3, 1, 0)
  | 7 => some (4, 107, 12)
  | 9 => some (5, 100, 12)
  | 10 => some (6, 108, 16)
  | 12 => some (7, 100, 16)
  | 14 => some (8, 106, 12)
  | 15 => some (9, 100, 12)
  | 16 => some (10, 2, 0)
  | 17 => some (11, 100, 6)
  | 20 => some (12, 100, 12)
  | 21 => some (13, 100, 12)
  | 22 => some (14, 100, 12)
  | 25 => some (15, 100, 12)
  | 26 => some (16, 109, 50)
  | 28 => some (17, 100, 24)
  | 30 => some (18, 110, 6)
  | _ => none
def XB (G : GG) (x : Nat) (h : AH) : Prop := IsK G h x (0, 0) ∧ ∀ k q, xK k = some q → aP h k x = some (x + q.1) ∧ IsK G h (x + q.1) (q.2.1, q.2.2)
theorem XB.of {G : GG} {x : Nat} {h h' : AH} (B : XB G x h) (hn : aN h ≤ aN h') (ht : ∀ a, a < aN h → aT h' a = aT h a) (hp : ∀ k, (xK k).isSome = true → aP h' k x = aP h k x) : XB G x h' := by
  refine ⟨⟨B.1.1, Nat.lt_of_lt_of_le B.1.2.1 hn, (ht _ B.1.2.1).trans B.1.2.2⟩, fun k q hk => ?_⟩
  obtain ⟨h1, h2⟩ := B.2 k q hk
  exact ⟨(hp k (by rw [hk]; rfl)).trans h1, h2.1, Nat.lt_of_lt_of_le h2.2.1 hn, (ht _ h2.2.1).trans h2.2.2⟩
theorem XB.I {G : GG} {x : Nat} {h : AH} {f a : Nat} {v : Int32} (B : XB G x h) : XB G x (sI h f a v) := B
theorem XB.A {G : GG} {x : Nat} {h : AH} {a i : Nat} {v : Int32} (B : XB G x h) : XB G x (sA h a i v) := B
theorem XB.L {G : GG} {x : Nat} {h : AH} {a i : Nat} {v : Int64} (B : XB G x h) : XB G x (sL h a i v) := B
theorem XB.R {G : GG} {x : Nat} {h : AH} {a i : Nat} {v : Option Nat} (B : XB G x h) : XB G x (sR h a i v) := B
theorem XB.Af {G : GG} {x : Nat} {h : AH} {a : Nat} {f : Nat → Int32} (B : XB G x h) : XB G x (sAf h a f) := B
theorem XB.Lf {G : GG} {x : Nat} {h : AH} {a : Nat} {f : Nat → Int64} (B : XB G x h) : XB G x (sLf h a f) := B
theorem XB.P {G : GG} {x : Nat} {h : AH} {f a : Nat} {v : Option Nat} (hf : xK f = none) (B : XB G x h) : XB G x (sP h f a v) := by
  refine B.of (Nat.le_refl _) (fun _ _ => rfl) (fun k hk => ?_)
  have : k ≠ f := by rintro rfl; rw [hf] at hk; cases hk
  simp [sP, aP, up2, this]
theorem XB.N {G : GG} {x : Nat} {h : AH} {t : Nat × Nat} {u : Nat} (B : XB G x h) : XB G x (sNew h t u) := by
  refine B.of (Nat.le_succ _) (fun a ha => ?_) (fun k hk => ?_)
  · have : a ≠ aN h := by omega
    simp [aT, sNew, va_up, this]
  · have h1 := B.1.2.1
    have : x ≠ aN h := by omega
    simp [aP, sNew, this]
theorem IsK.N {G : GG} {h : AH} {a : Nat} {t t' : Nat × Nat} {u : Nat} (k : IsK G h a t) : IsK G (sNew h t' u) a t := by
  refine ⟨k.1, Nat.lt_succ_of_lt k.2.1, ?_⟩
  have h1 := k.2.1
  have : a ≠ aN h := by omega
  show va_up (aT h) (aN h) t' a = t
  simp [va_up, this]
  exact k.2.2
theorem IsK.new {G : GG} {h : AH} {x : Nat} {t : Nat × Nat} {u : Nat} (B : XB G x h) : IsK G (sNew h t u) (aN h) t := ⟨Nat.le_trans B.1.1 (Nat.le_of_lt B.1.2.1), Nat.lt_succ_self _, by simp [aT, sNew, va_up]⟩
section RX
variable {G : GG} {M : MD} {d pc : Nat} {lv : List (Nat × Value)} {st : List Value} {h : AH} {Q : Outcome → AH → Prop} {x : Nat}
theorem X_getS {ix k : Nat} (B : XB G x h) (hd : decode M.2.1 pc = .ok (.getfield ix, 3)) (hw : Cond.fieldLink M.1.cls ix (TX0 k).1 (TX0 k).2.1 (TX0 k).2.2.1 ∈ lw_all) (hk : k < 31) (hf : (fl 0)[k]? = some (k, true)) (kk : Run G M d (pc + 3) lv (.int (aI h k x) :: st) h Q) : Run G M d pc lv (.ref x :: st) h Q := R_getI ok0 hd hw hk hf (by decide) B.1 kk
theorem X_getA {ix k o j n : Nat} (B : XB G x h) (hd : decode M.2.1 pc = .ok (.getfield ix, 3)) (hw : Cond.fieldLink M.1.cls ix (TX0 k).1 (TX0 k).2.1 (TX0 k).2.2.1 ∈ lw_all) (hk : k < 31) (h0 : xK k = some (o, j, n)) (hf : (fl 0)[k]? = some (k, false)) (kk : Run G M d (pc + 3) lv (.ref (x + o) :: st) h Q) : Run G M d pc lv (.ref x :: st) h Q := R_getP ok0 hd hw hk hf (by decide) B.1 (by rw [(B.2 k _ h0).1]; exact kk)
theorem X_getQ {ix k : Nat} (B : XB G x h) (hd : decode M.2.1 pc = .ok (.getfield ix, 3)) (hw : Cond.fieldLink M.1.cls ix (TX0 k).1 (TX0 k).2.1 (TX0 k).2.2.1 ∈ lw_all) (hk : k < 31) (hf : (fl 0)[k]? = some (k, false)) (kk : Run G M d (pc + 3) lv (va_rf (aP h k x) :: st) h Q) : Run G M d pc lv (.ref x :: st) h Q := R_getP ok0 hd hw hk hf (by decide) B.1 kk
theorem X_putS {ix k : Nat} {v : Int32} (B : XB G x h) (hd : decode M.2.1 pc = .ok (.putfield ix, 3)) (hw : Cond.fieldLink M.1.cls ix (TX0 k).1 (TX0 k).2.1 (TX0 k).2.2.1 ∈ lw_all) (hk : k < 31) (hf : (fl 0)[k]? = some (k, true)) (hfin : (TX0 k).2.2.2 = false) (hN : narrow (tyX0 k) (.int v) = .int v) (hF : fits (tyX0 k) (.int v) = true) (kk : Run G M d (pc + 3) lv st (sI h k x v) Q) : Run G M d pc lv (.int v :: .ref x :: st) h Q := R_putI ok0 hd hw hk hf rfl (Or.inl hfin) hN hF (by decide) B.1 kk
theorem nar_rf {E : String} (v : Option Nat) : narrow (.object E) (va_rf v) = va_rf v := by cases v <;> rfl
theorem fit_rf {E : String} (v : Option Nat) : fits (.object E) (va_rf v) = true := by cases v <;> rfl
theorem X_iald {k o n : Nat} {i : Int32} (B : XB G x h) (hd : decode M.2.1 pc = .ok (.iaload, 1)) (h0 : xK k = some (o, 100, n)) (hi : vp_in i n) (kk : Run G M d (pc + 1) lv (.int (aA h (x + o) i.toNatClampNeg) :: st) h Q) : Run G M d pc lv (.int i :: .ref (x + o) :: st) h Q := R_iald hd (B.2 k _ h0).2 hi kk
theorem X_iast {k o n : Nat} {i v : Int32} (B : XB G x h) (hd : decode M.2.1 pc = .ok (.iastore, 1)) (h0 : xK k = some (o, 100, n)) (hi : vp_in i n) (kk : Run G M d (pc + 1) lv st (sA h (x + o) i.toNatClampNeg v) Q) : Run G M d pc lv (.int v :: .int i :: .ref (x + o) :: st) h Q := R_iast hd (B.2 k _ h0).2 hi kk
theorem X_aald {k o j n : Nat} {E : String} {i : Int32} (B : XB G x h) (hd : decode M.2.1 pc = .ok (.aaload, 1)) (h0 : xK k = some (o, 100 + j, n)) (h5 : 5 ≤ j) (hj : j < 11) (hE : kty j = .object E) (hi : vp_in i n) (kk : Run G M d (pc + 1) lv (va_rf (aR h (x + o) i.toNatClampNeg) :: st) h Q) : Run G M d pc lv (.int i :: .ref (x + o) :: st) h Q := R_aald hd h5 hj hE (B.2 k _ h0).2 hi kk
theorem X_aast {k o j n v : Nat} {E : String} {i : Int32} (B : XB G x h) (hd : decode M.2.1 pc = .ok (.aastore, 1)) (h0 : xK k = some (o, 100 + j, n)) (h5 : 5 ≤ j) (hj : j < 11) (hE : kty j = .object E) (hi : vp_in i n) (hv : Fit G h E v) (kk : Run G M d (pc + 1) lv st (sR h (x + o) i.toNatClampNeg (some v)) Q) : Run G M d pc lv (.ref v :: .int i :: .ref (x + o) :: st) h Q := R_aast hd h5 hj hE (B.2 k _ h0).2 hi hv kk
theorem X_aastQ {k o j n : Nat} {v : Option Nat} {E : String} {i : Int32} (B : XB G x h) (hd : decode M.2.1 pc = .ok (.aastore, 1)) (h0 : xK k = some (o, 100 + j, n)) (h5 : 5 ≤ j) (hj : j < 11) (hE : kty j = .object E) (hi : vp_in i n) (hv : ∀ a, v = some a → Fit G h E a) (kk : Run G M d (pc + 1) lv st (sR h (x + o) i.toNatClampNeg v) Q) : Run G M d pc lv (va_rf v :: .int i :: .ref (x + o) :: st) h Q := by
  cases v with
  | none => exact R_aastN hd h5 hj hE (B.2 k _ h0).2 hi kk
  | some a => exact R_aast hd h5 hj hE (B.2 k _ h0).2 hi (hv a rfl) kk
theorem R_ifz_eq {b : Bool} {off : Int} {tgt : Nat} (hd : decode M.2.1 pc = .ok (.ifCond .eq off, 3)) (ht : (pc : Int) + off = (tgt : Int)) (kt : b = false → Run G M d tgt lv st h Q) (kf : b = true → Run G M d (pc + 3) lv st h Q) : Run G M d pc lv (.int (bi b) :: st) h Q :=
  R_if_eq hd ht (fun c => kt (by cases b <;> simp [bi] at c ⊢)) (fun c => kf (by cases b <;> simp [bi] at c ⊢))
theorem R_ifz_ne {b : Bool} {off : Int} {tgt : Nat} (hd : decode M.2.1 pc = .ok (.ifCond .ne off, 3)) (ht : (pc : Int) + off = (tgt : Int)) (kt : b = true → Run G M d tgt lv st h Q) (kf : b = false → Run G M d (pc + 3) lv st h Q) : Run G M d pc lv (.int (bi b) :: st) h Q :=
  R_if_ne hd ht (fun c => kt (by cases b <;> simp [bi] at c ⊢)) (fun c => kf (by cases b <;> simp [bi] at c ⊢))
theorem R_bret {b : Bool} (hd : decode M.2.1 pc = .ok (.ireturn, 1)) (hr : M.2.2.2.1 = some .boolean) (q : Q (.returned (some (.int (bi b)))) h) : Run G M d pc lv [.int (bi b)] h Q := R_zret hd hr (bi_nar b) q
theorem R_top {v v' : Value} (e : v = v') (k : Run G M d pc lv (v' :: st) h Q) : Run G M d pc lv (v :: st) h Q := e ▸ k
theorem R_top2 {u v v' : Value} (e : v = v') (k : Run G M d pc lv (u :: v' :: st) h Q) : Run G M d pc lv (u :: v :: st) h Q := e ▸ k
/-- behind a call: by the kind of the answer; T: what holds where it throws -/

theorem aft_i {P : Int32 → AH → Prop} {Mc : MD} {d' : Nat} {la : List (Nat × Value)} (hc : Run G Mc d' 0 la [] h (fun o h1 => ∃ r : Int32, o = .returned (some (.int r)) ∧ P r h1)) (k : ∀ r h1, P r h1 → Run G M d (pc + 3) lv (.int r :: st) h1 Q) : Run G Mc d' 0 la [] h (Aft G M d pc 3 lv st Q) :=
  hc.mono (fun o h1 ⟨r, e, w⟩ => Or.inl ⟨_, e, k r h1 w⟩)
theorem aft_iT {P : Int32 → AH → Prop} {PT : Nat → AH → Prop} {Mc : MD} {d' : Nat} {la : List (Nat × Value)} (hc : Run G Mc d' 0 la [] h (fun o h1 => (∃ r : Int32, o = .returned (some (.int r)) ∧ P r h1) ∨ (∃ y : Nat, o = .threw y ∧ PT y h1))) (k : ∀ r h1, P r h1 → Run G M d (pc + 3) lv (.int r :: st) h1 Q) (kt : ∀ y h1, PT y h1 → Thr G M d pc lv y h1 Q) : Run G Mc d' 0 la [] h (Aft G M d pc 3 lv st Q) :=
  hc.mono (fun o h1 w => by
    rcases w with ⟨r, e, w⟩ | ⟨y, e, w⟩
    · exact Or.inl ⟨_, e, k r h1 w⟩
    · exact Or.inr ⟨y, e, kt y h1 w⟩)
theorem aft_z {P : Bool → AH → Prop} {Mc : MD} {d' : Nat} {la : List (Nat × Value)} (hc : Run G Mc d' 0 la [] h (fun o h1 => ∃ b : Bool, o = .returned (some (.int (bi b))) ∧ P b h1)) (k : ∀ b h1, P b h1 → Run G M d (pc + 3) lv (.int (bi b) :: st) h1 Q) : Run G Mc d' 0 la [] h (Aft G M d pc 3 lv st Q) :=
  hc.mono (fun o h1 ⟨r, e, w⟩ => Or.inl ⟨_, e, k r h1 w⟩)
theorem aft_zT {P : Bool → AH → Prop} {PT : Nat → AH → Prop} {Mc : MD} {d' : Nat} {la : List (Nat × Value)} (hc : Run G Mc d' 0 la [] h (fun o h1 => (∃ b : Bool, o = .returned (some (.int (bi b))) ∧ P b h1) ∨ (∃ y : Nat, o = .threw y ∧ PT y h1))) (k : ∀ b h1, P b h1 → Run G M d (pc + 3) lv (.int (bi b) :: st) h1 Q) (kt : ∀ y h1, PT y h1 → Thr G M d pc lv y h1 Q) : Run G Mc d' 0 la [] h (Aft G M d pc 3 lv st Q) :=
  hc.mono (fun o h1 w => by
    rcases w with ⟨r, e, w⟩ | ⟨y, e, w⟩
    · exact Or.inl ⟨_, e, k r h1 w⟩
    · exact Or.inr ⟨y, e, kt y h1 w⟩)
theorem aft_l {P : Int64 → AH → Prop} {Mc : MD} {d' : Nat} {la : List (Nat × Value)} (hc : Run G Mc d' 0 la [] h (fun o h1 => ∃ r : Int64, o = .returned (some (.long r)) ∧ P r h1)) (k : ∀ r h1, P r h1 → Run G M d (pc + 3) lv (.long r :: st) h1 Q) : Run G Mc d' 0 la [] h (Aft G M d pc 3 lv st Q) :=
  hc.mono (fun o h1 ⟨r, e, w⟩ => Or.inl ⟨_, e, k r h1 w⟩)
theorem aft_lT {P : Int64 → AH → Prop} {PT : Nat → AH → Prop} {Mc : MD} {d' : Nat} {la : List (Nat × Value)} (hc : Run G Mc d' 0 la [] h (fun o h1 => (∃ r : Int64, o = .returned (some (.long r)) ∧ P r h1) ∨ (∃ y : Nat, o = .threw y ∧ PT y h1))) (k : ∀ r h1, P r h1 → Run G M d (pc + 3) lv (.long r :: st) h1 Q) (kt : ∀ y h1, PT y h1 → Thr G M d pc lv y h1 Q) : Run G Mc d' 0 la [] h (Aft G M d pc 3 lv st Q) :=
  hc.mono (fun o h1 w => by
    rcases w with ⟨r, e, w⟩ | ⟨y, e, w⟩
    · exact Or.inl ⟨_, e, k r h1 w⟩
    · exact Or.inr ⟨y, e, kt y h1 w⟩)
theorem aft_r {P : Nat → AH → Prop} {Mc : MD} {d' : Nat} {la : List (Nat × Value)} (hc : Run G Mc d' 0 la [] h (fun o h1 => ∃ r : Nat, o = .returned (some (.ref r)) ∧ P r h1)) (k : ∀ r h1, P r h1 → Run G M d (pc + 3) lv (.ref r :: st) h1 Q) : Run G Mc d' 0 la [] h (Aft G M d pc 3 lv st Q) :=
  hc.mono (fun o h1 ⟨r, e, w⟩ => Or.inl ⟨_, e, k r h1 w⟩)
theorem aft_rT {P : Nat → AH → Prop} {PT : Nat → AH → Prop} {Mc : MD} {d' : Nat} {la : List (Nat × Value)} (hc : Run G Mc d' 0 la [] h (fun o h1 => (∃ r : Nat, o = .returned (some (.ref r)) ∧ P r h1) ∨ (∃ y : Nat, o = .threw y ∧ PT y h1))) (k : ∀ r h1, P r h1 → Run G M d (pc + 3) lv (.ref r :: st) h1 Q) (kt : ∀ y h1, PT y h1 → Thr G M d pc lv y h1 Q) : Run G Mc d' 0 la [] h (Aft G M d pc 3 lv st Q) :=
  hc.mono (fun o h1 w => by
    rcases w with ⟨r, e, w⟩ | ⟨y, e, w⟩
    · exact Or.inl ⟨_, e, k r h1 w⟩
    · exact Or.inr ⟨y, e, kt y h1 w⟩)
theorem aft_v {P : AH → Prop} {Mc : MD} {d' : Nat} {la : List (Nat × Value)} (hc : Run G Mc d' 0 la [] h (fun o h1 => o = .returned none ∧ P h1)) (k : ∀ h1, P h1 → Run G M d (pc + 3) lv st h1 Q) : Run G Mc d' 0 la [] h (Aft G M d pc 3 lv st Q) :=
  hc.mono (fun o h1 ⟨e, w⟩ => Or.inl ⟨_, e, k h1 w⟩)
theorem aft_vT {P : AH → Prop} {PT : Nat → AH → Prop} {Mc : MD} {d' : Nat} {la : List (Nat × Value)} (hc : Run G Mc d' 0 la [] h (fun o h1 => (o = .returned none ∧ P h1) ∨ (∃ y : Nat, o = .threw y ∧ PT y h1))) (k : ∀ h1, P h1 → Run G M d (pc + 3) lv st h1 Q) (kt : ∀ y h1, PT y h1 → Thr G M d pc lv y h1 Q) : Run G Mc d' 0 la [] h (Aft G M d pc 3 lv st Q) :=
  hc.mono (fun o h1 w => by
    rcases w with ⟨e, w⟩ | ⟨y, e, w⟩
    · exact Or.inl ⟨_, e, k h1 w⟩
    · exact Or.inr ⟨y, e, kt y h1 w⟩)
end RX

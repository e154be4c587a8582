/-! LAYER 1: the machine's walk over ONE typed heap. AH: kinds, int fields, reference fields, int arrays, long arrays, reference arrays, next address, slots used. -/
set_option maxRecDepth 100000
abbrev MD : Type := MethodName × ByteArray × Nat × Option FieldType × List (Nat × Nat × Nat × Nat)
def cl0 : List vw_C := [(RX0, TX0, 31), (RX1, TX1, 6), (RX2, TX2, 6), (RX3, TX3, 3), (RX4, TX4, 1), (RX5, TX5, 47), (RX6, TX6, 3), (RX7, TX7, 3), (RX8, TX8, 3), (RX4, TX4, 1), (RX10, TX10, 1), (RX11, TX11, 2), (RX12, TX12, 2), (RX13, TX13, 3), (RX14, TX14, 2), (RX15, TX15, 3), (RX16, TX16, 3), (RX17, TX17, 4), (RX18, TX18, 4), (RX19, TX19, 5), (RX20, TX20, 3), (RX21, TX21, 4)]
def ClOK (ci : Nat) (C : String) (T : u_T) (N : Nat) (ty : Nat → FieldType) : Prop :=
  cl0[ci]? = some (C, T, N) ∧ (∀ w ∈ u_ws C T N, w ∈ lw_all) ∧ (∀ k, k < N → parseFieldDescriptor (T k).2.2.1 = some (ty k)) ∧ (∀ a, a < N → ∀ b, b < N → a ≠ b → (T a).2.1 ≠ (T b).2.1 ∨ ((T a).1 ≠ (T b).1 ∧ (T a).2.2.2 = true ∧ (T b).2.2.2 = true))
theorem ok0 : ClOK 0 RX0 TX0 31 tyX0 := ⟨rfl, in_X0, tyX0_ok, fun a ha b hb h => Or.inl (nmX0 a ha b hb h)⟩
theorem ok1 : ClOK 1 RX1 TX1 6 tyX1 := ⟨rfl, in_X1, tyX1_ok, fun a ha b hb h => Or.inl (nmX1 a ha b hb h)⟩
theorem ok2 : ClOK 2 RX2 TX2 6 tyX2 := ⟨rfl, in_X2, tyX2_ok, fun a ha b hb h => Or.inl (nmX2 a ha b hb h)⟩
theorem ok3 : ClOK 3 RX3 TX3 3 tyX3 := ⟨rfl, in_X3, tyX3_ok, fun a ha b hb h => Or.inl (nmX3 a ha b hb h)⟩
theorem ok4 : ClOK 4 RX4 TX4 1 tyX4 := ⟨rfl, in_X4, tyX4_ok, fun a ha b hb h => Or.inl (nmX4 a ha b hb h)⟩
theorem ok5 : ClOK 5 RX5 TX5 47 tyX5 := ⟨rfl, in_X5, tyX5_ok, fun a ha b hb h => Or.inl (nmX5 a ha b hb h)⟩
theorem ok6 : ClOK 6 RX6 TX6 3 tyX6 := ⟨rfl, in_X6, tyX6_ok, fun a ha b hb h => Or.inl (nmX6 a ha b hb h)⟩
theorem ok7 : ClOK 7 RX7 TX7 3 tyX7 := ⟨rfl, in_X7, tyX7_ok, fun a ha b hb h => Or.inl (nmX7 a ha b hb h)⟩
theorem ok8 : ClOK 8 RX8 TX8 3 tyX8 := ⟨rfl, in_X8, tyX8_ok, fun a ha b hb h => Or.inl (nmX8 a ha b hb h)⟩
theorem ok10 : ClOK 10 RX10 TX10 1 tyX10 := ⟨rfl, in_X10, tyX10_ok, fun a ha b hb h => Or.inl (nmX10 a ha b hb h)⟩
theorem ok11 : ClOK 11 RX11 TX11 2 tyX11 := ⟨rfl, in_X11, tyX11_ok, fun a ha b hb h => Or.inl (nmX11 a ha b hb h)⟩
theorem ok12 : ClOK 12 RX12 TX12 2 tyX12 := ⟨rfl, in_X12, tyX12_ok, fun a ha b hb h => Or.inl (nmX12 a ha b hb h)⟩
theorem ok13 : ClOK 13 RX13 TX13 3 tyX13 := ⟨rfl, in_X13, tyX13_ok, fun a ha b hb h => Or.inl (nmX13 a ha b hb h)⟩
theorem ok14 : ClOK 14 RX14 TX14 2 tyX14 := ⟨rfl, in_X14, tyX14_ok, fun a ha b hb h => Or.inl (nmX14 a ha b hb h)⟩
theorem ok15 : ClOK 15 RX15 TX15 3 tyX15 := ⟨rfl, in_X15, tyX15_ok, by decide +kernel⟩
theorem ok16 : ClOK 16 RX16 TX16 3 tyX16 := ⟨rfl, in_X16, tyX16_ok, by decide +kernel⟩
theorem ok17 : ClOK 17 RX17 TX17 4 tyX17 := ⟨rfl, in_X17, tyX17_ok, by decide +kernel⟩
theorem ok18 : ClOK 18 RX18 TX18 4 tyX18 := ⟨rfl, in_X18, tyX18_ok, by decide +kernel⟩
theorem ok19 : ClOK 19 RX19 TX19 5 tyX19 := ⟨rfl, in_X19, tyX19_ok, by decide +kernel⟩
theorem ok20 : ClOK 20 RX20 TX20 3 tyX20 := ⟨rfl, in_X20, tyX20_ok, by decide +kernel⟩
theorem ok21 : ClOK 21 RX21 TX21 4 tyX21 := ⟨rfl, in_X21, tyX21_ok, by decide +kernel⟩
abbrev AH : Type := (Nat → Nat × Nat) × (Nat → Nat → Int32) × (Nat → Nat → Option Nat) × (Nat → Nat → Int32) × (Nat → Nat → Int64) × (Nat → Nat → Option Nat) × Nat × Nat
def aT (h : AH) : Nat → Nat × Nat := h.1
def aI (h : AH) : Nat → Nat → Int32 := h.2.1
def aP (h : AH) : Nat → Nat → Option Nat := h.2.2.1
def aA (h : AH) : Nat → Nat → Int32 := h.2.2.2.1
def aL (h : AH) : Nat → Nat → Int64 := h.2.2.2.2.1
def aR (h : AH) : Nat → Nat → Option Nat := h.2.2.2.2.2.1
def aN (h : AH) : Nat := h.2.2.2.2.2.2.1
def aU (h : AH) : Nat := h.2.2.2.2.2.2.2
def up2 {α : Type} (f : Nat → Nat → α) (g a : Nat) (v : α) : Nat → Nat → α := fun x y => if x = g ∧ y = a then v else f x y
def sI (h : AH) (f a : Nat) (v : Int32) : AH := (aT h, up2 (aI h) f a v, aP h, aA h, aL h, aR h, aN h, aU h)
def sP (h : AH) (f a : Nat) (v : Option Nat) : AH := (aT h, aI h, up2 (aP h) f a v, aA h, aL h, aR h, aN h, aU h)
def sA (h : AH) (a i : Nat) (v : Int32) : AH := (aT h, aI h, aP h, up2 (aA h) a i v, aL h, aR h, aN h, aU h)
def sL (h : AH) (a i : Nat) (v : Int64) : AH := (aT h, aI h, aP h, aA h, up2 (aL h) a i v, aR h, aN h, aU h)
def sR (h : AH) (a i : Nat) (v : Option Nat) : AH := (aT h, aI h, aP h, aA h, aL h, up2 (aR h) a i v, aN h, aU h)
def sAf (h : AH) (a : Nat) (f : Nat → Int32) : AH := (aT h, aI h, aP h, va_up (aA h) a f, aL h, aR h, aN h, aU h)
def sLf (h : AH) (a : Nat) (f : Nat → Int64) : AH := (aT h, aI h, aP h, aA h, va_up (aL h) a f, aR h, aN h, aU h)
def sNew (h : AH) (t : Nat × Nat) (u : Nat) : AH := (va_up (aT h) (aN h) t, (fun f a => if a = aN h then 0 else aI h f a), (fun f a => if a = aN h then none else aP h f a), va_up (aA h) (aN h) (fun _ => 0), va_up (aL h) (aN h) (fun _ => 0), va_up (aR h) (aN h) (fun _ => none), aN h + 1, aU h + u)
/-- the fields of the classes: a number and whether it is an int -/
def fl (ci : Nat) : List (Nat × Bool) := match ci with
  | 0 => [(0, false), (1, true), (2, true), (3, false), (4, true), (5, false), (6, true), (7, false), (8, true), (9, false), (10, false), (11, true), (12, false), (13, true), (14, false), (15, false), (16, false), (17, false), (18, true), (19, false), (20, false), (21, false), (22, false), (23, true), (24, true), (25, false), (26, false), (27, true), (28, false), (29, true), (30, false)]
  | 1 => [(64, false), (65, false), (66, false), (67, false), (68, false), (69, true)]
  | 2 => [(128, false), (129, false), (130, false), (131, false), (132, false), (133, true)]
  | 3 => [(192, false), (193, true), (194, true)]
  | 4 => [(256, true)]
  | 5 => [(320, true), (321, true), (322, false), (323, false), (324, false), (325, true), (326, false), (327, false), (328, false), (329, true), (330, false), (331, false), (332, true), (333, true), (334, false), (335, false), (336, false), (337, false), (338, false), (339, true), (340, true), (341, true), (342, true), (343, true), (344, false), (345, false), (346, false), (347, false), (348, false), (349, false), (350, false), (351, true), (352, false), (353, false), (354, false), (355, false), (356, true), (357, true), (358, false), (359, true), (360, false), (361, true), (362, false), (363, false), (364, false), (365, false), (366, false)]
  | 6 => [(384, true), (385, false), (386, true)]
  | 7 => [(448, true), (449, true), (450, true)]
  | 8 => [(512, false), (513, false), (514, false)]
  | 10 => [(640, true)]
  | 11 => [(704, true), (705, false)]
  | 12 => [(768, true), (769, false)]
  | 13 => [(832, true), (833, false), (834, false)]
  | 14 => [(896, true), (897, false)]
  | 15 => [(896, true), (897, false), (898, false)]
  | 16 => [(896, true), (897, false), (898, false)]
  | 17 => [(896, true), (897, false), (898, false), (899, false)]
  | 18 => [(896, true), (897, false), (898, false), (899, false)]
  | 19 => [(896, true), (897, false), (898, false), (899, false), (900, false)]
  | 20 => [(896, true), (897, false), (898, false)]
  | 21 => [(896, true), (897, false), (898, false), (899, false)]
  | _ => []
def aV (h : AH) (a : Nat) (q : Nat × Bool) : Value := if q.2 = true then .int (aI h q.1 a) else va_rf (aP h q.1 a)
def cellOf (dA : Nat → ClassId) (h : AH) (a : Nat) : va_E :=
  if (aT h a).1 < 100 then .inr ((aT h a).1, (fl (aT h a).1).map (aV h a))
  else .inl (dA ((aT h a).1 - 100), (aT h a).2, if (aT h a).1 = 101 then .inr (.inl (aL h a)) else if (aT h a).1 < 105 then .inl (aA h a) else .inr (.inr (.inr (.inr (aR h a)))))
def kty (j : Nat) : FieldType := match j with
  | 0 => .int
  | 1 => .long
  | 2 => .byte
  | 3 => .short
  | 4 => .boolean
  | 5 => .object "NameRests$Change"
  | 6 => .object "NameRests$Held"
  | 7 => .object "NameRests$Person"
  | 8 => .object "NameRests$Meeting"
  | 9 => .object "NameRests$Body"
  | _ => .object "java/lang/Object"
def tys0 (dA : Nat → ClassId) : List (ClassId × FieldType) := (List.range 11).map (fun j => (dA j, kty j))
/-- base address, classes' numbers and slots, array classes' numbers -/
abbrev GG : Type := Nat × va_G × (Nat → ClassId)
def mv : Cond → Bool
  | .fieldLinkNest .. => true
  | .methodLinkNest .. => true
  | .declares _ => true
  | .castable .. => true
  | _ => false
def aoC : List String := ["NameRests$Change", "NameRests$Held", "NameRests$Person", "NameRests$Meeting", "NameRests$Body", "java/lang/Object"]
def fwL : List (String × MethodName × MethodName) := [
  ("NameRests$Best", ⟨"NameRests$Gives", "begins", "(I)V"⟩, ⟨"NameRests$Body", "begins", "(I)V"⟩),
  ("NameRests$Blind", ⟨"NameRests$Gives", "begins", "(I)V"⟩, ⟨"NameRests$Body", "begins", "(I)V"⟩),
  ("NameRests$Body", ⟨"NameRests$Gives", "begins", "(I)V"⟩, ⟨"NameRests$Body", "begins", "(I)V"⟩),
  ("NameRests$First", ⟨"NameRests$Gives", "begins", "(I)V"⟩, ⟨"NameRests$Body", "begins", "(I)V"⟩),
  ("NameRests$Hermit", ⟨"NameRests$Gives", "begins", "(I)V"⟩, ⟨"NameRests$Body", "begins", "(I)V"⟩),
  ("NameRests$Soon", ⟨"NameRests$Gives", "begins", "(I)V"⟩, ⟨"NameRests$Body", "begins", "(I)V"⟩),
  ("NameRests$Told", ⟨"NameRests$Gives", "begins", "(I)V"⟩, ⟨"NameRests$Body", "begins", "(I)V"⟩),
  ("NameRests$Wish", ⟨"NameRests$Gives", "begins", "(I)V"⟩, ⟨"NameRests$Body", "begins", "(I)V"⟩),
  ("NameRests$Best", ⟨"NameRests$Gives", "number", "()I"⟩, ⟨"NameRests$Body", "number", "()I"⟩),
  ("NameRests$Blind", ⟨"NameRests$Gives", "number", "()I"⟩, ⟨"NameRests$Body", "number", "()I"⟩),
  ("NameRests$Body", ⟨"NameRests$Gives", "number", "()I"⟩, ⟨"NameRests$Body", "number", "()I"⟩),
  ("NameRests$First", ⟨"NameRests$Gives", "number", "()I"⟩, ⟨"NameRests$Body", "number", "()I"⟩),
  ("NameRests$Hermit", ⟨"NameRests$Gives", "number", "()I"⟩, ⟨"NameRests$Body", "number", "()I"⟩),
  ("NameRests$Soon", ⟨"NameRests$Gives", "number", "()I"⟩, ⟨"NameRests$Body", "number", "()I"⟩),
  ("NameRests$Told", ⟨"NameRests$Gives", "number", "()I"⟩, ⟨"NameRests$Body", "number", "()I"⟩),
  ("NameRests$Wish", ⟨"NameRests$Gives", "number", "()I"⟩, ⟨"NameRests$Body", "number", "()I"⟩),
  ("NameRests$Best", ⟨"NameRests$Tells", "begins", "(I)V"⟩, ⟨"NameRests$Body", "begins", "(I)V"⟩),
  ("NameRests$Blind", ⟨"NameRests$Tells", "begins", "(I)V"⟩, ⟨"NameRests$Body", "begins", "(I)V"⟩),
  ("NameRests$Body", ⟨"NameRests$Tells", "begins", "(I)V"⟩, ⟨"NameRests$Body", "begins", "(I)V"⟩),
  ("NameRests$First", ⟨"NameRests$Tells", "begins", "(I)V"⟩, ⟨"NameRests$Body", "begins", "(I)V"⟩),
  ("NameRests$Hermit", ⟨"NameRests$Tells", "begins", "(I)V"⟩, ⟨"NameRests$Body", "begins", "(I)V"⟩),
  ("NameRests$Soon", ⟨"NameRests$Tells", "begins", "(I)V"⟩, ⟨"NameRests$Body", "begins", "(I)V"⟩),
  ("NameRests$Told", ⟨"NameRests$Tells", "begins", "(I)V"⟩, ⟨"NameRests$Body", "begins", "(I)V"⟩),
  ("NameRests$Wish", ⟨"NameRests$Tells", "begins", "(I)V"⟩, ⟨"NameRests$Body", "begins", "(I)V"⟩),
  ("NameRests$Best", ⟨"NameRests$Tells", "holds", "(I)I"⟩, ⟨"NameRests$Wish", "holds", "(I)I"⟩),
  ("NameRests$Blind", ⟨"NameRests$Tells", "holds", "(I)I"⟩, ⟨"NameRests$Body", "holds", "(I)I"⟩),
  ("NameRests$Body", ⟨"NameRests$Tells", "holds", "(I)I"⟩, ⟨"NameRests$Body", "holds", "(I)I"⟩),
  ("NameRests$First", ⟨"NameRests$Tells", "holds", "(I)I"⟩, ⟨"NameRests$Body", "holds", "(I)I"⟩),
  ("NameRests$Hermit", ⟨"NameRests$Tells", "holds", "(I)I"⟩, ⟨"NameRests$Hermit", "holds", "(I)I"⟩),
  ("NameRests$Soon", ⟨"NameRests$Tells", "holds", "(I)I"⟩, ⟨"NameRests$Soon", "holds", "(I)I"⟩),
  ("NameRests$Told", ⟨"NameRests$Tells", "holds", "(I)I"⟩, ⟨"NameRests$Body", "holds", "(I)I"⟩),
  ("NameRests$Wish", ⟨"NameRests$Tells", "holds", "(I)I"⟩, ⟨"NameRests$Wish", "holds", "(I)I"⟩),
  ("NameRests$Best", ⟨"NameRests$Tells", "knows", "(I)I"⟩, ⟨"NameRests$Best", "knows", "(I)I"⟩),
  ("NameRests$Blind", ⟨"NameRests$Tells", "knows", "(I)I"⟩, ⟨"NameRests$Body", "knows", "(I)I"⟩),
  ("NameRests$Body", ⟨"NameRests$Tells", "knows", "(I)I"⟩, ⟨"NameRests$Body", "knows", "(I)I"⟩),
  ("NameRests$First", ⟨"NameRests$Tells", "knows", "(I)I"⟩, ⟨"NameRests$Body", "knows", "(I)I"⟩),
  ("NameRests$Hermit", ⟨"NameRests$Tells", "knows", "(I)I"⟩, ⟨"NameRests$Body", "knows", "(I)I"⟩),
  ("NameRests$Soon", ⟨"NameRests$Tells", "knows", "(I)I"⟩, ⟨"NameRests$Body", "knows", "(I)I"⟩),
  ("NameRests$Told", ⟨"NameRests$Tells", "knows", "(I)I"⟩, ⟨"NameRests$Body", "knows", "(I)I"⟩),
  ("NameRests$Wish", ⟨"NameRests$Tells", "knows", "(I)I"⟩, ⟨"NameRests$Wish", "knows", "(I)I"⟩)]
def ldL : List (String × MethodName) := [("NameRests$Best", ⟨"NameRests$Gives", "gives", "(I)I"⟩), ("NameRests$Body", ⟨"NameRests$Gives", "gives", "(I)I"⟩), ("NameRests$Soon", ⟨"NameRests$Gives", "gives", "(I)I"⟩), ("NameRests$Wish", ⟨"NameRests$Gives", "gives", "(I)I"⟩), ("NameRests$Wish", ⟨"NameRests$Tells", "tells", "(I)I"⟩), ("NameRests$First", ⟨"NameRests$Tells", "tells", "(I)I"⟩), ("NameRests$Body", ⟨"NameRests$Tells", "tells", "(I)I"⟩), ("NameRests$Hermit", ⟨"NameRests$Tells", "tells", "(I)I"⟩), ("NameRests$Soon", ⟨"NameRests$Tells", "tells", "(I)I"⟩), ("NameRests$Told", ⟨"NameRests$Tells", "tells", "(I)I"⟩)]
def ncL : List (String × String) := [("NameRests$Body", "[B"), ("NameRests$Body", "[S"), ("NameRests$Body", "[I"), ("NameRests$Body", "[J"), ("NameRests$Body", "[Z"), ("NameRests$First", "[B"), ("NameRests$First", "[S"), ("NameRests$First", "[I"), ("NameRests$First", "[J"), ("NameRests$First", "[Z"), ("NameRests$Soon", "[B"), ("NameRests$Soon", "[S"), ("NameRests$Soon", "[I"), ("NameRests$Soon", "[J"), ("NameRests$Soon", "[Z"), ("NameRests$Wish", "[B"), ("NameRests$Wish", "[S"), ("NameRests$Wish", "[I"), ("NameRests$Wish", "[J"), ("NameRests$Wish", "[Z"), ("NameRests$Blind", "[B"), ("NameRests$Blind", "[S"), ("NameRests$Blind", "[I"), ("NameRests$Blind", "[J"), ("NameRests$Blind", "[Z"), ("NameRests$Best", "[B"), ("NameRests$Best", "[S"), ("NameRests$Best", "[I"), ("NameRests$Best", "[J"), ("NameRests$Best", "[Z"), ("NameRests$Told", "[B"), ("NameRests$Told", "[S"), ("NameRests$Told", "[I"), ("NameRests$Told", "[J"), ("NameRests$Told", "[Z"), ("NameRests$Hermit", "[B"), ("NameRests$Hermit", "[S"), ("NameRests$Hermit", "[I"), ("NameRests$Hermit", "[J"), ("NameRests$Hermit", "[Z"), ("[B", "[S"), ("[B", "[I"), ("[B", "[J"), ("[B", "[Z"), ("[S", "[B"), ("[S", "[I"), ("[S", "[J"), ("[S", "[Z"), ("[I", "[B"), ("[I", "[S"), ("[I", "[J"), ("[I", "[Z"), ("[J", "[B"), ("[J", "[S"), ("[J", "[I"), ("[J", "[Z"), ("[Z", "[B"), ("[Z", "[S"), ("[Z", "[I"), ("[Z", "[J"), ("[B", "NameRests$Body"), ("[S", "NameRests$Body"), ("[I", "NameRests$Body"), ("[J", "NameRests$Body"), ("[Z", "NameRests$Body")]
theorem xw_ok : ∀ w ∈ defaultWords_1, goodWord w = true := by decide +kernel
theorem declaredIn_bare (vm : Vm) (name desc : String) (k : ClassId) : declaredIn vm.bare name desc k = declaredIn vm name desc k := by
  unfold declaredIn
  rw [Vm.classes_bare, Vm.method?_bare]
  cases vm.classes[k]? with
  | none => rfl
  | some c => rfl
theorem held_bare (vm : Vm) (c : ClassId) (name desc : String) : held vm.bare c name desc = held vm c name desc := by
  have ha : ∀ (k : ClassId) (p : Class → Bool), (∀ x : Class, p x.bare = p x) → (vm.bare.classes[k]?).any p = (vm.classes[k]?).any p := by
    intro k p hp
    rw [Vm.classes_bare]
    cases vm.classes[k]? with
    | none => rfl
    | some x => exact hp x
  have e1 : ∀ k : ClassId, (vm.bare.classes[k]?).any (fun x => x.isInterface) = (vm.classes[k]?).any (fun x => x.isInterface) := fun k => ha k _ (fun _ => rfl)
  have e2 : ∀ k : ClassId, (vm.bare.classes[k]?).any (fun x => x.methods.any fun m => !m.isAbstract && !m.isStatic) = (vm.classes[k]?).any (fun x => x.methods.any fun m => !m.isAbstract && !m.isStatic) := fun k => ha k _ (fun _ => rfl)
  have e3 : ∀ (k : ClassId) (q : ClassId → Bool), (vm.bare.classes[k]?).any (fun x => x.interfaces.any q) = (vm.classes[k]?).any (fun x => x.interfaces.any q) := fun k q => ha k _ (fun _ => rfl)
  unfold held
  simp only [Vm.superclasses_bare, declaredIn_bare, superinterfaceMethods_bare, maximallySpecific_bare, Vm.method?_bare, Vm.superinterfaces_bare, e1, e2, e3]
theorem nearestHeld_alike {vm vm' : Vm} (h : vm.Alike vm') (c : ClassId) (name desc : String) : nearestHeld vm' c name desc = nearestHeld vm c name desc := by
  unfold nearestHeld
  rw [← held_bare vm', h.bare_eq, held_bare]
def nhOK (vm : Vm) (c : ClassId) (name desc : String) (m : MethodId) : Bool := match nearestHeld vm c name desc with
  | some (_, .default d) => decide (d = m)
  | some (_, .thrower _) => false
  | _ => true
/-- an object of the class C runs the interface's own default y -/
def Lands (C : String) (y : MethodName) (U : State) : Prop := ∃ (c : ClassId) (m : MethodId) (rm : Method), U.vm.findClass C = some c ∧ U.methodNamed? y = some m ∧ U.vm.method? m = some rm ∧ selectMethod {} U.vm c m = .method m ∧ nhOK U.vm c rm.name rm.desc m = true ∧ rm.isPrivate = false ∧ (U.vm.classes[m.cls]?).any (·.isInterface) = true
theorem Lands.moved {C : String} {y : MethodName} {u U : State} (hvm : u.vm.Alike U.vm) (h : Lands C y u) : Lands C y U := by
  obtain ⟨c, m, rm, h1, h2, h3, h4, h5, h6, h7⟩ := h
  refine ⟨c, m, rm, by rw [hvm.findClass]; exact h1, ?_, by rw [hvm.method?]; exact h3, by rw [hvm.selectMethod]; exact h4, ?_, h6, ?_⟩
  · have e : (u.setVm U.vm).methodNamed? y = u.methodNamed? y := State.methodNamed?_setVm hvm y
    exact (show U.methodNamed? y = (u.setVm U.vm).methodNamed? y from rfl).trans (e.trans h2)
  · unfold nhOK
    rw [nearestHeld_alike hvm]
    exact h5
  · rw [← Vm.isInterfaceAt_bare, hvm.bare_eq, Vm.isInterfaceAt_bare]; exact h7
/-- what stands for the run's old cells in G: two statics, the script -/
def sv (G : GG) (j : Nat) : Option Nat := match G.2.1.2 100 j with
  | 0 => none
  | n + 1 => some n
def scB (G : GG) : Nat := G.2.1.2 101 0
def scL (G : GG) : Nat := G.2.1.2 101 1
def scX (G : GG) : Nat → Int32 := fun j => nI (G.2.1.2 102 j)
def KK (G : GG) (U : State) : Prop := va_K G.2.1 cl0 (tys0 G.2.2) U ∧ (∀ w ∈ lw_tbl, mv w = true → va_Nw w U) ∧ (∀ C ∈ aoC, va_AO C U) ∧ (∀ q ∈ fwL, va_Fw q.1 q.2.1 q.2.2 U) ∧ (∀ w ∈ defaultWords_1, va_Nw w U) ∧ (∀ q ∈ ldL, Lands q.1 q.2 U) ∧ (∀ q ∈ ncL, va_Nc q.1 q.2 U) ∧
  va_Z "java/lang/Throwable" "UNASSIGNED_STACK" "[Ljava/lang/StackTraceElement;" (va_rf (sv G 0)) (fun q => G.1 ≤ q) U U.heap ∧ va_Z "java/lang/Throwable" "SUPPRESSED_SENTINEL" "Ljava/util/List;" (va_rf (sv G 1)) (fun q => G.1 ≤ q) U U.heap ∧ va_X (scB G) (scL G) (scX G) U U.heap ∧ scB G < G.1
theorem fwL_ok : ∀ q ∈ fwL, q.2.1.cls ≠ "java/lang/invoke/MethodHandle" ∧ q.2.1.cls ≠ "java/lang/invoke/VarHandle" := by decide +kernel
theorem KK.moved {G : GG} {u U : State} (hW : u.WarmedH U.vm) (hh : ∀ a : Nat, a < u.heap.size → ¬ G.1 ≤ a → U.heap[a]? = u.heap[a]?) (h : KK G u) : KK G U := by
  obtain ⟨h1, h2, h3, h4, h5, h6, h7, h8, h9, h10, h11⟩ := h
  have hb : U.heap[scB G]? = u.heap[scB G]? := by
    obtain ⟨scr, hs, -⟩ := h10
    exact hh _ (Array.getElem?_eq_some_iff.mp hs).1 (by omega)
  refine ⟨h1.moved hW.alike, fun w hw hm => ?_, fun C hC => (h3 C hC).moved hW.alike, fun q hq => (h4 q hq).moved (fwL_ok q hq) hW.alike, fun w hw => word_at hW (good_of_word (xw_ok w hw)) (h5 w hw), fun q hq => (h6 q hq).moved hW.alike, fun q hq => (h7 q hq).moved hW.alike, (h8.moved hW.alike).kept hh, (h9.moved hW.alike).kept hh, (h10.moved hW.alike).kept hb, h11⟩
  have h1 := h2 w hw hm
  cases w <;> first | (exact absurd hm Bool.false_ne_true) | (exact h1.warmF hW) | (exact h1.warmM hW) | (exact h1.warmD hW) | (exact h1.warmC hW)
/-- the typed heap is held by the machine's -/
def Rep (G : GG) (h : AH) (H : Heap) : Prop := H.size = aN h ∧ G.1 ≤ aN h ∧ ∀ a, G.1 ≤ a → a < aN h → va_at G.2.1 cl0 (a, cellOf G.2.2 h a) H
def EndX (first t : State) (L : List Loc) (k n : Nat) : Prop := first.WarmedH t.vm ∧ first.sameButNew ({ t with vm := first.vm } : State) L k n
def MetX (l : Launch) (y : MethodName) (ws : List Cond) (rm : Room) (Pc : Array Value → State → Prop) (Qc : Array Value → State → Outcome → State → Prop) (mc ms : Nat) (free : Addr → Prop) : Prop :=
  MetFree l y (headSpec ws rm) Pc (fun _ _ _ _ _ => True) (fun a st o t => Qc a st o t ∧ ∃ L, EndX st t L mc ms ∧ ∀ q ∈ L, free q.base)
def MQX (below : List Frame) (Qc : Array Value → State → Outcome → State → Prop) (a : Array Value) (s : State) (mc ms : Nat) (free : Addr → Prop) : State → Prop := fun t =>
  ∃ o, t.status = .running ∧ Ended t below o ∧ Qc a s o t ∧ ∃ L, EndX s t L mc ms ∧ ∀ q ∈ L, free q.base
def QX (G : GG) (o : Outcome) (h : AH) : Array Value → State → Outcome → State → Prop := fun _ st oc t => oc = o ∧ Rep G h t.heap ∧ va_F (fun q => G.1 ≤ q) st t
def mword (M : MD) : Cond := if M.2.2.2.2.isEmpty then .code M.1 M.2.1 M.2.2.1 M.2.2.2.1 else .codeWith M.1 M.2.1 M.2.2.1 M.2.2.2.1 M.2.2.2.2
def Cx (G : GG) (M : MD) (p : Program) (s : State) (m : MethodId) (args : Array Value) (meth : Method) (c : Code) : Prop :=
  p.tables.exec = Jvm.exec ∧ c.code = M.2.1 ∧ c.maxLocals = M.2.2.1 ∧ meth.sig.returnType = M.2.2.2.1 ∧ meth.locks = false ∧ s.vm.findClass M.1.cls = some m.cls ∧ (∀ w ∈ lw_all, w.before args s = true) ∧ KK G s ∧ meth.name = M.1.name ∧ c.exceptionTable.toList.map (fun x => (x.startPc, x.endPc, x.handlerPc, x.catchType)) = M.2.2.2.2
abbrev AG (G : GG) : Nat → Prop := fun q => G.1 ≤ q
/-- THE JUDGEMENT: from pc, with these locals and this stack, over this typed heap, the method comes to an end of which Q holds -/
def Run (G : GG) (M : MD) (d : Nat) (pc : Nat) (lv : List (Nat × Value)) (st : List Value) (h : AH) (Q : Outcome → AH → Prop) : Prop :=
  ∃ (o : Outcome) (h' : AH), Q o h' ∧ aN h ≤ aN h' ∧ aU h ≤ aU h' ∧
    ∀ (p : Program) (l : Launch) (e : Env) (R : Room) (s : State) (m : MethodId) (args : Array Value) (below : List Frame) (meth : Method) (c : Code) (H : Heap) (locs : List Loc) (cells slots : Nat) (ls : Array Slot),
      Cx G M p s m args meth c → d ≤ R.frames → 64 * d ≤ R.locals → cells + (aN h' - aN h) ≤ R.cells → slots + (aU h' - aU h) ≤ R.slots → Rep G h H → va_S (AG G) s.heap H locs → lv_has ls M.2.2.1 lv →
      W p l e R s m args below meth c H locs cells slots (MQX below (QX G o h') args s (cells + (aN h' - aN h)) (slots + (aU h' - aU h)) (AG G)) (F0 m pc ls st)
section W1
variable {p : Program} {l : Launch} {e : Env} {R : Room} {s : State} {m : MethodId} {args : Array Value} {below : List Frame} {meth : Method} {c : Code} {H : Heap} {locs : List Loc} {cells slots : Nat}
theorem W_mono {Q Q' : State → Prop} {g : JFrame} (hq : ∀ t, Q t → Q' t) (h : W p l e R s m args below meth c H locs cells slots Q g) : W p l e R s m args below meth c H locs cells slots Q' g := by
  intro T hT X
  obtain ⟨t, a, b⟩ := h T hT X
  exact ⟨t, a, hq t b⟩
theorem MQ_X {Qc : Array Value → State → Outcome → State → Prop} {mc ms : Nat} {free : Addr → Prop} {t : State} (h : MQ below Qc args s mc ms free t) : MQX below Qc args s mc ms free t := by
  obtain ⟨o, h1, h2, h3, L, h4, h5⟩ := h
  exact ⟨o, h1, h2, h3, L, ⟨h4.2.1, h4.2.2⟩, h5⟩
end W1
theorem Run.mono {G : GG} {M : MD} {d pc : Nat} {lv : List (Nat × Value)} {st : List Value} {h : AH} {Q Q' : Outcome → AH → Prop} (r : Run G M d pc lv st h Q) (hq : ∀ o h', Q o h' → Q' o h') : Run G M d pc lv st h Q' := by
  obtain ⟨o, h', q, r⟩ := r
  exact ⟨o, h', hq _ _ q, r⟩
section RL
variable {G : GG} {M : MD} {d pc pc' : Nat} {lv lv' : List (Nat × Value)} {st st' : List Value} {h : AH} {Q : Outcome → AH → Prop}
theorem R_lift (f : ∀ {p : Program} {l : Launch} {e : Env} {R : Room} {s : State} {m : MethodId} {args : Array Value} {below : List Frame} {meth : Method} {c : Code} {H : Heap} {locs : List Loc} {cells slots : Nat} {ls : Array Slot} {Q' : State → Prop},
      Cx G M p s m args meth c → d ≤ R.frames → 64 * d ≤ R.locals → Rep G h H → lv_has ls M.2.2.1 lv → W p l e R s m args below meth c H locs cells slots Q' (F0 m pc' ls st') → W p l e R s m args below meth c H locs cells slots Q' (F0 m pc ls st))
    (k : Run G M d pc' lv st' h Q) : Run G M d pc lv st h Q := by
  obtain ⟨o, h', q, h1, h2, r⟩ := k
  exact ⟨o, h', q, h1, h2, fun p l e R s m args below meth c H locs cells slots ls C a1 a2 a3 a4 P S L => f C a1 a2 P L (r p l e R s m args below meth c H locs cells slots ls C a1 a2 a3 a4 P S L)⟩
theorem R_lift2 (f : ∀ {p : Program} {l : Launch} {e : Env} {R : Room} {s : State} {m : MethodId} {args : Array Value} {below : List Frame} {meth : Method} {c : Code} {H : Heap} {locs : List Loc} {cells slots : Nat} {ls : Array Slot} {Q' : State → Prop},
      Cx G M p s m args meth c → lv_has ls M.2.2.1 lv → (∀ ls' : Array Slot, lv_has ls' M.2.2.1 lv' → W p l e R s m args below meth c H locs cells slots Q' (F0 m pc' ls' st')) → W p l e R s m args below meth c H locs cells slots Q' (F0 m pc ls st))
    (k : Run G M d pc' lv' st' h Q) : Run G M d pc lv st h Q := by
  obtain ⟨o, h', q, h1, h2, r⟩ := k
  exact ⟨o, h', q, h1, h2, fun p l e R s m args below meth c H locs cells slots ls C a1 a2 a3 a4 P S L => f C L (fun ls' L' => r p l e R s m args below meth c H locs cells slots ls' C a1 a2 a3 a4 P S L')⟩
/-- the method ends -/
theorem R_end {o : Outcome} (f : ∀ {p : Program} {l : Launch} {e : Env} {R : Room} {s : State} {m : MethodId} {args : Array Value} {below : List Frame} {meth : Method} {c : Code} {H : Heap} {locs : List Loc} {cells slots : Nat} {ls : Array Slot} {Qc : Array Value → State → Outcome → State → Prop} {free : Addr → Prop},
      Cx G M p s m args meth c → (∀ t : State, t.heap = H → s.WarmedH t.vm → Qc args s o t) → (∀ q ∈ locs, free q.base) → W p l e R s m args below meth c H locs cells slots (MQX below Qc args s cells slots free) (F0 m pc ls st))
    (q : Q o h) : Run G M d pc lv st h Q := by
  refine ⟨o, h, q, Nat.le_refl _, Nat.le_refl _, fun p l e R s m args below meth c H locs cells slots ls C a1 a2 a3 a4 P S L => ?_⟩
  rw [Nat.sub_self, Nat.sub_self, Nat.add_zero, Nat.add_zero]
  exact f C (fun t ht _ => ⟨rfl, by rw [ht]; exact P, S.F ht⟩) S.2.2
end RL

/-! LAYER 1c: predicates used by the component's segments -/
set_option maxRecDepth 100000
theorem rf_cat (v : Option Nat) : (va_rf v).category = 1 := by cases v <;> rfl
theorem cat_i (x : Int32) : (Value.int x).category = 1 := rfl
theorem cat_r (x : Nat) : (Value.ref x).category = 1 := rfl
theorem cat_l (x : Int64) : (Value.long x).category = 2 := rfl
theorem run_la {G : GG} {Mc : MD} {d' : Nat} {la la' : List (Nat × Value)} {h : AH} {P : Outcome → AH → Prop} (e : la = la') (r : Run G Mc d' 0 la' [] h P) : Run G Mc d' 0 la [] h P := e ▸ r
def CastOK (G : GG) (h : AH) (a : Nat) (nm : String) : Prop := Cls G h a nm ∨ ∃ C0, Cond.castable C0 nm ∈ lw_tbl ∧ Cls G h a C0
def InstOf (G : GG) (h : AH) (a : Nat) (nm : String) (b : Bool) : Prop := (b = true ∧ CastOK G h a nm) ∨ (b = false ∧ ∃ C0, (C0, nm) ∈ ncL ∧ Cls G h a C0)
def InstQ (G : GG) (h : AH) (v : Option Nat) (nm : String) (b : Bool) : Prop := (v = none ∧ b = false) ∨ ∃ a, v = some a ∧ InstOf G h a nm b
def Copied (G : GG) (h : AH) (a0 a : Nat) (sp dp n : Int32) (h' : AH) : Prop :=
  ¬ sp < 0 ∧ ¬ dp < 0 ∧ ¬ n < 0 ∧ ((∃ j n0 n1, ¬ j = 1 ∧ j < 5 ∧ IsK G h a0 (100 + j, n0) ∧ IsK G h a (100 + j, n1) ∧ sp.toNatClampNeg + n.toNatClampNeg ≤ n0 ∧ dp.toNatClampNeg + n.toNatClampNeg ≤ n1 ∧ (∀ i, i < n.toNatClampNeg → fits (kty j) (.int (aA h a0 (sp.toNatClampNeg + i))) = true) ∧ h' = sAf h a (va_cpy (aA h a0) (aA h a) sp.toNatClampNeg dp.toNatClampNeg n.toNatClampNeg)) ∨
    (∃ n0 n1, IsK G h a0 (101, n0) ∧ IsK G h a (101, n1) ∧ sp.toNatClampNeg + n.toNatClampNeg ≤ n0 ∧ dp.toNatClampNeg + n.toNatClampNeg ≤ n1 ∧ h' = sLf h a (va_cpy (aL h a0) (aL h a) sp.toNatClampNeg dp.toNatClampNeg n.toNatClampNeg)))
def CopiedQ (G : GG) (h : AH) (u v : Option Nat) (sp dp n : Int32) (h' : AH) : Prop := ∃ a0 a, u = some a0 ∧ v = some a ∧ Copied G h a0 a sp dp n h'
theorem CopiedQ.xb {G : GG} {x : Nat} {h h' : AH} {u v : Option Nat} {sp dp n : Int32} (c : CopiedQ G h u v sp dp n h') (B : XB G x h) : XB G x h' := by
  obtain ⟨a0, a, -, -, -, -, -, c⟩ := c
  rcases c with ⟨j, n0, n1, -, -, -, -, -, -, -, rfl⟩ | ⟨n0, n1, -, -, -, -, rfl⟩
  · exact B.Af
  · exact B.Lf
theorem nat_words : nativeFrameWords "java/lang/System" "arraycopy" 5 ≤ 45 := by decide +kernel
section RP
variable {G : GG} {M : MD} {d pc : Nat} {lv : List (Nat × Value)} {st : List Value} {h : AH} {Q : Outcome → AH → Prop}
theorem R_cast {ix a : Nat} {nm : String} (hd : decode M.2.1 pc = .ok (.checkcast ix, 3)) (hw : Cond.classLink M.1.cls ix nm ∈ lw_all) (hc : CastOK G h a nm) (kk : Run G M d (pc + 3) lv (.ref a :: st) h Q) : Run G M d pc lv (.ref a :: st) h Q := by
  rcases hc with c | ⟨C0, c1, c2⟩
  · exact R_castE hd hw c kk
  · exact R_castY hd hw c1 c2 kk
theorem R_instQ {ix : Nat} {v : Option Nat} {nm : String} {b : Bool} (hd : decode M.2.1 pc = .ok (.instanceof ix, 3)) (hw : Cond.classLink M.1.cls ix nm ∈ lw_all) (hi : InstQ G h v nm b) (kk : Run G M d (pc + 3) lv (.int (bi b) :: st) h Q) : Run G M d pc lv (va_rf v :: st) h Q := by
  rcases hi with ⟨rfl, rfl⟩ | ⟨a, rfl, c⟩
  · exact R_instN hd kk
  · rcases c with ⟨rfl, c⟩ | ⟨rfl, C0, c1, c2⟩
    · rcases c with c | ⟨C0, c1, c2⟩
      · exact R_instE hd hw c kk
      · exact R_instY hd hw c1 c2 kk
    · exact R_instNo hd hw c1 c2 kk
theorem R_copyQ {ix : Nat} {u v : Option Nat} {sp dp n : Int32} {h' : AH} (hd : decode M.2.1 pc = .ok (.invokestatic ix, 3)) (hl : Cond.methodLink M.1.cls ix arraycopyName ∈ lw_all) (hnat : Cond.native arraycopyName ∈ lw_all) (hstat : Cond.static arraycopyName ∈ lw_all) (hini : Cond.initialized "java/lang/System" ∈ lw_all) (hc : CopiedQ G h u v sp dp n h') (hdd : 1 ≤ d) (hst : (st.map fun v => v.category).sum ≤ 8) (kk : Run G M d (pc + 3) lv st h' Q) : Run G M d pc lv (.int n :: .int dp :: va_rf v :: .int sp :: va_rf u :: st) h Q := by
  obtain ⟨a0, a, rfl, rfl, h1, h2, h3, c⟩ := hc
  rcases c with ⟨j, n0, n1, c1, c2, c3, c4, c5, c6, c7, rfl⟩ | ⟨n0, n1, c3, c4, c5, c6, rfl⟩
  · exact R_copyi hd hl hnat hstat hini c1 c2 c3 c4 h1 h2 h3 c5 c6 c7 hdd hst nat_words kk
  · exact R_copyl hd hl hnat hstat hini c3 c4 h1 h2 h3 c5 c6 hdd hst nat_words kk
end RP
theorem nfd0 : ∀ j, j < 31 → ∃ f b, (fl 0)[j]? = some (f, b) ∧ defaultValue (tyX0 j) = if b = true then .int 0 else .null := by
  intro j hj
  match j, hj with
  | 0, _ => exact ⟨_, _, rfl, rfl⟩
  | 1, _ => exact ⟨_, _, rfl, rfl⟩
  | 2, _ => exact ⟨_, _, rfl, rfl⟩
  | 3, _ => exact ⟨_, _, rfl, rfl⟩
  | 4, _ => exact ⟨_, _, rfl, rfl⟩
  | 5, _ => exact ⟨_, _, rfl, rfl⟩
  | 6, _ => exact ⟨_, _, rfl, rfl⟩
  | 7, _ => exact ⟨_, _, rfl, rfl⟩
  | 8, _ => exact ⟨_, _, rfl, rfl⟩
  | 9, _ => exact ⟨_, _, rfl, rfl⟩
  | 10, _ => exact ⟨_, _, rfl, rfl⟩
  | 11, _ => exact ⟨_, _, rfl, rfl⟩
  | 12, _ => exact ⟨_, _, rfl, rfl⟩
  | 13, _ => exact ⟨_, _, rfl, rfl⟩
  | 14, _ => exact ⟨_, _, rfl, rfl⟩
  | 15, _ => exact ⟨_, _, rfl, rfl⟩
  | 16, _ => exact ⟨_, _, rfl, rfl⟩
  | 17, _ => exact ⟨_, _, rfl, rfl⟩
  | 18, _ => exact ⟨_, _, rfl, rfl⟩
  | 19, _ => exact ⟨_, _, rfl, rfl⟩
  | 20, _ => exact ⟨_, _, rfl, rfl⟩
  | 21, _ => exact ⟨_, _, rfl, rfl⟩
  | 22, _ => exact ⟨_, _, rfl, rfl⟩
  | 23, _ => exact ⟨_, _, rfl, rfl⟩
  | 24, _ => exact ⟨_, _, rfl, rfl⟩
  | 25, _ => exact ⟨_, _, rfl, rfl⟩
  | 26, _ => exact ⟨_, _, rfl, rfl⟩
  | 27, _ => exact ⟨_, _, rfl, rfl⟩
  | 28, _ => exact ⟨_, _, rfl, rfl⟩
  | 29, _ => exact ⟨_, _, rfl, rfl⟩
  | 30, _ => exact ⟨_, _, rfl, rfl⟩
  | j + 31, hj => omega
theorem nfd1 : ∀ j, j < 6 → ∃ f b, (fl 1)[j]? = some (f, b) ∧ defaultValue (tyX1 j) = if b = true then .int 0 else .null := by
  intro j hj
  match j, hj with
  | 0, _ => exact ⟨_, _, rfl, rfl⟩
  | 1, _ => exact ⟨_, _, rfl, rfl⟩
  | 2, _ => exact ⟨_, _, rfl, rfl⟩
  | 3, _ => exact ⟨_, _, rfl, rfl⟩
  | 4, _ => exact ⟨_, _, rfl, rfl⟩
  | 5, _ => exact ⟨_, _, rfl, rfl⟩
  | j + 6, hj => omega
theorem nfd2 : ∀ j, j < 6 → ∃ f b, (fl 2)[j]? = some (f, b) ∧ defaultValue (tyX2 j) = if b = true then .int 0 else .null := by
  intro j hj
  match j, hj with
  | 0, _ => exact ⟨_, _, rfl, rfl⟩
  | 1, _ => exact ⟨_, _, rfl, rfl⟩
  | 2, _ => exact ⟨_, _, rfl, rfl⟩
  | 3, _ => exact ⟨_, _, rfl, rfl⟩
  | 4, _ => exact ⟨_, _, rfl, rfl⟩
  | 5, _ => exact ⟨_, _, rfl, rfl⟩
  | j + 6, hj => omega
theorem nfd3 : ∀ j, j < 3 → ∃ f b, (fl 3)[j]? = some (f, b) ∧ defaultValue (tyX3 j) = if b = true then .int 0 else .null := by
  intro j hj
  match j, hj with
  | 0, _ => exact ⟨_, _, rfl, rfl⟩
  | 1, _ => exact ⟨_, _, rfl, rfl⟩
  | 2, _ => exact ⟨_, _, rfl, rfl⟩
  | j + 3, hj => omega
theorem nfd4 : ∀ j, j < 1 → ∃ f b, (fl 4)[j]? = some (f, b) ∧ defaultValue (tyX4 j) = if b = true then .int 0 else .null := by
  intro j hj
  match j, hj with
  | 0, _ => exact ⟨_, _, rfl, rfl⟩
  | j + 1, hj => omega
theorem nfd5 : ∀ j, j < 47 → ∃ f b, (fl 5)[j]? = some (f, b) ∧ defaultValue (tyX5 j) = if b = true then .int 0 else .null := by
  intro j hj
  match j, hj with
  | 0, _ => exact ⟨_, _, rfl, rfl⟩
  | 1, _ => exact ⟨_, _, rfl, rfl⟩
  | 2, _ => exact ⟨_, _, rfl, rfl⟩
  | 3, _ => exact ⟨_, _, rfl, rfl⟩
  | 4, _ => exact ⟨_, _, rfl, rfl⟩
  | 5, _ => exact ⟨_, _, rfl, rfl⟩
  | 6, _ => exact ⟨_, _, rfl, rfl⟩
  | 7, _ => exact ⟨_, _, rfl, rfl⟩
  | 8, _ => exact ⟨_, _, rfl, rfl⟩
  | 9, _ => exact ⟨_, _, rfl, rfl⟩
  | 10, _ => exact ⟨_, _, rfl, rfl⟩
  | 11, _ => exact ⟨_, _, rfl, rfl⟩
  | 12, _ => exact ⟨_, _, rfl, rfl⟩
  | 13, _ => exact ⟨_, _, rfl, rfl⟩
  | 14, _ => exact ⟨_, _, rfl, rfl⟩
  | 15, _ => exact ⟨_, _, rfl, rfl⟩
  | 16, _ => exact ⟨_, _, rfl, rfl⟩
  | 17, _ => exact ⟨_, _, rfl, rfl⟩
  | 18, _ => exact ⟨_, _, rfl, rfl⟩
  | 19, _ => exact ⟨_, _, rfl, rfl⟩
  | 20, _ => exact ⟨_, _, rfl, rfl⟩
  | 21, _ => exact ⟨_, _, rfl, rfl⟩
  | 22, _ => exact ⟨_, _, rfl, rfl⟩
  | 23, _ => exact ⟨_, _, rfl, rfl⟩
  | 24, _ => exact ⟨_, _, rfl, rfl⟩
  | 25, _ => exact ⟨_, _, rfl, rfl⟩
  | 26, _ => exact ⟨_, _, rfl, rfl⟩
  | 27, _ => exact ⟨_, _, rfl, rfl⟩
  | 28, _ => exact ⟨_, _, rfl, rfl⟩
  | 29, _ => exact ⟨_, _, rfl, rfl⟩
  | 30, _ => exact ⟨_, _, rfl, rfl⟩
  | 31, _ => exact ⟨_, _, rfl, rfl⟩
  | 32, _ => exact ⟨_, _, rfl, rfl⟩
  | 33, _ => exact ⟨_, _, rfl, rfl⟩
  | 34, _ => exact ⟨_, _, rfl, rfl⟩
  | 35, _ => exact ⟨_, _, rfl, rfl⟩
  | 36, _ => exact ⟨_, _, rfl, rfl⟩
  | 37, _ => exact ⟨_, _, rfl, rfl⟩
  | 38, _ => exact ⟨_, _, rfl, rfl⟩
  | 39, _ => exact ⟨_, _, rfl, rfl⟩
  | 40, _ => exact ⟨_, _, rfl, rfl⟩
  | 41, _ => exact ⟨_, _, rfl, rfl⟩
  | 42, _ => exact ⟨_, _, rfl, rfl⟩
  | 43, _ => exact ⟨_, _, rfl, rfl⟩
  | 44, _ => exact ⟨_, _, rfl, rfl⟩
  | 45, _ => exact ⟨_, _, rfl, rfl⟩
  | 46, _ => exact ⟨_, _, rfl, rfl⟩
  | j + 47, hj => omega
theorem nfd6 : ∀ j, j < 3 → ∃ f b, (fl 6)[j]? = some (f, b) ∧ defaultValue (tyX6 j) = if b = true then .int 0 else .null := by
  intro j hj
  match j, hj with
  | 0, _ => exact ⟨_, _, rfl, rfl⟩
  | 1, _ => exact ⟨_, _, rfl, rfl⟩
  | 2, _ => exact ⟨_, _, rfl, rfl⟩
  | j + 3, hj => omega
theorem nfd7 : ∀ j, j < 3 → ∃ f b, (fl 7)[j]? = some (f, b) ∧ defaultValue (tyX7 j) = if b = true then .int 0 else .null := by
  intro j hj
  match j, hj with
  | 0, _ => exact ⟨_, _, rfl, rfl⟩
  | 1, _ => exact ⟨_, _, rfl, rfl⟩
  | 2, _ => exact ⟨_, _, rfl, rfl⟩
  | j + 3, hj => omega
theorem nfd8 : ∀ j, j < 3 → ∃ f b, (fl 8)[j]? = some (f, b) ∧ defaultValue (tyX8 j) = if b = true then .int 0 else .null := by
  intro j hj
  match j, hj with
  | 0, _ => exact ⟨_, _, rfl, rfl⟩
  | 1, _ => exact ⟨_, _, rfl, rfl⟩
  | 2, _ => exact ⟨_, _, rfl, rfl⟩
  | j + 3, hj => omega
theorem nfd10 : ∀ j, j < 1 → ∃ f b, (fl 10)[j]? = some (f, b) ∧ defaultValue (tyX10 j) = if b = true then .int 0 else .null := by
  intro j hj
  match j, hj with
  | 0, _ => exact ⟨_, _, rfl, rfl⟩
  | j + 1, hj => omega
theorem nfd11 : ∀ j, j < 2 → ∃ f b, (fl 11)[j]? = some (f, b) ∧ defaultValue (tyX11 j) = if b = true then .int 0 else .null := by
  intro j hj
  match j, hj with
  | 0, _ => exact ⟨_, _, rfl, rfl⟩
  | 1, _ => exact ⟨_, _, rfl, rfl⟩
  | j + 2, hj => omega
theorem nfd12 : ∀ j, j < 2 → ∃ f b, (fl 12)[j]? = some (f, b) ∧ defaultValue (tyX12 j) = if b = true then .int 0 else .null := by
  intro j hj
  match j, hj with
  | 0, _ => exact ⟨_, _, rfl, rfl⟩
  | 1, _ => exact ⟨_, _, rfl, rfl⟩
  | j + 2, hj => omega
theorem nfd13 : ∀ j, j < 3 → ∃ f b, (fl 13)[j]? = some (f, b) ∧ defaultValue (tyX13 j) = if b = true then .int 0 else .null := by
  intro j hj
  match j, hj with
  | 0, _ => exact ⟨_, _, rfl, rfl⟩
  | 1, _ => exact ⟨_, _, rfl, rfl⟩
  | 2, _ => exact ⟨_, _, rfl, rfl⟩
  | j + 3, hj => omega
theorem nfd14 : ∀ j, j < 2 → ∃ f b, (fl 14)[j]? = some (f, b) ∧ defaultValue (tyX14 j) = if b = true then .int 0 else .null := by
  intro j hj
  match j, hj with
  | 0, _ => exact ⟨_, _, rfl, rfl⟩
  | 1, _ => exact ⟨_, _, rfl, rfl⟩
  | j + 2, hj => omega
theorem nfd15 : ∀ j, j < 3 → ∃ f b, (fl 15)[j]? = some (f, b) ∧ defaultValue (tyX15 j) = if b = true then .int 0 else .null := by
  intro j hj
  match j, hj with
  | 0, _ => exact ⟨_, _, rfl, rfl⟩
  | 1, _ => exact ⟨_, _, rfl, rfl⟩
  | 2, _ => exact ⟨_, _, rfl, rfl⟩
  | j + 3, hj => omega
theorem nfd16 : ∀ j, j < 3 → ∃ f b, (fl 16)[j]? = some (f, b) ∧ defaultValue (tyX16 j) = if b = true then .int 0 else .null := by
  intro j hj
  match j, hj with
  | 0, _ => exact ⟨_, _, rfl, rfl⟩
  | 1, _ => exact ⟨_, _, rfl, rfl⟩
  | 2, _ => exact ⟨_, _, rfl, rfl⟩
  | j + 3, hj => omega
theorem nfd17 : ∀ j, j < 4 → ∃ f b, (fl 17)[j]? = some (f, b) ∧ defaultValue (tyX17 j) = if b = true then .int 0 else .null := by
  intro j hj
  match j, hj with
  | 0, _ => exact ⟨_, _, rfl, rfl⟩
  | 1, _ => exact ⟨_, _, rfl, rfl⟩
  | 2, _ => exact ⟨_, _, rfl, rfl⟩
  | 3, _ => exact ⟨_, _, rfl, rfl⟩
  | j + 4, hj => omega
theorem nfd18 : ∀ j, j < 4 → ∃ f b, (fl 18)[j]? = some (f, b) ∧ defaultValue (tyX18 j) = if b = true then .int 0 else .null := by
  intro j hj
  match j, hj with
  | 0, _ => exact ⟨_, _, rfl, rfl⟩
  | 1, _ => exact ⟨_, _, rfl, rfl⟩
  | 2, _ => exact ⟨_, _, rfl, rfl⟩
  | 3, _ => exact ⟨_, _, rfl, rfl⟩
  | j + 4, hj => omega
theorem nfd19 : ∀ j, j < 5 → ∃ f b, (fl 19)[j]? = some (f, b) ∧ defaultValue (tyX19 j) = if b = true then .int 0 else .null := by
  intro j hj
  match j, hj with
  | 0, _ => exact ⟨_, _, rfl, rfl⟩
  | 1, _ => exact ⟨_, _, rfl, rfl⟩
  | 2, _ => exact ⟨_, _, rfl, rfl⟩
  | 3, _ => exact ⟨_, _, rfl, rfl⟩
  | 4, _ => exact ⟨_, _, rfl, rfl⟩
  | j + 5, hj => omega
theorem nfd20 : ∀ j, j < 3 → ∃ f b, (fl 20)[j]? = some (f, b) ∧ defaultValue (tyX20 j) = if b = true then .int 0 else .null := by
  intro j hj
  match j, hj with
  | 0, _ => exact ⟨_, _, rfl, rfl⟩
  | 1, _ => exact ⟨_, _, rfl, rfl⟩
  | 2, _ => exact ⟨_, _, rfl, rfl⟩
  | j + 3, hj => omega
theorem nfd21 : ∀ j, j < 4 → ∃ f b, (fl 21)[j]? = some (f, b) ∧ defaultValue (tyX21 j) = if b = true then .int 0 else .null := by
  intro j hj
  match j, hj with
  | 0, _ => exact ⟨_, _, rfl, rfl⟩
  | 1, _ => exact ⟨_, _, rfl, rfl⟩
  | 2, _ => exact ⟨_, _, rfl, rfl⟩
  | 3, _ => exact ⟨_, _, rfl, rfl⟩
  | j + 4, hj => omega
/-- a term's value is asked: by the term's class -/
def CV_value (G : GG) (d : Nat) (h : AH) (a : Nat) (P : Outcome → AH → Prop) : Prop := (IsK G h a (10, 0) ∧ Run G mX10_value d 0 [(0, .ref a)] [] h P) ∨ (IsK G h a (11, 0) ∧ Run G mX11_value d 0 [(0, .ref a)] [] h P) ∨ (IsK G h a (12, 0) ∧ Run G mX12_value d 0 [(0, .ref a)] [] h P) ∨ (IsK G h a (13, 0) ∧ Run G mX13_value d 0 [(0, .ref a)] [] h P)
theorem R_CV_value {G : GG} {M : MD} {d d' pc ix a : Nat} {lv : List (Nat × Value)} {st : List Value} {h : AH} {Q : Outcome → AH → Prop} {P : Int32 → AH → Prop} (hd : decode M.2.1 pc = .ok (.invokevirtual ix, 3)) (hl : Cond.methodLink M.1.cls ix ⟨"NameRests$Term", "value", "()I"⟩ ∈ lw_all) (hdd : d' + 1 ≤ d) (hst : (st.map fun v => v.category).sum ≤ 8) (hc : CV_value G d' h a (fun o h1 => ∃ r : Int32, o = .returned (some (.int r)) ∧ P r h1)) (k : ∀ r h1, P r h1 → Run G M d (pc + 3) lv (.int r :: st) h1 Q) : Run G M d pc lv (.ref a :: st) h Q := by
  rcases hc with ⟨c1, c2⟩ | ⟨c1, c2⟩ | ⟨c1, c2⟩ | ⟨c1, c2⟩
  · exact R_invVU (Mc := mX10_value) (b := a) (As := []) (x := ⟨"NameRests$Term", "value", "()I"⟩) (owner := "NameRests$Term") ok10 (by decide) c1 hd hl q698 (Or.inr q697) (by decide) q712 q703 q116 wX10_value (by decide +kernel) pX10_value rfl (Nat.le_of_ble_eq_true rfl) (by decide) hdd hst (fun w hw _ => absurd hw (by decide +kernel)) (aft_i c2 k)
  · exact R_invVU (Mc := mX11_value) (b := a) (As := []) (x := ⟨"NameRests$Term", "value", "()I"⟩) (owner := "NameRests$Term") ok11 (by decide) c1 hd hl q698 (Or.inr q697) (by decide) q713 q705 q117 wX11_value (by decide +kernel) pX11_value rfl (Nat.le_of_ble_eq_true rfl) (by decide) hdd hst (fun w hw _ => absurd hw (by decide +kernel)) (aft_i c2 k)
  · exact R_invVU (Mc := mX12_value) (b := a) (As := []) (x := ⟨"NameRests$Term", "value", "()I"⟩) (owner := "NameRests$Term") ok12 (by decide) c1 hd hl q698 (Or.inr q697) (by decide) q714 q707 q118 wX12_value (by decide +kernel) pX12_value rfl (Nat.le_of_ble_eq_true rfl) (by decide) hdd hst (fun w hw _ => absurd hw (by decide +kernel)) (aft_i c2 k)
  · exact R_invVU (Mc := mX13_value) (b := a) (As := []) (x := ⟨"NameRests$Term", "value", "()I"⟩) (owner := "NameRests$Term") ok13 (by decide) c1 hd hl q698 (Or.inr q697) (by decide) q699 q700 q119 wX13_value (by decide +kernel) pX13_value rfl (Nat.le_of_ble_eq_true rfl) (by decide) hdd hst (fun w hw _ => absurd hw (by decide +kernel)) (aft_i c2 k)

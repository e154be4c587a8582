/-! LAYER 3.25: the component's calls that change: hearing, name, fame, feed, image, back, mend, undo, redo -/
set_option maxRecDepth 100000
theorem sA_ne {h : AH} {a a' i : Nat} {v : Int32} (e : ¬ a' = a) : aA (sA h a i v) a' = aA h a' := by
  funext j; simp [sA, aA, up2, e]
theorem sA_if {h : AH} {a i j : Nat} {v : Int32} : aA (sA h a i v) a j = if j = i then v else aA h a j := by simp [sA, aA, up2]
theorem sR_ne {h : AH} {a a' i : Nat} {v : Option Nat} (e : ¬ a' = a) : aR (sR h a i v) a' = aR h a' := by
  funext j; simp [sR, aR, up2, e]
theorem sR_if {h : AH} {a i j : Nat} {v : Option Nat} : aR (sR h a i v) a j = if j = i then v else aR h a j := by simp [sR, aR, up2]
theorem sI_if {h : AH} {f a a' : Nat} {v : Int32} : aI (sI h f a v) f a' = if a' = a then v else aI h f a' := by simp [sI, aI, up2]
theorem sI_ne {h : AH} {f f' a : Nat} {v : Int32} (e : ¬ f' = f) : aI (sI h f a v) f' = aI h f' := by
  funext j; simp [sI, aI, up2, e]
theorem sI_nea {h : AH} {f f' a a' : Nat} {v : Int32} (e : ¬ a' = a) : aI (sI h f a v) f' a' = aI h f' a' := by simp [sI, aI, up2, e]
theorem sI_at {h : AH} {f a : Nat} {v : Int32} : aI (sI h f a v) f a = v := by simp [sI, aI, up2]
theorem sP_if {h : AH} {f a a' : Nat} {v : Option Nat} : aP (sP h f a v) f a' = if a' = a then v else aP h f a' := by simp [sP, aP, up2]
/-- the model's cells have not changed; room -/
def MK (x : Nat) (h h' : AH) : Prop := Keep h h' ∧ (∀ f, aI h' f (x + 71) = aI h f (x + 71) ∧ aP h' f (x + 71) = aP h f (x + 71)) ∧ (∀ a, x + 71 < a → a ≤ x + 102 → aA h' a = aA h a ∧ aL h' a = aL h a) ∧ aN h' ≤ aN h + 1000 ∧ aU h' ≤ aU h + 10000 ∧ aU h ≤ aU h'
section
variable {G : GG} {x : Nat} {S S' : MS} {L : Lw} {h h' : AH}
theorem CP.s (c : CP G x S h) (e1 : S'.1 1 = S.1 1) (e2 : S'.1 2 = S.1 2) (e3 : S'.1 3 = S.1 3) (e4 : S'.1 4 = S.1 4) : CP G x S' h := by
  unfold CP ordF np at *; rw [e1, e2, e3, e4]; exact c
theorem CM.s (c : CM G x S h) (e5 : S'.1 5 = S.1 5) (e6 : S'.1 6 = S.1 6) (e7 : S'.1 7 = S.1 7) (e8 : S'.1 8 = S.1 8) : CM G x S' h := by
  unfold CM byF nm at *; rw [e5, e6, e7, e8]; exact c
theorem CW.s (c : CW G x S h) (e9 : S'.1 9 = S.1 9) (e10 : S'.1 10 = S.1 10) (e11 : S'.1 11 = S.1 11) : CW G x S' h := by
  unfold CW at *; rw [e9, e10, e11]; exact c
theorem CC.s (c : CC G x S h) (e2 : S'.1 12 = S.1 12) (e3 : S'.1 13 = S.1 13) (e4 : S'.1 14 = S.1 14) (e5 : S'.1 15 = S.1 15) (e6 : S'.1 16 = S.1 16) (e7 : S'.1 17 = S.1 17) : CC G x S' h := by
  unfold CC hdF ndN' nuN at *; rw [e2, e3, e4, e5, e6, e7]; exact c
theorem CT.s (c : CT x S h) (e8 : S'.1 18 = S.1 18) (e9 : S'.1 19 = S.1 19) : CT x S' h := by
  unfold CT tpN at *; rw [e8, e9]; exact c
theorem CI.s (c : CI x S h) (e6 : S'.1 36 = S.1 36) (e7 : S'.1 37 = S.1 37) (e8 : S'.1 38 = S.1 38) : CI x S' h := by
  unfold CI at *; rw [e6, e7, e8]; exact c
theorem CB.s (c : CB G x S h) (e9 : S'.1 39 = S.1 39) (e0 : S'.1 40 = S.1 40) (e1 : S'.1 41 = S.1 41) (e2 : S'.1 42 = S.1 42) : CB G x S' h := by
  unfold CB nbN at *; rw [e9, e0, e1, e2]; exact c
theorem CS.s (c : CS G x S h) (e9 : S'.1 39 = S.1 39) (e3 : S'.1 43 = S.1 43) (e4 : S'.1 44 = S.1 44) (e5 : S'.2 45 = S.2 45) : CS G x S' h := by
  unfold CS RowAt nbN at *; rw [e9, e3, e4, e5]; exact c
theorem Ppl.s (c : Ppl S) (e1 : S'.1 1 = S.1 1) (e2 : S'.1 2 = S.1 2) (e3 : S'.1 3 = S.1 3) (e4 : S'.1 4 = S.1 4) : Ppl S' := by
  unfold Ppl np at *; rw [e1, e2, e3, e4]; exact c
theorem Mtg.s (c : Mtg S) (e1 : S'.1 1 = S.1 1) (e5 : S'.1 5 = S.1 5) (e6 : S'.1 6 = S.1 6) (e7 : S'.1 7 = S.1 7) : Mtg S' := by
  unfold Mtg np nm at *; rw [e1, e5, e6, e7]; exact c
theorem Fam.s (c : Fam S) (e : S'.1 11 = S.1 11) : Fam S' := by unfold Fam at *; rw [e]; exact c
theorem Chg.s (c : Chg S) (e1 : S'.1 1 = S.1 1) (e : S'.1 2 = S.1 2) (e2 : S'.1 12 = S.1 12) (e3 : S'.1 13 = S.1 13) (e4 : S'.1 14 = S.1 14) (e5 : S'.1 15 = S.1 15) (e6 : S'.1 16 = S.1 16) (e7 : S'.1 17 = S.1 17) : Chg S' := by
  unfold Chg np ndN' nuN at *; rw [e1, e, e2, e3, e4, e5, e6, e7]; exact c
theorem Tap.s (c : Tap S) (e : S'.1 19 = S.1 19) : Tap S' := by unfold Tap tpN at *; rw [e]; exact c
theorem Img.s (c : Img S) (e1 : S'.1 1 = S.1 1) (e6 : S'.1 36 = S.1 36) (e7 : S'.1 37 = S.1 37) (e8 : S'.1 38 = S.1 38) : Img S' := by
  unfold Img np at *; rw [e1, e6, e7, e8]; exact c
theorem Bod.s (c : Bod S) (e9 : S'.1 39 = S.1 39) (e0 : S'.1 40 = S.1 40) (e1 : S'.1 41 = S.1 41) : Bod S' := by
  unfold Bod nbN TrB at *; rw [e9, e0, e1]; exact c
theorem WW.ew (W : WW G x S L h) : EW G x S L h := W.1
theorem WW.cc (W : WW G x S L h) : CC G x S h := W.2.1
theorem WW.ct (W : WW G x S L h) : CT x S h := W.2.2.1
theorem WW.ci (W : WW G x S L h) : CI x S h := W.2.2.2.1
theorem WW.cb (W : WW G x S L h) : CB G x S h := W.2.2.2.2.1
theorem WW.cs (W : WW G x S L h) : CS G x S h := W.2.2.2.2.2.1
theorem WW.chg (W : WW G x S L h) : Chg S := W.2.2.2.2.2.2.1
theorem WW.tap (W : WW G x S L h) : Tap S := W.2.2.2.2.2.2.2.1
theorem WW.img (W : WW G x S L h) : Img S := W.2.2.2.2.2.2.2.2.1
theorem WW.bod (W : WW G x S L h) : Bod S := W.2.2.2.2.2.2.2.2.2
theorem MK.refl : MK x h h := ⟨Keep.refl, fun _ => ⟨rfl, rfl⟩, fun _ _ _ => ⟨rfl, rfl⟩, by omega, by omega, Nat.le_refl _⟩
theorem MK.same (s : SameX x h h') : MK x h h' := by
  have K := s.keep
  obtain ⟨t, i, p, l, r, n, u, a⟩ := s
  exact ⟨K, fun f => by rw [i, p]; exact ⟨rfl, rfl⟩, fun q h1 h2 => by rw [a q (by omega), l]; exact ⟨rfl, rfl⟩, by rw [n]; omega, by rw [u]; omega, by rw [u]; exact Nat.le_refl _⟩
theorem XB.I' {f a : Nat} {v : Int32} (B : XB G x h) : XB G x (sI h f a v) := B
end
section
variable {G : GG} {x : Nat} {S : MS} {L : Lw} {h : AH} {Q : Outcome → AH → Prop}
theorem B_hearing (W : WW G x S L h) {v : Int32} (hQ : ∀ h', WW G x (o_hearing S v).2 L h' → MK x h h' → Q (.returned (some (.int (o_hearing S v).1))) h') : Run G mX0_hearing 2 0 [(0, .ref x), (1, .int v)] [] h Q := by
  have B := W.ew.xb
  unfold o_hearing at hQ
  apply sX0_hearing_0 B
  refine X_wi B (l := 0) (u := 1) rfl rfl ⟨_, rfl, B, fun c => ?_, fun c => ?_⟩
  · rw [if_pos c] at hQ
    have e := W.ew
    refine qix (hQ (sI h 13 x v) ⟨⟨B, (e.cp.s rfl rfl rfl rfl).of (h := h) ⟨Nat.le_refl _, fun _ _ => rfl⟩ rfl (fun _ => rfl) (fun _ => rfl) (fun _ _ _ => ⟨rfl, rfl, rfl, rfl⟩), (e.cm.s rfl rfl rfl rfl).of (h := h) ⟨Nat.le_refl _, fun _ _ => rfl⟩ rfl (fun _ => rfl) (fun _ => rfl) (fun _ _ _ => ⟨rfl, rfl, rfl⟩), ⟨?_, fun n hn => ?_⟩, e.cl.of (h := h) ⟨Nat.le_refl _, fun _ _ => rfl⟩ (fun _ _ _ => ⟨⟨rfl, rfl, rfl, rfl⟩, ⟨rfl, rfl, rfl, rfl⟩, rfl, rfl, rfl⟩) rfl, e.ppl.s rfl rfl rfl rfl, e.mtg.s rfl rfl rfl rfl, e.fam.s rfl⟩, (W.cc.s rfl rfl rfl rfl rfl rfl).of (h := h) ⟨Nat.le_refl _, fun _ _ => rfl⟩ rfl rfl (fun _ => rfl) (fun _ _ => rfl) (fun _ _ _ => ⟨rfl, rfl, rfl⟩) (W.chg.s rfl rfl rfl rfl rfl rfl rfl rfl) e.ppl.n, (W.ct.s rfl rfl).of (h := h) rfl (fun _ => rfl), (W.ci.s rfl rfl rfl).of (h := h) rfl rfl (fun _ => rfl), (W.cb.s rfl rfl rfl rfl).of (h := h) ⟨Nat.le_refl _, fun _ _ => rfl⟩ rfl (fun _ => rfl) rfl (fun _ => rfl) (fun _ _ _ => ⟨rfl, rfl⟩), (W.cs.s rfl rfl rfl rfl).of (h := h) ⟨Nat.le_refl _, fun _ _ => rfl⟩ (fun _ => rfl) (fun _ _ => rfl) (fun _ _ _ => ⟨rfl, rfl⟩), W.chg.s rfl rfl rfl rfl rfl rfl rfl rfl, W.tap.s rfl, W.img.s rfl rfl rfl rfl, W.bod.s rfl rfl rfl⟩ ⟨Keep.refl, fun f => ⟨?_, rfl⟩, fun _ _ _ => ⟨rfl, rfl⟩, by show aN h ≤ _; omega, by show aU h ≤ _; omega, Nat.le_refl _⟩) e.cw.1.symm
    · rw [sI_at, uS_at]
    · exact e.cw.2 n hn
    · exact sI_nea (by omega)
  · rw [if_neg (by rw [c]; decide)] at hQ
    exact hQ h W MK.refl
theorem CP.inj (c : CP G x S h) {p q a : Nat} (hp : p < np S) (hq : q < np S) (e1 : aR h (x + 4) p = some a) (e2 : aR h (x + 4) q = some a) : p = q := by
  rcases Nat.lt_trichotomy p q with l | l | l
  · have := c.2.2.1 p q a a l hq e1 e2; omega
  · exact l
  · have := c.2.2.1 q p a a l hp e2 e1; omega
theorem CP.nm (c : CP G x S h) {p a : Nat} {v : Int32} (hp : p < np S) (ea : aR h (x + 4) p = some a) : CP G x (uS S 4 p v) (sI h 386 a v) := by
  refine ⟨c.1, fun q hq => ?_, c.2.2.1, c.2.2.2⟩
  have hq : q < np S := hq
  obtain ⟨b, e, hb, k1, k2, e1, e2, e3, e4⟩ := c.2.1 q hq
  refine ⟨b, e, hb, k1, k2, e1, e2, e3, ?_⟩
  rw [sI_if, uS_if]
  by_cases eq : q = p
  · subst eq
    cases ea.symm.trans e
    simp
  · rw [if_neg eq, if_neg]
    · exact e4
    · rintro rfl; exact eq (c.inj hq hp e ea)
theorem CP.die (c : CP G x S h) {p a : Nat} {v : Int32} (hp : p < np S) (ea : aR h (x + 4) p = some a) : CP G x (uS S 3 p v) (sI h 256 (a + 1) v) := by
  refine ⟨c.1, fun q hq => ?_, c.2.2.1, c.2.2.2⟩
  have hq : q < np S := hq
  obtain ⟨b, e, hb, k1, k2, e1, e2, e3, e4⟩ := c.2.1 q hq
  refine ⟨b, e, hb, k1, k2, e1, e2, ?_, e4⟩
  rw [sI_if, uS_if]
  by_cases eq : q = p
  · subst eq
    cases ea.symm.trans e
    simp
  · rw [if_neg eq, if_neg]
    · exact e3
    · intro h1
      have : b = a := by omega
      subst this; exact eq (c.inj hq hp e ea)
theorem WW.nm (W : WW G x S L h) {p a : Nat} {v : Int32} (hp : p < np S) (ea : aR h (x + 4) p = some a) (hv : inF v (-1) 11 = true) : WW G x (uS S 4 p v) L (sI h 386 a v) ∧ MK x h (sI h 386 a v) := by
  have e := W.ew
  have B := e.xb
  obtain ⟨b, eb, hb, -⟩ := e.cp.2.1 p hp
  cases ea.symm.trans eb
  rw [inF_iff] at hv
  have c3 : (-1 : Int32).toInt = -1 := rfl
  have c4 : (11 : Int32).toInt = 11 := rfl
  refine ⟨⟨⟨B, e.cp.nm hp ea, (e.cm.s rfl rfl rfl rfl).of (h := h) ⟨Nat.le_refl _, fun _ _ => rfl⟩ rfl (fun _ => rfl) (fun _ => rfl) (fun _ _ _ => ⟨rfl, rfl, rfl⟩), (e.cw.s rfl rfl rfl).of (h := h) ⟨Nat.le_refl _, fun _ _ => rfl⟩ rfl (fun _ => rfl) (fun _ => rfl) (fun _ _ => rfl), e.cl.of (h := h) ⟨Nat.le_refl _, fun _ _ => rfl⟩ (fun _ _ _ => ⟨⟨rfl, rfl, rfl, rfl⟩, ⟨rfl, rfl, rfl, rfl⟩, rfl, rfl, rfl⟩) rfl, ⟨e.ppl.1, e.ppl.2.1, fun q hq => ?_⟩, e.mtg.s rfl rfl rfl rfl, e.fam.s rfl⟩, (W.cc.s rfl rfl rfl rfl rfl rfl).of (h := h) ⟨Nat.le_refl _, fun _ _ => rfl⟩ rfl rfl (fun _ => rfl) (fun _ _ => rfl) (fun _ _ _ => ⟨rfl, rfl, rfl⟩) (W.chg.s rfl rfl rfl rfl rfl rfl rfl rfl) e.ppl.n, (W.ct.s rfl rfl).of (h := h) rfl (fun _ => rfl), (W.ci.s rfl rfl rfl).of (h := h) rfl rfl (fun _ => rfl), (W.cb.s rfl rfl rfl rfl).of (h := h) ⟨Nat.le_refl _, fun _ _ => rfl⟩ rfl (fun _ => rfl) rfl (fun _ => rfl) (fun _ _ _ => ⟨rfl, rfl⟩), (W.cs.s rfl rfl rfl rfl).of (h := h) ⟨Nat.le_refl _, fun _ _ => rfl⟩ (fun _ => rfl) (fun _ _ => rfl) (fun _ _ _ => ⟨rfl, rfl⟩), W.chg.s rfl rfl rfl rfl rfl rfl rfl rfl, W.tap.s rfl, W.img.s rfl rfl rfl rfl, W.bod.s rfl rfl rfl⟩, ⟨Keep.refl, fun f => ⟨sI_nea (by omega), rfl⟩, fun _ _ _ => ⟨rfl, rfl⟩, by show aN h ≤ _; omega, by show aU h ≤ _; omega, Nat.le_refl _⟩⟩
  have := e.ppl.2.2 q hq
  rw [uS_if]
  refine ⟨this.1, this.2.1, this.2.2.1, this.2.2.2.1, ?_⟩
  split
  · omega
  · exact this.2.2.2.2
theorem B_name (W : WW G x S L h) {p v : Int32} (hQ : ∀ h', WW G x (o_name S p v).2 L h' → MK x h h' → Q (.returned (some (.int (o_name S p v).1))) h') : Run G mX0_name 3 0 [(0, .ref x), (1, .int p), (2, .int v)] [] h Q := by
  have h12 := W.ew.ppl.n
  have B := W.ew.xb
  unfold o_name at hQ
  apply sX0_name_0 B
  refine X_isPerson B ?_
  rw [W.ew.h8]
  refine ⟨_, rfl, B, fun c => by rw [if_neg (by rw [c]; decide)] at hQ; exact hQ h W MK.refl, fun c => ?_⟩
  rw [if_pos c] at hQ
  obtain ⟨q, hq, rfl⟩ := W.ew.inP c
  have vq : vp_in (I q) 12 := vp_I (by omega) (by omega)
  rw [I_nat (by omega)] at hQ ⊢
  obtain ⟨a, ea, ka, -, -, -, -, en⟩ := W.ew.per hq
  have go : inF v (-1) 11 = true → Q (.returned (some (.int (aI h 386 a)))) (sI h 386 a v) := by
    intro hv
    rw [if_pos hv] at hQ
    rw [en]; exact hQ _ (W.nm hq ea hv).1 (W.nm hq ea hv).2
  refine ⟨fun c2 => ⟨vq, a, ea, ka, vq, a, ea, ka, go (by rw [c2]; decide)⟩, fun c2 => ?_⟩
  refine X_isName B ⟨_, rfl, B, fun c3 => ⟨vq, a, ea, ka, vq, a, ea, ka, go ?_⟩, fun c3 => ?_⟩
  · rw [inF_iff] at c3 ⊢
    have e0 : (0 : Int32).toInt = 0 := rfl
    have e1 : (-1 : Int32).toInt = -1 := rfl
    omega
  · have : ¬ inF v (-1) 11 = true := by
      intro hv
      apply (by rw [c3]; decide : ¬ inF v 0 11 = true)
      rw [inF_iff] at hv ⊢
      have e0 : (0 : Int32).toInt = 0 := rfl
      have e1 : (-1 : Int32).toInt = -1 := rfl
      have : ¬ v.toInt = -1 := fun e => c2 (Int32.toInt_inj.1 e)
      omega
    rw [if_neg this] at hQ; exact hQ h W MK.refl
theorem B_give (W : WW G x S L h) {p way : Int32} (hQ : ∀ h', WW G x (s_give S L p way) L h' → MK x h h' → Q (.returned (some (.int (a_give S L p way)))) h') : Run G mX0_give 308 0 [(0, .ref x), (1, .int p), (2, .int way)] [] h Q := by
  have h12 := W.ew.ppl.n
  rw [← hs_self x h]
  have BB := fun f k b => W.ew.xb.hs (f := f) (k := k) (b := b)
  generalize aA h (x + 11) = f
  generalize aA h (x + 12) = k
  generalize aA h (x + 13) = b
  have sm : ∀ f k b, WW G x S L (hs x h f k b) ∧ MK x h (hs x h f k b) := fun f k b => ⟨W.same SameX.hs, MK.same SameX.hs⟩
  unfold a_give s_give at hQ
  apply sX0_give_0 (BB f k b)
  refine X_isPerson (BB f k b) ?_
  rw [hs_I, W.ew.h8]
  refine ⟨_, rfl, BB f k b, fun c => by rw [if_pos c, if_pos c] at hQ; exact hQ _ (sm f k b).1 (sm f k b).2, fun c => ?_⟩
  have nc : ¬ inF p 0 (S.1 1 0 - 1) = false := by rw [c]; decide
  rw [if_neg nc, if_neg nc] at hQ
  clear nc
  obtain ⟨q, hq, rfl⟩ := W.ew.inP c
  have vq : vp_in (I q) 12 := vp_I (by omega) (by omega)
  obtain ⟨a, ea, ka, -, eb, -, -, en⟩ := W.ew.per hq
  obtain ⟨y, hy, ey⟩ := born_I W.ew.ppl hq
  have bd := (W.ew.ppl.2.2 q hq).2.2.2.2
  refine X_isWay (BB f k b) ⟨_, rfl, BB f k b, fun c2 => ?_, fun c2 => by rw [if_pos c2, if_pos c2] at hQ; exact hQ _ (sm f k b).1 (sm f k b).2⟩
  have nc : ¬ inF way 0 2 = false := by rw [c2]; decide
  rw [if_neg nc, if_neg nc] at hQ
  simp only [hs_R, hs_I]
  rw [I_nat (by omega)] at hQ ⊢
  refine ⟨vq, a, ea, ka, ?_⟩
  rw [en]
  have lt0 : S.1 4 q = -1 ↔ S.1 4 q < 0 := by
    constructor
    · intro e; rw [e]; decide
    · intro e
      apply Int32.toInt_inj.1
      rw [lt_I] at e
      have e0 : (0 : Int32).toInt = 0 := rfl
      have e1 : (-1 : Int32).toInt = -1 := rfl
      omega
  refine ⟨fun c3 => ?_, fun c3 => ?_⟩
  · rw [if_pos (lt0.1 c3), if_pos (lt0.1 c3)] at hQ
    refine X_asAheadOf W.ew hq (fun b' hb => ⟨rfl, BB f k b', vq, a, ea, ka, ?_⟩)
    simp only [hs_I]
    rw [eb, ey]
    refine X_givenIn W.ew hy (fun f' k' => ?_)
    have eg : gvF S L b' (I y) way = gaF S L (I q) way := by
      unfold gaF
      rw [I_nat (by omega), ← ey]
      exact gvF_congr h12 hb
    rw [eg]
    refine ⟨_, rfl, BB f' k' b', fun c4 => ?_, fun c4 => ⟨vq, a, ea, ka, ?_⟩⟩
    · rw [if_pos c4] at hQ
      exact hQ _ (sm f' k' b').1 (sm f' k' b').2
    · rw [if_neg c4] at hQ
      have hv : inF (gaF S L (I q) way) (-1) 11 = true := by
        rcases gvF_rng (S := S) (L := L) (B := amB (aoF S (I q)) (S.1 4)) (y := S.1 2 (I q).toNatClampNeg) (way := way) with h | ⟨i, hi, h⟩
        · exact absurd h c4
        · have h' : gaF S L (I q) way = I i := h
          rw [h', inF_iff, I_int (by omega)]
          have e1 : (-1 : Int32).toInt = -1 := rfl
          have e2 : (11 : Int32).toInt = 11 := rfl
          omega
      have w2 := (sm f' k' b').1.nm hq ea hv
      refine hQ _ w2.1 ?_
      obtain ⟨m1, m2, m3, m4, m5, m6⟩ := (sm f' k' b').2
      obtain ⟨n1, n2, n3, n4, n5, n6⟩ := w2.2
      exact ⟨m1.trans n1, fun f => ⟨(n2 f).1.trans (m2 f).1, (n2 f).2.trans (m2 f).2⟩, fun a h1 h2 => ⟨(n3 a h1 h2).1.trans (m3 a h1 h2).1, (n3 a h1 h2).2.trans (m3 a h1 h2).2⟩, by show aN h ≤ _; omega, by show aU h ≤ _; omega, Nat.le_refl _⟩
  · rw [if_neg (fun x => c3 (lt0.2 x)), if_neg (fun x => c3 (lt0.2 x))] at hQ
    exact hQ _ (sm f k b).1 (sm f k b).2
theorem B_fame (W : WW G x S L h) {n v : Int32} (hQ : ∀ h', WW G x (o_fame S n v).2 L h' → MK x h h' → Q (.returned (some (.int (o_fame S n v).1))) h') : Run G mX0_fame 3 0 [(0, .ref x), (1, .int n), (2, .int v)] [] h Q := by
  have B := W.ew.xb
  unfold o_fame at hQ
  apply sX0_fame_0 B
  refine X_isName B ⟨_, rfl, B, fun c => by rw [if_neg (by rw [c]; decide)] at hQ; exact hQ h W MK.refl, fun c => ?_⟩
  rw [if_pos c] at hQ
  obtain ⟨n, hn, rfl⟩ := inF_nat (n := 11) (by omega) c
  have vn : vp_in (I n) 12 := vp_I (by omega) (by omega)
  refine X_wi B (l := 0) (u := 1) rfl rfl ⟨_, rfl, B, fun c2 => ⟨vn, vn, ?_⟩, fun c2 => by rw [if_neg (by rw [c2]; decide)] at hQ; exact hQ h W MK.refl⟩
  rw [if_pos c2] at hQ
  rw [I_nat (by omega)] at hQ ⊢
  have e := W.ew
  have k5 : ∀ a i, ¬ a = x + 9 → aA (sA h (x + 9) n v) a i = aA h a i := fun a i ha => by rw [sA_ne ha]
  refine qix (hQ (sA h (x + 9) n v) ⟨⟨B, (e.cp.s rfl rfl rfl rfl).of (h := h) ⟨Nat.le_refl _, fun _ _ => rfl⟩ rfl (fun _ => rfl) (fun _ => k5 _ _ (by omega)) (fun _ _ _ => ⟨rfl, rfl, rfl, rfl⟩), (e.cm.s rfl rfl rfl rfl).of (h := h) ⟨Nat.le_refl _, fun _ _ => rfl⟩ rfl (fun _ => rfl) (fun _ => k5 _ _ (by omega)) (fun _ _ _ => ⟨rfl, rfl, rfl⟩), ⟨e.cw.1, fun z hz => ?_⟩, e.cl.of (h := h) ⟨Nat.le_refl _, fun _ _ => rfl⟩ (fun _ _ _ => ⟨⟨rfl, rfl, rfl, rfl⟩, ⟨rfl, rfl, rfl, rfl⟩, rfl, rfl, rfl⟩) rfl, e.ppl.s rfl rfl rfl rfl, e.mtg.s rfl rfl rfl rfl, fun z hz => ?_⟩, (W.cc.s rfl rfl rfl rfl rfl rfl).of (h := h) ⟨Nat.le_refl _, fun _ _ => rfl⟩ rfl rfl (fun _ => rfl) (fun _ _ => rfl) (fun _ _ _ => ⟨rfl, rfl, rfl⟩) (W.chg.s rfl rfl rfl rfl rfl rfl rfl rfl) e.ppl.n, (W.ct.s rfl rfl).of (h := h) rfl (fun _ => k5 _ _ (by omega)), (W.ci.s rfl rfl rfl).of (h := h) rfl rfl (fun _ => k5 _ _ (by omega)), (W.cb.s rfl rfl rfl rfl).of (h := h) ⟨Nat.le_refl _, fun _ _ => rfl⟩ rfl (fun _ => rfl) rfl (fun _ => k5 _ _ (by omega)) (fun _ _ _ => ⟨rfl, rfl⟩), (W.cs.s rfl rfl rfl rfl).of (h := h) ⟨Nat.le_refl _, fun _ _ => rfl⟩ (fun _ => rfl) (fun _ _ => rfl) (fun a ha _ => ⟨sA_ne (by omega), rfl⟩), W.chg.s rfl rfl rfl rfl rfl rfl rfl rfl, W.tap.s rfl, W.img.s rfl rfl rfl rfl, W.bod.s rfl rfl rfl⟩ ⟨Keep.refl, fun f => ⟨rfl, rfl⟩, fun a h1 h2 => ⟨sA_ne (by omega), rfl⟩, by show aN h ≤ _; omega, by show aU h ≤ _; omega, Nat.le_refl _⟩) (e.cw.2 n (by omega)).1.symm
  · obtain ⟨w1, w2, w3, w4⟩ := e.cw.2 z hz
    refine ⟨?_, w2, w3, w4⟩
    rw [sA_if, uS_if]
    split
    · rfl
    · exact w1
  · rw [uS_if]
    split
    · obtain ⟨q, hq, rfl⟩ := inF_nat (n := 1) (by omega) c2
      match q, hq with
      | 0, _ => exact Or.inl rfl
      | 1, _ => exact Or.inr rfl
    · exact e.fam z hz
theorem B_feed (W : WW G x S L h) {c : Int32} (hQ : ∀ h', WW G x (o_feed S c).2 L h' → MK x h h' → Q (.returned (some (.int (o_feed S c).1))) h') : Run G mX0_feed 2 0 [(0, .ref x), (1, .int c)] [] h Q := by
  have B := W.ew.xb
  unfold o_feed at hQ
  obtain ⟨hT1, hT2⟩ := W.tap
  apply sX0_feed_0 B
  rw [hT2] at hQ
  refine X_wi B (l := 0) (u := 255) rfl rfl ?_
  rw [W.ct.1, hT2]
  refine ⟨_, rfl, B, fun c1 => ⟨fun c2 => ⟨?_, ?_⟩, fun c2 => ?_⟩, fun c1 => by rw [if_neg (by rw [c1]; decide)] at hQ; exact hQ h W MK.refl⟩
  · exact vp_I (Nat.lt_of_le_of_ne hT1 (fun e => c2 (by rw [e]; rfl))) (by omega)
  · have hlt : tpN S < 120 := Nat.lt_of_le_of_ne hT1 (fun e => c2 (by rw [e]; rfl))
    rw [if_pos c1, if_neg c2, I_nat (by omega)] at hQ
    rw [I_nat (by omega), I_succ]
    rw [I_succ] at hQ
    have e := W.ew
    have k5 : ∀ a i, ¬ a = x + 2 → aA (sA (sI h 4 x (I (tpN S + 1))) (x + 2) (tpN S) c) a i = aA h a i := fun a i ha => by rw [sA_ne ha]; rfl
    have en : tpN (uS (uS S 18 (tpN S) c.toInt8.toInt32) 19 0 (I (tpN S + 1))) = tpN S + 1 := by
      unfold tpN; rw [uS_at, I_nat (show (S.1 19 0).toNatClampNeg + 1 ≤ 100000 from by unfold tpN at hlt; omega)]
    rw [inF_iff] at c1
    have y0 : (0 : Int32).toInt = 0 := rfl
    have y1 : (255 : Int32).toInt = 255 := rfl
    refine qix (hQ (sA (sI h 4 x (I (tpN S + 1))) (x + 2) (tpN S) c) ⟨⟨B, (e.cp.s rfl rfl rfl rfl).of (h := h) ⟨Nat.le_refl _, fun _ _ => rfl⟩ rfl (fun _ => rfl) (fun _ => k5 _ _ (by omega)) (fun _ _ _ => ⟨rfl, rfl, rfl, rfl⟩), (e.cm.s rfl rfl rfl rfl).of (h := h) ⟨Nat.le_refl _, fun _ _ => rfl⟩ rfl (fun _ => rfl) (fun _ => k5 _ _ (by omega)) (fun _ _ _ => ⟨rfl, rfl, rfl⟩), (e.cw.s rfl rfl rfl).of (h := h) ⟨Nat.le_refl _, fun _ _ => rfl⟩ rfl (fun _ => k5 _ _ (by omega)) (fun _ => rfl) (fun _ _ => rfl), e.cl.of (h := h) ⟨Nat.le_refl _, fun _ _ => rfl⟩ (fun _ _ _ => ⟨⟨rfl, rfl, rfl, rfl⟩, ⟨rfl, rfl, rfl, rfl⟩, rfl, rfl, rfl⟩) rfl, e.ppl.s rfl rfl rfl rfl, e.mtg.s rfl rfl rfl rfl, e.fam.s rfl⟩, (W.cc.s rfl rfl rfl rfl rfl rfl).of (h := h) ⟨Nat.le_refl _, fun _ _ => rfl⟩ rfl rfl (fun _ => rfl) (fun _ _ => rfl) (fun _ _ _ => ⟨rfl, rfl, rfl⟩) (W.chg.s rfl rfl rfl rfl rfl rfl rfl rfl) e.ppl.n, ⟨?_, fun i hi => ?_⟩, (W.ci.s rfl rfl rfl).of (h := h) rfl rfl (fun _ => k5 _ _ (by omega)), (W.cb.s rfl rfl rfl rfl).of (h := h) ⟨Nat.le_refl _, fun _ _ => rfl⟩ rfl (fun _ => rfl) rfl (fun _ => k5 _ _ (by omega)) (fun _ _ _ => ⟨rfl, rfl⟩), (W.cs.s rfl rfl rfl rfl).of (h := h) ⟨Nat.le_refl _, fun _ _ => rfl⟩ (fun _ => rfl) (fun _ _ => rfl) (fun a ha _ => ⟨funext fun i => k5 a i (by omega), rfl⟩), W.chg.s rfl rfl rfl rfl rfl rfl rfl rfl, ⟨by rw [en]; omega, by rw [en, uS_at]⟩, W.img.s rfl rfl rfl rfl, W.bod.s rfl rfl rfl⟩ ⟨Keep.refl, fun f => ⟨sI_nea (by omega), rfl⟩, fun a h1 h2 => ⟨funext fun i => k5 a i (by omega), rfl⟩, by show aN h ≤ _; omega, by show aU h ≤ _; omega, Nat.le_refl _⟩) ?_
    · show aI (sI h 4 x (I (tpN S + 1))) 4 x = _
      rw [sI_at, uS_at]
    · rw [en] at hi
      rw [sA_if]
      have e18 : (uS (uS S 18 (tpN S) c.toInt8.toInt32) 19 0 (I (tpN S + 1))).1 18 i = if i = tpN S then c.toInt8.toInt32 else S.1 18 i := by
        rw [uS_ne (by decide), uS_if]
      rw [e18]
      by_cases ei : i = tpN S
      · rw [if_pos ei, if_pos ei]; exact ⟨by omega, by omega, rfl⟩
      · rw [if_neg ei, if_neg ei]; exact W.ct.2 i (by omega)
    · show _ = aI (sI h 4 x (I (tpN S + 1))) 4 x
      rw [sI_at]
  · rw [if_pos c1, if_pos c2] at hQ; exact hQ h W MK.refl
theorem WW.xi (W : WW G x S L h) {v w : Int32} {g : Nat → Int32} {S' : MS} (hS : ∀ k, ¬ k = 36 → ¬ k = 37 → ¬ k = 38 → S'.1 k = S.1 k) (h2 : S'.2 = S.2) (e1 : S'.1 36 0 = v) (e2 : S'.1 37 0 = w) (e3 : ∀ p, p < 12 → g p = S'.1 38 p) (hi : Img S') : WW G x S' L (sAf (sI (sI h 23 x v) 24 x w) (x + 15) g) ∧ MK x h (sAf (sI (sI h 23 x v) 24 x w) (x + 15) g) := by
  have e := W.ew
  have k5 : ∀ a, ¬ a = x + 15 → aA (sAf (sI (sI h 23 x v) 24 x w) (x + 15) g) a = aA h a := fun a ha => sAf_ne ha
  have s := fun k h1 h2 h3 => hS k h1 h2 h3
  refine ⟨⟨⟨e.xb, (e.cp.s (s 1 (by decide) (by decide) (by decide)) (s 2 (by decide) (by decide) (by decide)) (s 3 (by decide) (by decide) (by decide)) (s 4 (by decide) (by decide) (by decide))).of (h := h) ⟨Nat.le_refl _, fun _ _ => rfl⟩ rfl (fun _ => rfl) (fun _ => by rw [k5 _ (by omega)]) (fun _ _ _ => ⟨rfl, rfl, rfl, rfl⟩), (e.cm.s (s 5 (by decide) (by decide) (by decide)) (s 6 (by decide) (by decide) (by decide)) (s 7 (by decide) (by decide) (by decide)) (s 8 (by decide) (by decide) (by decide))).of (h := h) ⟨Nat.le_refl _, fun _ _ => rfl⟩ rfl (fun _ => rfl) (fun _ => by rw [k5 _ (by omega)]) (fun _ _ _ => ⟨rfl, rfl, rfl⟩), (e.cw.s (s 9 (by decide) (by decide) (by decide)) (s 10 (by decide) (by decide) (by decide)) (s 11 (by decide) (by decide) (by decide))).of (h := h) ⟨Nat.le_refl _, fun _ _ => rfl⟩ rfl (fun _ => by rw [k5 _ (by omega)]) (fun _ => rfl) (fun _ _ => rfl), e.cl.of (h := h) ⟨Nat.le_refl _, fun _ _ => rfl⟩ (fun _ _ _ => ⟨⟨rfl, rfl, rfl, rfl⟩, ⟨rfl, rfl, rfl, rfl⟩, rfl, rfl, rfl⟩) rfl, e.ppl.s (s 1 (by decide) (by decide) (by decide)) (s 2 (by decide) (by decide) (by decide)) (s 3 (by decide) (by decide) (by decide)) (s 4 (by decide) (by decide) (by decide)), e.mtg.s (s 1 (by decide) (by decide) (by decide)) (s 5 (by decide) (by decide) (by decide)) (s 6 (by decide) (by decide) (by decide)) (s 7 (by decide) (by decide) (by decide)), e.fam.s (s 11 (by decide) (by decide) (by decide))⟩, ?_, (W.ct.s (s 18 (by decide) (by decide) (by decide)) (s 19 (by decide) (by decide) (by decide))).of (h := h) rfl (fun _ => by rw [k5 _ (by omega)]), ⟨?_, ?_, fun p hp => ?_⟩, (W.cb.s (s 39 (by decide) (by decide) (by decide)) (s 40 (by decide) (by decide) (by decide)) (s 41 (by decide) (by decide) (by decide)) (s 42 (by decide) (by decide) (by decide))).of (h := h) ⟨Nat.le_refl _, fun _ _ => rfl⟩ rfl (fun _ => rfl) rfl (fun _ => by rw [k5 _ (by omega)]) (fun _ _ _ => ⟨rfl, rfl⟩), (W.cs.s (s 39 (by decide) (by decide) (by decide)) (s 43 (by decide) (by decide) (by decide)) (s 44 (by decide) (by decide) (by decide)) (by rw [h2])).of (h := h) ⟨Nat.le_refl _, fun _ _ => rfl⟩ (fun _ => rfl) (fun _ _ => rfl) (fun a ha _ => ⟨k5 a (by omega), rfl⟩), ?_, W.tap.s (s 19 (by decide) (by decide) (by decide)), hi, W.bod.s (s 39 (by decide) (by decide) (by decide)) (s 40 (by decide) (by decide) (by decide)) (s 41 (by decide) (by decide) (by decide))⟩, ⟨Keep.refl, fun f => ⟨(sI_nea (by omega)).trans (sI_nea (by omega)), rfl⟩, fun a h1 h2 => ⟨k5 a (by omega), rfl⟩, by show aN h ≤ _; omega, by show aU h ≤ _; omega, Nat.le_refl _⟩⟩
  · have hc := W.chg.s (s 1 (by decide) (by decide) (by decide)) (s 2 (by decide) (by decide) (by decide)) (s 12 (by decide) (by decide) (by decide)) (s 13 (by decide) (by decide) (by decide)) (s 14 (by decide) (by decide) (by decide)) (s 15 (by decide) (by decide) (by decide)) (s 16 (by decide) (by decide) (by decide)) (s 17 (by decide) (by decide) (by decide))
    refine (W.cc.s (s 12 (by decide) (by decide) (by decide)) (s 13 (by decide) (by decide) (by decide)) (s 14 (by decide) (by decide) (by decide)) (s 15 (by decide) (by decide) (by decide)) (s 16 (by decide) (by decide) (by decide)) (s 17 (by decide) (by decide) (by decide))).of (h := h) ⟨Nat.le_refl _, fun _ _ => rfl⟩ rfl rfl (fun _ => rfl) (fun _ _ => rfl) (fun _ _ _ => ⟨rfl, rfl, rfl⟩) hc ?_
    unfold np; rw [s 1 (by decide) (by decide) (by decide)]; exact e.ppl.n
  · rw [e1]
    show aI (sI (sI h 23 x v) 24 x w) 23 x = v
    rw [sI_ne (by decide), sI_at]
  · rw [e2]
    show aI (sI (sI h 23 x v) 24 x w) 24 x = w
    rw [sI_at]
  · rw [sAf_aA]; exact e3 p hp
  · exact W.chg.s (s 1 (by decide) (by decide) (by decide)) (s 2 (by decide) (by decide) (by decide)) (s 12 (by decide) (by decide) (by decide)) (s 13 (by decide) (by decide) (by decide)) (s 14 (by decide) (by decide) (by decide)) (s 15 (by decide) (by decide) (by decide)) (s 16 (by decide) (by decide) (by decide)) (s 17 (by decide) (by decide) (by decide))
theorem B_image (W : WW G x S L h) (hQ : ∀ h', WW G x (o_image S).2 L h' → MK x h h' → Q (.returned (some (.int (o_image S).1))) h') : Run G mX0_image 1 0 [(0, .ref x)] [] h Q := by
  have h12 := W.ew.ppl.n
  have e := W.ew
  apply sX0_image_0 e.xb
  intro _
  rw [sI_ne (by decide : ¬ 8 = 23), e.h8]
  have key : ∀ i, i ≤ np S → ∀ g : Nat → Int32, (∀ p, p < 12 → g p = (imN (uS (uS S 36 0 1) 37 0 (S.1 1 0)) i).1 38 p) → Run G mX0_image 1 15 [(0, .ref x), (1, .int (I i))] [] (sAf (sI (sI h 23 x 1) 24 x (S.1 1 0)) (x + 15) g) Q := by
    refine up_ind ?_ (fun i hi ih => ?_)
    · intro g hg
      have w := W.xi (S' := (o_image S).2) (v := 1) (w := S.1 1 0) (g := g) (fun k a b c => ?_) rfl rfl rfl hg ?_
      · refine sX0_image_15 (show XB G x (sAf (sI (sI h 23 x 1) 24 x (S.1 1 0)) (x + 15) g) from e.xb) ⟨fun _ => qix (hQ _ w.1 w.2) e.h8.symm, fun c => absurd (xp_end e) c⟩
      · funext i
        show (if k = 38 ∧ _ then _ else _) = _
        rw [if_neg (fun x => c x.1), uS_ne b, uS_ne a]
      · refine Or.inr ⟨np S, Nat.le_refl _, e.ppl.e, fun p hp => ?_⟩
        show -1 ≤ (if 38 = 38 ∧ p < np S then S.1 4 p else _).toInt ∧ (if 38 = 38 ∧ p < np S then S.1 4 p else _).toInt ≤ 11
        rw [if_pos ⟨rfl, hp⟩]
        exact (e.ppl.2.2 p hp).2.2.2.2
    · intro g hg
      obtain ⟨a, ea, ka, -, -, -, -, en⟩ := e.per hi
      have vi : vp_in (I i) 12 := vp_I (by omega) (by omega)
      apply sX0_image_15 (show XB G x (sAf (sI (sI h 23 x 1) 24 x (S.1 1 0)) (x + 15) g) from e.xb)
      rw [I_succ, I_nat (by omega)]
      refine ⟨fun c => absurd c (xp_lt e hi), fun _ => ⟨vi, a, ea, ka, vi, fun _ => ?_⟩⟩
      rw [sA_up, sAf_aA, sAf_sAf]
      refine ih _ (fun p hp => ?_)
      have er : aI (sAf (sI (sI h 23 x 1) 24 x (S.1 1 0)) (x + 15) g) 386 a = S.1 4 i := en
      rw [er, ← imN_s, uS_if]
      unfold va_up
      split
      · rfl
      · exact hg p hp
  have e0 : ∀ S : MS, imN S 0 = S := by
    intro S; unfold imN; congr 1; funext f i; simp
  have ee : sAf (sI (sI h 23 x 1) 24 x (S.1 1 0)) (x + 15) (aA h (x + 15)) = sI (sI h 23 x 1) 24 x (S.1 1 0) := by
    have : va_up (aA h) (x + 15) (aA h (x + 15)) = aA h := by
      funext q; unfold va_up; split
      · rename_i e; rw [e]
      · rfl
    show (_, _, _, va_up (aA h) (x + 15) (aA h (x + 15)), _, _, _, _) = _
    rw [this]; rfl
  have := key 0 (by omega) (aA h (x + 15)) (fun p hp => by rw [e0]; exact W.ci.2.2 p hp)
  rw [ee] at this
  exact this
theorem MK.tr {h1 h2 : AH} (a : MK x h h1) (b : MK x h1 h2) (hn : aN h1 = aN h) (hu : aU h1 = aU h) : MK x h h2 :=
  ⟨a.1.trans b.1, fun f => ⟨(b.2.1 f).1.trans (a.2.1 f).1, (b.2.1 f).2.trans (a.2.1 f).2⟩, fun q q1 q2 => ⟨(b.2.2.1 q q1 q2).1.trans (a.2.2.1 q q1 q2).1, (b.2.2.1 q q1 q2).2.trans (a.2.2.1 q q1 q2).2⟩, by have := b.2.2.2.1; omega, by have := b.2.2.2.2.1; omega, by have := b.2.2.2.2.2; omega⟩
theorem B_back (W : WW G x S L h) (hQ : ∀ h', WW G x (o_back S).2 L h' → MK x h h' → Q (.returned (some (.int (o_back S).1))) h') : Run G mX0_back 1 0 [(0, .ref x)] [] h Q := by
  have h12 := W.ew.ppl.n
  have e := W.ew
  unfold o_back at hQ
  apply sX0_back_0 e.xb
  rw [W.ci.1]
  refine ⟨fun c _ => ?_, fun c => by rw [if_pos c] at hQ; exact hQ h W MK.refl⟩
  rw [if_neg c] at hQ
  obtain ⟨n, hn, en, hr⟩ := W.img.resolve_left c
  rw [en, I_nat (by omega)] at hQ
  have key : ∀ i, i ≤ n → ∀ h', WW G x (bkN S i) L h' → MK x h h' → aN h' = aN h → aU h' = aU h → Run G mX0_back 1 12 [(0, .ref x), (1, .int (I i))] [] h' Q := by
    refine up_ind ?_ (fun i hi ih => ?_)
    · intro h' w m _ _
      have e24 : aI h' 24 x = I n := by rw [w.ci.2.1]; exact en
      apply sX0_back_12 w.ew.xb
      rw [e24]
      exact ⟨fun _ => hQ h' w m, fun c => absurd (c_end (by omega)) c⟩
    · intro h' w m mn mu
      have e24 : aI h' 24 x = I n := by rw [w.ci.2.1]; exact en
      have hin : i < np (bkN S i) := by show i < np S; omega
      obtain ⟨a, ea, ka, -⟩ := w.ew.per hin
      have vi : vp_in (I i) 12 := vp_I (by omega) (by omega)
      have e15 : aA h' (x + 15) i = S.1 38 i := w.ci.2.2 i (by omega)
      apply sX0_back_12 w.ew.xb
      rw [e24, I_succ, I_nat (by omega), e15]
      refine ⟨fun c => absurd c (c_lt (by omega) hi), fun _ => ⟨vi, a, ea, vi, ka, fun _ => ?_⟩⟩
      have hv : inF (S.1 38 i) (-1) 11 = true := by
        rw [inF_iff]
        have e1 : (-1 : Int32).toInt = -1 := rfl
        have e2 : (11 : Int32).toInt = 11 := rfl
        have := hr i hi
        omega
      have w2 := w.nm hin ea hv
      have eb : uS (bkN S i) 4 i (S.1 38 i) = bkN S (i + 1) := bkN_s
      rw [eb] at w2
      exact ih _ w2.1 (m.tr w2.2 mn mu) mn mu
  have e0 : bkN S 0 = S := by unfold bkN; congr 1; funext f i; simp
  exact key 0 (by omega) h (by rw [e0]; exact W) MK.refl rfl rfl
end

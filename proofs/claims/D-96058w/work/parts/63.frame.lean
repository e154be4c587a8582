/-! LAYER 3.23: the whole of what ties the component's heap to the model's state; how it lasts -/
set_option maxRecDepth 100000
def Keep (h h' : AH) : Prop := aN h ≤ aN h' ∧ ∀ a, a < aN h → aT h' a = aT h a
theorem Keep.refl {h : AH} : Keep h h := ⟨Nat.le_refl _, fun _ _ => rfl⟩
theorem Keep.trans {h h1 h2 : AH} (a : Keep h h1) (b : Keep h1 h2) : Keep h h2 := ⟨Nat.le_trans a.1 b.1, fun q hq => (b.2 q (Nat.lt_of_lt_of_le hq a.1)).trans (a.2 q hq)⟩
theorem IsK.of {G : GG} {h h' : AH} {a : Nat} {t : Nat × Nat} (k : IsK G h a t) (K : Keep h h') : IsK G h' a t := ⟨k.1, Nat.lt_of_lt_of_le k.2.1 K.1, (K.2 a k.2.1).trans k.2.2⟩
def ndN' (S : MS) : Nat := (S.1 12 0).toNatClampNeg
def nuN (S : MS) : Nat := (S.1 13 0).toNatClampNeg
def nbN (S : MS) : Nat := (S.1 39 0).toNatClampNeg
/-- where the k-th change lies -/
def caF (x : Nat) (h : AH) (k : Nat) : Nat := (aR h (x + 1) k).getD 0
def hdF (x : Nat) (h : AH) (S : MS) (k : Nat) : Nat := if S.1 14 k = 0 then (aR h (x + 4) (S.1 15 k).toNatClampNeg).getD 0 + 1 else x + 59 + (S.1 15 k).toNatClampNeg
def Chg (S : MS) : Prop := ndN' S + nuN S ≤ 40 ∧ S.1 12 0 = I (ndN' S) ∧ S.1 13 0 = I (nuN S) ∧ ∀ k, k < ndN' S + nuN S → (S.1 14 k = 0 ∧ ∃ p, p < np S ∧ S.1 15 k = I p ∧ (S.1 2 p).toInt < (S.1 16 k).toInt ∧ (S.1 16 k).toInt ≤ 100 ∧ (S.1 2 p).toInt < (S.1 17 k).toInt ∧ (S.1 17 k).toInt ≤ 100) ∨ (S.1 14 k = 1 ∧ ∃ n, n < 12 ∧ S.1 15 k = I n)
def CC (G : GG) (x : Nat) (S : MS) (h : AH) : Prop := aI h 2 x = S.1 12 0 ∧ aI h 1 x = S.1 12 0 + S.1 13 0 ∧
  (∀ k, k < 40 → aR h (x + 1) k = some (caF x h k) ∧ x + 19 ≤ caF x h k ∧ caF x h k < x + 59 ∧ IsK G h (caF x h k) (3, 0)) ∧
  (∀ j k, j < 40 → k < 40 → caF x h j = caF x h k → j = k) ∧
  ∀ k, k < ndN' S + nuN S → aP h 192 (caF x h k) = some (hdF x h S k) ∧ aI h 193 (caF x h k) = S.1 16 k ∧ aI h 194 (caF x h k) = S.1 17 k
def CT (x : Nat) (S : MS) (h : AH) : Prop := aI h 4 x = S.1 19 0 ∧ ∀ i, i < tpN S → 0 ≤ (aA h (x + 2) i).toInt ∧ (aA h (x + 2) i).toInt ≤ 255 ∧ S.1 18 i = (aA h (x + 2) i).toInt8.toInt32
def CI (x : Nat) (S : MS) (h : AH) : Prop := aI h 23 x = S.1 36 0 ∧ aI h 24 x = S.1 37 0 ∧ ∀ p, p < 12 → aA h (x + 15) p = S.1 38 p
def Img (S : MS) : Prop := S.1 36 0 = 0 ∨ ∃ n, n ≤ np S ∧ S.1 37 0 = I n ∧ ∀ p, p < n → -1 ≤ (S.1 38 p).toInt ∧ (S.1 38 p).toInt ≤ 11
def Bod (S : MS) : Prop := nbN S ≤ 50 ∧ S.1 39 0 = I (nbN S) ∧ (∀ b, b < nbN S → ∃ k, k ≤ 7 ∧ S.1 40 b = I k) ∧ TrB S 40
def CB (G : GG) (x : Nat) (S : MS) (h : AH) : Prop := aI h 27 x = S.1 39 0 ∧
  (∀ b, b < nbN S → ∃ a, aR h (x + 16) b = some a ∧ x + 103 ≤ a ∧ IsK G h a (14 + (S.1 40 b).toNatClampNeg, 0) ∧ aI h 896 a = I b ∧ aP h 897 a = some x) ∧
  aI h 29 x = S.1 41 0 ∧ ∀ i, i < 24 → aA h (x + 17) i = S.1 42 i
def ktN (k : Nat) : Nat := match k with
  | 0 => 2
  | 1 => 3
  | 2 => 0
  | 3 => 1
  | _ => 4
def FitE (k : Nat) (v : Int32) : Prop := match k with
  | 0 => v.toInt8.toInt32 = v
  | 1 => v.toInt16.toInt32 = v
  | 2 => True
  | 3 => True
  | _ => v = 0 ∨ v = 1
/-- a row of sort k lies at a: its elements are the model's from e on -/
def RowAt (G : GG) (x : Nat) (S : MS) (h : AH) (k n a e : Nat) : Prop := x + 103 ≤ a ∧ IsK G h a (100 + ktN k, n) ∧ (k = 3 → ∀ i, i < n → aL h a i = S.2 45 (e + i)) ∧ (¬ k = 3 → ∀ i, i < n → FitE k (aA h a i) ∧ (aA h a i).toInt64 = S.2 45 (e + i))
def CS (G : GG) (x : Nat) (S : MS) (h : AH) : Prop := (∀ s, s < 6 → (S.1 43 s = -1 ∧ aR h (x + 18) s = none) ∨ (∃ b, b < nbN S ∧ b < 50 ∧ S.1 43 s = I b ∧ aR h (x + 18) s = aR h (x + 16) b) ∨ (∃ k n a, k ≤ 4 ∧ n ≤ 60 ∧ S.1 43 s = -2 - I k ∧ S.1 44 s = I n ∧ aR h (x + 18) s = some a ∧ RowAt G x S h k n a (60 * s))) ∧
  (∀ s s' k k' a, s < 6 → s' < 6 → k ≤ 4 → k' ≤ 4 → S.1 43 s = -2 - I k → S.1 43 s' = -2 - I k' → aR h (x + 18) s = some a → aR h (x + 18) s' = some a → s = s')
def WW (G : GG) (x : Nat) (S : MS) (L : Lw) (h : AH) : Prop := EW G x S L h ∧ CC G x S h ∧ CT x S h ∧ CI x S h ∧ CB G x S h ∧ CS G x S h ∧ Chg S ∧ Tap S ∧ Img S ∧ Bod S
section
variable {G : GG} {x : Nat} {S S' : MS} {L : Lw} {h h' : AH}
theorem CS.she (c : CS G x S h) : She S := by
  intro s hs
  rcases c.1 s hs with ⟨e, _⟩ | ⟨b, h1, h2, e, _⟩ | ⟨k, n, a, h1, h2, e, e2, _⟩
  · exact Or.inl e
  · exact Or.inr (Or.inl ⟨b, h1, h2, e⟩)
  · exact Or.inr (Or.inr ⟨k, n, h1, h2, e, e2⟩)
theorem CP.of (K : Keep h h') (h8 : aI h' 8 x = aI h 8 x) (h4 : ∀ p, aR h' (x + 4) p = aR h (x + 4) p) (h5 : ∀ p, aA h' (x + 5) p = aA h (x + 5) p) (hI : ∀ a, x + 103 ≤ a → a < aN h → aI h' 384 a = aI h 384 a ∧ aI h' 386 a = aI h 386 a ∧ aI h' 256 a = aI h 256 a ∧ aP h' 385 a = aP h 385 a) (c : CP G x S h) : CP G x S h' := by
  obtain ⟨c1, c2, c3, c4⟩ := c
  refine ⟨h8.trans c1, fun p hp => ?_, fun p q a b h1 h2 h3 h4' => c3 p q a b h1 h2 (by rw [← h4]; exact h3) (by rw [← h4]; exact h4'), fun k hk => by rw [h5]; exact c4 k hk⟩
  obtain ⟨a, e, ha, k1, k2, e1, e2, e3, e4⟩ := c2 p hp
  obtain ⟨i1, i2, i3, i4⟩ := hI a ha k1.2.1
  obtain ⟨j1, j2, j3, j4⟩ := hI (a + 1) (by omega) k2.2.1
  exact ⟨a, by rw [h4]; exact e, ha, k1.of K, k2.of K, i1.trans e1, i4.trans e2, j3.trans e3, i2.trans e4⟩
theorem CM.of (K : Keep h h') (h11 : aI h' 11 x = aI h 11 x) (h6 : ∀ p, aR h' (x + 6) p = aR h (x + 6) p) (h7 : ∀ p, aA h' (x + 7) p = aA h (x + 7) p) (hI : ∀ a, x + 103 ≤ a → a < aN h → aI h' 448 a = aI h 448 a ∧ aI h' 449 a = aI h 449 a ∧ aI h' 450 a = aI h 450 a) (c : CM G x S h) : CM G x S h' := by
  obtain ⟨c1, c2, c3⟩ := c
  refine ⟨h11.trans c1, fun p hp => ?_, fun k hk => by rw [h7]; exact c3 k hk⟩
  obtain ⟨a, e, ha, k1, e1, e2, e3⟩ := c2 p hp
  obtain ⟨i1, i2, i3⟩ := hI a ha k1.2.1
  exact ⟨a, by rw [h6]; exact e, ha, k1.of K, i1.trans e1, i2.trans e2, i3.trans e3⟩
theorem CW.of (K : Keep h h') (h13 : aI h' 13 x = aI h 13 x) (h9 : ∀ n, aA h' (x + 9) n = aA h (x + 9) n) (h8 : ∀ n, aR h' (x + 8) n = aR h (x + 8) n) (hI : ∀ n, n < 12 → aI h' 256 (x + 59 + n) = aI h 256 (x + 59 + n)) (c : CW G x S h) : CW G x S h' := by
  obtain ⟨c1, c2⟩ := c
  refine ⟨h13.trans c1, fun n hn => ?_⟩
  obtain ⟨e1, e2, e3, e4⟩ := c2 n hn
  exact ⟨by rw [h9]; exact e1, by rw [h8]; exact e2, e3.of K, by rw [hI n hn]; exact e4⟩
def TFr (x : Nat) (h h' : AH) : Prop := ∀ a, x + 103 ≤ a → a < aN h → (aI h' 640 a = aI h 640 a ∧ aI h' 704 a = aI h 704 a ∧ aI h' 768 a = aI h 768 a ∧ aI h' 832 a = aI h 832 a) ∧ (aP h' 705 a = aP h 705 a ∧ aP h' 769 a = aP h 769 a ∧ aP h' 833 a = aP h 833 a ∧ aP h' 834 a = aP h 834 a) ∧ (aP h' 512 a = aP h 512 a ∧ aP h' 513 a = aP h 513 a ∧ aP h' 514 a = aP h 514 a)
theorem TmAt.of (K : Keep h h') (F : TFr x h h') : ∀ {n a : Nat} {P : List Stq}, TmAt G x h n a P → TmAt G x h' n a P := by
  intro n
  induction n with
  | zero => intro a P h; exact h
  | succ n ih =>
    intro a P hT
    obtain ⟨hx, hT⟩ := hT
    refine ⟨hx, ?_⟩
    rcases hT with ⟨hk, e⟩ | ⟨hk, ho, ⟨j, hj, ej⟩, e⟩ | ⟨hk, b1, q, h1, h2, h3⟩ | ⟨hk, b1, c1, q, r, h1, h2, h3, h4, hsg, e⟩
    · obtain ⟨⟨i1, i2, i3, i4⟩, ⟨p1, p2, p3, p4⟩, -⟩ := F a hx hk.2.1
      exact Or.inl ⟨hk.of K, by rw [i1]; exact e⟩
    · obtain ⟨⟨i1, i2, i3, i4⟩, ⟨p1, p2, p3, p4⟩, -⟩ := F a hx hk.2.1
      exact Or.inr (Or.inl ⟨hk.of K, by rw [p1]; exact ho, ⟨j, hj, by rw [i2]; exact ej⟩, by rw [i2]; exact e⟩)
    · obtain ⟨⟨i1, i2, i3, i4⟩, ⟨p1, p2, p3, p4⟩, -⟩ := F a hx hk.2.1
      exact Or.inr (Or.inr (Or.inl ⟨hk.of K, b1, q, by rw [p2]; exact h1, ih h2, by rw [i3]; exact h3⟩))
    · obtain ⟨⟨i1, i2, i3, i4⟩, ⟨p1, p2, p3, p4⟩, -⟩ := F a hx hk.2.1
      exact Or.inr (Or.inr (Or.inr ⟨hk.of K, b1, c1, q, r, by rw [p3]; exact h1, by rw [p4]; exact h2, ih h3, ih h4, by rw [i4]; exact hsg, by rw [i4]; exact e⟩))
theorem LnO.of (K : Keep h h') (F : TFr x h h') : ∀ {ls : List (List Stq × List Stq)} {v : Option Nat} {D : Nat}, LnO G x h D ls v → LnO G x h' D ls v := by
  intro ls
  induction ls with
  | nil => intro v D h; exact h
  | cons q r ih =>
    intro v D hv
    obtain ⟨a, e, ha, ka, h1, ⟨c, hc1, hc2⟩, hr⟩ := hv
    obtain ⟨-, -, p1, p2, p3⟩ := F a ha ka.2.1
    refine ⟨a, e, ha, ka.of K, ?_, ⟨c, by rw [p2]; exact hc1, hc2.of K F⟩, by rw [p3]; exact ih hr⟩
    rcases h1 with ⟨h1, h2⟩ | ⟨h1, b, h2, h3⟩
    · exact Or.inl ⟨h1, by rw [p1]; exact h2⟩
    · exact Or.inr ⟨h1, b, by rw [p1]; exact h2, h3.of K F⟩
theorem CL.of (K : Keep h h') (F : TFr x h h') (h19 : aP h' 19 x = aP h 19 x) (c : CL G x L h) : CL G x L h' := by
  cases L with
  | none => exact h19.trans c
  | some ls => exact ⟨c.1, by rw [h19]; exact c.2.of K F⟩
theorem CC.of (K : Keep h h') (h2 : aI h' 2 x = aI h 2 x) (h1 : aI h' 1 x = aI h 1 x) (hR : ∀ k, aR h' (x + 1) k = aR h (x + 1) k) (hP : ∀ p, p < np S → aR h' (x + 4) p = aR h (x + 4) p) (hI : ∀ a, x + 19 ≤ a → a < x + 59 → aP h' 192 a = aP h 192 a ∧ aI h' 193 a = aI h 193 a ∧ aI h' 194 a = aI h 194 a) (hC : Chg S) (hN : np S ≤ 12) (c : CC G x S h) : CC G x S h' := by
  obtain ⟨c1, c2, c3, c4, c5⟩ := c
  have ec : ∀ k, caF x h' k = caF x h k := fun k => by unfold caF; rw [hR]
  refine ⟨h2.trans c1, h1.trans c2, fun k hk => ?_, fun j k hj hk e => c4 j k hj hk (by rw [← ec, ← ec]; exact e), fun k hk => ?_⟩
  · obtain ⟨a1, a2, a3, a4⟩ := c3 k hk
    rw [ec, hR]; exact ⟨a1, a2, a3, a4.of K⟩
  · have hk40 : k < 40 := by have := hC.1; omega
    obtain ⟨a1, a2, a3, a4⟩ := c3 k hk40
    obtain ⟨i1, i2, i3⟩ := hI _ a2 a3
    obtain ⟨b1, b2, b3⟩ := c5 k hk
    rw [ec, i1, i2, i3]
    refine ⟨?_, b2, b3⟩
    rw [b1]
    unfold hdF
    rcases hC.2.2.2 k hk with ⟨e0, p, hp, ep, _⟩ | ⟨e1, _⟩
    · rw [if_pos e0, if_pos e0, ep, I_nat (by omega), hP p hp]
    · rw [if_neg (by rw [e1]; decide), if_neg (by rw [e1]; decide)]
theorem CT.of (h4 : aI h' 4 x = aI h 4 x) (h2 : ∀ i, aA h' (x + 2) i = aA h (x + 2) i) (c : CT x S h) : CT x S h' := by
  refine ⟨h4.trans c.1, fun i hi => ?_⟩
  rw [h2]; exact c.2 i hi
theorem CI.of (h1 : aI h' 23 x = aI h 23 x) (h2 : aI h' 24 x = aI h 24 x) (h3 : ∀ i, aA h' (x + 15) i = aA h (x + 15) i) (c : CI x S h) : CI x S h' :=
  ⟨h1.trans c.1, h2.trans c.2.1, fun i hi => by rw [h3]; exact c.2.2 i hi⟩
theorem CB.of (K : Keep h h') (h27 : aI h' 27 x = aI h 27 x) (h16 : ∀ b, aR h' (x + 16) b = aR h (x + 16) b) (h29 : aI h' 29 x = aI h 29 x) (h17 : ∀ i, aA h' (x + 17) i = aA h (x + 17) i) (hI : ∀ a, x + 103 ≤ a → a < aN h → aI h' 896 a = aI h 896 a ∧ aP h' 897 a = aP h 897 a) (c : CB G x S h) : CB G x S h' := by
  obtain ⟨c1, c2, c3, c4⟩ := c
  refine ⟨h27.trans c1, fun b hb => ?_, h29.trans c3, fun i hi => by rw [h17]; exact c4 i hi⟩
  obtain ⟨a, e, ha, k1, e1, e2⟩ := c2 b hb
  obtain ⟨i1, i2⟩ := hI a ha k1.2.1
  exact ⟨a, by rw [h16]; exact e, ha, k1.of K, i1.trans e1, i2.trans e2⟩
theorem RowAt.of (K : Keep h h') {k n a e : Nat} (hA : x + 103 ≤ a → a < aN h → aA h' a = aA h a ∧ aL h' a = aL h a) (c : RowAt G x S h k n a e) : RowAt G x S h' k n a e := by
  obtain ⟨c1, c2, c3, c4⟩ := c
  obtain ⟨i1, i2⟩ := hA c1 c2.2.1
  exact ⟨c1, c2.of K, fun e i hi => by rw [i2]; exact c3 e i hi, fun e i hi => by rw [i1]; exact c4 e i hi⟩
theorem CS.of (K : Keep h h') (h18 : ∀ b, aR h' (x + 18) b = aR h (x + 18) b) (h16 : ∀ b, b < nbN S → aR h' (x + 16) b = aR h (x + 16) b) (hA : ∀ a, x + 103 ≤ a → a < aN h → aA h' a = aA h a ∧ aL h' a = aL h a) (c : CS G x S h) : CS G x S h' := by
  refine ⟨fun s hs => ?_, fun s s' k k' a h1 h2 h3 h4 h5 h6 h7 h8 => c.2 s s' k k' a h1 h2 h3 h4 h5 h6 (by rw [← h18]; exact h7) (by rw [← h18]; exact h8)⟩
  rw [h18]
  rcases c.1 s hs with c | ⟨b, h1, h2, e, e2⟩ | ⟨k, n, a, h1, h2, e, e2, e3, e4⟩
  · exact Or.inl c
  · exact Or.inr (Or.inl ⟨b, h1, h2, e, by rw [h16 b h1]; exact e2⟩)
  · exact Or.inr (Or.inr ⟨k, n, a, h1, h2, e, e2, e3, e4.of K (hA a)⟩)
/-- alike but for the scratch rows -/
def SameX (x : Nat) (h h' : AH) : Prop := aT h' = aT h ∧ aI h' = aI h ∧ aP h' = aP h ∧ aL h' = aL h ∧ aR h' = aR h ∧ aN h' = aN h ∧ aU h' = aU h ∧ ∀ a, (a < x + 11 ∨ x + 14 < a) → aA h' a = aA h a
theorem SameX.refl : SameX x h h := ⟨rfl, rfl, rfl, rfl, rfl, rfl, rfl, fun _ _ => rfl⟩
theorem SameX.hs {f k b : Nat → Int32} : SameX x h (hs x h f k b) := ⟨rfl, rfl, rfl, rfl, rfl, rfl, rfl, fun a ha => hs_A (by omega) (by omega) (by omega)⟩
theorem SameX.keep (s : SameX x h h') : Keep h h' := ⟨Nat.le_of_eq s.2.2.2.2.2.1.symm, fun a _ => by rw [s.1]⟩
theorem SameX.xb (s : SameX x h h') (B : XB G x h) : XB G x h' := B.of (Nat.le_of_eq s.2.2.2.2.2.1.symm) (fun a _ => by rw [s.1]) (fun k _ => by rw [s.2.2.1])
theorem EW.same (s : SameX x h h') (W : EW G x S L h) : EW G x S L h' := by
  have K := s.keep
  obtain ⟨t, i, p, l, r, n, u, a⟩ := s
  refine ⟨W.xb.of (Nat.le_of_eq n.symm) (fun a _ => by rw [t]) (fun k _ => by rw [p]), W.cp.of K (by rw [i]) (fun _ => by rw [r]) (fun _ => by rw [a _ (by omega)]) (fun q _ _ => by rw [i, p]; exact ⟨rfl, rfl, rfl, rfl⟩), W.cm.of K (by rw [i]) (fun _ => by rw [r]) (fun _ => by rw [a _ (by omega)]) (fun q _ _ => by rw [i]; exact ⟨rfl, rfl, rfl⟩), W.cw.of K (by rw [i]) (fun _ => by rw [a _ (by omega)]) (fun _ => by rw [r]) (fun _ _ => by rw [i]), W.cl.of K (fun q _ _ => by rw [i, p]; exact ⟨⟨rfl, rfl, rfl, rfl⟩, ⟨rfl, rfl, rfl, rfl⟩, rfl, rfl, rfl⟩) (by rw [p]), W.ppl, W.mtg, W.fam⟩
theorem WW.same (s : SameX x h h') (W : WW G x S L h) : WW G x S L h' := by
  have K := s.keep
  obtain ⟨w1, w2, w3, w4, w5, w6, w7⟩ := W
  refine ⟨w1.same s, ?_⟩
  have hC := w7.1
  obtain ⟨t, i, p, l, r, n, u, a⟩ := s
  exact ⟨w2.of K (by rw [i]) (by rw [i]) (fun _ => by rw [r]) (fun _ _ => by rw [r]) (fun q _ _ => by rw [i, p]; exact ⟨rfl, rfl, rfl⟩) hC w1.ppl.n, w3.of (by rw [i]) (fun _ => by rw [a _ (by omega)]), w4.of (by rw [i]) (by rw [i]) (fun _ => by rw [a _ (by omega)]), w5.of K (by rw [i]) (fun _ => by rw [r]) (by rw [i]) (fun _ => by rw [a _ (by omega)]) (fun q _ _ => by rw [i, p]; exact ⟨rfl, rfl⟩), w6.of K (fun _ => by rw [r]) (fun _ _ => by rw [r]) (fun q h1 _ => by rw [a q (by omega), l]; exact ⟨rfl, rfl⟩), w7⟩
/-- h is itself with its own scratch rows laid over -/
theorem hs_self (x : Nat) (h : AH) : hs x h (aA h (x + 11)) (aA h (x + 12)) (aA h (x + 13)) = h := by
  have e : ∀ (h : AH) a, sAf h a (aA h a) = h := by
    intro h a
    have : va_up (aA h) a (aA h a) = aA h := by
      funext q; unfold va_up; split
      · rename_i e; rw [e]
      · rfl
    show (aT h, aI h, aP h, va_up (aA h) a (aA h a), aL h, aR h, aN h, aU h) = h
    rw [this]; rfl
  unfold hs
  rw [e h (x + 11), e h (x + 12), e h (x + 13)]
end

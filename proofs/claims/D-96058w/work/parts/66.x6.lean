/-! LAYER 3.26: the component's changes: mend, undo, redo -/
set_option maxRecDepth 100000
def hdA (x : Nat) (h : AH) (of at_ : Int32) : Nat := if of = 0 then (aR h (x + 4) at_.toNatClampNeg).getD 0 + 1 else x + 59 + at_.toNatClampNeg
def LayOK (S : MS) (of at_ v : Int32) : Prop := (of = 0 ∧ ∃ p, p < np S ∧ at_ = I p ∧ (S.1 2 p).toInt < v.toInt ∧ v.toInt ≤ 100) ∨ (of = 1 ∧ ∃ n, n < 12 ∧ at_ = I n)
section
variable {G : GG} {x : Nat} {S : MS} {L : Lw} {h : AH} {Q : Outcome → AH → Prop}
theorem EW.lay (W : EW G x S L h) {of at_ v : Int32} (hl : LayOK S of at_ v) : EW G x (lyS S of at_ v) L (sI h 256 (hdA x h of at_) v) ∧ IsK G h (hdA x h of at_) (4, 0) ∧ aI h 256 (hdA x h of at_) = vlF S of at_ ∧ x + 59 ≤ hdA x h of at_ ∧ ¬ hdA x h of at_ = x + 71 := by
  have h12 := W.ppl.n
  rcases hl with ⟨rfl, p, hp, rfl, b1, b2⟩ | ⟨rfl, n, hn, rfl⟩
  · obtain ⟨a, ea, ha, k1, k2, e1, e2, e3, e4⟩ := W.cp.2.1 p hp
    have eh : hdA x h 0 (I p) = a + 1 := by unfold hdA; rw [if_pos rfl, I_nat (by omega), ea]; rfl
    have ely : lyS S 0 (I p) v = uS S 3 p v := by unfold lyS; rw [if_pos rfl, I_nat (by omega)]
    rw [eh, ely]
    refine ⟨⟨W.xb, W.cp.die hp ea, (W.cm.s rfl rfl rfl rfl).of (h := h) ⟨Nat.le_refl _, fun _ _ => rfl⟩ rfl (fun _ => rfl) (fun _ => rfl) (fun _ _ _ => ⟨rfl, rfl, rfl⟩), (W.cw.s rfl rfl rfl).of (h := h) ⟨Nat.le_refl _, fun _ _ => rfl⟩ rfl (fun _ => rfl) (fun _ => rfl) (fun n hn => sI_nea (by omega)), W.cl.of (h := h) ⟨Nat.le_refl _, fun _ _ => rfl⟩ (fun _ _ _ => ⟨⟨rfl, rfl, rfl, rfl⟩, ⟨rfl, rfl, rfl, rfl⟩, rfl, rfl, rfl⟩) rfl, ?_, W.mtg.s rfl rfl rfl rfl, W.fam.s rfl⟩, k2, by rw [e3]; unfold vlF; rw [if_pos rfl, I_nat (by omega)], by omega, by omega⟩
    exact (DV.refl W.ppl |>.up hp b1 b2).2.2.2
  · obtain ⟨w1, w2, w3, w4⟩ := W.cw.2 n hn
    have eh : hdA x h 1 (I n) = x + 59 + n := by unfold hdA; rw [if_neg (by decide), I_nat (by omega)]
    have ely : lyS S 1 (I n) v = uS S 10 n v := by unfold lyS; rw [if_neg (by decide), I_nat (by omega)]
    rw [eh, ely]
    refine ⟨⟨W.xb, (W.cp.s rfl rfl rfl rfl).of (h := h) ⟨Nat.le_refl _, fun _ _ => rfl⟩ rfl (fun _ => rfl) (fun _ => rfl) (fun a ha _ => ⟨rfl, rfl, sI_nea (by omega), rfl⟩), (W.cm.s rfl rfl rfl rfl).of (h := h) ⟨Nat.le_refl _, fun _ _ => rfl⟩ rfl (fun _ => rfl) (fun _ => rfl) (fun _ _ _ => ⟨rfl, rfl, rfl⟩), ⟨W.cw.1, fun z hz => ?_⟩, W.cl.of (h := h) ⟨Nat.le_refl _, fun _ _ => rfl⟩ (fun _ _ _ => ⟨⟨rfl, rfl, rfl, rfl⟩, ⟨rfl, rfl, rfl, rfl⟩, rfl, rfl, rfl⟩) rfl, W.ppl.s rfl rfl rfl rfl, W.mtg.s rfl rfl rfl rfl, W.fam.s rfl⟩, w3, by rw [w4]; unfold vlF; rw [if_neg (by decide), I_nat (by omega)], by omega, by omega⟩
    obtain ⟨z1, z2, z3, z4⟩ := W.cw.2 z hz
    refine ⟨z1, z2, z3, ?_⟩
    rw [sI_if, uS_if]
    by_cases e : z = n
    · subst e; simp
    · rw [if_neg e, if_neg (by omega)]; exact z4
theorem lyS_k {of at_ v : Int32} {k : Nat} (h3 : ¬ k = 3) (h10 : ¬ k = 10) : (lyS S of at_ v).1 k = S.1 k := by
  unfold lyS; split
  · exact uS_ne h3
  · exact uS_ne h10
theorem lyS_2 {of at_ v : Int32} : (lyS S of at_ v).2 = S.2 := by unfold lyS; split <;> rfl
theorem EW.np12 (W : EW G x S L h) : np S ≤ 12 := W.ppl.n
/-- all but the ties that are given anew -/
theorem WW.re {S' : MS} {h' : AH} (W : WW G x S L h) (ew : EW G x S' L h') (cc : CC G x S' h') (hc : Chg S') (hS : ∀ k, 18 ≤ k → S'.1 k = S.1 k) (h1 : S'.1 1 = S.1 1) (h2 : S'.2 = S.2) (K : Keep h h') (i4 : aI h' 4 x = aI h 4 x) (i23 : aI h' 23 x = aI h 23 x) (i24 : aI h' 24 x = aI h 24 x) (i27 : aI h' 27 x = aI h 27 x) (i29 : aI h' 29 x = aI h 29 x) (ra : ∀ b, aR h' (x + 16) b = aR h (x + 16) b) (rb : ∀ b, aR h' (x + 18) b = aR h (x + 18) b) (aa : ∀ a, x + 13 < a ∨ a = x + 2 → aA h' a = aA h a) (ll : aL h' = aL h) (ib : ∀ a, x + 103 ≤ a → a < aN h → aI h' 896 a = aI h 896 a ∧ aP h' 897 a = aP h 897 a) : WW G x S' L h' :=
  ⟨ew, cc, (W.ct.s (hS 18 (by omega)) (hS 19 (by omega))).of (h := h) i4 (fun _ => by rw [aa _ (by omega)]), (W.ci.s (hS 36 (by omega)) (hS 37 (by omega)) (hS 38 (by omega))).of (h := h) i23 i24 (fun _ => by rw [aa _ (by omega)]), (W.cb.s (hS 39 (by omega)) (hS 40 (by omega)) (hS 41 (by omega)) (hS 42 (by omega))).of (h := h) K i27 ra i29 (fun _ => by rw [aa _ (by omega)]) ib, (W.cs.s (hS 39 (by omega)) (hS 43 (by omega)) (hS 44 (by omega)) (by rw [h2])).of (h := h) K rb (fun b _ => ra b) (fun a ha _ => ⟨aa a (by omega), by rw [ll]⟩), hc, W.tap.s (hS 19 (by omega)), W.img.s h1 (hS 36 (by omega)) (hS 37 (by omega)) (hS 38 (by omega)), W.bod.s (hS 39 (by omega)) (hS 40 (by omega)) (hS 41 (by omega))⟩
theorem hdF_e {S' : MS} {k : Nat} (e4 : S'.1 14 = S.1 14) (e5 : S'.1 15 = S.1 15) : hdF x h S' k = hdF x h S k := by unfold hdF; rw [e4, e5]
theorem hdF_A {k : Nat} : hdF x h S k = hdA x h (S.1 14 k) (S.1 15 k) := rfl
theorem Chg.lay (c : Chg S) {k : Nat} (hk : k < ndN' S + nuN S) : LayOK S (S.1 14 k) (S.1 15 k) (S.1 16 k) ∧ LayOK S (S.1 14 k) (S.1 15 k) (S.1 17 k) := by
  rcases c.2.2.2 k hk with ⟨e, p, hp, ep, a, b, c, d⟩ | ⟨e, n, hn, en⟩
  · exact ⟨Or.inl ⟨e, p, hp, ep, a, b⟩, Or.inl ⟨e, p, hp, ep, c, d⟩⟩
  · exact ⟨Or.inr ⟨e, n, hn, en⟩, Or.inr ⟨e, n, hn, en⟩⟩
theorem B_undo (W : WW G x S L h) (hQ : ∀ h', WW G x (o_undo S).2 L h' → MK x h h' → Q (.returned (some (.int (o_undo S).1))) h') : Run G mX0_undo 1 0 [(0, .ref x)] [] h Q := by
  have e := W.ew
  obtain ⟨c1, c2, c3, c4, c5⟩ := W.cc
  obtain ⟨g1, g2, g3, g4⟩ := W.chg
  unfold o_undo at hQ
  rw [g2] at hQ c1 c2
  rw [g3] at c2
  generalize hnd : ndN' S = nd at *
  generalize hnu : nuN S = nu at *
  apply sX0_undo_0 e.xb
  rw [c1, sI_at]
  refine ⟨fun c => ?_, fun c => by rw [if_pos c] at hQ; exact hQ h W MK.refl⟩
  have hn0 : 1 ≤ nd := by
    apply Nat.pos_of_ne_zero
    intro e; apply c; rw [e]; rfl
  rw [if_neg c, I_pred hn0, I_nat (by omega)] at hQ
  rw [I_pred hn0, I_nat (by omega)]
  obtain ⟨a1, a2, a3, a4⟩ := c3 (nd - 1) (by omega)
  obtain ⟨b1, b2, b3⟩ := c5 (nd - 1) (by omega)
  have hl := (W.chg.lay (k := nd - 1) (by rw [hnd, hnu]; omega)).1
  have v40 : vp_in (I (nd - 1)) 40 := vp_I (by omega) (by omega)
  -- the world behind done--
  have eS : EW G x (unS S) L (sI h 2 x (I (nd - 1))) := ⟨e.xb, (e.cp.s rfl rfl rfl rfl).of (h := h) ⟨Nat.le_refl _, fun _ _ => rfl⟩ rfl (fun _ => rfl) (fun _ => rfl) (fun _ _ _ => ⟨rfl, rfl, rfl, rfl⟩), (e.cm.s rfl rfl rfl rfl).of (h := h) ⟨Nat.le_refl _, fun _ _ => rfl⟩ rfl (fun _ => rfl) (fun _ => rfl) (fun _ _ _ => ⟨rfl, rfl, rfl⟩), (e.cw.s rfl rfl rfl).of (h := h) ⟨Nat.le_refl _, fun _ _ => rfl⟩ rfl (fun _ => rfl) (fun _ => rfl) (fun _ _ => rfl), e.cl.of (h := h) ⟨Nat.le_refl _, fun _ _ => rfl⟩ (fun _ _ _ => ⟨⟨rfl, rfl, rfl, rfl⟩, ⟨rfl, rfl, rfl, rfl⟩, rfl, rfl, rfl⟩) rfl, e.ppl.s rfl rfl rfl rfl, e.mtg.s rfl rfl rfl rfl, e.fam.s rfl⟩
  obtain ⟨d1, d2, d3, d4, d5⟩ := eS.lay (show LayOK (unS S) (S.1 14 (nd - 1)) (S.1 15 (nd - 1)) (S.1 16 (nd - 1)) from hl)
  have ehd : hdA x (sI h 2 x (I (nd - 1))) (S.1 14 (nd - 1)) (S.1 15 (nd - 1)) = hdF x h S (nd - 1) := rfl
  rw [ehd] at d1 d2 d3 d4 d5
  have r193 : aI (sI h 2 x (I (nd - 1))) 193 (caF x h (nd - 1)) = S.1 16 (nd - 1) := b2
  refine ⟨v40, caF x h (nd - 1), a1, a4, hdF x h S (nd - 1), b1, v40, caF x h (nd - 1), a1, a4, d2, ?_⟩
  rw [r193]
  have e2 : ∀ k, 18 ≤ k → (lyS (unS S) (S.1 14 (nd - 1)) (S.1 15 (nd - 1)) (S.1 16 (nd - 1))).1 k = S.1 k := by
    intro k hk
    rw [lyS_k (by omega) (by omega)]
    unfold unS; rw [uS_ne (by omega), uS_ne (by omega)]
  have f12 : (lyS (unS S) (S.1 14 (nd - 1)) (S.1 15 (nd - 1)) (S.1 16 (nd - 1))).1 12 0 = I (nd - 1) := by
    rw [lyS_k (by decide) (by decide)]; unfold unS; rw [uS_ne (by decide), uS_at, g2, I_pred hn0]
  have f13 : (lyS (unS S) (S.1 14 (nd - 1)) (S.1 15 (nd - 1)) (S.1 16 (nd - 1))).1 13 0 = I (nu + 1) := by
    rw [lyS_k (by decide) (by decide)]; unfold unS; rw [uS_at, g3, I_succ]
  have fk : ∀ k, 14 ≤ k → (lyS (unS S) (S.1 14 (nd - 1)) (S.1 15 (nd - 1)) (S.1 16 (nd - 1))).1 k = S.1 k := by
    intro k hk
    rw [lyS_k (by omega) (by omega)]
    unfold unS; rw [uS_ne (by omega), uS_ne (by omega)]
  have f1 : (lyS (unS S) (S.1 14 (nd - 1)) (S.1 15 (nd - 1)) (S.1 16 (nd - 1))).1 1 = S.1 1 := by
    rw [lyS_k (by decide) (by decide)]; unfold unS; rw [uS_ne (by decide), uS_ne (by decide)]
  have fb : (lyS (unS S) (S.1 14 (nd - 1)) (S.1 15 (nd - 1)) (S.1 16 (nd - 1))).1 2 = S.1 2 := by
    rw [lyS_k (by decide) (by decide)]; unfold unS; rw [uS_ne (by decide), uS_ne (by decide)]
  generalize hS' : lyS (unS S) (S.1 14 (nd - 1)) (S.1 15 (nd - 1)) (S.1 16 (nd - 1)) = S' at *
  have n12 : ndN' S' = nd - 1 := by unfold ndN'; rw [f12, I_nat (by omega)]
  have n13 : nuN S' = nu + 1 := by unfold nuN; rw [f13, I_nat (by omega)]
  refine qix (hQ (sI (sI h 2 x (I (nd - 1))) 256 (hdF x h S (nd - 1)) (S.1 16 (nd - 1))) (W.re d1 ?_ ?_ e2 f1 (by rw [← hS', lyS_2]; rfl) ⟨Nat.le_refl _, fun _ _ => rfl⟩ rfl rfl rfl rfl rfl (fun _ => rfl) (fun _ => rfl) (fun _ _ => rfl) rfl (fun _ _ _ => ⟨rfl, rfl⟩)) ⟨Keep.refl, fun f => ⟨(sI_nea (fun e => d5 e.symm)).trans (sI_nea (by omega)), rfl⟩, fun _ _ _ => ⟨rfl, rfl⟩, by show aN h ≤ _; omega, by show aU h ≤ _; omega, Nat.le_refl _⟩) ?_
  · refine ⟨?_, ?_, c3, c4, fun k hk => ?_⟩
    · rw [f12]; show aI (sI h 2 x (I (nd - 1))) 2 x = _; rw [sI_at]
    · rw [f12, f13, I_add, show nd - 1 + (nu + 1) = nd + nu by omega, ← I_add]; exact c2
    · rw [n12, n13] at hk
      obtain ⟨q1, q2, q3⟩ := c5 k (by omega)
      rw [fk 16 (by omega), fk 17 (by omega)]
      refine ⟨?_, q2, q3⟩
      show aP h 192 (caF x h k) = some (hdF x h S' k)
      rw [hdF_e (fk 14 (by omega)) (fk 15 (by omega))]; exact q1
  · refine ⟨by rw [n12, n13]; omega, by rw [n12]; exact f12, by rw [n13]; exact f13, fun k hk => ?_⟩
    rw [n12, n13] at hk
    rw [fk 14 (by omega), fk 15 (by omega), fk 16 (by omega), fk 17 (by omega), fb]
    have en : np S' = np S := by unfold np; rw [f1]
    rw [en]
    exact g4 k (by omega)
  · show I (nd - 1) = aI (sI h 2 x (I (nd - 1))) 2 x
    rw [sI_at]
theorem B_redo (W : WW G x S L h) (hQ : ∀ h', WW G x (o_redo S).2 L h' → MK x h h' → Q (.returned (some (.int (o_redo S).1))) h') : Run G mX0_redo 1 0 [(0, .ref x)] [] h Q := by
  have e := W.ew
  obtain ⟨c1, c2, c3, c4, c5⟩ := W.cc
  obtain ⟨g1, g2, g3, g4⟩ := W.chg
  unfold o_redo at hQ
  rw [g2, g3] at hQ c2
  rw [g2] at c1
  generalize hnd : ndN' S = nd at *
  generalize hnu : nuN S = nu at *
  apply sX0_redo_0 e.xb
  rw [c1, c2, I_add]
  have hz : I nd = I (nd + nu) ↔ I nu = 0 := by
    constructor
    · intro h
      have := (I_inj (by omega) (by omega)).1 h
      rw [show nu = 0 by omega]; rfl
    · intro h
      have : nu = 0 := (I_inj (b := 0) (by omega) (by omega)).1 h
      rw [this]; rfl
  refine ⟨fun c => ?_, fun c => by rw [if_pos (hz.1 c)] at hQ; exact hQ h W MK.refl⟩
  rw [if_neg (fun x => c (hz.2 x)), I_nat (by omega)] at hQ
  have hn0 : 1 ≤ nu := by
    apply Nat.pos_of_ne_zero
    intro e; apply c; rw [e]; rfl
  rw [I_nat (by omega)]
  obtain ⟨a1, a2, a3, a4⟩ := c3 nd (by omega)
  obtain ⟨b1, b2, b3⟩ := c5 nd (by omega)
  have hl := (W.chg.lay (k := nd) (by rw [hnd, hnu]; omega)).2
  have v40 : vp_in (I nd) 40 := vp_I (by omega) (by omega)
  obtain ⟨d1, d2, d3, d4, d5⟩ := e.lay hl
  rw [← hdF_A] at d1 d2 d3 d4 d5
  have dx : ¬ x = hdF x h S nd := by omega
  refine ⟨v40, caF x h nd, a1, a4, hdF x h S nd, b1, v40, caF x h nd, a1, a4, d2, ?_⟩
  rw [b3]
  have r2 : aI (sI h 256 (hdF x h S nd) (S.1 17 nd)) 2 x = I nd := c1
  rw [r2, I_succ]
  rw [I_succ, I_pred hn0] at hQ
  have fk : ∀ k, 14 ≤ k → (uS (uS (lyS S (S.1 14 nd) (S.1 15 nd) (S.1 17 nd)) 12 0 (I (nd + 1))) 13 0 (I (nu - 1))).1 k = S.1 k := by
    intro k hk
    rw [uS_ne (by omega), uS_ne (by omega), lyS_k (by omega) (by omega)]
  have f1 : (uS (uS (lyS S (S.1 14 nd) (S.1 15 nd) (S.1 17 nd)) 12 0 (I (nd + 1))) 13 0 (I (nu - 1))).1 1 = S.1 1 := by
    rw [uS_ne (by decide), uS_ne (by decide), lyS_k (by decide) (by decide)]
  have fb : (uS (uS (lyS S (S.1 14 nd) (S.1 15 nd) (S.1 17 nd)) 12 0 (I (nd + 1))) 13 0 (I (nu - 1))).1 2 = S.1 2 := by
    rw [uS_ne (by decide), uS_ne (by decide), lyS_k (by decide) (by decide)]
  have f12 : (uS (uS (lyS S (S.1 14 nd) (S.1 15 nd) (S.1 17 nd)) 12 0 (I (nd + 1))) 13 0 (I (nu - 1))).1 12 0 = I (nd + 1) := by
    rw [uS_ne (by decide), uS_at]
  have f13 : (uS (uS (lyS S (S.1 14 nd) (S.1 15 nd) (S.1 17 nd)) 12 0 (I (nd + 1))) 13 0 (I (nu - 1))).1 13 0 = I (nu - 1) := uS_at
  have eS : EW G x (uS (uS (lyS S (S.1 14 nd) (S.1 15 nd) (S.1 17 nd)) 12 0 (I (nd + 1))) 13 0 (I (nu - 1))) L (sI (sI h 256 (hdF x h S nd) (S.1 17 nd)) 2 x (I (nd + 1))) := by
    generalize sI h 256 (hdF x h S nd) (S.1 17 nd) = h at *
    exact ⟨d1.xb, (d1.cp.s rfl rfl rfl rfl).of (h := h) ⟨Nat.le_refl _, fun _ _ => rfl⟩ rfl (fun _ => rfl) (fun _ => rfl) (fun _ _ _ => ⟨rfl, rfl, rfl, rfl⟩), (d1.cm.s rfl rfl rfl rfl).of (h := h) ⟨Nat.le_refl _, fun _ _ => rfl⟩ rfl (fun _ => rfl) (fun _ => rfl) (fun _ _ _ => ⟨rfl, rfl, rfl⟩), (d1.cw.s rfl rfl rfl).of (h := h) ⟨Nat.le_refl _, fun _ _ => rfl⟩ rfl (fun _ => rfl) (fun _ => rfl) (fun _ _ => rfl), d1.cl.of (h := h) ⟨Nat.le_refl _, fun _ _ => rfl⟩ (fun _ _ _ => ⟨⟨rfl, rfl, rfl, rfl⟩, ⟨rfl, rfl, rfl, rfl⟩, rfl, rfl, rfl⟩) rfl, d1.ppl.s rfl rfl rfl rfl, d1.mtg.s rfl rfl rfl rfl, d1.fam.s rfl⟩
  have h2 : (uS (uS (lyS S (S.1 14 nd) (S.1 15 nd) (S.1 17 nd)) 12 0 (I (nd + 1))) 13 0 (I (nu - 1))).2 = S.2 := lyS_2
  generalize uS (uS (lyS S (S.1 14 nd) (S.1 15 nd) (S.1 17 nd)) 12 0 (I (nd + 1))) 13 0 (I (nu - 1)) = S' at *
  have n12 : ndN' S' = nd + 1 := by unfold ndN'; rw [f12, I_nat (by omega)]
  have n13 : nuN S' = nu - 1 := by unfold nuN; rw [f13, I_nat (by omega)]
  refine qix (hQ (sI (sI h 256 (hdF x h S nd) (S.1 17 nd)) 2 x (I (nd + 1))) (W.re eS ?_ ?_ (fun k hk => fk k (by omega)) f1 h2 ⟨Nat.le_refl _, fun _ _ => rfl⟩ rfl rfl rfl rfl rfl (fun _ => rfl) (fun _ => rfl) (fun _ _ => rfl) rfl (fun _ _ _ => ⟨rfl, rfl⟩)) ⟨Keep.refl, fun f => ⟨(sI_nea (by omega)).trans (sI_nea (fun e => d5 e.symm)), rfl⟩, fun _ _ _ => ⟨rfl, rfl⟩, by show aN h ≤ _; omega, by show aU h ≤ _; omega, Nat.le_refl _⟩) ?_
  · refine ⟨?_, ?_, c3, c4, fun k hk => ?_⟩
    · rw [f12, sI_at]
    · rw [f12, f13, I_add, show nd + 1 + (nu - 1) = nd + nu by omega]; exact c2.trans (I_add nd nu)
    · rw [n12, n13] at hk
      obtain ⟨q1, q2, q3⟩ := c5 k (by omega)
      rw [fk 16 (by omega), fk 17 (by omega)]
      refine ⟨?_, q2, q3⟩
      show aP h 192 (caF x h k) = some (hdF x h S' k)
      rw [hdF_e (fk 14 (by omega)) (fk 15 (by omega))]; exact q1
  · refine ⟨by rw [n12, n13]; omega, by rw [n12]; exact f12, by rw [n13]; exact f13, fun k hk => ?_⟩
    rw [n12, n13] at hk
    rw [fk 14 (by omega), fk 15 (by omega), fk 16 (by omega), fk 17 (by omega), fb]
    have en : np S' = np S := by unfold np; rw [f1]
    rw [en]
    exact g4 k (by omega)
  · rw [sI_at]
    have r1 : aI (sI (sI h 256 (hdF x h S nd) (S.1 17 nd)) 2 x (I (nd + 1))) 1 x = I nd + I nu := c2
    rw [r1, I_add, I_sub (by omega), show nd + nu - (nd + 1) = nu - 1 by omega]
/-- a change is pushed: the changes' row lies as it shall (the count is behind) -/
theorem X_push (W : WW G x S L h) {h1 : AH} {S1 : MS} {of at_ v : Int32} {n : Nat} (hn : n < 40) (hl : LayOK S of at_ v) (hw : LayOK S of at_ (vlF S of at_)) (sk : ∀ k, ¬ (12 ≤ k ∧ k ≤ 17) → S1.1 k = S.1 k) (s2 : S1.2 = S.2) (s12 : S1.1 12 0 = I n) (s13 : S1.1 13 0 = 0)
    (hx : aT h1 = aT h ∧ aP h1 = aP h ∧ aA h1 = aA h ∧ aL h1 = aL h ∧ aN h1 = aN h ∧ aU h1 = aU h ∧ (∀ f a, ¬ (f = 2 ∧ a = x) → aI h1 f a = aI h f a) ∧ ∀ a, ¬ a = x + 1 → aR h1 a = aR h a)
    (i2 : aI h1 2 x = I n) (c3 : ∀ k, k < 40 → aR h1 (x + 1) k = some (caF x h1 k) ∧ x + 19 ≤ caF x h1 k ∧ caF x h1 k < x + 59 ∧ IsK G h1 (caF x h1 k) (3, 0)) (c4 : ∀ j k, j < 40 → k < 40 → caF x h1 j = caF x h1 k → j = k)
    (c5 : ∀ k, k < n → aP h1 192 (caF x h1 k) = some (hdF x h1 S1 k) ∧ aI h1 193 (caF x h1 k) = S1.1 16 k ∧ aI h1 194 (caF x h1 k) = S1.1 17 k)
    (g4 : ∀ k, k < n → (S1.1 14 k = 0 ∧ ∃ p, p < np S ∧ S1.1 15 k = I p ∧ (S.1 2 p).toInt < (S1.1 16 k).toInt ∧ (S1.1 16 k).toInt ≤ 100 ∧ (S.1 2 p).toInt < (S1.1 17 k).toInt ∧ (S1.1 17 k).toInt ≤ 100) ∨ (S1.1 14 k = 1 ∧ ∃ z, z < 12 ∧ S1.1 15 k = I z))
    (hQ : ∀ h', WW G x (lyS (psC S1 of at_ (vlF S of at_) v) of at_ v) L h' → MK x h h' → Q (.returned (some (.int (vlF S of at_)))) h') : Run G mX0_become 1 80 [(0, .ref x), (1, .ref (hdA x h of at_)), (2, .int v), (3, .int (vlF S of at_))] [] h1 Q := by
  have e := W.ew
  obtain ⟨xt, xp, xa, xl, xn, xu, xi, xr⟩ := hx
  have B1 : XB G x h1 := e.xb.of (Nat.le_of_eq xn.symm) (fun a _ => by rw [xt]) (fun k _ => by rw [xp])
  obtain ⟨d1, d2, d3, d4, d5⟩ := e.lay hl
  obtain ⟨a1, a2, a3, a4⟩ := c3 n hn
  have K : Keep h h1 := ⟨Nat.le_of_eq xn.symm, fun a _ => by rw [xt]⟩
  apply sX0_become_80 B1
  rw [i2, I_nat (by omega)]
  refine ⟨vp_I hn (by omega), caF x h1 n, a1, a4, d2.of K, ?_⟩
  have r2 : ∀ u w, aI (sI (sI (sI (sP h1 192 (caF x h1 n) (some (hdA x h of at_))) 193 (caF x h1 n) u) 194 (caF x h1 n) w) 256 (hdA x h of at_) w) 2 x = I n := fun u w => i2
  rw [r2, I_succ]
  generalize hc : caF x h1 n = c at *
  generalize hA : hdA x h of at_ = A at *
  generalize hV : vlF S of at_ = V at *
  -- the heap behind, part by part
  generalize hH : sI (sI (sI (sI (sI (sP h1 192 c (some A)) 193 c V) 194 c v) 256 A v) 2 x (I (n + 1))) 1 x (I (n + 1)) = H
  have HT : aT H = aT h := by rw [← hH]; exact xt
  have HN : aN H = aN h := by rw [← hH]; exact xn
  have HU : aU H = aU h := by rw [← hH]; exact xu
  have HA : aA H = aA h := by rw [← hH]; exact xa
  have HL : aL H = aL h := by rw [← hH]; exact xl
  have HR : ∀ a, ¬ a = x + 1 → aR H a = aR h a := by intro a ha; rw [← hH]; exact xr a ha
  have HR1 : aR H (x + 1) = aR h1 (x + 1) := by rw [← hH]; rfl
  have HP : ∀ f a, ¬ f = 192 → aP H f a = aP h f a := by
    intro f a hf
    rw [← hH]
    show aP (sP h1 192 c (some A)) f a = _
    simp [sP, aP, up2, hf]; exact congrFun (congrFun xp f) a
  have HP192 : ∀ a, aP H 192 a = if a = c then some A else aP h1 192 a := by
    intro a; rw [← hH]; show aP (sP h1 192 c (some A)) 192 a = _; rw [sP_if]
  have HI : ∀ f a, ¬ f = 193 → ¬ f = 194 → ¬ f = 256 → ¬ (f = 2 ∧ a = x) → ¬ (f = 1 ∧ a = x) → aI H f a = aI h f a := by
    intro f a h3 h4 h6 h2 h1'
    rw [← hH]
    have q : aI h1 f a = aI h f a := xi f a h2
    simp only [sI, sP, aI, up2] at q ⊢
    simp [h3, h4, h6, h2, h1']
    exact q
  have H193 : ∀ a, aI H 193 a = if a = c then V else aI h1 193 a := by
    intro a; rw [← hH]
    rw [sI_ne (by decide), sI_ne (by decide), sI_ne (by decide), sI_ne (by decide), sI_if]; rfl
  have H194 : ∀ a, aI H 194 a = if a = c then v else aI h1 194 a := by
    intro a; rw [← hH]
    rw [sI_ne (by decide), sI_ne (by decide), sI_ne (by decide), sI_if, sI_ne (by decide)]; rfl
  have H256 : ∀ a, aI H 256 a = if a = A then v else aI h 256 a := by
    intro a; rw [← hH]
    rw [sI_ne (by decide), sI_ne (by decide), sI_if, sI_ne (by decide), sI_ne (by decide)]
    split
    · rfl
    · exact xi 256 a (by simp)
  have H2 : aI H 2 x = I (n + 1) := by rw [← hH, sI_ne (by decide), sI_at]
  have H1 : aI H 1 x = I (n + 1) := by rw [← hH, sI_at]
  have KH : Keep h H := ⟨Nat.le_of_eq HN.symm, fun a _ => by rw [HT]⟩
  have KH1 : Keep h1 H := ⟨by rw [HN, xn]; exact Nat.le_refl _, fun a _ => by rw [HT, xt]⟩
  clear r2
  -- the state behind
  have pk : ∀ k, ¬ (12 ≤ k ∧ k ≤ 17) → (psC S1 of at_ V v).1 k = S.1 k := by
    intro k hk
    unfold psC
    rw [uS_ne (by omega), uS_ne (by omega), uS_ne (by omega), uS_ne (by omega), uS_ne (by omega)]
    exact sk k hk
  have ely : ∀ k, ¬ k = 3 → ¬ k = 10 → (lyS (psC S1 of at_ V v) of at_ v).1 k = (psC S1 of at_ V v).1 k := fun k a b => lyS_k a b
  have ely2 : ∀ k, ¬ (12 ≤ k ∧ k ≤ 17) → (lyS (psC S1 of at_ V v) of at_ v).1 k = (lyS S of at_ v).1 k := by
    intro k hk
    unfold lyS
    split
    · by_cases e3 : k = 3
      · subst e3; funext i; rw [uS_if, uS_if, pk 3 (by omega)]
      · rw [uS_ne e3, uS_ne e3]; exact pk k hk
    · by_cases e3 : k = 10
      · subst e3; funext i; rw [uS_if, uS_if, pk 10 (by omega)]
      · rw [uS_ne e3, uS_ne e3]; exact pk k hk
  have t12 : (lyS (psC S1 of at_ V v) of at_ v).1 12 0 = I (n + 1) := by
    rw [ely 12 (by decide) (by decide)]; unfold psC; rw [uS_at, s12, I_succ]
  have t13 : (lyS (psC S1 of at_ V v) of at_ v).1 13 0 = 0 := by
    rw [ely 13 (by decide) (by decide)]; unfold psC
    rw [uS_ne (by decide), uS_ne (by decide), uS_ne (by decide), uS_ne (by decide), uS_ne (by decide)]; exact s13
  have t14 : ∀ k, (lyS (psC S1 of at_ V v) of at_ v).1 14 k = if k = n then of else S1.1 14 k := by
    intro k
    rw [ely 14 (by decide) (by decide)]; unfold psC
    rw [uS_ne (by decide), uS_ne (by decide), uS_ne (by decide), uS_ne (by decide), uS_if, s12, I_nat (by omega)]
  have t15 : ∀ k, (lyS (psC S1 of at_ V v) of at_ v).1 15 k = if k = n then at_ else S1.1 15 k := by
    intro k
    rw [ely 15 (by decide) (by decide)]; unfold psC
    rw [uS_ne (by decide), uS_ne (by decide), uS_ne (by decide), uS_if, s12, I_nat (by omega), uS_ne (by decide)]
  have t16 : ∀ k, (lyS (psC S1 of at_ V v) of at_ v).1 16 k = if k = n then V else S1.1 16 k := by
    intro k
    rw [ely 16 (by decide) (by decide)]; unfold psC
    rw [uS_ne (by decide), uS_ne (by decide), uS_if, s12, I_nat (by omega), uS_ne (by decide), uS_ne (by decide)]
  have t17 : ∀ k, (lyS (psC S1 of at_ V v) of at_ v).1 17 k = if k = n then v else S1.1 17 k := by
    intro k
    rw [ely 17 (by decide) (by decide)]; unfold psC
    rw [uS_ne (by decide), uS_if, s12, I_nat (by omega), uS_ne (by decide), uS_ne (by decide), uS_ne (by decide)]
  have tt : (lyS (psC S1 of at_ V v) of at_ v).2 = S.2 := by rw [lyS_2]; exact s2
  have ew : EW G x (lyS (psC S1 of at_ V v) of at_ v) L H := by
    have dd : EW G x (lyS (psC S1 of at_ V v) of at_ v) L (sI h 256 A v) := ⟨d1.xb, d1.cp.s (ely2 1 (by omega)) (ely2 2 (by omega)) (ely2 3 (by omega)) (ely2 4 (by omega)), d1.cm.s (ely2 5 (by omega)) (ely2 6 (by omega)) (ely2 7 (by omega)) (ely2 8 (by omega)), d1.cw.s (ely2 9 (by omega)) (ely2 10 (by omega)) (ely2 11 (by omega)), d1.cl, d1.ppl.s (ely2 1 (by omega)) (ely2 2 (by omega)) (ely2 3 (by omega)) (ely2 4 (by omega)), d1.mtg.s (ely2 1 (by omega)) (ely2 5 (by omega)) (ely2 6 (by omega)) (ely2 7 (by omega)), d1.fam.s (ely2 11 (by omega))⟩
    have K2 : Keep (sI h 256 A v) H := KH
    have J : ∀ f a, ¬ f = 193 → ¬ f = 194 → ¬ (f = 2 ∧ a = x) → ¬ (f = 1 ∧ a = x) → aI H f a = aI (sI h 256 A v) f a := by
      intro f a h3 h4 h2 h1'
      by_cases h6 : f = 256
      · subst h6; rw [H256, sI_if]
      · rw [HI f a h3 h4 h6 h2 h1', sI_ne h6]
    have JP : ∀ f a, ¬ f = 192 → aP H f a = aP (sI h 256 A v) f a := fun f a hf => HP f a hf
    exact ⟨e.xb.of (Nat.le_of_eq HN.symm) (fun a _ => by rw [HT]) (fun k hk => HP k x (by rintro rfl; exact absurd hk (by decide))),
      dd.cp.of K2 (J 8 x (by decide) (by decide) (by simp) (by simp)) (fun p => by rw [HR _ (by omega)]; rfl) (fun p => by rw [HA]; rfl) (fun a _ _ => ⟨J 384 a (by decide) (by decide) (by simp) (by simp), J 386 a (by decide) (by decide) (by simp) (by simp), J 256 a (by decide) (by decide) (by simp) (by simp), JP 385 a (by decide)⟩),
      dd.cm.of K2 (J 11 x (by decide) (by decide) (by simp) (by simp)) (fun p => by rw [HR _ (by omega)]; rfl) (fun p => by rw [HA]; rfl) (fun a _ _ => ⟨J 448 a (by decide) (by decide) (by simp) (by simp), J 449 a (by decide) (by decide) (by simp) (by simp), J 450 a (by decide) (by decide) (by simp) (by simp)⟩),
      dd.cw.of K2 (J 13 x (by decide) (by decide) (by simp) (by simp)) (fun p => by rw [HA]; rfl) (fun p => by rw [HR _ (by omega)]; rfl) (fun z _ => J 256 _ (by decide) (by decide) (by simp) (by simp)),
      dd.cl.of K2 (fun a _ _ => ⟨⟨J 640 a (by decide) (by decide) (by simp) (by simp), J 704 a (by decide) (by decide) (by simp) (by simp), J 768 a (by decide) (by decide) (by simp) (by simp), J 832 a (by decide) (by decide) (by simp) (by simp)⟩, ⟨JP 705 a (by decide), JP 769 a (by decide), JP 833 a (by decide), JP 834 a (by decide)⟩, JP 512 a (by decide), JP 513 a (by decide), JP 514 a (by decide)⟩) (JP 19 x (by decide)),
      dd.ppl, dd.mtg, dd.fam⟩
  have ca : ∀ k, caF x H k = caF x h1 k := fun k => by unfold caF; rw [HR1]
  have n12 : ndN' (lyS (psC S1 of at_ V v) of at_ v) = n + 1 := by unfold ndN'; rw [t12, I_nat (by omega)]
  have n13 : nuN (lyS (psC S1 of at_ V v) of at_ v) = 0 := by unfold nuN; rw [t13]; rfl
  have enp : np (lyS (psC S1 of at_ V v) of at_ v) = np S := by
    unfold np; rw [ely 1 (by decide) (by decide), pk 1 (by omega)]
  have eb : (lyS (psC S1 of at_ V v) of at_ v).1 2 = S.1 2 := by rw [ely 2 (by decide) (by decide), pk 2 (by omega)]
  refine hQ H (W.re ew ?_ ?_ (fun k hk => by rw [ely k (by omega) (by omega), pk k (by omega)]) (by rw [ely 1 (by decide) (by decide), pk 1 (by omega)]) tt KH (HI 4 x (by decide) (by decide) (by decide) (by simp) (by simp)) (HI 23 x (by decide) (by decide) (by decide) (by simp) (by simp)) (HI 24 x (by decide) (by decide) (by decide) (by simp) (by simp)) (HI 27 x (by decide) (by decide) (by decide) (by simp) (by simp)) (HI 29 x (by decide) (by decide) (by decide) (by simp) (by simp)) (fun b => by rw [HR _ (by omega)]) (fun b => by rw [HR _ (by omega)]) (fun a _ => by rw [HA]) HL (fun a _ _ => ⟨HI 896 a (by decide) (by decide) (by decide) (by simp) (by simp), HP 897 a (by decide)⟩)) ⟨KH, fun f => ⟨?_, ?_⟩, fun a _ _ => by rw [HA, HL]; exact ⟨rfl, rfl⟩, by rw [HN]; omega, by rw [HU]; omega, by rw [HU]; exact Nat.le_refl _⟩
  · refine ⟨by rw [H2, t12], by rw [H1, t12, t13]; exact (Int32.add_zero _).symm, fun k hk => ?_, fun j k hj hk he => c4 j k hj hk (by rw [← ca, ← ca]; exact he), fun k hk => ?_⟩
    · rw [ca, HR1]
      obtain ⟨q1, q2, q3, q4⟩ := c3 k hk
      exact ⟨q1, q2, q3, q4.of KH1⟩
    · rw [n12, n13] at hk
      rw [ca, HP192, H193, H194, t16, t17]
      by_cases ek : k = n
      · subst ek
        rw [if_pos hc, if_pos hc, if_pos hc, if_pos rfl, if_pos rfl]
        refine ⟨?_, rfl, rfl⟩
        congr 1
        rw [hdF_A, t14, t15, if_pos rfl, if_pos rfl, ← hA]
        unfold hdA
        rw [HR _ (by omega)]
      · have hne : ¬ caF x h1 k = c := fun e2 => ek (c4 k n (by omega) hn (e2.trans hc.symm))
        rw [if_neg hne, if_neg hne, if_neg hne, if_neg ek, if_neg ek]
        obtain ⟨q1, q2, q3⟩ := c5 k (by omega)
        refine ⟨?_, q2, q3⟩
        rw [q1]
        congr 1
        rw [hdF_A, hdF_A, t14, t15, if_neg ek, if_neg ek]
        unfold hdA
        rw [HR _ (by omega), xr _ (by omega)]
  · refine ⟨by rw [n12, n13]; omega, by rw [n12]; exact t12, by rw [n13]; exact t13, fun k hk => ?_⟩
    rw [n12, n13] at hk
    rw [t14, t15, t16, t17, enp, eb]
    by_cases ek : k = n
    · subst ek
      rw [if_pos rfl, if_pos rfl, if_pos rfl, if_pos rfl]
      rcases hl with ⟨e0, p, hp, ep, b1, b2⟩ | ⟨e1, z, hz, ez⟩
      · rcases hw with ⟨_, p', hp', ep', b1', b2'⟩ | ⟨e1, _⟩
        · have h12 := e.ppl.n
          have := (I_inj (by omega) (by omega)).1 (ep.symm.trans ep')
          subst this
          exact Or.inl ⟨e0, p, hp, ep, b1', b2', b1, b2⟩
        · rw [e0] at e1; exact absurd e1 (by decide)
      · exact Or.inr ⟨e1, z, hz, ez⟩
    · rw [if_neg ek, if_neg ek, if_neg ek, if_neg ek]; exact g4 k (by omega)
  · rcases Nat.lt_trichotomy 0 1 with _ | h | h
    · have hcn : ¬ x + 71 = c := by omega
      have hAn : ¬ x + 71 = A := fun e => d5 e.symm
      by_cases f3 : f = 193
      · subst f3; rw [H193, if_neg hcn]; exact xi _ _ (by simp)
      · by_cases f4 : f = 194
        · subst f4; rw [H194, if_neg hcn]; exact xi _ _ (by simp)
        · by_cases f6 : f = 256
          · subst f6; rw [H256, if_neg hAn]
          · exact HI f _ f3 f4 f6 (by rintro ⟨_, h⟩; omega) (by rintro ⟨_, h⟩; omega)
    · cases h
    · cases h
  · by_cases f2 : f = 192
    · subst f2
      have hcn : ¬ x + 71 = c := by omega
      rw [HP192, if_neg hcn, xp]
    · exact HP f _ f2
end

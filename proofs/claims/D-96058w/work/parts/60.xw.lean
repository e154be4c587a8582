/-! LAYER 3.20: the component's heap with its scratch rows laid over; what ties it to the model's state -/
set_option maxRecDepth 100000
def hs (x : Nat) (h : AH) (f k b : Nat → Int32) : AH := sAf (sAf (sAf h (x + 11) f) (x + 12) k) (x + 13) b
section
variable {G : GG} {x : Nat} {h : AH} {f k b : Nat → Int32}
theorem hs_I : aI (hs x h f k b) = aI h := rfl
theorem hs_P : aP (hs x h f k b) = aP h := rfl
theorem hs_R : aR (hs x h f k b) = aR h := rfl
theorem hs_L : aL (hs x h f k b) = aL h := rfl
theorem hs_N : aN (hs x h f k b) = aN h := rfl
theorem hs_A {a : Nat} (h1 : ¬ a = x + 11) (h2 : ¬ a = x + 12) (h3 : ¬ a = x + 13) : aA (hs x h f k b) a = aA h a := by
  simp [hs, sAf, aA, va_up, h1, h2, h3]
theorem hs_11 : aA (hs x h f k b) (x + 11) = f := by simp [hs, sAf, aA, va_up]
theorem hs_12 : aA (hs x h f k b) (x + 12) = k := by simp [hs, sAf, aA, va_up]
theorem hs_13 : aA (hs x h f k b) (x + 13) = b := by simp [hs, sAf, aA, va_up]
theorem hs_5 : aA (hs x h f k b) (x + 5) = aA h (x + 5) := hs_A (by omega) (by omega) (by omega)
theorem hs_7 : aA (hs x h f k b) (x + 7) = aA h (x + 7) := hs_A (by omega) (by omega) (by omega)
theorem hs_9 : aA (hs x h f k b) (x + 9) = aA h (x + 9) := hs_A (by omega) (by omega) (by omega)
theorem hs_14 : aA (hs x h f k b) (x + 14) = aA h (x + 14) := hs_A (by omega) (by omega) (by omega)
theorem sA_up {h : AH} {a i : Nat} {v : Int32} : sA h a i v = sAf h a (va_up (aA h a) i v) := by
  unfold sA sAf
  congr 4
  funext a' i'
  unfold up2 va_up
  by_cases e : a' = a
  · subst e; simp
  · simp [e]
theorem sAf_aA {h : AH} {a : Nat} {f : Nat → Int32} : aA (sAf h a f) a = f := by simp [sAf, aA, va_up]
theorem sAf_ne {h : AH} {a a' : Nat} {f : Nat → Int32} (e : ¬ a' = a) : aA (sAf h a f) a' = aA h a' := by simp [sAf, aA, va_up, e]
theorem sAf_sAf {h : AH} {a : Nat} {f g : Nat → Int32} : sAf (sAf h a f) a g = sAf h a g := by
  have e : va_up (va_up (aA h) a f) a g = va_up (aA h) a g := by
    funext a'
    unfold va_up
    by_cases e : a' = a
    · simp [e]
    · simp [e]
  show (aT h, aI h, aP h, va_up (va_up (aA h) a f) a g, aL h, aR h, aN h, aU h) = _
  rw [e]; rfl
theorem sAf_comm {h : AH} {a b : Nat} {f g : Nat → Int32} (e : ¬ a = b) : sAf (sAf h a f) b g = sAf (sAf h b g) a f := by
  have e : va_up (va_up (aA h) a f) b g = va_up (va_up (aA h) b g) a f := by
    funext a'
    unfold va_up
    by_cases e1 : a' = a
    · subst e1; simp [e]
    · simp [e1]
  show (aT h, aI h, aP h, va_up (va_up (aA h) a f) b g, aL h, aR h, aN h, aU h) = _
  rw [e]; rfl
theorem sA_13 {i : Nat} {v : Int32} : sA (hs x h f k b) (x + 13) i v = hs x h f k (va_up b i v) := by
  rw [sA_up, hs_13]; unfold hs; rw [sAf_sAf]
theorem sA_12 {i : Nat} {v : Int32} : sA (hs x h f k b) (x + 12) i v = hs x h f (va_up k i v) b := by
  rw [sA_up, hs_12]; unfold hs; rw [sAf_comm (a := x + 13) (b := x + 12) (by omega), sAf_sAf]
theorem sA_11 {i : Nat} {v : Int32} : sA (hs x h f k b) (x + 11) i v = hs x h (va_up f i v) k b := by
  rw [sA_up, hs_11]; unfold hs; rw [sAf_comm (a := x + 13) (b := x + 11) (by omega), sAf_comm (a := x + 12) (b := x + 11) (by omega), sAf_sAf]
theorem XB.hs (B : XB G x h) : XB G x (hs x h f k b) := B.Af.Af.Af

end
/-! ties -/
def CP (G : GG) (x : Nat) (S : MS) (h : AH) : Prop := aI h 8 x = S.1 1 0 ∧
  (∀ p, p < np S → ∃ a, aR h (x + 4) p = some a ∧ x + 103 ≤ a ∧ IsK G h a (6, 0) ∧ IsK G h (a + 1) (4, 0) ∧ aI h 384 a = S.1 2 p ∧ aP h 385 a = some (a + 1) ∧ aI h 256 (a + 1) = S.1 3 p ∧ aI h 386 a = S.1 4 p) ∧
  (∀ p q a b, p < q → q < np S → aR h (x + 4) p = some a → aR h (x + 4) q = some b → a + 1 < b) ∧
  ∀ k, k < np S → aA h (x + 5) k = I (ordF S k)
def byF (S : MS) (k : Nat) : Nat := (srt (S.1 8) (nm S)).getD k 0
def CM (G : GG) (x : Nat) (S : MS) (h : AH) : Prop := aI h 11 x = S.1 5 0 ∧
  (∀ k, k < nm S → ∃ a, aR h (x + 6) k = some a ∧ x + 103 ≤ a ∧ IsK G h a (7, 0) ∧ aI h 448 a = S.1 6 k ∧ aI h 449 a = S.1 7 k ∧ aI h 450 a = S.1 8 k) ∧
  ∀ k, k < nm S → aA h (x + 7) k = I (byF S k)
def CW (G : GG) (x : Nat) (S : MS) (h : AH) : Prop := aI h 13 x = S.1 9 0 ∧ ∀ n, n < 12 → aA h (x + 9) n = S.1 11 n ∧ aR h (x + 8) n = some (x + 59 + n) ∧ IsK G h (x + 59 + n) (4, 0) ∧ aI h 256 (x + 59 + n) = S.1 10 n
def SgB (v : Int32) : Prop := isMul v = true ∨ isAdd v = true ∨ isCmp v = true ∨ isAnd v = true ∨ isOr v = true
/-- a term's object, no deeper than n, and its program -/
def TmAt (G : GG) (x : Nat) (h : AH) : Nat → Nat → List Stq → Prop
  | 0, _, _ => False
  | n + 1, a, P => x + 103 ≤ a ∧ ((IsK G h a (10, 0) ∧ P = [(1, aI h 640 a)]) ∨ (IsK G h a (11, 0) ∧ aP h 705 a = some x ∧ (∃ j, j < 6 ∧ aI h 704 a = I j) ∧ P = [(2, aI h 704 a)]) ∨ (IsK G h a (12, 0) ∧ ∃ b q, aP h 769 a = some b ∧ TmAt G x h n b q ∧ ((aI h 768 a = 33 ∧ P = q ++ [(3, 0)]) ∨ (¬ aI h 768 a = 33 ∧ P = q ++ [(4, 0)]))) ∨ (IsK G h a (13, 0) ∧ ∃ b c q r, aP h 833 a = some b ∧ aP h 834 a = some c ∧ TmAt G x h n b q ∧ TmAt G x h n c r ∧ SgB (aI h 832 a) ∧ P = q ++ r ++ [(aI h 832 a, 0)]))
def LnO (G : GG) (x : Nat) (h : AH) (D : Nat) : List (List Stq × List Stq) → Option Nat → Prop
  | [], v => v = none
  | q :: r, v => ∃ a, v = some a ∧ x + 103 ≤ a ∧ IsK G h a (8, 0) ∧ ((q.1 = [] ∧ aP h 512 a = none) ∨ (¬ q.1 = [] ∧ ∃ b, aP h 512 a = some b ∧ TmAt G x h D b q.1)) ∧ (∃ c, aP h 513 a = some c ∧ TmAt G x h D c q.2) ∧ LnO G x h D r (aP h 514 a)
def CL (G : GG) (x : Nat) (L : Lw) (h : AH) : Prop := match L with
  | none => aP h 19 x = none
  | some ls => ¬ ls = [] ∧ LnO G x h 130 ls (aP h 19 x)
/-- all that asking needs -/
def EW (G : GG) (x : Nat) (S : MS) (L : Lw) (h : AH) : Prop := XB G x h ∧ CP G x S h ∧ CM G x S h ∧ CW G x S h ∧ CL G x L h ∧ Ppl S ∧ Mtg S ∧ Fam S
section
variable {G : GG} {x : Nat} {h : AH} {S : MS} {L : Lw} {f k b : Nat → Int32}
theorem EW.xb (W : EW G x S L h) : XB G x h := W.1
theorem EW.cp (W : EW G x S L h) : CP G x S h := W.2.1
theorem EW.cm (W : EW G x S L h) : CM G x S h := W.2.2.1
theorem EW.cw (W : EW G x S L h) : CW G x S h := W.2.2.2.1
theorem EW.cl (W : EW G x S L h) : CL G x L h := W.2.2.2.2.1
theorem EW.ppl (W : EW G x S L h) : Ppl S := W.2.2.2.2.2.1
theorem EW.mtg (W : EW G x S L h) : Mtg S := W.2.2.2.2.2.2.1
theorem EW.fam (W : EW G x S L h) : Fam S := W.2.2.2.2.2.2.2
theorem EW.h8 (W : EW G x S L h) : aI h 8 x = S.1 1 0 := W.cp.1
end
/-! values -/
theorem div_n1 (a : Int32) : a / -1 = -a := by
  apply Int32.toInt_inj.1
  have : (-1 : Int32).toInt = -1 := rfl
  rw [Int32.toInt_div, this, Int.tdiv_neg, Int.tdiv_one, Int32.toInt_neg]
theorem mod_n1 (a : Int32) : a - a / -1 * -1 = 0 := by
  rw [div_n1, Int32.neg_mul_neg, Int32.mul_one, Int32.sub_self]
theorem qbx {Q : Outcome → AH → Prop} {s : AH} {b b' : Bool} (h : Q (.returned (some (.int (bi b)))) s) (e : b = b') : Q (.returned (some (.int (bi b')))) s := e ▸ h
theorem qix {Q : Outcome → AH → Prop} {s : AH} {b b' : Int32} (h : Q (.returned (some (.int b))) s) (e : b = b') : Q (.returned (some (.int b'))) s := e ▸ h
section
variable {G : GG} {x : Nat} {h : AH} {S : MS} {L : Lw} {f k b : Nat → Int32} {Q : Outcome → AH → Prop}
theorem X_bit {h : AH} (B : XB G x h) {v : Bool} (hQ : Q (.returned (some (.int (bi v)))) h) : Run G mX0_bit 1 0 [(0, .int (bi v))] [] h Q := by
  apply sX0_bit_0 B
  refine ⟨fun c => ?_, fun c => ?_⟩ <;> (subst c; exact hQ)
theorem X_value (B : XB G x h) : ∀ (n a : Nat) (P : List Stq), TmAt G x h n a P → ∀ d, 20 + n ≤ d → ∀ (Q : Outcome → AH → Prop), (∀ v, (∀ s, ev f P s = v :: s) → Q (.returned (some (.int v))) (hs x h f k b)) → CV_value G d (hs x h f k b) a Q := by
  intro n
  induction n with
  | zero => intro a P h; exact absurd h (fun x => x)
  | succ n ih =>
    intro a P hT d hd Q hQ
    have B' : XB G x (hs x h f k b) := B.hs
    rcases hT.2 with ⟨hk, e⟩ | ⟨hk, hx, ⟨j, hj, ej⟩, e⟩ | ⟨hk, b1, q, h1, h2, h3⟩ | ⟨hk, b1, c1, q, r, h1, h2, h3, h4, hsg, e⟩
    · refine Or.inl ⟨hk, sX10_value_0 (d' := d - 1) (by omega) (by omega) B' ⟨hk, hQ _ (fun s => ?_)⟩⟩
      rw [e]; rfl
    · refine Or.inr (Or.inl ⟨hk, sX11_value_0 (d' := d - 1) (by omega) (by omega) B' ⟨hk, hx, ?_, hQ _ (fun s => ?_)⟩⟩)
      · show vp_in (aI h 704 a) 6
        rw [ej]; exact vp_I hj (by omega)
      · rw [e, hs_11]; rfl
    · refine Or.inr (Or.inr (Or.inl ⟨hk, sX12_value_0 (d' := d - 1) (by omega) (by omega) B' ⟨hk, fun c => ⟨b1, h1, ?_⟩, fun c => ⟨b1, h1, ?_⟩⟩⟩))
      · have c : ¬ aI h 768 a = 33 := c
        have e := (h3.resolve_left (fun x => c x.1)).2
        refine ih b1 q h2 (d - 1) (by omega) _ (fun v hv => ⟨v, rfl, B', hQ _ (fun s => ?_)⟩)
        rw [e, ev_app, hv]; rfl
      · have c : aI h 768 a = 33 := c
        have e := (h3.resolve_right (fun x => x.1 c)).2
        refine ih b1 q h2 (d - 1) (by omega) _ (fun v hv => ⟨v, rfl, B', fun c2 => ?_, fun c2 => ?_⟩)
        · refine X_bit B' ⟨_, rfl, B', qix (hQ 0 (fun s => ?_)) rfl⟩
          rw [e, ev_app, hv]; simp [ev, ev1, c2]
        · refine X_bit B' ⟨_, rfl, B', qix (hQ 1 (fun s => ?_)) rfl⟩
          rw [e, ev_app, hv]; simp [ev, ev1, c2]
    · refine Or.inr (Or.inr (Or.inr ⟨hk, sX13_value_0 (d' := d - 1) (by omega) (by omega) B' ⟨hk, b1, h1, ?_⟩⟩))
      refine ih b1 q h3 (d - 1) (by omega) _ (fun v hv => ⟨v, rfl, B', hk, c1, h2, ?_⟩)
      refine ih c1 r h4 (d - 1) (by omega) _ (fun u hu => ⟨u, rfl, B', hk, ?_⟩)
      have ns : ¬ aI h 832 a = 1 ∧ ¬ aI h 832 a = 2 ∧ ¬ aI h 832 a = 3 ∧ ¬ aI h 832 a = 4 := by
        rcases hsg with g | g | g | g | g
        · obtain ⟨_, a, b, c, d, _⟩ := sgMul _ g; exact ⟨a, b, c, d⟩
        · obtain ⟨_, a, b, c, d, _⟩ := sgAdd _ g; exact ⟨a, b, c, d⟩
        · obtain ⟨_, a, b, c, d, _⟩ := sgCmp _ g; exact ⟨a, b, c, d⟩
        · obtain ⟨_, a, b, c, d, _⟩ := sgAnd _ g; exact ⟨a, b, c, d⟩
        · obtain ⟨_, a, b, c, d, _⟩ := sgOr _ g; exact ⟨a, b, c, d⟩
      have fin : ∀ w, w = two (aI h 832 a) v u → Q (.returned (some (.int w))) (hs x h f k b) := by
        intro w hw
        refine hQ w (fun s => ?_)
        rw [e, ev_app, ev_app, hv, hu, hw]
        simp [ev, ev1, ns.1, ns.2.1, ns.2.2.1, ns.2.2.2]
      have fb : ∀ w : Bool, bi w = two (aI h 832 a) v u → Run G mX0_bit 1 0 [(0, .int (bi w))] [] (hs x h f k b) (fun o h13 => ∃ r14 : Int32, o = .returned (some (.int r14)) ∧ XB G x h13 ∧ (Q (.returned (some (.int r14))) h13)) := fun w hw => X_bit B' ⟨_, rfl, B', fin _ hw⟩
      simp only [hs_I]
      refine ⟨fun c0 => ⟨fun c => fb _ ?_, fun c => ⟨fun c2 => fb _ ?_, fun c2 => fb _ ?_⟩⟩, fun c0 => ⟨fun c1 => fin _ ?_, fun c1 => ⟨fun c2 => fin _ ?_, fun c2 => ⟨fun c3 => fin _ ?_, fun c3 => ⟨fun c4 => ⟨fun c => ⟨c, fin _ ?_⟩, fun c => fin _ ?_⟩, fun c4 => ⟨fun c5 => ⟨fun c => fb _ ?_, fun c => fb _ ?_⟩, fun c5 => ⟨fun c6 => ⟨fun c => fb _ ?_, fun c => fb _ ?_⟩, fun c6 => ⟨fun c7 => ⟨fun c => fb _ ?_, fun c => fb _ ?_⟩, fun c7 => ⟨fun c8 => ⟨fun c => fb _ ?_, fun c => ⟨fun c9 => fb _ ?_, fun c9 => fb _ ?_⟩⟩, fun c8 => ⟨fun c => ⟨c, fin _ ?_⟩, fun c => fin _ ?_⟩⟩⟩⟩⟩⟩⟩⟩⟩⟩
      · rw [c0]; simp [two, c, bi]
      · rw [c0]; simp [two, c, c2, bi]
      · rw [c0]; simp [two, c, c2, bi]
      · rw [c1]; simp [two]
      · rw [c2]; simp [two]
      · rw [c3]; simp [two]
      · rw [c4]
        by_cases c9 : u = -1
        · subst c9; simp [two]; exact div_n1 v
        · simp [two, c, c9]
      · rw [c4]; simp [two, c]
      · rw [c5]; simp [two, c, bi]
      · rw [c5]; simp [two, c, bi]
      · rw [c6]; simp [two, c, bi]
      · rw [c6]; simp [two, c, bi]
      · rw [c7]; simp [two, c, bi]
      · rw [c7]; simp [two, c, bi]
      · rw [c8]; simp [two, c, bi]
      · rw [c8]; simp [two, c, c9, bi]
      · rw [c8]; simp [two, c, c9, bi]
      · have c37 : aI h 832 a = 37 := by
          rcases hsg with g | g | g | g | g
          · simp only [isMul, Bool.or_eq_true, decide_eq_true_eq] at g
            rcases g with (g | g) | g
            · exact absurd g c1
            · exact absurd g c4
            · exact g
          · simp only [isAdd, Bool.or_eq_true, decide_eq_true_eq] at g
            rcases g with g | g
            · exact absurd g c2
            · exact absurd g c3
          · simp only [isCmp, Bool.or_eq_true, decide_eq_true_eq] at g
            rcases g with (g | g) | g
            · exact absurd g c5
            · exact absurd g c6
            · exact absurd g c7
          · simp only [isAnd, decide_eq_true_eq] at g; exact absurd g c0
          · simp only [isOr, decide_eq_true_eq] at g; exact absurd g c8
        rw [c37]
        by_cases c9 : u = -1
        · subst c9; simp [two]; exact mod_n1 v
        · simp [two, c, c9]
      · have c37 : aI h 832 a = 37 := by
          rcases hsg with g | g | g | g | g
          · simp only [isMul, Bool.or_eq_true, decide_eq_true_eq] at g
            rcases g with (g | g) | g
            · exact absurd g c1
            · exact absurd g c4
            · exact g
          · simp only [isAdd, Bool.or_eq_true, decide_eq_true_eq] at g
            rcases g with g | g
            · exact absurd g c2
            · exact absurd g c3
          · simp only [isCmp, Bool.or_eq_true, decide_eq_true_eq] at g
            rcases g with (g | g) | g
            · exact absurd g c5
            · exact absurd g c6
            · exact absurd g c7
          · simp only [isAnd, decide_eq_true_eq] at g; exact absurd g c0
          · simp only [isOr, decide_eq_true_eq] at g; exact absurd g c8
        rw [c37]; simp [two, c]
end

/-! LAYER 3.21: the component: small methods, who knows whom, who holds a name -/
set_option maxRecDepth 100000
def wiF (a b c : Int64) : Bool := decide (b.toInt ≤ a.toInt) && decide (a.toInt ≤ c.toInt)
theorem wi_in {v l u : Int32} {l' u' : Int64} (h1 : l'.toInt = l.toInt) (h2 : u'.toInt = u.toInt) : wiF v.toInt64 l' u' = inF v l u := by
  rw [Bool.eq_iff_iff, inF_iff]
  unfold wiF
  rw [i64, h1, h2]; simp
section
variable {G : GG} {x : Nat} {h : AH} {S : MS} {L : Lw} {f k b : Nat → Int32} {Q : Outcome → AH → Prop}
theorem X_within (B : XB G x h) {u v w : Int64} (hQ : Q (.returned (some (.int (bi (wiF u v w))))) h) : Run G mX0_within 1 0 [(0, .long u), (2, .long v), (4, .long w)] [] h Q := by
  apply sX0_within_0 B
  rw [lg_lt, lg_gt]
  refine ⟨fun c => qbx hQ ?_, fun c => ⟨fun c2 => qbx hQ ?_, fun c2 => qbx hQ ?_⟩⟩ <;> simp [wiF] <;> omega
theorem X_wi (B : XB G x h) {v l u : Int32} {l' u' : Int64} (h1 : l'.toInt = l.toInt) (h2 : u'.toInt = u.toInt) (hQ : Q (.returned (some (.int (bi (inF v l u))))) h) : Run G mX0_within 1 0 [(0, .long v.toInt64), (2, .long l'), (4, .long u')] [] h Q :=
  X_within B (qbx hQ (wi_in h1 h2).symm)
theorem X_isPerson (B : XB G x h) {a : Int32} (hQ : Q (.returned (some (.int (bi (inF a 0 (aI h 8 x - 1)))))) h) : Run G mX0_isPerson 2 0 [(0, .ref x), (1, .int a)] [] h Q :=
  sX0_isPerson_0 B (X_wi B rfl i64 ⟨_, rfl, B, hQ⟩)
theorem X_isMeeting (B : XB G x h) {a : Int32} (hQ : Q (.returned (some (.int (bi (inF a 0 (aI h 11 x - 1)))))) h) : Run G mX0_isMeeting 2 0 [(0, .ref x), (1, .int a)] [] h Q :=
  sX0_isMeeting_0 B (X_wi B rfl i64 ⟨_, rfl, B, hQ⟩)
theorem X_isBody (B : XB G x h) {a : Int32} (hQ : Q (.returned (some (.int (bi (inF a 0 (aI h 27 x - 1)))))) h) : Run G mX0_isBody 2 0 [(0, .ref x), (1, .int a)] [] h Q :=
  sX0_isBody_0 B (X_wi B rfl i64 ⟨_, rfl, B, hQ⟩)
theorem X_isName (B : XB G x h) {a : Int32} (hQ : Q (.returned (some (.int (bi (inF a 0 11))))) h) : Run G mX0_isName 2 0 [(0, .int a)] [] h Q :=
  sX0_isName_0 B (X_wi B rfl rfl ⟨_, rfl, B, hQ⟩)
theorem X_isYear (B : XB G x h) {a : Int32} (hQ : Q (.returned (some (.int (bi (inF a 0 99))))) h) : Run G mX0_isYear 2 0 [(0, .int a)] [] h Q :=
  sX0_isYear_0 B (X_wi B rfl rfl ⟨_, rfl, B, hQ⟩)
theorem X_isShelf (B : XB G x h) {a : Int32} (hQ : Q (.returned (some (.int (bi (inF a 0 5))))) h) : Run G mX0_isShelf 2 0 [(0, .int a)] [] h Q :=
  sX0_isShelf_0 B (X_wi B rfl rfl ⟨_, rfl, B, hQ⟩)
theorem X_isWay (B : XB G x h) {a : Int32} (hQ : Q (.returned (some (.int (bi (inF a 0 2))))) h) : Run G mX0_isWay 2 0 [(0, .int a)] [] h Q :=
  sX0_isWay_0 B (X_wi B rfl rfl ⟨_, rfl, B, hQ⟩)
theorem X_mayLive (B : XB G x h) {a d : Int32} (hQ : Q (.returned (some (.int (bi (inF a 0 99 && inF d (a + 1) 100))))) h) : Run G mX0_mayLive 3 0 [(0, .int a), (1, .int d)] [] h Q := by
  apply sX0_mayLive_0 B
  refine X_isYear B ⟨_, rfl, B, fun c => qbx hQ (by simp [c]), fun c => X_wi (u := 100) B i64 rfl ⟨_, rfl, B, fun c2 => qbx hQ (by simp [c, c2]), fun c2 => qbx hQ (by simp [c, c2])⟩⟩
theorem X_isIn (B : XB G x h) {s : Int32} {i : Nat} (hi : i < 32) (hQ : Q (.returned (some (.int (bi (tb s i))))) h) : Run G mX0_isIn 1 0 [(0, .int s), (1, .int (I i))] [] h Q := by
  apply sX0_isIn_0 B
  rw [sh_bit hi]
  exact ⟨fun c => qbx hQ (by simpa using c), fun c => qbx hQ c⟩
theorem X_ones (B : XB G x h) {a : Int32} (hQ : Q (.returned (some (.int (I (ones a))))) h) : Run G mX0_ones 1 0 [(0, .int a)] [] h Q := by
  apply sX0_ones_0 B
  intro _
  have : ∀ N (y n : Int32), y.toBitVec.toNat < N → n + I (ones y) = I (ones a) → Run G mX0_ones 1 4 [(1, .int n), (2, .int y)] [] h Q := by
    intro N
    induction N with
    | zero => intro x n h; omega
    | succ N ih =>
      intro y n hx e
      apply sX0_ones_4 B
      refine ⟨fun c => ?_, fun c _ => ?_⟩
      · subst c
        rw [ones_zero] at e
        refine qix hQ ?_
        rw [← e]; exact Int32.add_zero n
      · refine ih _ _ (by have := clr_lt c; omega) ?_
        rw [← e, ones_clr c, ← I_succ, Int32.add_assoc, Int32.add_comm 1]
  exact this _ a 0 (Nat.lt_succ_self _) (Int32.zero_add _)
theorem X_lives (W : EW G x S L h) {p a : Nat} {y : Int32} (hp : p < np S) (ha : aR h (x + 4) p = some a) (hQ : Q (.returned (some (.int (bi (lvF S (I p) y))))) (hs x h f k b)) : Run G mX6_lives 1 0 [(0, .ref a), (1, .int y)] [] (hs x h f k b) Q := by
  have h12 := W.ppl.n
  obtain ⟨a', e, _, k1, k2, e1, e2, e3, e4⟩ := W.cp.2.1 p hp
  cases ha.symm.trans e
  apply sX6_lives_0 W.xb.hs
  unfold lvF at hQ
  rw [I_nat (by omega), ← e1, ← e3] at hQ
  refine ⟨k1, fun c => ?_, fun c => ⟨a + 1, e2, k2, fun c2 => ?_, fun c2 => ?_⟩⟩
  · have c : y < aI h 384 a := c
    rw [if_pos c] at hQ; exact hQ
  · have c : ¬ y < aI h 384 a := c
    have c2 : aI h 256 (a + 1) ≤ y := c2
    rw [if_neg c, if_pos c2] at hQ; exact hQ
  · have c : ¬ y < aI h 384 a := c
    have c2 : ¬ aI h 256 (a + 1) ≤ y := c2
    rw [if_neg c, if_neg c2] at hQ; exact hQ
theorem EW.per (W : EW G x S L h) {p : Nat} (hp : p < np S) : ∃ a, aR h (x + 4) p = some a ∧ IsK G h a (6, 0) ∧ IsK G h (a + 1) (4, 0) ∧ aI h 384 a = S.1 2 p ∧ aP h 385 a = some (a + 1) ∧ aI h 256 (a + 1) = S.1 3 p ∧ aI h 386 a = S.1 4 p := by
  obtain ⟨a, e, _, k⟩ := W.cp.2.1 p hp
  exact ⟨a, e, k⟩
theorem X_doLive (W : EW G x S L h) {p q : Nat} {y : Int32} (hp : p < np S) (hq : q < np S) (hQ : Q (.returned (some (.int (bi (lvF S (I p) y && lvF S (I q) y))))) (hs x h f k b)) : Run G mX0_doLive 2 0 [(0, .ref x), (1, .int (I p)), (2, .int (I q)), (3, .int y)] [] (hs x h f k b) Q := by
  have h12 := W.ppl.n
  obtain ⟨a, e, k1, -⟩ := W.per hp
  obtain ⟨a2, e2, k2, -⟩ := W.per hq
  have B := W.xb.hs (f := f) (k := k) (b := b)
  apply sX0_doLive_0 B
  rw [I_nat (by omega), I_nat (by omega)]
  refine ⟨vp_I (by omega) (by omega), a, e, k1, ?_⟩
  refine X_lives W hp e ⟨_, rfl, B, fun c => qbx hQ (by simp [c]), fun c => ⟨vp_I (by omega) (by omega), a2, e2, k2, ?_⟩⟩
  exact X_lives W hq e2 ⟨_, rfl, B, fun c2 => qbx hQ (by simp [c2]), fun c2 => qbx hQ (by simp [c, c2])⟩
theorem X_doesCount (W : EW G x S L h) {q : Nat} (hq : q < nm S) (hQ : Q (.returned (some (.int (bi (ctF S (I q)))))) (hs x h f k b)) : Run G mX0_doesCount 3 0 [(0, .ref x), (1, .int (I q))] [] (hs x h f k b) Q := by
  have h16 := W.mtg.n
  obtain ⟨a, e, _, k1, e1, e2, e3⟩ := W.cm.2.1 q hq
  obtain ⟨u, v, eu, ev, lu, lv, _⟩ := W.mtg.2.2 q hq
  have B := W.xb.hs (f := f) (k := k) (b := b)
  have v16 : vp_in (I q) 16 := vp_I (by omega) (by omega)
  apply sX0_doesCount_0 B
  rw [I_nat (by omega)]
  refine ⟨v16, a, e, k1, v16, a, e, k1, v16, a, e, k1, ?_⟩
  simp only [hs_I]
  rw [e1, e2, e3, eu, ev]
  refine X_doLive W lu lv ⟨_, rfl, B, qbx hQ ?_⟩
  unfold ctF
  rw [I_nat (by omega), eu, ev]
theorem X_ruled {ls : List (List Stq × List Stq)} (W : EW G x S (some ls) h) (hQ : Q (.returned (some (.int (bi (!(decide (lwF f ls = 0))))))) (hs x h f k b)) : Run G mX0_ruled 300 0 [(0, .ref x)] [] (hs x h f k b) Q := by
  have B := W.xb.hs (f := f) (k := k) (b := b)
  have B0 := W.xb
  obtain ⟨hne, hL⟩ : ¬ ls = [] ∧ LnO G x h 130 ls (aP h 19 x) := W.cl
  apply sX0_ruled_0 B
  intro _
  have key : ∀ (r : List (List Stq × List Stq)) (v : Option Nat), LnO G x h 130 r v → lwF f r = lwF f ls → Run G mX0_ruled 300 5 [(1, va_rf v)] [] (hs x h f k b) Q := by
    intro r
    induction r with
    | nil =>
      intro v hv e
      apply sX0_ruled_5 B
      refine ⟨fun _ => qbx hQ ?_, fun c => ?_⟩
      · rw [← e]; simp [lwF]
      · rw [show v = none from hv] at c; cases c
    | cons q r ih =>
      intro v hv e
      obtain ⟨a, rfl, _, ka, h1, ⟨c, hc1, hc2⟩, hr⟩ := hv
      have fin : lwF f ls = pv f q.2 → ∀ (h' : AH), h' = hs x h f k b → ∃ q11 : Nat, aP h' 513 a = some q11 ∧ (CV_value G 298 h' q11 (fun o h13 => ∃ r14 : Int32, o = .returned (some (.int r14)) ∧ XB G x h13 ∧ ((r14 = 0 → (Q (.returned (some (.int (bi false)))) h13)) ∧ (¬ r14 = 0 → (Q (.returned (some (.int (bi true)))) h13))))) := by
        intro e2 h' eh
        subst eh
        refine ⟨c, hc1, X_value B0 130 c q.2 hc2 298 (by omega) _ (fun v hv => ⟨v, rfl, B, fun c => qbx hQ ?_, fun c => qbx hQ ?_⟩)⟩
        · rw [e2]; unfold pv; rw [hv]; simp [c]
        · rw [e2]; unfold pv; rw [hv]; simp [c]
      apply sX0_ruled_5 B
      refine ⟨fun c => absurd c (by simp), fun _ => ⟨a, rfl, ka, fun c1 => ⟨a, rfl, ka, fin ?_ _ rfl⟩, fun c1 => ⟨a, rfl, ka, ?_⟩⟩⟩
      · rcases h1 with ⟨h1, _⟩ | ⟨_, b1, h1, _⟩
        · rw [← e]; simp [lwF, h1]
        · have c1 : aP h 512 a = none := c1
          rw [h1] at c1; cases c1
      · rcases h1 with ⟨_, h1⟩ | ⟨hne2, b1, h1, h2⟩
        · have c1 : (aP h 512 a).isSome = true := c1
          rw [h1] at c1; cases c1
        · refine ⟨b1, h1, X_value B0 130 b1 q.1 h2 298 (by omega) _ (fun v hv => ⟨v, rfl, B, fun c => ⟨a, rfl, ka, fin ?_ _ rfl⟩, fun c => ⟨a, rfl, ka, fun _ => ih _ hr ?_⟩⟩)⟩
          · rw [← e]
            have : ¬ pv f q.1 = 0 := by unfold pv; rw [hv]; simpa using c
            simp [lwF, this]
          · rw [← e]
            have : pv f q.1 = 0 := by unfold pv; rw [hv]; simpa using c
            simp [lwF, this, hne2]
  exact key ls _ hL rfl
end
/-- programs that ask for no more than six facts -/
theorem tm_dep {G : GG} {x : Nat} {h : AH} : ∀ {n a : Nat} {P : List Stq}, TmAt G x h n a P → GoodP P := by
  intro n
  induction n with
  | zero => intro a P h; exact absurd h (fun x => x)
  | succ n ih =>
    intro a P hT
    rcases hT.2 with ⟨hk, e⟩ | ⟨hk, hx, ⟨j, hj, ej⟩, e⟩ | ⟨hk, b1, q, h1, h2, h3⟩ | ⟨hk, b1, c1, q, r, h1, h2, h3, h4, hsg, e⟩
    · rw [e]; exact ⟨fun d => by simp [dep], fun s hs => by simp only [List.mem_singleton] at hs; subst hs; simp⟩
    · rw [e, ej]
      have h6 : ∀ j : Fin 6, dep.vp_inb (I j.val) = true := by decide +kernel
      exact ⟨fun d => by simp [dep, h6 ⟨j, hj⟩], fun s hs => by simp only [List.mem_singleton] at hs; subst hs; simp⟩
    · rcases h3 with ⟨_, e⟩ | ⟨_, e⟩
      · rw [e]; exact (ih h2).one (Or.inl rfl)
      · rw [e]; exact (ih h2).one (Or.inr rfl)
    · rw [e]
      rcases hsg with g | g | g | g | g
      · obtain ⟨_, a, b, c, d, e⟩ := sgMul _ g; exact (ih h3).two (ih h4) a b c d e
      · obtain ⟨_, a, b, c, d, e⟩ := sgAdd _ g; exact (ih h3).two (ih h4) a b c d e
      · obtain ⟨_, a, b, c, d, e⟩ := sgCmp _ g; exact (ih h3).two (ih h4) a b c d e
      · obtain ⟨_, a, b, c, d, e⟩ := sgAnd _ g; exact (ih h3).two (ih h4) a b c d e
      · obtain ⟨_, a, b, c, d, e⟩ := sgOr _ g; exact (ih h3).two (ih h4) a b c d e
theorem lw_cong {G : GG} {x : Nat} {h : AH} {F F' : Nat → Int32} (hF : ∀ j, j < 6 → F j = F' j) : ∀ {ls : List (List Stq × List Stq)} {v : Option Nat} {D : Nat}, LnO G x h D ls v → lwF F ls = lwF F' ls := by
  intro ls
  induction ls with
  | nil => intros; rfl
  | cons q r ih =>
    intro v D hv
    obtain ⟨a, _, _, ka, h1, ⟨c, hc1, hc2⟩, hr⟩ := hv
    unfold lwF
    have e2 : pv F q.2 = pv F' q.2 := by unfold pv; rw [ev_congr hF ((tm_dep hc2).1 0)]
    rw [e2, ih hr]
    rcases h1 with ⟨h1, _⟩ | ⟨_, b1, _, h2⟩
    · simp [h1]
    · have e1 : pv F q.1 = pv F' q.1 := by unfold pv; rw [ev_congr hF ((tm_dep h2).1 0)]
      rw [e1]
section
variable {G : GG} {x : Nat} {h : AH} {S : MS} {L : Lw} {f k b : Nat → Int32} {Q : Outcome → AH → Prop}
theorem X_holdsFor (W : EW G x S L h) {p q n : Nat} {y : Int32} (hp : p < np S) (hq : q < np S) (hn : n < 12) (hy : inF y 0 99 = true) (hQ : ∀ f', Q (.returned (some (.int (bi (hfF S L (I p) (I q) (I n) y))))) (hs x h f' k b)) : Run G mX0_holdsFor 301 0 [(0, .ref x), (1, .int (I p)), (2, .int (I q)), (3, .int (I n)), (4, .int y)] [] (hs x h f k b) Q := by
  have h12 := W.ppl.n
  obtain ⟨a, e, k1, -, eb, -⟩ := W.per hp
  obtain ⟨a2, e2, k2, k3, -, ed, ev, -⟩ := W.per hq
  have bd := W.ppl.2.2 q hq
  obtain ⟨w1, w2, w3, w4⟩ := W.cw.2 n hn
  have B := fun f' => W.xb.hs (f := f') (k := k) (b := b)
  have v0 : vp_in 0 6 := vp_I (i := 0) (by omega) (by omega)
  have v1 : vp_in 1 6 := vp_I (i := 1) (by omega) (by omega)
  have v2 : vp_in 2 6 := vp_I (i := 2) (by omega) (by omega)
  have v3 : vp_in 3 6 := vp_I (i := 3) (by omega) (by omega)
  have v4 : vp_in 4 6 := vp_I (i := 4) (by omega) (by omega)
  have v5 : vp_in 5 6 := vp_I (i := 5) (by omega) (by omega)
  have vp : vp_in (I p) 12 := vp_I (by omega) (by omega)
  have vq : vp_in (I q) 12 := vp_I (by omega) (by omega)
  have vn : vp_in (I n) 12 := vp_I (by omega) (by omega)
  apply sX0_holdsFor_0 (B f)
  simp only [sA_11, hs_I, hs_P, hs_R, hs_9]
  rw [I_nat (show p ≤ 100000 by omega), I_nat (show q ≤ 100000 by omega), I_nat (show n ≤ 100000 by omega)]
  refine ⟨vp, a, e, k1, fun c => ?_, fun c => ?_⟩
  · have hL : L = none := by
      cases L with
      | none => rfl
      | some ls =>
        obtain ⟨hne, hl⟩ : ¬ ls = [] ∧ LnO G x h 130 ls (aP h 19 x) := W.cl
        rw [c] at hl
        cases ls with
        | nil => exact absurd rfl hne
        | cons q r => obtain ⟨a, h1, _⟩ := hl; cases h1
    subst hL
    rw [eb]
    unfold hfF at hQ
    rw [I_nat (by omega)] at hQ
    refine ⟨fun c2 => ?_, fun c2 => ⟨fun c3 => ?_, fun c3 => ?_⟩⟩
    · rw [if_pos c2] at hQ; exact hQ f
    · rw [if_neg c2, if_neg c3] at hQ; exact hQ f
    · rw [if_neg c2, if_pos c3] at hQ; exact hQ f
  · obtain ⟨ls, hL⟩ : ∃ ls, L = some ls := by
      cases L with
      | none => have : aP h 19 x = none := W.cl; rw [this] at c; cases c
      | some ls => exact ⟨ls, rfl⟩
    subst hL
    obtain ⟨hne, hl⟩ : ¬ ls = [] ∧ LnO G x h 130 ls (aP h 19 x) := W.cl
    rw [inF_iff] at hy
    have y0 : (0 : Int32).toInt = 0 := rfl
    have y1 : (99 : Int32).toInt = 99 := rfl
    have mx : (if 0 < y - S.1 3 q then y - S.1 3 q else 0) = (if y ≤ S.1 3 q then 0 else y - S.1 3 q) := by
      have es : (y - S.1 3 q).toInt = y.toInt - (S.1 3 q).toInt := by
        rw [Int32.toInt_sub, Int.bmod_eq_of_le] <;> omega
      by_cases c : y ≤ S.1 3 q
      · rw [if_pos c, if_neg]; rw [lt_I, es]; rw [le_I] at c; omega
      · rw [if_neg c, if_pos]; rw [lt_I, es]; rw [le_I] at c; omega
    have rule : ∀ r : Int32, r = (if I p = I q then 1 else 0) → ∀ f', f' = va_up (va_up (va_up (va_up (va_up (va_up f (0 : Int32).toNatClampNeg (y - S.1 2 p)) (1 : Int32).toNatClampNeg (if 0 < y - S.1 3 q then y - S.1 3 q else 0)) (2 : Int32).toNatClampNeg (S.1 11 n)) (3 : Int32).toNatClampNeg (S.1 10 n)) (4 : Int32).toNatClampNeg r) (5 : Int32).toNatClampNeg (I n) → Run G mX0_ruled 300 0 [(0, .ref x)] [] (hs x h f' k b) (fun o h20 => ∃ b21 : Bool, o = .returned (some (.int (bi b21))) ∧ XB G x h20 ∧ (Q (.returned (some (.int (bi b21)))) h20)) := by
      intro r hr f' hf
      refine X_ruled W ⟨_, rfl, B f', ?_⟩
      have el : lwF f' ls = lwF (ftF S (I p) (I q) (I n) y) ls := by
        refine lw_cong (fun j hj => ?_) hl
        rw [hf, mx]
        unfold ftF
        rw [I_nat (show p ≤ 100000 by omega), I_nat (show q ≤ 100000 by omega), I_nat (show n ≤ 100000 by omega)]
        match j, hj with
        | 0, _ => rfl
        | 1, _ => rfl
        | 2, _ => rfl
        | 3, _ => rfl
        | 4, _ => exact hr
        | 5, _ => rfl
      refine qbx (hQ f') ?_
      unfold hfF
      rw [el]
      by_cases c : lwF (ftF S (I p) (I q) (I n) y) ls = 0 <;> simp [c]
    rw [eb]
    refine ⟨v0, vq, a2, e2, k2, a2 + 1, ed, k3, v1, vn, v2, vn, x + 59 + n, w2, w3, v3, ?_⟩
    rw [ev, w1, w4]
    refine ⟨fun c2 => ?_, fun c2 => ?_⟩
    · refine X_bit (B _) ⟨_, rfl, B _, v4, v5, ?_⟩
      simp only [sA_11]
      exact rule 0 (by rw [if_neg c2]) _ rfl
    · refine X_bit (B _) ⟨_, rfl, B _, v4, v5, ?_⟩
      simp only [sA_11]
      exact rule 1 (by rw [if_pos c2]) _ rfl
end

/-! LAYER 3.4: the model's law: programs on the pile -/
set_option maxRecDepth 100000
def EqE (E : List Nat) (t t' : MS) : Prop := t'.2 = t.2 ∧ ∀ k, k ∉ E → t'.1 k = t.1 k
theorem EqE.refl {E : List Nat} {t : MS} : EqE E t t := ⟨rfl, fun _ _ => rfl⟩
theorem EqE.trans {E : List Nat} {t t1 t2 : MS} (a : EqE E t t1) (b : EqE E t1 t2) : EqE E t t2 := ⟨b.1.trans a.1, fun k hk => (b.2 k hk).trans (a.2 k hk)⟩
theorem EqE.mono {E E' : List Nat} {t t' : MS} (h : EqE E t t') (s : ∀ k ∈ E, k ∈ E') : EqE E' t t' := ⟨h.1, fun k hk => h.2 k (fun c => hk (s k c))⟩
theorem EqE.u {E : List Nat} {t : MS} {k i : Nat} {v : Int32} (hk : k ∈ E) : EqE E t (uS t k i v) := ⟨rfl, fun k' hk' => uS_ne (fun e => hk' (e ▸ hk))⟩
theorem EqE.tu {E : List Nat} {t t' : MS} {k i : Nat} {v : Int32} (a : EqE E t t') (hk : k ∈ E) : EqE E t (uS t' k i v) := a.trans (EqE.u hk)
/-- the pile, its top first -/
def StkAt (t : MS) : List Int32 → Prop
  | [] => True
  | a :: s => t.1 30 s.length = a ∧ StkAt t s
theorem StkAt.u {t : MS} {s : List Int32} {i : Nat} {v : Int32} (h : StkAt t s) (hi : s.length ≤ i) : StkAt (uS t 30 i v) s := by
  induction s with
  | nil => trivial
  | cons a s ih =>
    simp only [List.length_cons] at hi
    exact ⟨by rw [uS_nei (by omega)]; exact h.1, ih h.2 (by omega)⟩
/-- how high the pile stands behind a program -/
def dep : List Stq → Nat → Option Nat
  | [], n => some n
  | q :: r, n => if q.1 = 1 then dep r (n + 1) else if q.1 = 2 then (if vp_inb q.2 then dep r (n + 1) else none) else if q.1 = 3 ∨ q.1 = 4 then (if 1 ≤ n then dep r n else none) else (if 2 ≤ n then dep r (n - 1) else none)
where vp_inb (v : Int32) : Bool := !(decide (v < 0)) && decide (v.toNatClampNeg < 6)
def ProgAt (t : MS) (pos : Nat) (P : List Stq) : Prop := ∀ i (h : i < P.length), t.1 24 (pos + i) = P[i].1 ∧ t.1 25 (pos + i) = P[i].2
theorem I_mul (a b : Nat) : I a * I b = I (a * b) := (Int32.ofNat_mul a b).symm
section
variable {G : GG} {m : Nat} {S t sg : MS} {Q : Outcome → MS → Prop}
theorem M_twoOf {w a b : Int32} (hQ : Q (.returned (some (.int (two w a b)))) sg) : MR G mX5_twoOf 1 0 [(0, .int w), (1, .int a), (2, .int b)] [] m sg Q := by
  apply sX5_twoOf_0
  repeat' (first | assumption | (refine ⟨_, rfl, ?_⟩) | (refine im (fun _ => ?_)) | (refine ⟨?_, ?_⟩) | fail)
  all_goals (refine qi hQ ?_; simp [two, *])
theorem M_worked {pos : Nat} {P : List Stq} (hP : ProgAt t pos P) (hd : dep P 0 = some 1) (hl : pos + P.length ≤ 130) (hQ : ∀ t', EqE [30] t t' → Q (.returned (some (.int (pv (t.1 29) P)))) (ov S t')) : MR G mX5_worked 2 0 [(0, .ref m), (1, .int 0), (2, .int (I pos)), (3, .int (I (pos + P.length)))] [] m (ov S t) Q := by
  apply sX5_worked_0
  have key : ∀ (R : List Stq) (i : Nat) (t1 : MS) (st : List Int32), i + R.length = P.length → (∀ j (h : j < R.length), P[i + j]? = some R[j]) → EqE [30] t t1 → StkAt t1 st → st.length ≤ i → dep R st.length = some 1 → (ev (t.1 29) R st).headD 0 = pv (t.1 29) P → MR G mX5_worked 2 12 [(0, .ref m), (1, .int 0), (3, .int (I (pos + P.length))), (4, .int (I st.length)), (5, .int (I (pos + i)))] [] m (ov S t1) Q := by
    intro R
    induction R with
    | nil =>
      intro i t1 st hi _ ht hs hsi hdp he
      simp only [List.length_nil, Nat.add_zero] at hi
      subst hi
      have hst : st.length = 1 := by simpa [dep] using hdp
      obtain ⟨v, rfl⟩ : ∃ v, st = [v] := by
        match st, hst with
        | [v], _ => exact ⟨v, rfl⟩
      apply sX5_worked_12
      refine ⟨fun _ => ⟨vp_I (i := 0) (by omega) (by omega), ?_⟩, fun c => ?_⟩
      · refine qi (hQ t1 ht) ?_
        rw [← he]
        exact hs.1.symm
      · exfalso; apply c
        show (130 : Int32) * 0 + I (pos + P.length) ≤ I (pos + P.length)
        rw [show (130 : Int32) * 0 = 0 from rfl, Int32.zero_add]; exact c_end (by omega)
    | cons q R ih =>
      intro i t1 st hi hR ht hs hsi hdp he
      simp only [List.length_cons] at hi
      have hq : P[i]? = some q := hR 0 (by simp)
      have hiP : i < P.length := by omega
      have hq2 : P[i] = q := by rw [List.getElem?_eq_getElem hiP] at hq; exact Option.some.inj hq
      obtain ⟨p1, p2⟩ := hP i hiP
      rw [hq2] at p1 p2
      have a1 : (ov S t1).1 24 (pos + i) = q.1 := by rw [ov_24, ht.2 24 (by decide)]; exact p1
      have a2 : (ov S t1).1 25 (pos + i) = q.2 := by rw [ov_25, ht.2 25 (by decide)]; exact p2
      have aF : ∀ j, (ov S t1).1 29 j = t.1 29 j := by intro j; rw [ov_29, ht.2 29 (by decide)]
      have hR' : ∀ j (h : j < R.length), P[i + 1 + j]? = some R[j] := fun j h => by
        have := hR (j + 1) (by simp; omega)
        rw [show i + 1 + j = i + (j + 1) by omega]; exact this
      have nx := fun t2 st2 => ih (i + 1) t2 st2 (by omega) hR'
      have ei : I (pos + i) + 1 = I (pos + (i + 1)) := I_succ _
      have gd : ¬ (130 : Int32) * 0 + I (pos + P.length) ≤ I (pos + i) := by
        rw [show (130 : Int32) * 0 = 0 from rfl, Int32.zero_add]; exact c_lt (by omega) (by omega)
      have e0 : ev (t.1 29) (q :: R) st = ev (t.1 29) R (ev1 (t.1 29) q.1 q.2 st) := rfl
      rw [e0] at he
      apply sX5_worked_12
      rw [I_nat (by omega), a1]
      refine ⟨fun c => absurd c gd, fun _ => ⟨vp_I (by omega) (by omega), fun c1 => ?_, fun c1 => ⟨fun c2 => ⟨fun c3 => ⟨fun c4 => ?_, fun c4 => ?_⟩, fun c3 => ?_⟩, fun c2 => ?_⟩⟩⟩
      · -- push
        apply sX5_worked_45
        rw [c1, I_nat (by omega), a2, I_nat (by omega)]
        refine ⟨fun c => absurd rfl c, fun _ => ⟨vp_I (by omega) (by omega), vp_I (by omega) (by omega), ?_⟩⟩
        rw [uS_ov rfl, ei, I_succ]
        refine nx (uS t1 30 st.length q.2) (q.2 :: st) (ht.tu (by decide)) ⟨uS_at, hs.u (Nat.le_refl _)⟩ (by simp; omega) ?_ ?_
        · simpa [dep, c1] using hdp
        · simpa [ev1, c1] using he
      · -- two
        have hd2 : 2 ≤ st.length ∧ dep R (st.length - 1) = some 1 := by
          simp [dep, c1, c2, c3, c4] at hdp; exact hdp
        obtain ⟨x, y, s, rfl⟩ : ∃ x y s, st = x :: y :: s := by
          match st, hd2.1 with
          | x :: y :: s, _ => exact ⟨x, y, s, rfl⟩
        have n1 : I (List.length (x :: y :: s)) + -1 = I (s.length + 1) := I_predn (by simp)
        have n2 : I (s.length + 1) - 1 = I s.length := I_pred (by omega)
        simp only [List.length_cons] at hsi
        rw [n1, n2, I_nat (by omega), I_nat (by omega)]
        refine ⟨vp_I (by omega) (by omega), vp_I (by omega) (by omega), ?_⟩
        apply M_twoOf
        refine ⟨_, rfl, vp_I (by omega) (by omega), ?_⟩
        have b1 : (ov S t1).1 30 s.length = y := hs.2.1
        have b2 : (ov S t1).1 30 (s.length + 1) = x := hs.1
        rw [b1, b2, uS_ov rfl, ei]
        refine nx (uS t1 30 s.length (two q.1 y x)) (two q.1 y x :: s) (ht.tu (by decide)) ⟨uS_at, hs.2.2.u (Nat.le_refl _)⟩ (by simp; omega) ?_ ?_
        · exact hd2.2
        · simpa [ev1, c1, c2, c3, c4] using he
      · -- turn
        have hd2 : 1 ≤ st.length ∧ dep R st.length = some 1 := by
          simp [dep, c4] at hdp; exact hdp
        obtain ⟨x, s, rfl⟩ : ∃ x s, st = x :: s := by
          match st, hd2.1 with
          | x :: s, _ => exact ⟨x, s, rfl⟩
        have n1 : I (List.length (x :: s)) - 1 = I s.length := I_pred (by simp)
        simp only [List.length_cons] at hsi
        rw [n1, I_nat (by omega)]
        have b1 : (ov S t1).1 30 s.length = x := hs.1
        rw [b1, uS_ov rfl, ei]
        refine ⟨vp_I (by omega) (by omega), vp_I (by omega) (by omega), ?_⟩
        refine nx (uS t1 30 s.length (-x)) ((-x) :: s) (ht.tu (by decide)) ⟨uS_at, hs.2.u (Nat.le_refl _)⟩ (by simp; omega) hd2.2 ?_
        simpa [ev1, c4] using he
      · -- deny
        have hd2 : 1 ≤ st.length ∧ dep R st.length = some 1 := by
          simp [dep, c3] at hdp; exact hdp
        obtain ⟨x, s, rfl⟩ : ∃ x s, st = x :: s := by
          match st, hd2.1 with
          | x :: s, _ => exact ⟨x, s, rfl⟩
        have n1 : I (List.length (x :: s)) - 1 = I s.length := I_pred (by simp)
        simp only [List.length_cons] at hsi
        rw [n1, I_nat (by omega)]
        have b1 : (ov S t1).1 30 s.length = x := hs.1
        rw [b1, uS_ov rfl, uS_ov rfl, ei]
        refine ⟨vp_I (by omega) (by omega), fun c => ⟨vp_I (by omega) (by omega), ?_⟩, fun c => ⟨vp_I (by omega) (by omega), ?_⟩⟩
        · refine nx (uS t1 30 s.length 0) (0 :: s) (ht.tu (by decide)) ⟨uS_at, hs.2.u (Nat.le_refl _)⟩ (by simp; omega) hd2.2 ?_
          simpa [ev1, c3, c] using he
        · refine nx (uS t1 30 s.length 1) (1 :: s) (ht.tu (by decide)) ⟨uS_at, hs.2.u (Nat.le_refl _)⟩ (by simp; omega) hd2.2 ?_
          simpa [ev1, c3, c] using he
      · -- named
        have hd2 : dep.vp_inb q.2 = true ∧ dep R (st.length + 1) = some 1 := by
          simp [dep, c2] at hdp; exact hdp
        have hv : vp_in q.2 6 := by
          have := hd2.1
          simp [dep.vp_inb] at this
          intro h
          rcases h with h | h
          · exact absurd this.1 (by rw [nle_I]; exact h)
          · omega
        apply sX5_worked_45
        rw [c2, I_nat (by omega), a2, I_nat (by omega)]
        refine ⟨fun _ => ⟨vp_I (by omega) (by omega), hv, vp_I (by omega) (by omega), ?_⟩, fun c => absurd c (by decide)⟩
        rw [aF, uS_ov rfl, ei, I_succ]
        refine nx (uS t1 30 st.length (t.1 29 q.2.toNatClampNeg)) (t.1 29 q.2.toNatClampNeg :: st) (ht.tu (by decide)) ⟨uS_at, hs.u (Nat.le_refl _)⟩ (by simp; omega) hd2.2 ?_
        simpa [ev1, c2] using he
  have := key P 0 t [] (by simp) (fun j h => by simp [h]) EqE.refl trivial (Nat.le_refl _) hd rfl
  have e : (130 : Int32) * 0 + I pos = I (pos + 0) := by rw [show (130 : Int32) * 0 = 0 from rfl, Int32.zero_add]; rfl
  rw [e]; exact this
end

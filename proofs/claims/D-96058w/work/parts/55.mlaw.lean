/-! LAYER 3.15: the model's law is read and kept -/
set_option maxRecDepth 100000
def flat (ls : List (List Stq × List Stq)) : List Stq := ls.flatMap (fun q => q.1 ++ q.2)
theorem flat_app {a b : List (List Stq × List Stq)} : flat (a ++ b) = flat a ++ flat b := by simp [flat]
theorem flat_one {q : List Stq × List Stq} : flat [q] = q.1 ++ q.2 := by simp [flat]
/-- where the lines end, in the arrays' part from b on -/
def LnX (t : MS) (b : Nat) (ls : List (List Stq × List Stq)) : Prop := ∀ i (h : i < ls.length), t.1 27 (b + i) = I ((flat (ls.take i)).length + ls[i].1.length) ∧ t.1 28 (b + i) = I ((flat (ls.take i)).length + ls[i].1.length + ls[i].2.length)
def GoodL (ls : List (List Stq × List Stq)) : Prop := ∀ q ∈ ls, (q.1 = [] ∨ GoodP q.1) ∧ GoodP q.2
theorem prog_sub {t : MS} {b pos : Nat} {A B C : List Stq} (h : ∀ i (h : i < (A ++ B ++ C).length), t.1 24 i = (A ++ B ++ C)[i].1 ∧ t.1 25 i = (A ++ B ++ C)[i].2) (hp : pos = A.length) : ProgAt t pos B := by
  subst hp
  intro i hi
  have := h (A.length + i) (by simp; omega)
  have e : (A ++ B ++ C)[A.length + i]'(by simp; omega) = B[i] := by
    rw [List.getElem_append_left (by simp; omega), List.getElem_append_right (by omega)]
    simp
  rw [e] at this; exact this
theorem lines_of {t : MS} {ls : List (List Stq × List Stq)} (hX : LnX t 0 ls) (hG : GoodL ls) (hP : ∀ i (h : i < (flat ls).length), t.1 24 i = (flat ls)[i].1 ∧ t.1 25 i = (flat ls)[i].2) (hl : (flat ls).length ≤ 130) : LinesAt t 0 0 ls := by
  have key : ∀ (suf pre : List (List Stq × List Stq)), ls = pre ++ suf → LinesAt t pre.length (flat pre).length suf := by
    intro suf
    induction suf with
    | nil => intros; trivial
    | cons q r ih =>
      intro pre e
      have hi : pre.length < ls.length := by rw [e]; simp
      obtain ⟨x1, x2⟩ := hX pre.length hi
      have eg : ls[pre.length] = q := by simp [e]
      have et : ls.take pre.length = pre := by rw [e]; simp
      rw [eg, et, Nat.zero_add] at x1 x2
      have ef : flat ls = flat pre ++ (q.1 ++ q.2) ++ flat r := by rw [e, flat_app, show q :: r = [q] ++ r from rfl, flat_app, flat_one]; simp
      have hq : q ∈ ls := by rw [e]; simp
      obtain ⟨g1, g2⟩ := hG q hq
      have hlen : (flat pre).length + (q.1.length + q.2.length) + (flat r).length ≤ 130 := by
        rw [ef] at hl; simp at hl; omega
      have ih := ih (pre ++ [q]) (by rw [e]; simp)
      have elen : (flat (pre ++ [q])).length = (flat pre).length + q.1.length + q.2.length := by rw [flat_app, flat_one]; simp; omega
      rw [elen, List.length_append, List.length_singleton] at ih
      refine ⟨x1, x2, ?_, ?_, ?_, g2.1 0, by omega, ih⟩
      · refine prog_sub (b := 0) (A := flat pre) (B := q.1) (C := q.2 ++ flat r) ?_ rfl
        have e2 : flat ls = flat pre ++ q.1 ++ (q.2 ++ flat r) := by rw [ef]; simp
        rw [← e2]; exact hP
      · refine prog_sub (b := 0) (A := flat pre ++ q.1) (B := q.2) (C := flat r) ?_ (by simp)
        have e2 : flat ls = flat pre ++ q.1 ++ q.2 ++ flat r := by rw [ef]; simp
        rw [← e2]; exact hP
      · rcases g1 with g1 | g1
        · exact Or.inl g1
        · exact Or.inr (g1.1 0)
  exact key ls [] rfl
theorem LinesAt.e2 {t t' : MS} (h4 : ∀ i, i < 130 → t'.1 24 i = t.1 24 i ∧ t'.1 25 i = t.1 25 i) (h7 : ∀ i, i < 61 → t'.1 27 i = t.1 27 i ∧ t'.1 28 i = t.1 28 i) : ∀ {ls : List (List Stq × List Stq)} {l pos : Nat}, l + ls.length ≤ 61 → LinesAt t l pos ls → LinesAt t' l pos ls := by
  intro ls
  induction ls with
  | nil => intros; trivial
  | cons q r ih =>
    intro l pos hl h
    simp only [List.length_cons] at hl
    obtain ⟨x1, x2, x3, x4, x5, x6, x7, x8⟩ := h
    obtain ⟨a, b⟩ := h7 l (by omega)
    refine ⟨by rw [a]; exact x1, by rw [b]; exact x2, fun i hi => ?_, fun i hi => ?_, x5, x6, x7, ih (by omega) x8⟩
    · obtain ⟨a, b⟩ := h4 (pos + i) (by omega)
      rw [a, b]; exact x3 i hi
    · obtain ⟨a, b⟩ := h4 (pos + q.1.length + i) (by omega)
      rw [a, b]; exact x4 i hi
theorem LawM.e2 {S S' t t' : MS} {L : Lw} (hS : S'.1 31 0 = S.1 31 0) (h6 : t'.1 26 0 = t.1 26 0) (h4 : ∀ i, i < 130 → t'.1 24 i = t.1 24 i ∧ t'.1 25 i = t.1 25 i) (h7 : ∀ i, i < 61 → t'.1 27 i = t.1 27 i ∧ t'.1 28 i = t.1 28 i) (h : LawM S L t) : LawM S' L t' := by
  cases L with
  | none => show S'.1 31 0 = 0; rw [hS]; exact h
  | some ls => exact ⟨by rw [hS]; exact h.1, h.2.1, by rw [h6]; exact h.2.2.1, LinesAt.e2 h4 h7 (by have := h.2.1; omega) h.2.2.2⟩
/-- frame of reading lines: behind m steps, k lines -/
def LEq (m k : Nat) (t t' : MS) : Prop := t'.2 = t.2 ∧ (∀ q, q ∉ [20, 21, 22, 23, 24, 25, 26, 27, 28] → t'.1 q = t.1 q) ∧ (∀ i, i < 130 + m → t'.1 24 i = t.1 24 i ∧ t'.1 25 i = t.1 25 i) ∧ t'.1 26 0 = t.1 26 0 ∧ ∀ i, i < 61 + k → t'.1 27 i = t.1 27 i ∧ t'.1 28 i = t.1 28 i
theorem LEq.refl {m k : Nat} {t : MS} : LEq m k t t := ⟨rfl, fun _ _ => rfl, fun _ _ => ⟨rfl, rfl⟩, rfl, fun _ _ => ⟨rfl, rfl⟩⟩
theorem LEq.trans {m k m' k' : Nat} {t t1 t2 : MS} (a : LEq m k t t1) (b : LEq m' k' t1 t2) (hm : m ≤ m') (hk : k ≤ k') : LEq m k t t2 := ⟨b.1.trans a.1, fun q hq => (b.2.1 q hq).trans (a.2.1 q hq), fun i hi => ⟨(b.2.2.1 i (by omega)).1.trans (a.2.2.1 i hi).1, (b.2.2.1 i (by omega)).2.trans (a.2.2.1 i hi).2⟩, b.2.2.2.1.trans a.2.2.2.1, fun i hi => ⟨(b.2.2.2.2 i (by omega)).1.trans (a.2.2.2.2 i hi).1, (b.2.2.2.2 i (by omega)).2.trans (a.2.2.2.2 i hi).2⟩⟩
theorem PEq.l {m k : Nat} {t t' : MS} (h : PEq m t t') : LEq m k t t' := ⟨h.1, fun q hq => h.2.1 q (fun x => hq (by simp at x ⊢; omega)), h.2.2, by rw [h.2.1 26 (by decide)], fun i _ => by rw [h.2.1 27 (by decide), h.2.1 28 (by decide)]; exact ⟨rfl, rfl⟩⟩
theorem LEq.u27 {m k : Nat} {t : MS} {v : Int32} : LEq m k t (uS t 27 (61 + k) v) := ⟨rfl, fun q hq => uS_ne (by rintro rfl; exact hq (by decide)), fun i _ => by rw [uS_ne (k' := 24) (by decide), uS_ne (k' := 25) (by decide)]; exact ⟨rfl, rfl⟩, by rw [uS_ne (by decide)], fun i hi => by rw [uS_nei (by omega), uS_ne (k' := 28) (by decide)]; exact ⟨rfl, rfl⟩⟩
theorem LEq.u28 {m k : Nat} {t : MS} {v : Int32} : LEq m k t (uS t 28 (61 + k) v) := ⟨rfl, fun q hq => uS_ne (by rintro rfl; exact hq (by decide)), fun i _ => by rw [uS_ne (k' := 24) (by decide), uS_ne (k' := 25) (by decide)]; exact ⟨rfl, rfl⟩, by rw [uS_ne (by decide)], fun i hi => by rw [uS_nei (k := 28) (by omega), uS_ne (k' := 27) (by decide)]; exact ⟨rfl, rfl⟩⟩
theorem LEq.u26 {m k : Nat} {t : MS} {v : Int32} : LEq m k t (uS t 26 1 v) := ⟨rfl, fun q hq => uS_ne (by rintro rfl; exact hq (by decide)), fun i _ => by rw [uS_ne (k' := 24) (by decide), uS_ne (k' := 25) (by decide)]; exact ⟨rfl, rfl⟩, by rw [uS_nei (by decide)], fun i hi => by rw [uS_ne (k' := 27) (by decide), uS_ne (k' := 28) (by decide)]; exact ⟨rfl, rfl⟩⟩
theorem PSt.e {S t t' : MS} {p o : Nat} {P : List Stq} (h : PSt S t p o P) (h0 : t'.1 20 = t.1 20) (h1 : t'.1 21 = t.1 21) (h2 : t'.1 22 = t.1 22) (h3 : t'.1 23 = t.1 23) (h4 : t'.1 24 = t.1 24) (h5 : t'.1 25 = t.1 25) : PSt S t' p o P := by
  obtain ⟨a, b, c, d, e, f, g⟩ := h
  exact ⟨by rw [h0]; exact a, by rw [h1]; exact b, by rw [h2]; exact c, by rw [h3]; exact d, fun i hi => by rw [h4, h5]; exact e i hi, f, g⟩
theorem i16 {l : Nat} (h : l ≤ 200) : (I l).toInt16.toInt32 = I l := by
  have : ∀ l : Fin 201, (I l.val).toInt16.toInt32 = I l.val := by decide +kernel
  exact this ⟨l, by omega⟩
/-- a line has been read behind k lines, the steps P -/
def LPost (S t : MS) (p k : Nat) (P : List Stq) (r : Except Nat ((List Stq × List Stq) × Nat)) (t' : MS) : Prop := LEq P.length k t t' ∧ match r with
  | .error e => ∃ l, PEr S t' e l P.length ∧ l ≤ P.length + (e - p) + 1 ∧ p ≤ e
  | .ok q => PSt S t' q.2 0 (P ++ q.1.1 ++ q.1.2) ∧ t'.1 26 1 = I (k + 1) ∧ t'.1 27 (61 + k) = I (P.length + q.1.1.length) ∧ t'.1 28 (61 + k) = I (P.length + q.1.1.length + q.1.2.length)
section
variable {G : GG} {m : Nat} {S t sg : MS} {L : Lw} {Q : Outcome → MS → Prop}
theorem M_line (hT : Tap S) {p k : Nat} {P : List Stq} (h : PSt S t p 0 P) (hk : k ≤ 60) (h26 : t.1 26 1 = I k) (hQ : ∀ t', LPost S t p k P (pLine (lkF S) p) t' → Q (.returned none) (ov S t')) : MR G mX5_line 401 0 [(0, .ref m)] [] m (ov S t) Q := by
  have hn := hT.1
  have hpn := h.2.2.2.2.2.1
  have hPl := h.2.2.2.2.2.2
  have h23 := h.2.2.2.1
  have v12 : vp_in 1 2 := vp_I (i := 1) (by omega) (by omega)
  have e61 : (61 : Int32) + I k = I (61 + k) := I_add 61 k
  have vk : vp_in (I (61 + k)) 122 := vp_I (by omega) (by omega)
  have c1 : (1 : Int32).toNatClampNeg = 1 := rfl
  have rgE := rg_pE (lk_end (S := S)) (rg_one lk_end 6)
  -- the line's end, whatever came
  have fin : ∀ (t1 : MS) (l : Nat), l ≤ 200 → t1.1 23 0 = I l → t1.1 26 1 = I k → Q (.returned none) (ov S (uS (uS t1 28 (61 + k) (I l)) 26 1 (I (k + 1)))) → (vp_in (I (61 + k)) 122 ∧ (vp_in 1 2 ∧ (vp_in 1 2 ∧ (Q (.returned none) (uS (uS (ov S t1) 28 (61 + k) (((ov S t1).1 23 0).toInt16.toInt32)) 26 1 (((uS (ov S t1) 28 (61 + k) (((ov S t1).1 23 0).toInt16.toInt32)).1 26 1) + 1)))))) := by
    intro t1 l hl e23 e26 q
    refine ⟨vk, v12, v12, ?_⟩
    simp only [uo_0, uo_1, uo_2, uo_3, uo_4, uo_5, uo_6, uo_7, uo_8, uo_9, uo_10, uo_11, uo_12, uo_13, uo_14, uo_15, uo_16, uo_17, uo_18, uo_19, uo_20, uo_21, uo_22, uo_23, uo_24, uo_25, uo_26, uo_27, uo_28, uo_29, uo_30, uo_31, uo_32, uo_33, uo_34, uo_35, uo_36, uo_37, uo_38, uo_39, uo_40, uo_41, uo_42, uo_43, uo_44, uo_45, uE_ov, ov_0, ov_1, ov_2, ov_3, ov_4, ov_5, ov_6, ov_7, ov_8, ov_9, ov_10, ov_11, ov_12, ov_13, ov_14, ov_15, ov_16, ov_17, ov_18, ov_19, ov_20, ov_21, ov_22, ov_23, ov_24, ov_25, ov_26, ov_27, ov_28, ov_29, ov_30, ov_31, ov_32, ov_33, ov_34, ov_35, ov_36, ov_37, ov_38, ov_39, ov_40, ov_41, ov_42, ov_43, ov_44, ov_45, ov_46, ov_e, ov_s]
    rw [uS_ne (k' := 26) (by decide), e26, e23, i16 hl, I_succ]
    exact q
  unfold pLine at hQ
  apply sX5_line_0
  rw [ov_26, c1, h26, e61]
  refine ⟨v12, vk, ?_⟩
  rw [uo_27, ov_23, h23, i16 (by omega), I_nat (show 61 + k ≤ 100000 by omega)]
  have h0 : PSt S (uS t 27 (61 + k) (I P.length)) p 0 P := h.e (uS_ne (by decide)) (uS_ne (by decide)) (uS_ne (by decide)) (uS_ne (by decide)) (uS_ne (by decide)) (uS_ne (by decide))
  have hL0 : LEq P.length k t (uS t 27 (61 + k) (I P.length)) := LEq.u27
  refine M_expr hT h0 (fun t1 h1 => ⟨rfl, ?_⟩)
  obtain ⟨hE1, h1⟩ := h1
  have e26 : t1.1 26 1 = I k := by rw [hE1.2.1 26 (by decide), uS_ne (by decide)]; exact h26
  have rg := rgE p hpn
  have hL1 : LEq P.length k t t1 := hL0.trans hE1.l (Nat.le_refl _) (Nat.le_refl _)
  have erK : ∀ t2 x l, LEq P.length k t t2 → PEr S t2 x l P.length → l ≤ P.length + (x - p) + 1 → p ≤ x → x ≤ tpN S → t2.1 26 1 = I k → (∀ t', LPost S t p k P (.error x) t' → Q (.returned none) (ov S t')) → (vp_in (I (61 + k)) 122 ∧ (vp_in 1 2 ∧ (vp_in 1 2 ∧ (Q (.returned none) (uS (uS (ov S t2) 28 (61 + k) (((ov S t2).1 23 0).toInt16.toInt32)) 26 1 (((uS (ov S t2) 28 (61 + k) (((ov S t2).1 23 0).toInt16.toInt32)).1 26 1) + 1)))))) := by
    intro t2 x l hL hr hl hpx hxn e26 q
    refine fin t2 l (by omega) hr.2.2.1 e26 (q _ ⟨hL.trans (LEq.u28.trans LEq.u26 (Nat.le_refl _) (Nat.le_refl _)) (Nat.le_refl _) (Nat.le_refl _), l, ⟨?_, ?_, ?_, hr.2.2.2.1, hr.2.2.2.2⟩, hl, hpx⟩)
    · rw [uS_ne (by decide), uS_ne (by decide)]; exact hr.1
    · rw [uS_ne (by decide), uS_ne (by decide)]; exact hr.2.1
    · rw [uS_ne (by decide), uS_ne (by decide)]; exact hr.2.2.1
  have okK : ∀ t2 (a b : List Stq) p', LEq P.length k t t2 → PSt S t2 p' 0 (P ++ a ++ b) → t2.1 26 1 = I k → t2.1 27 (61 + k) = I (P.length + a.length) → (∀ t', LPost S t p k P (.ok ((a, b), p')) t' → Q (.returned none) (ov S t')) → (vp_in (I (61 + k)) 122 ∧ (vp_in 1 2 ∧ (vp_in 1 2 ∧ (Q (.returned none) (uS (uS (ov S t2) 28 (61 + k) (((ov S t2).1 23 0).toInt16.toInt32)) 26 1 (((uS (ov S t2) 28 (61 + k) (((ov S t2).1 23 0).toInt16.toInt32)).1 26 1) + 1)))))) := by
    intro t2 a b p' hL hP e26 e27 q
    have el : (P ++ a ++ b).length = P.length + a.length + b.length := by simp; omega
    have hle := hP.2.2.2.2.2.2
    have hle2 := hP.2.2.2.2.2.1
    refine fin t2 (P ++ a ++ b).length (by omega) hP.2.2.2.1 e26 (q _ ⟨hL.trans (LEq.u28.trans LEq.u26 (Nat.le_refl _) (Nat.le_refl _)) (Nat.le_refl _) (Nat.le_refl _), ?_, uS_at, ?_, ?_⟩)
    · exact hP.e (by rw [uS_ne (by decide), uS_ne (by decide)]) (by rw [uS_ne (by decide), uS_ne (by decide)]) (by rw [uS_ne (by decide), uS_ne (by decide)]) (by rw [uS_ne (by decide), uS_ne (by decide)]) (by rw [uS_ne (by decide), uS_ne (by decide)]) (by rw [uS_ne (by decide), uS_ne (by decide)])
    · rw [uS_ne (by decide), uS_ne (by decide)]; exact e27
    · rw [uS_ne (by decide), uS_at, el]
  cases e : pE (lkF S) (pOne (lkF S) 6) p with
  | error x =>
    rw [e] at h1 rg hQ
    have rg : p ≤ x ∧ x ≤ tpN S := rg
    obtain ⟨l, g1, g2, g3⟩ := h1
    exact ⟨fun _ => erK t1 x l hL1 g1 g2 g3 rg.2 e26 hQ, fun c => absurd (fz (by omega) g1.2.1) c⟩
  | ok q =>
    rw [e] at h1 rg hQ
    obtain ⟨r1, r2, r3, r4, r5⟩ := rg
    have h1 : PSt S t1 q.2 0 (P ++ q.1) := h1
    simp only at hQ
    have e27 : t1.1 27 (61 + k) = I P.length := by rw [hE1.2.1 27 (by decide), uS_at]
    refine ⟨fun c => absurd c (fn h1.2.1), fun _ => ?_⟩
    apply M_look hT h1.1 r4
    refine ⟨_, rfl, fun c => ?_, fun c => ⟨vk, ?_⟩⟩
    · rw [if_neg c] at hQ
      exact okK t1 [] q.1 q.2 hL1 (by simpa using h1) e26 (by simpa using e27) hQ
    · rw [if_pos c] at hQ
      have hq1 : q.2 < tpN S := c_in lk_end (by rw [c]; decide)
      have hl23 := h1.2.2.2.1
      have hle := h1.2.2.2.2.2.2
      simp only [uo_0, uo_1, uo_2, uo_3, uo_4, uo_5, uo_6, uo_7, uo_8, uo_9, uo_10, uo_11, uo_12, uo_13, uo_14, uo_15, uo_16, uo_17, uo_18, uo_19, uo_20, uo_21, uo_22, uo_23, uo_24, uo_25, uo_26, uo_27, uo_28, uo_29, uo_30, uo_31, uo_32, uo_33, uo_34, uo_35, uo_36, uo_37, uo_38, uo_39, uo_40, uo_41, uo_42, uo_43, uo_44, uo_45, uE_ov, ov_0, ov_1, ov_2, ov_3, ov_4, ov_5, ov_6, ov_7, ov_8, ov_9, ov_10, ov_11, ov_12, ov_13, ov_14, ov_15, ov_16, ov_17, ov_18, ov_19, ov_20, ov_21, ov_22, ov_23, ov_24, ov_25, ov_26, ov_27, ov_28, ov_29, ov_30, ov_31, ov_32, ov_33, ov_34, ov_35, ov_36, ov_37, ov_38, ov_39, ov_40, ov_41, ov_42, ov_43, ov_44, ov_45, ov_46, ov_e, ov_s]
      rw [uS_ne (k' := 23) (by decide), hl23, i16 (by omega)]
      have h2 : PSt S (uS (uS t1 20 0 (t1.1 20 0 + 1)) 27 (61 + k) (I (P ++ q.1).length)) (q.2 + 1) 0 (P ++ q.1) := (h1.next hq1).e (uS_ne (by decide)) (uS_ne (by decide)) (uS_ne (by decide)) (uS_ne (by decide)) (uS_ne (by decide)) (uS_ne (by decide))
      have hL2 : LEq P.length k t (uS (uS t1 20 0 (t1.1 20 0 + 1)) 27 (61 + k) (I (P ++ q.1).length)) := hL1.trans ((PEq.u (by simp)).l.trans LEq.u27 (Nat.le_refl _) (Nat.le_refl _)) (Nat.le_refl _) (Nat.le_refl _)
      have rg2 := rgE (q.2 + 1) (by omega)
      refine M_expr hT h2 (fun t3 h3 => ⟨rfl, ?_⟩)
      obtain ⟨hE3, h3⟩ := h3
      have e26' : t3.1 26 1 = I k := by rw [hE3.2.1 26 (by decide), uS_ne (by decide), uS_ne (by decide)]; exact e26
      have e27' : t3.1 27 (61 + k) = I (P.length + q.1.length) := by rw [hE3.2.1 27 (by decide), uS_at]; simp
      have hL3 : LEq P.length k t t3 := hL2.trans hE3.l (by simp) (Nat.le_refl _)
      cases e2 : pE (lkF S) (pOne (lkF S) 6) (q.2 + 1) with
      | error x =>
        rw [e2] at h3 rg2 hQ
        have rg2 : q.2 + 1 ≤ x ∧ x ≤ tpN S := rg2
        obtain ⟨l, g1, g2, g3⟩ := h3
        refine erK t3 x l hL3 (g1.w (by simp)) ?_ (by omega) rg2.2 e26' hQ
        simp only [List.length_append] at g2; omega
      | ok r =>
        rw [e2] at h3 rg2 hQ
        exact okK t3 q.1 r.1 r.2 hL3 h3 e26' e27' hQ
end

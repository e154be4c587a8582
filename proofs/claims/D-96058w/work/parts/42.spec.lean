/-! LAYER 3.2: the model's state with its scratch fields laid over; what the methods compute -/
set_option maxRecDepth 100000
/-- scratch fields of the model -/
def scr (k : Nat) : Bool := match k with
  | 20 => true
  | 21 => true
  | 22 => true
  | 23 => true
  | 24 => true
  | 25 => true
  | 26 => true
  | 27 => true
  | 28 => true
  | 29 => true
  | 30 => true
  | 32 => true
  | 33 => true
  | 34 => true
  | 35 => true
  | _ => false
def ov (S t : MS) : MS := (fun k => bif scr k then t.1 k else S.1 k, fun k => bif k == 46 then t.2 k else S.2 k)
theorem uS_ov {S t : MS} {k i : Nat} {v : Int32} (hk : scr k = true) : uS (ov S t) k i v = ov S (uS t k i v) := by
  unfold uS ov
  congr 1
  funext k' i'
  unfold up2
  by_cases e : k' = k
  · subst e; simp [cond, hk]
  · cases h : scr k' <;> simp [e, h, cond]
theorem uS_ovS {S t : MS} {k i : Nat} {v : Int32} (hk : scr k = false) : uS (ov S t) k i v = ov (uS S k i v) t := by
  unfold uS ov
  congr 1
  funext k' i'
  unfold up2
  by_cases e : k' = k
  · subst e; simp [cond, hk]
  · cases h : scr k' <;> simp [e, h, cond]
theorem uE_ov {S t : MS} {i : Nat} {v : Int64} : uE (ov S t) 46 i v = ov S (uE t 46 i v) := by
  unfold uE ov
  congr 1
  funext k' i'
  unfold up2
  by_cases e : k' = 46
  · subst e; simp [cond]
  · simp [e, cond]
theorem uE_ovS {S t : MS} {k i : Nat} {v : Int64} (hk : ¬ k = 46) : uE (ov S t) k i v = ov (uE S k i v) t := by
  unfold uE ov
  congr 1
  funext k' i'
  unfold up2
  by_cases e : k' = k
  · subst e
    have hb : (k' == 46) = false := by simpa using hk
    simp [hb]
  · cases h : (k' == 46) <;> simp [e, h, -beq_iff_eq, -beq_eq_false_iff_ne]
theorem ov_0 {S t : MS} : (ov S t).1 0 = S.1 0 := rfl
theorem ov_1 {S t : MS} : (ov S t).1 1 = S.1 1 := rfl
theorem ov_2 {S t : MS} : (ov S t).1 2 = S.1 2 := rfl
theorem ov_3 {S t : MS} : (ov S t).1 3 = S.1 3 := rfl
theorem ov_4 {S t : MS} : (ov S t).1 4 = S.1 4 := rfl
theorem ov_5 {S t : MS} : (ov S t).1 5 = S.1 5 := rfl
theorem ov_6 {S t : MS} : (ov S t).1 6 = S.1 6 := rfl
theorem ov_7 {S t : MS} : (ov S t).1 7 = S.1 7 := rfl
theorem ov_8 {S t : MS} : (ov S t).1 8 = S.1 8 := rfl
theorem ov_9 {S t : MS} : (ov S t).1 9 = S.1 9 := rfl
theorem ov_10 {S t : MS} : (ov S t).1 10 = S.1 10 := rfl
theorem ov_11 {S t : MS} : (ov S t).1 11 = S.1 11 := rfl
theorem ov_12 {S t : MS} : (ov S t).1 12 = S.1 12 := rfl
theorem ov_13 {S t : MS} : (ov S t).1 13 = S.1 13 := rfl
theorem ov_14 {S t : MS} : (ov S t).1 14 = S.1 14 := rfl
theorem ov_15 {S t : MS} : (ov S t).1 15 = S.1 15 := rfl
theorem ov_16 {S t : MS} : (ov S t).1 16 = S.1 16 := rfl
theorem ov_17 {S t : MS} : (ov S t).1 17 = S.1 17 := rfl
theorem ov_18 {S t : MS} : (ov S t).1 18 = S.1 18 := rfl
theorem ov_19 {S t : MS} : (ov S t).1 19 = S.1 19 := rfl
theorem ov_20 {S t : MS} : (ov S t).1 20 = t.1 20 := rfl
theorem ov_21 {S t : MS} : (ov S t).1 21 = t.1 21 := rfl
theorem ov_22 {S t : MS} : (ov S t).1 22 = t.1 22 := rfl
theorem ov_23 {S t : MS} : (ov S t).1 23 = t.1 23 := rfl
theorem ov_24 {S t : MS} : (ov S t).1 24 = t.1 24 := rfl
theorem ov_25 {S t : MS} : (ov S t).1 25 = t.1 25 := rfl
theorem ov_26 {S t : MS} : (ov S t).1 26 = t.1 26 := rfl
theorem ov_27 {S t : MS} : (ov S t).1 27 = t.1 27 := rfl
theorem ov_28 {S t : MS} : (ov S t).1 28 = t.1 28 := rfl
theorem ov_29 {S t : MS} : (ov S t).1 29 = t.1 29 := rfl
theorem ov_30 {S t : MS} : (ov S t).1 30 = t.1 30 := rfl
theorem ov_31 {S t : MS} : (ov S t).1 31 = S.1 31 := rfl
theorem ov_32 {S t : MS} : (ov S t).1 32 = t.1 32 := rfl
theorem ov_33 {S t : MS} : (ov S t).1 33 = t.1 33 := rfl
theorem ov_34 {S t : MS} : (ov S t).1 34 = t.1 34 := rfl
theorem ov_35 {S t : MS} : (ov S t).1 35 = t.1 35 := rfl
theorem ov_36 {S t : MS} : (ov S t).1 36 = S.1 36 := rfl
theorem ov_37 {S t : MS} : (ov S t).1 37 = S.1 37 := rfl
theorem ov_38 {S t : MS} : (ov S t).1 38 = S.1 38 := rfl
theorem ov_39 {S t : MS} : (ov S t).1 39 = S.1 39 := rfl
theorem ov_40 {S t : MS} : (ov S t).1 40 = S.1 40 := rfl
theorem ov_41 {S t : MS} : (ov S t).1 41 = S.1 41 := rfl
theorem ov_42 {S t : MS} : (ov S t).1 42 = S.1 42 := rfl
theorem ov_43 {S t : MS} : (ov S t).1 43 = S.1 43 := rfl
theorem ov_44 {S t : MS} : (ov S t).1 44 = S.1 44 := rfl
theorem ov_45 {S t : MS} : (ov S t).1 45 = S.1 45 := rfl
theorem ov_46 {S t : MS} : (ov S t).1 46 = S.1 46 := rfl
theorem ov_e {S t : MS} : (ov S t).2 45 = S.2 45 := rfl
theorem ov_s {S t : MS} : (ov S t).2 46 = t.2 46 := rfl
theorem ov_self (S : MS) : ov S S = S := by
  unfold ov
  show ((fun k => bif scr k then S.1 k else S.1 k), fun k => bif k == 46 then S.2 k else S.2 k) = (S.1, S.2)
  congr 1
  · funext k; cases scr k <;> rfl
  · funext k; cases (k == 46) <;> rfl
theorem uS_at {sg : MS} {k i : Nat} {v : Int32} : (uS sg k i v).1 k i = v := by simp [uS, up2]
theorem uS_ne {sg : MS} {k i k' : Nat} {v : Int32} (h : ¬ k' = k) : (uS sg k i v).1 k' = sg.1 k' := by
  funext i'; simp [uS, up2, h]
theorem uS_nei {sg : MS} {k i i' : Nat} {v : Int32} (h : ¬ i' = i) : (uS sg k i v).1 k i' = sg.1 k i' := by simp [uS, up2, h]
theorem uS_if {sg : MS} {k i i' : Nat} {v : Int32} : (uS sg k i v).1 k i' = if i' = i then v else sg.1 k i' := by simp [uS, up2]
theorem uS_2 {sg : MS} {k i : Nat} {v : Int32} : (uS sg k i v).2 = sg.2 := rfl
theorem uE_1 {sg : MS} {k i : Nat} {v : Int64} : (uE sg k i v).1 = sg.1 := rfl
/-- numbers of people, meetings -/
def np (S : MS) : Nat := (S.1 1 0).toNatClampNeg
def nm (S : MS) : Nat := (S.1 5 0).toNatClampNeg
def Ppl (S : MS) : Prop := np S ≤ 12 ∧ S.1 1 0 = I (np S) ∧ ∀ p, p < np S → 0 ≤ (S.1 2 p).toInt ∧ (S.1 2 p).toInt ≤ 99 ∧ (S.1 2 p).toInt < (S.1 3 p).toInt ∧ (S.1 3 p).toInt ≤ 100 ∧ -1 ≤ (S.1 4 p).toInt ∧ (S.1 4 p).toInt ≤ 11
def Mtg (S : MS) : Prop := nm S ≤ 16 ∧ S.1 5 0 = I (nm S) ∧ ∀ k, k < nm S → ∃ a b, S.1 6 k = I a ∧ S.1 7 k = I b ∧ a < np S ∧ b < np S ∧ a ≠ b
def Fam (S : MS) : Prop := ∀ n, n < 12 → S.1 11 n = 0 ∨ S.1 11 n = 1
def inF (v a b : Int32) : Bool := if v < a then false else if b < v then false else true
def lvF (S : MS) (p y : Int32) : Bool := if y < S.1 2 p.toNatClampNeg then false else if S.1 3 p.toNatClampNeg ≤ y then false else true
def ctF (S : MS) (k : Int32) : Bool := lvF S (S.1 6 k.toNatClampNeg) (S.1 8 k.toNatClampNeg) && lvF S (S.1 7 k.toNatClampNeg) (S.1 8 k.toNatClampNeg)
def ahF (S : MS) (o p : Int32) : Bool := if S.1 2 o.toNatClampNeg < S.1 2 p.toNatClampNeg then true else if S.1 2 o.toNatClampNeg = S.1 2 p.toNatClampNeg then (if p ≤ o then false else true) else false
def plF (S : MS) (p : Int32) : Nat := cnt (np S) (fun o => ahF S (I o) p)
def aoF (S : MS) (p : Int32) : Int32 := orB (np S) (fun o => ahF S (I o) p)
/-! the law -/
abbrev Stq : Type := Int32 × Int32
abbrev Lw : Type := Option (List (List Stq × List Stq))
def two (w a b : Int32) : Int32 :=
  if w = 37 then (if b = 0 then 0 else if b = -1 then 0 else a - a / b * b) else
  if w = 38 then (if a = 0 then 0 else if b = 0 then 0 else 1) else
  if w = 42 then a * b else
  if w = 43 then a + b else
  if w = 45 then a - b else
  if w = 47 then (if b = 0 then 0 else if b = -1 then -a else a / b) else
  if w = 60 then (if b ≤ a then 0 else 1) else
  if w = 61 then (if a = b then 1 else 0) else
  if w = 62 then (if a ≤ b then 0 else 1) else
  (if a = 0 then (if b = 0 then 0 else 1) else 1)
def ev1 (F : Nat → Int32) (w v : Int32) (s : List Int32) : List Int32 :=
  if w = 1 then v :: s else if w = 2 then F v.toNatClampNeg :: s else match s with
  | [] => []
  | a :: s' => if w = 3 then (if a = 0 then 1 else 0) :: s' else if w = 4 then (-a) :: s' else match s' with
    | [] => []
    | b :: s'' => two w b a :: s''
def ev (F : Nat → Int32) : List Stq → List Int32 → List Int32
  | [], s => s
  | q :: r, s => ev F r (ev1 F q.1 q.2 s)
theorem ev_app (F : Nat → Int32) (p q : List Stq) (s : List Int32) : ev F (p ++ q) s = ev F q (ev F p s) := by
  induction p generalizing s with
  | nil => rfl
  | cons a p ih => exact ih _
def pv (F : Nat → Int32) (p : List Stq) : Int32 := (ev F p []).headD 0
def lwF (F : Nat → Int32) : List (List Stq × List Stq) → Int32
  | [] => 0
  | q :: r => if q.1 = [] ∨ ¬ pv F q.1 = 0 then pv F q.2 else lwF F r
def ftF (S : MS) (p b n y : Int32) (j : Nat) : Int32 := match j with
  | 0 => y - S.1 2 p.toNatClampNeg
  | 1 => if y ≤ S.1 3 b.toNatClampNeg then 0 else y - S.1 3 b.toNatClampNeg
  | 2 => S.1 11 n.toNatClampNeg
  | 3 => S.1 10 n.toNatClampNeg
  | 4 => if p = b then 1 else 0
  | _ => n
def hfF (S : MS) (L : Lw) (p b n y : Int32) : Bool := match L with
  | none => if y - S.1 2 p.toNatClampNeg < 80 then true else if p = b then true else false
  | some ls => if lwF (ftF S p b n y) ls = 0 then false else true
/-! who knows whom -/
def knS (S : MS) (K : Nat → Int32) (k : Nat) : Nat → Int32 := fun p =>
  if p = (S.1 7 k).toNatClampNeg then (K (S.1 7 k).toNatClampNeg ||| (if S.1 9 0 = 1 then K (S.1 6 k).toNatClampNeg else 0)) ||| ((1 : Int32) <<< (S.1 6 k &&& 31))
  else if p = (S.1 6 k).toNatClampNeg then (K (S.1 6 k).toNatClampNeg ||| (if S.1 9 0 = 1 then K (S.1 7 k).toNatClampNeg else 0)) ||| ((1 : Int32) <<< (S.1 7 k &&& 31))
  else K p
def elg (S : MS) (y wo : Int32) (k : Nat) : Bool := if y < S.1 8 k then false else if (wo >>> (I k &&& 31)) &&& 1 = 1 then false else ctF S (I k)
def kuF (S : MS) (y wo : Int32) : Nat → Int32 := ((srt (S.1 8) (nm S)).filter (elg S y wo)).foldl (knS S) bitI
/-! which are held -/
def dhF (S : MS) (L : Lw) (K B : Nat → Int32) (p n y : Int32) : Bool := lvF S p y && anyB (np S) (fun b => decide (B b = n) && !(decide (y < S.1 2 b)) && tb (K p.toNatClampNeg) b && hfF S L p (I b) n y)
def hoF (S : MS) (L : Lw) (K B : Nat → Int32) (n y : Int32) : Int32 := orB (np S) (fun p => dhF S L K B (I p) n y)
def faF (S : MS) (B : Nat → Int32) (n y : Int32) : Bool := decide (S.1 11 n.toNatClampNeg = 1) && anyB (np S) (fun p => decide (B p = n) && !(decide (y < S.1 2 p)))
def ihF (S : MS) (L : Lw) (K B : Nat → Int32) (n y : Int32) : Bool := faF S B n y || !(decide (hoF S L K B n y = 0))
/-- held in a year, by those who bear -/
def hyF (S : MS) (L : Lw) (B : Nat → Int32) (n y : Int32) : Bool := ihF S L (kuF S y 0) B n y
def frF (S : MS) (L : Lw) (B : Nat → Int32) (y : Int32) : Int32 := orB 12 (fun n => !(hyF S L B (I n) y))
def heF (S : MS) (L : Lw) (B : Nat → Int32) (y : Int32) : Int32 := orB 12 (fun n => hyF S L B (I n) y)
def lhN (S : MS) (L : Lw) (B : Nat → Int32) (n : Int32) : Nat → Int32
  | 0 => -1
  | t + 1 => if hyF S L B n (I t) = true then I t else lhN S L B n t
def rkF (S : MS) (L : Lw) (B : Nat → Int32) (way n y : Int32) : Int32 := if way = 0 then 0 else if way = 1 then lhN S L B n y.toNatClampNeg else S.1 10 n.toNatClampNeg
def gvS (fr : Int32) (rk : Nat → Int32) : Nat → Int32 × Int32
  | 0 => (-2, 0)
  | n + 1 => if tb fr n = false then gvS fr rk n else if ¬ (gvS fr rk n).1 = -2 ∧ rk n ≤ (gvS fr rk n).2 then gvS fr rk n else (I n, rk n)
def gvF (S : MS) (L : Lw) (B : Nat → Int32) (y way : Int32) : Int32 := (gvS (frF S L B y) (fun n => rkF S L B way (I n) y) 12).1
def ordF (S : MS) (k : Nat) : Nat := (srt (S.1 2) (np S)).getD k 0
def rnF (S : MS) (L : Lw) (way : Int32) : Nat → Nat → Int32
  | 0 => fun _ => -1
  | k + 1 => va_up (rnF S L way k) (ordF S k) (if gvF S L (rnF S L way k) (S.1 2 (ordF S k)) way = -2 then -1 else gvF S L (rnF S L way k) (S.1 2 (ordF S k)) way)
def unF (B : Nat → Int32) : Nat → Int32
  | 0 => 0
  | p + 1 => if B p = -1 then unF B p else unF B p ||| ((1 : Int32) <<< (B p &&& 31))
/-! who bears: of a row, some alone -/
def amB (am : Int32) (R : Nat → Int32) : Nat → Int32 := fun p => if tb am p = true then R p else -1
section
variable {S : MS} {L : Lw} {K K' B B' : Nat → Int32}
theorem dhF_congr {p n y : Int32} (hK : K p.toNatClampNeg = K' p.toNatClampNeg) (hB : ∀ q, q < np S → (B q = n ↔ B' q = n)) : dhF S L K B p n y = dhF S L K' B' p n y := by
  unfold dhF
  rw [hK]
  congr 1
  refine anyB_congr (fun b hb => ?_)
  have : decide (B b = n) = decide (B' b = n) := by simp only [hB b hb]
  rw [this]
theorem hoF_congr {n y : Int32} (hn : np S ≤ 12) (hK : ∀ p, p < np S → K p = K' p) (hB : ∀ q, q < np S → (B q = n ↔ B' q = n)) : hoF S L K B n y = hoF S L K' B' n y := by
  unfold hoF
  refine orB_congr (fun p hp => dhF_congr ?_ hB)
  rw [I_nat (by omega)]; exact hK p hp
theorem faF_congr {n y : Int32} (hB : ∀ q, q < np S → (B q = n ↔ B' q = n)) : faF S B n y = faF S B' n y := by
  unfold faF
  congr 1
  refine anyB_congr (fun p hp => ?_)
  have : decide (B p = n) = decide (B' p = n) := by simp only [hB p hp]
  rw [this]
theorem ihF_congr {n y : Int32} (hn : np S ≤ 12) (hK : ∀ p, p < np S → K p = K' p) (hB : ∀ q, q < np S → (B q = n ↔ B' q = n)) : ihF S L K B n y = ihF S L K' B' n y := by
  unfold ihF; rw [faF_congr hB, hoF_congr hn hK hB]
theorem hyF_congr {n y : Int32} (hn : np S ≤ 12) (hB : ∀ q, q < np S → (B q = n ↔ B' q = n)) : hyF S L B n y = hyF S L B' n y := ihF_congr hn (fun _ _ => rfl) hB
theorem ne_neg1 {n : Nat} (h : n < 12) : ¬ (I n : Int32) = -1 := I_ne_neg (by omega)
theorem frF_congr {y : Int32} (hn : np S ≤ 12) (hB : ∀ q, q < np S → B q = B' q) : frF S L B y = frF S L B' y :=
  orB_congr (fun n _ => by rw [hyF_congr hn (fun q hq => by rw [hB q hq])])
theorem heF_congr {y : Int32} (hn : np S ≤ 12) (hB : ∀ q, q < np S → B q = B' q) : heF S L B y = heF S L B' y :=
  orB_congr (fun n _ => by rw [hyF_congr hn (fun q hq => by rw [hB q hq])])
theorem lhN_congr {n : Int32} {t : Nat} (hn : np S ≤ 12) (hB : ∀ q, q < np S → B q = B' q) : lhN S L B n t = lhN S L B' n t := by
  induction t with
  | zero => rfl
  | succ t ih => unfold lhN; rw [ih, hyF_congr hn (fun q hq => by rw [hB q hq])]
theorem gvS_congr {fr : Int32} {rk rk' : Nat → Int32} {n : Nat} (h : ∀ i, i < n → rk i = rk' i) : gvS fr rk n = gvS fr rk' n := by
  induction n with
  | zero => rfl
  | succ n ih => unfold gvS; rw [ih (fun i hi => h i (by omega)), h n (by omega)]
theorem gvF_congr {y way : Int32} (hn : np S ≤ 12) (hB : ∀ q, q < np S → B q = B' q) : gvF S L B y way = gvF S L B' y way := by
  unfold gvF
  rw [frF_congr hn hB]
  have : (fun n => rkF S L B way (I n) y) = (fun n => rkF S L B' way (I n) y) := by
    funext n; unfold rkF; rw [lhN_congr hn hB]
  rw [this]
theorem gvS_rng {fr : Int32} {rk : Nat → Int32} {n : Nat} : (gvS fr rk n).1 = -2 ∨ ∃ i, i < n ∧ (gvS fr rk n).1 = I i ∧ tb fr i = true := by
  induction n with
  | zero => exact Or.inl rfl
  | succ n ih =>
    unfold gvS
    split
    · rcases ih with h | ⟨i, hi, h⟩
      · exact Or.inl h
      · exact Or.inr ⟨i, by omega, h⟩
    · rename_i hf
      split
      · rcases ih with h | ⟨i, hi, h⟩
        · exact Or.inl h
        · exact Or.inr ⟨i, by omega, h⟩
      · exact Or.inr ⟨n, by omega, rfl, by simpa using hf⟩
theorem gvF_rng {y way : Int32} : gvF S L B y way = -2 ∨ ∃ i, i < 12 ∧ gvF S L B y way = I i := by
  rcases gvS_rng (fr := frF S L B y) (rk := fun n => rkF S L B way (I n) y) (n := 12) with h | ⟨i, h1, h2, -⟩
  · exact Or.inl h
  · exact Or.inr ⟨i, h1, h2⟩
theorem rnF_rng {way : Int32} {k p : Nat} : rnF S L way k p = -1 ∨ ∃ i, i < 12 ∧ rnF S L way k p = I i := by
  induction k with
  | zero => exact Or.inl rfl
  | succ k ih =>
    unfold rnF va_up
    split
    · split
      · exact Or.inl rfl
      · rename_i h
        rcases gvF_rng (S := S) (L := L) (B := rnF S L way k) (y := S.1 2 (ordF S k)) (way := way) with h2 | h2
        · exact absurd h2 h
        · exact Or.inr h2
    · exact ih
theorem Ppl.n {S : MS} (h : Ppl S) : np S ≤ 12 := h.1
theorem Ppl.e {S : MS} (h : Ppl S) : S.1 1 0 = I (np S) := h.2.1
theorem Mtg.n {S : MS} (h : Mtg S) : nm S ≤ 16 := h.1
theorem Mtg.e {S : MS} (h : Mtg S) : S.1 5 0 = I (nm S) := h.2.1
end

/-! LAYER 3.11: the model: calls that change (but the law's) -/
set_option maxRecDepth 100000
abbrev VOID : Int32 := -2000000000
def o_hearing (S : MS) (v : Int32) : Int32 × MS := if inF v 0 1 = true then (S.1 9 0, uS S 9 0 v) else (-1, S)
def o_name (S : MS) (p v : Int32) : Int32 × MS := if inF p 0 (S.1 1 0 - 1) = true then (if inF v (-1) 11 = true then (S.1 4 p.toNatClampNeg, uS S 4 p.toNatClampNeg v) else (VOID, S)) else (VOID, S)
def o_fame (S : MS) (n v : Int32) : Int32 × MS := if inF n 0 11 = true then (if inF v 0 1 = true then (S.1 11 n.toNatClampNeg, uS S 11 n.toNatClampNeg v) else (-1, S)) else (-1, S)
def addP (S : MS) (b d n : Int32) : MS := uS (uS (uS (uS S 2 (np S) b) 3 (np S) d) 4 (np S) n) 1 0 (S.1 1 0 + 1)
def o_person (S : MS) (b d : Int32) : Int32 × MS := if (inF b 0 99 && inF d (b + 1) 100) = true then (if S.1 1 0 = 12 then (-3, S) else (S.1 1 0, addP S b d (-1))) else (-1, S)
def addM (S : MS) (a b y : Int32) : MS := uS (uS (uS (uS S 6 (nm S) a) 7 (nm S) b) 8 (nm S) y) 5 0 (S.1 5 0 + 1)
def o_meet (S : MS) (ab y : Int32) : Int32 × MS :=
  if ab < 0 then (-1, S) else if inF (ab / 100) 0 (S.1 1 0 - 1) = false then (-1, S) else if inF (ab - ab / 100 * 100) 0 (S.1 1 0 - 1) = false then (-1, S) else
  if ab / 100 = ab - ab / 100 * 100 then (-1, S) else if inF y 0 99 = false then (-1, S) else if lvF S (ab / 100) y = false then (-1, S) else if lvF S (ab - ab / 100 * 100) y = false then (-1, S) else
  if S.1 5 0 = 16 then (-3, S) else (S.1 5 0, addM S (ab / 100) (ab - ab / 100 * 100) y)
def vlF (S : MS) (of at_ : Int32) : Int32 := if of = 0 then S.1 3 at_.toNatClampNeg else S.1 10 at_.toNatClampNeg
def lyS (S : MS) (of at_ v : Int32) : MS := if of = 0 then uS S 3 at_.toNatClampNeg v else uS S 10 at_.toNatClampNeg v
/-- the k oldest changes but the first have gone down by one -/
def shN (S : MS) (k : Nat) : MS := (fun f i => if 14 ≤ f ∧ f ≤ 17 ∧ i + 1 < k then S.1 f (i + 1) else S.1 f i, S.2)
def psC (S : MS) (of at_ was v : Int32) : MS := uS (uS (uS (uS (uS S 14 (S.1 12 0).toNatClampNeg of) 15 (S.1 12 0).toNatClampNeg at_) 16 (S.1 12 0).toNatClampNeg was) 17 (S.1 12 0).toNatClampNeg v) 12 0 (S.1 12 0 + 1)
def chP (S : MS) : MS := if S.1 12 0 = 40 then uS (shN (uS S 13 0 0) 40) 12 0 39 else uS S 13 0 0
def o_change (S : MS) (of at_ v : Int32) : Int32 × MS := if vlF S of at_ = v then (v, S) else (vlF S of at_, lyS (psC (chP S) of at_ (vlF S of at_) v) of at_ v)
def unS (S : MS) : MS := uS (uS S 12 0 (S.1 12 0 - 1)) 13 0 (S.1 13 0 + 1)
def o_undo (S : MS) : Int32 × MS := if S.1 12 0 = 0 then (-5, S) else (S.1 12 0 - 1, lyS (unS S) (S.1 14 (S.1 12 0 - 1).toNatClampNeg) (S.1 15 (S.1 12 0 - 1).toNatClampNeg) (S.1 16 (S.1 12 0 - 1).toNatClampNeg))
def o_redo (S : MS) : Int32 × MS := if S.1 13 0 = 0 then (-5, S) else (S.1 13 0 - 1, uS (uS (lyS S (S.1 14 (S.1 12 0).toNatClampNeg) (S.1 15 (S.1 12 0).toNatClampNeg) (S.1 17 (S.1 12 0).toNatClampNeg)) 12 0 (S.1 12 0 + 1)) 13 0 (S.1 13 0 - 1))
def o_mend (S : MS) (n w v : Int32) : Int32 × MS :=
  if w = 0 then (if inF n 0 (S.1 1 0 - 1) = true then (if inF v (S.1 2 n.toNatClampNeg + 1) 100 = true then o_change S 0 n v else (-1, S)) else (-1, S))
  else if w = 1 then (if inF n 0 11 = true then (if inF v 0 9 = true then o_change S 1 n v else (-1, S)) else (-1, S)) else (-1, S)
def a_of (S : MS) (n w : Int32) : Int32 :=
  if inF w 0 3 = true then (if inF n 0 (S.1 1 0 - 1) = true then (if w = 0 then S.1 2 n.toNatClampNeg else if w = 1 then S.1 3 n.toNatClampNeg else if w = 2 then S.1 4 n.toNatClampNeg else I (plF S n)) else VOID)
  else if inF w 10 12 = true then (if inF n 0 11 = true then (if w = 10 then S.1 10 n.toNatClampNeg else if w = 11 then S.1 11 n.toNatClampNeg else bnF S n) else VOID)
  else if inF w 20 22 = true then (if inF n 0 (S.1 5 0 - 1) = true then (if w = 20 then 100 * S.1 6 n.toNatClampNeg + S.1 7 n.toNatClampNeg else if w = 21 then S.1 8 n.toNatClampNeg else bi (ctF S n)) else VOID) else VOID
def o_feed (S : MS) (c : Int32) : Int32 × MS := if inF c 0 255 = true then (if S.1 19 0 = 120 then (-3, S) else (S.1 19 0 + 1, uS (uS S 18 (S.1 19 0).toNatClampNeg c.toInt8.toInt32) 19 0 (S.1 19 0 + 1))) else (-1, S)
/-- the names of the first k are laid by -/
def imN (S : MS) (k : Nat) : MS := (fun f i => if f = 38 ∧ i < k then S.1 4 i else S.1 f i, S.2)
def o_image (S : MS) : Int32 × MS := (S.1 1 0, imN (uS (uS S 36 0 1) 37 0 (S.1 1 0)) (np S))
def bkN (S : MS) (k : Nat) : MS := (fun f i => if f = 4 ∧ i < k then S.1 38 i else S.1 f i, S.2)
def o_back (S : MS) : Int32 × MS := if S.1 36 0 = 0 then (-5, S) else (S.1 37 0, bkN S (S.1 37 0).toNatClampNeg)
def o_body (S : MS) (k : Int32) : Int32 × MS := if inF k 0 7 = true then (if S.1 39 0 = 50 then (-3, S) else (S.1 39 0, uS (uS S 40 (S.1 39 0).toNatClampNeg k) 39 0 (S.1 39 0 + 1))) else (-1, S)
def rnS (S : MS) (b : Int32) : MS := if 24 ≤ S.1 41 0 then uS S 41 0 (S.1 41 0 + 1) else uS (uS S 42 (S.1 41 0).toNatClampNeg b) 41 0 (S.1 41 0 + 1)
def rnL (S : MS) : List Int32 → MS
  | [] => S
  | b :: l => rnL (rnS S b) l
theorem rnL_app {S : MS} {l l' : List Int32} : rnL S (l ++ l') = rnL (rnL S l) l' := by
  induction l generalizing S with
  | nil => rfl
  | cons a l ih => exact ih
def a_trace (S : MS) (i : Int32) : Int32 := if i < 0 then -1 else if S.1 41 0 ≤ i then -1 else if 24 ≤ i then -1 else S.1 42 i.toNatClampNeg
def udF (k a : Int32) : Bool := decide (a = 0) || decide (k = a) || (decide (a = 1) && decide (k = 4)) || (decide (a = 2) && (decide (k = 3) || decide (k = 5))) || (decide (a = 3) && decide (k = 5)) || (decide (a = 6) && decide (k = 7))
def pgL (b x : Int32) : Int32 × List Int32 := (x + b, [1])
def tgL (b x : Int32) : Int32 × List Int32 := ((x + b) * 2, [70, 1])
def giL (k b x : Int32) : Int32 × List Int32 := if udF k 1 = true then ((x + b) + 3, [20, 1]) else if k = 7 then ((x + b) * 2 - 1, [81, 70, 1]) else if k = 6 then tgL b x else pgL b x
def phL (k b x : Int32) : Int32 × List Int32 := ((giL k b x).1 * 2, 10 :: (giL k b x).2)
def soL (k b x : Int32) : Int32 × List Int32 := (-(phL k b x).1, 30 :: (phL k b x).2)
def pkL (b x : Int32) : Int32 × List Int32 := (x ^^^ b, [11])
def wkL (b x : Int32) : Int32 × List Int32 := ((x ^^^ b) * 3, [40, 11])
def knL (k b x : Int32) : Int32 × List Int32 := if k = 5 then ((wkL b x).1 - (giL k b 2).1, 60 :: ((wkL b x).2 ++ (giL k b 2).2)) else if k = 3 then wkL b x else pkL b x
def hoL (k b x : Int32) : Int32 × List Int32 := if udF k 3 = true then ((soL k b (x + 1)).1, 41 :: (soL k b (x + 1)).2) else if k = 7 then ((phL k b x).1 + (knL k b 2).1, 80 :: ((phL k b x).2 ++ (knL k b 2).2)) else if k = 2 then soL k b x else phL k b x
def ptL (k b x : Int32) : Int32 × List Int32 := ((hoL k b x).1 - (knL k b 1).1, 2 :: ((hoL k b x).2 ++ (knL k b 1).2))
def teL (k b x : Int32) : Int32 × List Int32 := if k = 4 then ((ptL k b x).1 ^^^ 5, 50 :: (ptL k b x).2) else if k = 5 then ((ptL k b x).1 + 1, 61 :: (ptL k b x).2) else ptL k b x
def acL (k b w x : Int32) : Int32 × List Int32 := if w = 0 then giL k b x else if w = 1 then hoL k b x else if w = 2 then knL k b x else teL k b x
def o_act (S : MS) (b w x : Int32) : Int32 × MS := if inF b 0 (S.1 39 0 - 1) = true then (if inF w 0 3 = true then ((acL (S.1 40 b.toNatClampNeg) b w x).1, rnL (uS S 41 0 0) (acL (S.1 40 b.toNatClampNeg) b w x).2) else (0, uS S 41 0 0)) else (0, uS S 41 0 0)
def a_count (S : MS) (w : Int32) : Int32 := if w = 0 then S.1 1 0 else if w = 1 then S.1 5 0 else if w = 2 then I (nyF S) else if w = 3 then S.1 19 0 else if w = 4 then S.1 12 0 else if w = 5 then S.1 39 0 else if w = 6 then S.1 41 0 else -1
theorem add1_sub1 (x : Int32) : x + 1 - 1 = x := by rw [Int32.sub_eq_add_neg, Int32.add_assoc]; exact Int32.add_zero x
section
variable {G : GG} {m : Nat} {S t sg : MS} {L : Lw} {Q : Outcome → MS → Prop}
theorem A_hearing {v : Int32} (hQ : Q (.returned (some (.int (o_hearing S v).1))) (ov (o_hearing S v).2 t)) : MR G mX5_hearing 2 0 [(0, .ref m), (1, .int v)] [] m (ov S t) Q := by
  apply sX5_hearing_0
  apply M_in
  simp only [uo_0, uo_1, uo_2, uo_3, uo_4, uo_5, uo_6, uo_7, uo_8, uo_9, uo_10, uo_11, uo_12, uo_13, uo_14, uo_15, uo_16, uo_17, uo_18, uo_19, uo_20, uo_21, uo_22, uo_23, uo_24, uo_25, uo_26, uo_27, uo_28, uo_29, uo_30, uo_31, uo_32, uo_33, uo_34, uo_35, uo_36, uo_37, uo_38, uo_39, uo_40, uo_41, uo_42, uo_43, uo_44, uo_45, uE_ov, ov_0, ov_1, ov_2, ov_3, ov_4, ov_5, ov_6, ov_7, ov_8, ov_9, ov_10, ov_11, ov_12, ov_13, ov_14, ov_15, ov_16, ov_17, ov_18, ov_19, ov_20, ov_21, ov_22, ov_23, ov_24, ov_25, ov_26, ov_27, ov_28, ov_29, ov_30, ov_31, ov_32, ov_33, ov_34, ov_35, ov_36, ov_37, ov_38, ov_39, ov_40, ov_41, ov_42, ov_43, ov_44, ov_45, ov_46, ov_e, ov_s]
  refine ⟨_, rfl, fun c => ?_, fun c => ?_⟩ <;> simpa [o_hearing, c] using hQ
theorem A_name (hS : Ppl S) {p v : Int32} (hQ : Q (.returned (some (.int (o_name S p v).1))) (ov (o_name S p v).2 t)) : MR G mX5_name 3 0 [(0, .ref m), (1, .int p), (2, .int v)] [] m (ov S t) Q := by
  have h12 := hS.n
  apply sX5_name_0
  apply M_isPerson
  rw [ov_1]
  refine ⟨_, rfl, fun c => by simpa [o_name, c] using hQ, fun c => ?_⟩
  have c' := c
  rw [hS.e] at c'
  obtain ⟨q, hq, rfl⟩ := inF_p (by omega) c'
  have vq : vp_in (I q) 12 := vp_I (by omega) (by omega)
  apply M_in
  simp only [uo_0, uo_1, uo_2, uo_3, uo_4, uo_5, uo_6, uo_7, uo_8, uo_9, uo_10, uo_11, uo_12, uo_13, uo_14, uo_15, uo_16, uo_17, uo_18, uo_19, uo_20, uo_21, uo_22, uo_23, uo_24, uo_25, uo_26, uo_27, uo_28, uo_29, uo_30, uo_31, uo_32, uo_33, uo_34, uo_35, uo_36, uo_37, uo_38, uo_39, uo_40, uo_41, uo_42, uo_43, uo_44, uo_45, uE_ov, ov_0, ov_1, ov_2, ov_3, ov_4, ov_5, ov_6, ov_7, ov_8, ov_9, ov_10, ov_11, ov_12, ov_13, ov_14, ov_15, ov_16, ov_17, ov_18, ov_19, ov_20, ov_21, ov_22, ov_23, ov_24, ov_25, ov_26, ov_27, ov_28, ov_29, ov_30, ov_31, ov_32, ov_33, ov_34, ov_35, ov_36, ov_37, ov_38, ov_39, ov_40, ov_41, ov_42, ov_43, ov_44, ov_45, ov_46, ov_e, ov_s]
  refine ⟨_, rfl, fun c2 => ⟨vq, vq, ?_⟩, fun c2 => ?_⟩ <;> simpa [o_name, c, c2] using hQ
theorem A_fame {n v : Int32} (hQ : Q (.returned (some (.int (o_fame S n v).1))) (ov (o_fame S n v).2 t)) : MR G mX5_fame 3 0 [(0, .ref m), (1, .int n), (2, .int v)] [] m (ov S t) Q := by
  apply sX5_fame_0
  apply M_isName
  refine ⟨_, rfl, fun c => by simpa [o_fame, c] using hQ, fun c => ?_⟩
  obtain ⟨q, hq, rfl⟩ := inF_nat (n := 11) (by omega) c
  have vq : vp_in (I q) 12 := vp_I (by omega) (by omega)
  apply M_in
  simp only [uo_0, uo_1, uo_2, uo_3, uo_4, uo_5, uo_6, uo_7, uo_8, uo_9, uo_10, uo_11, uo_12, uo_13, uo_14, uo_15, uo_16, uo_17, uo_18, uo_19, uo_20, uo_21, uo_22, uo_23, uo_24, uo_25, uo_26, uo_27, uo_28, uo_29, uo_30, uo_31, uo_32, uo_33, uo_34, uo_35, uo_36, uo_37, uo_38, uo_39, uo_40, uo_41, uo_42, uo_43, uo_44, uo_45, uE_ov, ov_0, ov_1, ov_2, ov_3, ov_4, ov_5, ov_6, ov_7, ov_8, ov_9, ov_10, ov_11, ov_12, ov_13, ov_14, ov_15, ov_16, ov_17, ov_18, ov_19, ov_20, ov_21, ov_22, ov_23, ov_24, ov_25, ov_26, ov_27, ov_28, ov_29, ov_30, ov_31, ov_32, ov_33, ov_34, ov_35, ov_36, ov_37, ov_38, ov_39, ov_40, ov_41, ov_42, ov_43, ov_44, ov_45, ov_46, ov_e, ov_s]
  refine ⟨_, rfl, fun c2 => ⟨vq, vq, ?_⟩, fun c2 => ?_⟩ <;> simpa [o_fame, c, c2] using hQ
theorem M_addPerson (hS : Ppl S) (h : np S < 12) {b d n : Int32} (hQ : Q (.returned (some (.int (S.1 1 0)))) (ov (addP S b d n) t)) : MR G mX5_addPerson 1 0 [(0, .ref m), (1, .int b), (2, .int d), (3, .int n)] [] m (ov S t) Q := by
  apply sX5_addPerson_0
  simp only [uo_0, uo_1, uo_2, uo_3, uo_4, uo_5, uo_6, uo_7, uo_8, uo_9, uo_10, uo_11, uo_12, uo_13, uo_14, uo_15, uo_16, uo_17, uo_18, uo_19, uo_20, uo_21, uo_22, uo_23, uo_24, uo_25, uo_26, uo_27, uo_28, uo_29, uo_30, uo_31, uo_32, uo_33, uo_34, uo_35, uo_36, uo_37, uo_38, uo_39, uo_40, uo_41, uo_42, uo_43, uo_44, uo_45, uE_ov, ov_0, ov_1, ov_2, ov_3, ov_4, ov_5, ov_6, ov_7, ov_8, ov_9, ov_10, ov_11, ov_12, ov_13, ov_14, ov_15, ov_16, ov_17, ov_18, ov_19, ov_20, ov_21, ov_22, ov_23, ov_24, ov_25, ov_26, ov_27, ov_28, ov_29, ov_30, ov_31, ov_32, ov_33, ov_34, ov_35, ov_36, ov_37, ov_38, ov_39, ov_40, ov_41, ov_42, ov_43, ov_44, ov_45, ov_46, ov_e, ov_s]
  rw [uS_ne (k' := 1) (by decide), uS_ne (k' := 1) (by decide), uS_ne (k' := 1) (by decide), uS_at]
  have v : vp_in (S.1 1 0) 12 := by rw [hS.e]; exact vp_I h (by omega)
  refine ⟨v, v, v, ?_⟩
  rw [add1_sub1]; exact hQ
theorem np_ne {S : MS} (hS : Ppl S) (c : ¬ S.1 1 0 = 12) : np S < 12 := by
  have h12 := hS.n
  apply Nat.lt_of_le_of_ne h12
  intro e; apply c; rw [hS.e, e]; rfl
theorem A_person (hS : Ppl S) {b d : Int32} (hQ : Q (.returned (some (.int (o_person S b d).1))) (ov (o_person S b d).2 t)) : MR G mX5_person 4 0 [(0, .ref m), (1, .int b), (2, .int d)] [] m (ov S t) Q := by
  apply sX5_person_0
  apply M_isLife
  refine ⟨_, rfl, fun c => ⟨fun c2 => ?_, fun c2 => ?_⟩, fun c => ?_⟩
  · have c2 : ¬ S.1 1 0 = 12 := c2
    apply M_addPerson hS (np_ne hS c2)
    refine ⟨_, rfl, ?_⟩
    simpa only [o_person, if_pos c, if_neg c2] using hQ
  · have c2 : S.1 1 0 = 12 := c2
    simpa only [o_person, if_pos c, if_pos c2] using hQ
  · have c' : ¬ (inF b 0 99 && inF d (b + 1) 100) = true := by rw [c]; decide
    simpa only [o_person, if_neg c'] using hQ
theorem A_meet (hS : Ppl S) (hM : Mtg S) {ab y : Int32} (hQ : Q (.returned (some (.int (o_meet S ab y).1))) (ov (o_meet S ab y).2 t)) : MR G mX5_meet 3 0 [(0, .ref m), (1, .int ab), (2, .int y)] [] m (ov S t) Q := by
  have h12 := hS.n
  have h16 := hM.n
  unfold o_meet at hQ
  apply sX5_meet_0
  refine ⟨fun c => by rw [if_pos c] at hQ; exact hQ, fun c => ?_⟩
  rw [if_neg c] at hQ
  apply M_isPerson
  rw [ov_1]
  refine ⟨_, rfl, fun c1 => by rw [if_pos c1] at hQ; exact hQ, fun c1 => ?_⟩
  rw [if_neg (by rw [c1]; decide)] at hQ
  apply M_isPerson
  rw [ov_1]
  refine ⟨_, rfl, fun c2 => by rw [if_pos c2] at hQ; exact hQ, fun c2 => ?_⟩
  rw [if_neg (by rw [c2]; decide)] at hQ
  refine ⟨fun c3 => by rw [if_pos c3] at hQ; exact hQ, fun c3 => ?_⟩
  rw [if_neg c3] at hQ
  apply M_isYear
  refine ⟨_, rfl, fun c4 => by rw [if_pos c4] at hQ; exact hQ, fun c4 => ?_⟩
  rw [if_neg (by rw [c4]; decide)] at hQ
  have va : vp_in (ab / 100) 12 := by
    rw [hS.e] at c1
    obtain ⟨q, hq, e⟩ := inF_p (by omega) c1
    rw [e]; exact vp_I (by omega) (by omega)
  have vb : vp_in (ab - ab / 100 * 100) 12 := by
    rw [hS.e] at c2
    obtain ⟨q, hq, e⟩ := inF_p (by omega) c2
    rw [e]; exact vp_I (by omega) (by omega)
  apply M_lives va
  refine ⟨_, rfl, fun c5 => by rw [if_pos c5] at hQ; exact hQ, fun c5 => ?_⟩
  rw [if_neg (by rw [c5]; decide)] at hQ
  apply M_lives vb
  refine ⟨_, rfl, fun c6 => ?_, fun c6 => by rw [if_pos c6] at hQ; exact hQ⟩
  rw [if_neg (by rw [c6]; decide)] at hQ
  simp only [uo_0, uo_1, uo_2, uo_3, uo_4, uo_5, uo_6, uo_7, uo_8, uo_9, uo_10, uo_11, uo_12, uo_13, uo_14, uo_15, uo_16, uo_17, uo_18, uo_19, uo_20, uo_21, uo_22, uo_23, uo_24, uo_25, uo_26, uo_27, uo_28, uo_29, uo_30, uo_31, uo_32, uo_33, uo_34, uo_35, uo_36, uo_37, uo_38, uo_39, uo_40, uo_41, uo_42, uo_43, uo_44, uo_45, uE_ov, ov_0, ov_1, ov_2, ov_3, ov_4, ov_5, ov_6, ov_7, ov_8, ov_9, ov_10, ov_11, ov_12, ov_13, ov_14, ov_15, ov_16, ov_17, ov_18, ov_19, ov_20, ov_21, ov_22, ov_23, ov_24, ov_25, ov_26, ov_27, ov_28, ov_29, ov_30, ov_31, ov_32, ov_33, ov_34, ov_35, ov_36, ov_37, ov_38, ov_39, ov_40, ov_41, ov_42, ov_43, ov_44, ov_45, ov_46, ov_e, ov_s]
  rw [uS_ne (k' := 5) (by decide), uS_ne (k' := 5) (by decide), uS_ne (k' := 5) (by decide), uS_at, add1_sub1]
  refine ⟨fun c7 => ?_, fun c7 => by rw [if_pos c7] at hQ; exact hQ⟩
  rw [if_neg c7] at hQ
  have v : vp_in (S.1 5 0) 16 := by
    rw [hM.e]
    refine vp_I (Nat.lt_of_le_of_ne h16 (fun e => ?_)) (by omega)
    apply c7; rw [hM.e, e]; rfl
  exact ⟨v, v, v, hQ⟩
theorem M_lays {of at_ v : Int32} (ha : vp_in at_ 12) (hQ : Q (.returned none) (ov (lyS S of at_ v) t)) : MR G mX5_lays 1 0 [(0, .ref m), (1, .int of), (2, .int at_), (3, .int v)] [] m (ov S t) Q := by
  apply sX5_lays_0
  rw [uo_10, uo_3]
  refine ⟨fun c => ⟨ha, ?_⟩, fun c => ⟨ha, ?_⟩⟩ <;> simpa [lyS, c] using hQ
theorem shN_s {S : MS} {k : Nat} (h1 : 1 ≤ k) : uS (uS (uS (uS (shN S k) 14 (k - 1) (S.1 14 k)) 15 (k - 1) (S.1 15 k)) 16 (k - 1) (S.1 16 k)) 17 (k - 1) (S.1 17 k) = shN S (k + 1) := by
  unfold shN uS up2
  congr 1
  funext f i
  simp only
  by_cases e : i = k - 1
  · subst e
    have e1 : k - 1 + 1 = k := by omega
    by_cases f7 : f = 17
    · subst f7; simp [e1]
    · by_cases f6 : f = 16
      · subst f6; simp [e1]
      · by_cases f5 : f = 15
        · subst f5; simp [e1]
        · by_cases f4 : f = 14
          · subst f4; simp [e1]
          · have : ¬ (14 ≤ f ∧ f ≤ 17) := by omega
            simp only [f7, f6, f5, f4, false_and, if_false]
            rw [if_neg (by omega), if_neg (by omega)]
  · simp [e]
    have : (i + 1 < k + 1) ↔ (i + 1 < k) ∨ i + 1 = k := by omega
    by_cases c : 14 ≤ f ∧ f ≤ 17
    · have : (i + 1 < k ↔ i < k) := by omega
      simp [c, this]
    · by_cases d : 14 ≤ f
      · have : ¬ f ≤ 17 := fun x => c ⟨d, x⟩
        simp [this]
      · simp [d]
theorem M_changes {nd : Nat} (hnd : nd ≤ 40) (e12 : S.1 12 0 = I nd) {of at_ v : Int32} (ha : vp_in at_ 12) (hQ : Q (.returned (some (.int (o_change S of at_ v).1))) (ov (o_change S of at_ v).2 t)) : MR G mX5_changes 2 0 [(0, .ref m), (1, .int of), (2, .int at_), (3, .int v)] [] m (ov S t) Q := by
  unfold o_change at hQ
  have push : ∀ S1 : MS, (∃ k, k < 40 ∧ S1.1 12 0 = I k) → ∀ w, Q (.returned (some (.int w))) (ov (lyS (psC S1 of at_ w v) of at_ v) t) → MR G mX5_changes 2 121 [(0, .ref m), (1, .int of), (2, .int at_), (3, .int v), (4, .int w)] [] m (ov S1 t) Q := by
    intro S1 hk w hq
    apply sX5_changes_121
    simp only [uo_0, uo_1, uo_2, uo_3, uo_4, uo_5, uo_6, uo_7, uo_8, uo_9, uo_10, uo_11, uo_12, uo_13, uo_14, uo_15, uo_16, uo_17, uo_18, uo_19, uo_20, uo_21, uo_22, uo_23, uo_24, uo_25, uo_26, uo_27, uo_28, uo_29, uo_30, uo_31, uo_32, uo_33, uo_34, uo_35, uo_36, uo_37, uo_38, uo_39, uo_40, uo_41, uo_42, uo_43, uo_44, uo_45, uE_ov, ov_0, ov_1, ov_2, ov_3, ov_4, ov_5, ov_6, ov_7, ov_8, ov_9, ov_10, ov_11, ov_12, ov_13, ov_14, ov_15, ov_16, ov_17, ov_18, ov_19, ov_20, ov_21, ov_22, ov_23, ov_24, ov_25, ov_26, ov_27, ov_28, ov_29, ov_30, ov_31, ov_32, ov_33, ov_34, ov_35, ov_36, ov_37, ov_38, ov_39, ov_40, ov_41, ov_42, ov_43, ov_44, ov_45, ov_46, ov_e, ov_s]
    rw [uS_ne (k' := 12) (by decide), uS_ne (k' := 12) (by decide), uS_ne (k' := 12) (by decide), uS_ne (k' := 12) (by decide)]
    obtain ⟨k, hk, e⟩ := hk
    have v40 : vp_in (S1.1 12 0) 40 := by rw [e]; exact vp_I hk (by omega)
    refine ⟨v40, v40, v40, v40, ?_⟩
    apply M_lays ha
    exact ⟨rfl, hq⟩
  have go : ∀ w, w = vlF S of at_ → MR G mX5_valueAt 1 0 [(0, .ref m), (1, .int of), (2, .int at_)] [] m (ov S t) (fun o sg1 => ∃ r2 : Int32, o = .returned (some (.int r2)) ∧ ((¬ r2 = v → ((¬ ((uS sg1 13 0 0).1 12 0) = 40 → (MR G mX5_changes 2 121 [(0, .ref m), (1, .int of), (2, .int at_), (3, .int v), (4, .int r2)] [] m (uS sg1 13 0 0) Q)) ∧ (((uS sg1 13 0 0).1 12 0) = 40 → (MR G mX5_changes 2 34 [(0, .ref m), (1, .int of), (2, .int at_), (3, .int v), (4, .int r2), (5, .int 1)] [] m (uS sg1 13 0 0) Q)))) ∧ (r2 = v → (Q (.returned (some (.int r2))) sg1)))) := by
    intro w hw
    apply sX5_valueAt_0
    have rest : (¬ w = v → ((¬ ((uS (ov S t) 13 0 0).1 12 0) = 40 → (MR G mX5_changes 2 121 [(0, .ref m), (1, .int of), (2, .int at_), (3, .int v), (4, .int w)] [] m (uS (ov S t) 13 0 0) Q)) ∧ (((uS (ov S t) 13 0 0).1 12 0) = 40 → (MR G mX5_changes 2 34 [(0, .ref m), (1, .int of), (2, .int at_), (3, .int v), (4, .int w), (5, .int 1)] [] m (uS (ov S t) 13 0 0) Q)))) ∧ (w = v → (Q (.returned (some (.int w))) (ov S t))) := by
      rw [uo_13, ov_12, uS_ne (k' := 12) (by decide)]
      rw [← hw] at hQ
      refine ⟨fun c => ⟨fun c2 => ?_, fun c2 => ?_⟩, fun c => ?_⟩
      · refine push _ ⟨nd, Nat.lt_of_le_of_ne hnd (fun e => c2 (by rw [e12, e]; rfl)), by rw [uS_ne (by decide)]; exact e12⟩ w ?_
        rw [if_neg c] at hQ
        simpa only [chP, if_neg c2] using hQ
      · have loop : ∀ k, k ≤ 40 → 1 ≤ k → MR G mX5_changes 2 34 [(0, .ref m), (1, .int of), (2, .int at_), (3, .int v), (4, .int w), (5, .int (I k))] [] m (ov (shN (uS S 13 0 0) k) t) Q := by
          refine up_ind ?_ (fun k hk ih => ?_)
          · intro _
            refine sX5_changes_34 ⟨fun _ => ?_, fun c => absurd (c_end (n := 40) (by omega)) c⟩
            rw [uo_12]
            have e40 : (shN (uS S 13 0 0) 40).1 12 0 = 40 := by
              show S.1 12 0 = 40
              exact c2
            refine push _ ⟨39, by omega, ?_⟩ w ?_
            · rw [uS_at, ov_12, e40]; rfl
            · rw [if_neg c] at hQ
              rw [ov_12, e40, show (40 : Int32) - 1 = 39 from rfl]
              simpa only [chP, if_pos c2] using hQ
          · intro h1
            have ih := ih (by omega)
            have v1 : vp_in (I k) 40 := vp_I hk (by omega)
            have v2 : vp_in (I (k - 1)) 40 := vp_I (by omega) (by omega)
            apply sX5_changes_34
            rw [I_succ, I_pred h1, I_nat (by omega), I_nat (by omega)]
            refine ⟨fun c => absurd c (c_lt (n := 40) (by omega) hk), fun _ => ⟨v1, v2, v1, v2, v1, v2, v1, v2, ?_⟩⟩
            simp only [uo_0, uo_1, uo_2, uo_3, uo_4, uo_5, uo_6, uo_7, uo_8, uo_9, uo_10, uo_11, uo_12, uo_13, uo_14, uo_15, uo_16, uo_17, uo_18, uo_19, uo_20, uo_21, uo_22, uo_23, uo_24, uo_25, uo_26, uo_27, uo_28, uo_29, uo_30, uo_31, uo_32, uo_33, uo_34, uo_35, uo_36, uo_37, uo_38, uo_39, uo_40, uo_41, uo_42, uo_43, uo_44, uo_45, uE_ov, ov_0, ov_1, ov_2, ov_3, ov_4, ov_5, ov_6, ov_7, ov_8, ov_9, ov_10, ov_11, ov_12, ov_13, ov_14, ov_15, ov_16, ov_17, ov_18, ov_19, ov_20, ov_21, ov_22, ov_23, ov_24, ov_25, ov_26, ov_27, ov_28, ov_29, ov_30, ov_31, ov_32, ov_33, ov_34, ov_35, ov_36, ov_37, ov_38, ov_39, ov_40, ov_41, ov_42, ov_43, ov_44, ov_45, ov_46, ov_e, ov_s]
            rw [← shN_s h1] at ih
            have q : ∀ f, (shN (uS S 13 0 0) k).1 f k = (uS S 13 0 0).1 f k := by
              intro f
              show (if 14 ≤ f ∧ f ≤ 17 ∧ k + 1 < k then _ else _) = _
              rw [if_neg (by omega)]
            rw [uS_ne (k' := 15) (by decide), uS_ne (k' := 16) (by decide), uS_ne (k' := 16) (by decide), uS_ne (k' := 17) (by decide), uS_ne (k' := 17) (by decide), uS_ne (k' := 17) (by decide), q, q, q, q]
            exact ih
        have := loop 1 (by omega) (by omega)
        have e1 : shN (uS S 13 0 0) 1 = uS S 13 0 0 := by
          unfold shN
          congr 1
          funext f i
          rw [if_neg (by omega)]; rfl
        rw [e1] at this
        exact this
      · rw [if_pos c] at hQ; rw [c]; exact hQ
    refine ⟨fun c => ⟨ha, _, rfl, ?_⟩, fun c => ⟨ha, _, rfl, ?_⟩⟩
    · have : w = (ov S t).1 10 at_.toNatClampNeg := by rw [hw]; simp [vlF, c, ov_10]
      rw [this] at rest; exact rest
    · have : w = (ov S t).1 3 at_.toNatClampNeg := by rw [hw]; simp [vlF, c, ov_3]
      rw [this] at rest; exact rest
  exact sX5_changes_0 (go _ rfl)
theorem A_undo {nd : Nat} (hnd : nd ≤ 40) (e12 : S.1 12 0 = I nd) (ha : ∀ k, k < nd → vp_in (S.1 15 k) 12) (hQ : Q (.returned (some (.int (o_undo S).1))) (ov (o_undo S).2 t)) : MR G mX5_undo 2 0 [(0, .ref m)] [] m (ov S t) Q := by
  unfold o_undo at hQ
  apply sX5_undo_0
  simp only [uo_0, uo_1, uo_2, uo_3, uo_4, uo_5, uo_6, uo_7, uo_8, uo_9, uo_10, uo_11, uo_12, uo_13, uo_14, uo_15, uo_16, uo_17, uo_18, uo_19, uo_20, uo_21, uo_22, uo_23, uo_24, uo_25, uo_26, uo_27, uo_28, uo_29, uo_30, uo_31, uo_32, uo_33, uo_34, uo_35, uo_36, uo_37, uo_38, uo_39, uo_40, uo_41, uo_42, uo_43, uo_44, uo_45, uE_ov, ov_0, ov_1, ov_2, ov_3, ov_4, ov_5, ov_6, ov_7, ov_8, ov_9, ov_10, ov_11, ov_12, ov_13, ov_14, ov_15, ov_16, ov_17, ov_18, ov_19, ov_20, ov_21, ov_22, ov_23, ov_24, ov_25, ov_26, ov_27, ov_28, ov_29, ov_30, ov_31, ov_32, ov_33, ov_34, ov_35, ov_36, ov_37, ov_38, ov_39, ov_40, ov_41, ov_42, ov_43, ov_44, ov_45, ov_46, ov_e, ov_s]
  rw [uS_ne (k' := 13) (by decide), uS_ne (k' := 12) (by decide), uS_at, uS_ne (k' := 14) (by decide), uS_ne (k' := 14) (by decide), uS_ne (k' := 15) (by decide), uS_ne (k' := 15) (by decide), uS_ne (k' := 16) (by decide), uS_ne (k' := 16) (by decide)]
  refine ⟨fun c => ?_, fun c => by rw [if_pos c] at hQ; exact hQ⟩
  rw [if_neg c] at hQ
  have hn0 : 1 ≤ nd := by
    apply Nat.pos_of_ne_zero
    intro e; apply c; rw [e12, e]; rfl
  have e13 : S.1 12 0 - 1 = I (nd - 1) := by rw [e12]; exact I_pred hn0
  have v40 : vp_in (S.1 12 0 - 1) 40 := by rw [e13]; exact vp_I (by omega) (by omega)
  refine ⟨v40, v40, v40, ?_⟩
  apply M_lays
  · rw [e13, I_nat (by omega)]; exact ha _ (by omega)
  · refine ⟨rfl, qi hQ ?_⟩
    rw [ov_12]
    unfold lyS
    split
    · rw [uS_ne (k' := 12) (by decide), uS_ne (k' := 12) (by decide), uS_at]
    · rw [uS_ne (k' := 12) (by decide), uS_ne (k' := 12) (by decide), uS_at]
theorem A_redo {nd nu : Nat} (hnd : nd + nu ≤ 40) (e12 : S.1 12 0 = I nd) (e13 : S.1 13 0 = I nu) (ha : ∀ k, k < nd + nu → vp_in (S.1 15 k) 12) (hQ : Q (.returned (some (.int (o_redo S).1))) (ov (o_redo S).2 t)) : MR G mX5_redo 2 0 [(0, .ref m)] [] m (ov S t) Q := by
  unfold o_redo at hQ
  apply sX5_redo_0
  simp only [ov_0, ov_1, ov_2, ov_3, ov_4, ov_5, ov_6, ov_7, ov_8, ov_9, ov_10, ov_11, ov_12, ov_13, ov_14, ov_15, ov_16, ov_17, ov_18, ov_19, ov_20, ov_21, ov_22, ov_23, ov_24, ov_25, ov_26, ov_27, ov_28, ov_29, ov_30, ov_31, ov_32, ov_33, ov_34, ov_35, ov_36, ov_37, ov_38, ov_39, ov_40, ov_41, ov_42, ov_43, ov_44, ov_45, ov_46, ov_e, ov_s]
  refine ⟨fun c => ?_, fun c => by rw [if_pos c] at hQ; exact hQ⟩
  rw [if_neg c] at hQ
  have hn0 : 1 ≤ nu := by
    apply Nat.pos_of_ne_zero
    intro e; apply c; rw [e13, e]; rfl
  have v40 : vp_in (S.1 12 0) 40 := by rw [e12]; exact vp_I (by omega) (by omega)
  refine ⟨v40, v40, v40, ?_⟩
  apply M_lays
  · rw [e12, I_nat (by omega)]; exact ha _ (by omega)
  · refine ⟨rfl, ?_⟩
    simp only [uo_0, uo_1, uo_2, uo_3, uo_4, uo_5, uo_6, uo_7, uo_8, uo_9, uo_10, uo_11, uo_12, uo_13, uo_14, uo_15, uo_16, uo_17, uo_18, uo_19, uo_20, uo_21, uo_22, uo_23, uo_24, uo_25, uo_26, uo_27, uo_28, uo_29, uo_30, uo_31, uo_32, uo_33, uo_34, uo_35, uo_36, uo_37, uo_38, uo_39, uo_40, uo_41, uo_42, uo_43, uo_44, uo_45, uE_ov, ov_0, ov_1, ov_2, ov_3, ov_4, ov_5, ov_6, ov_7, ov_8, ov_9, ov_10, ov_11, ov_12, ov_13, ov_14, ov_15, ov_16, ov_17, ov_18, ov_19, ov_20, ov_21, ov_22, ov_23, ov_24, ov_25, ov_26, ov_27, ov_28, ov_29, ov_30, ov_31, ov_32, ov_33, ov_34, ov_35, ov_36, ov_37, ov_38, ov_39, ov_40, ov_41, ov_42, ov_43, ov_44, ov_45, ov_46, ov_e, ov_s]
    have q12 : ∀ a b c, (lyS S a b c).1 12 0 = S.1 12 0 := by intro a b c; unfold lyS; split <;> rw [uS_ne (k' := 12) (by decide)]
    have q13 : ∀ a b c, (lyS S a b c).1 13 0 = S.1 13 0 := by intro a b c; unfold lyS; split <;> rw [uS_ne (k' := 13) (by decide)]
    rw [uS_at, uS_ne (k' := 13) (by decide), q13, q12]
    exact hQ
theorem A_mend (hS : Ppl S) {nd : Nat} (hnd : nd ≤ 40) (e12 : S.1 12 0 = I nd) {n w v : Int32} (hQ : Q (.returned (some (.int (o_mend S n w v).1))) (ov (o_mend S n w v).2 t)) : MR G mX5_mend 3 0 [(0, .ref m), (1, .int n), (2, .int w), (3, .int v)] [] m (ov S t) Q := by
  have h12 := hS.n
  unfold o_mend at hQ
  apply sX5_mend_0
  refine ⟨fun c => ⟨fun c2 => ?_, fun c2 => ?_⟩, fun c => ?_⟩
  · rw [if_neg c, if_neg c2] at hQ; exact hQ
  · rw [if_neg c, if_pos c2] at hQ
    apply M_isName
    refine ⟨_, rfl, fun c3 => by rw [if_neg (by rw [c3]; decide)] at hQ; exact hQ, fun c3 => ?_⟩
    rw [if_pos c3] at hQ
    obtain ⟨q, hq, rfl⟩ := inF_nat (n := 11) (by omega) c3
    apply M_in
    refine ⟨_, rfl, fun c4 => by rw [if_neg (by rw [c4]; decide)] at hQ; exact hQ, fun c4 => ?_⟩
    rw [if_pos c4] at hQ
    apply M_changes hnd e12 (vp_I (by omega) (by omega))
    exact ⟨_, rfl, hQ⟩
  · rw [if_pos c] at hQ
    apply M_isPerson
    rw [ov_1]
    refine ⟨_, rfl, fun c3 => by rw [if_neg (by rw [c3]; decide)] at hQ; exact hQ, fun c3 => ?_⟩
    rw [if_pos c3] at hQ
    have c' := c3
    rw [hS.e] at c'
    obtain ⟨q, hq, rfl⟩ := inF_p (by omega) c'
    have vq : vp_in (I q) 12 := vp_I (by omega) (by omega)
    refine ⟨vq, ?_⟩
    apply M_in
    rw [ov_2]
    refine ⟨_, rfl, fun c4 => by rw [if_neg (by rw [c4]; decide)] at hQ; exact hQ, fun c4 => ?_⟩
    rw [if_pos c4] at hQ
    apply M_changes hnd e12 vq
    exact ⟨_, rfl, hQ⟩
theorem A_of (hS : Ppl S) (hM : Mtg S) {n w : Int32} (hQ : Q (.returned (some (.int (a_of S n w)))) (ov S t)) : MR G mX5_of 3 0 [(0, .ref m), (1, .int n), (2, .int w)] [] m (ov S t) Q := by
  have h12 := hS.n
  have h16 := hM.n
  unfold a_of at hQ
  apply sX5_of_0
  apply M_in
  refine ⟨_, rfl, fun c => ?_, fun c => ?_⟩
  · rw [if_neg (by rw [c]; decide)] at hQ
    apply M_in
    refine ⟨_, rfl, fun c1 => ?_, fun c1 => ?_⟩
    · rw [if_neg (by rw [c1]; decide)] at hQ
      apply M_in
      refine ⟨_, rfl, fun c2 => by rw [if_neg (by rw [c2]; decide)] at hQ; exact hQ, fun c2 => ?_⟩
      rw [if_pos c2] at hQ
      apply M_in
      simp only [ov_0, ov_1, ov_2, ov_3, ov_4, ov_5, ov_6, ov_7, ov_8, ov_9, ov_10, ov_11, ov_12, ov_13, ov_14, ov_15, ov_16, ov_17, ov_18, ov_19, ov_20, ov_21, ov_22, ov_23, ov_24, ov_25, ov_26, ov_27, ov_28, ov_29, ov_30, ov_31, ov_32, ov_33, ov_34, ov_35, ov_36, ov_37, ov_38, ov_39, ov_40, ov_41, ov_42, ov_43, ov_44, ov_45, ov_46, ov_e, ov_s]
      refine ⟨_, rfl, fun c3 => ?_, fun c3 => by rw [if_neg (by rw [c3]; decide)] at hQ; exact hQ⟩
      rw [if_pos c3] at hQ
      have c' := c3
      rw [hM.e] at c'
      obtain ⟨q, hq, rfl⟩ := inF_p (by omega) c'
      have vq : vp_in (I q) 16 := vp_I (by omega) (by omega)
      obtain ⟨a, b, ha, hb, la, lb, hab⟩ := hM.2.2 q hq
      refine ⟨fun c4 => ⟨fun c5 => ?_, fun c5 => ⟨vq, ?_⟩⟩, fun c4 => ⟨vq, vq, ?_⟩⟩
      · rw [if_neg c4, if_neg c5] at hQ
        apply M_counts vq
        · rw [I_nat (by omega), ha]; exact vp_I (by omega) (by omega)
        · rw [I_nat (by omega), hb]; exact vp_I (by omega) (by omega)
        refine ⟨_, rfl, fun c6 => ?_, fun c6 => ?_⟩ <;> rw [c6] at hQ <;> exact hQ
      · rw [if_neg c4, if_pos c5] at hQ; exact hQ
      · rw [if_pos c4] at hQ; exact hQ
    · rw [if_pos c1] at hQ
      apply M_isName
      simp only [ov_0, ov_1, ov_2, ov_3, ov_4, ov_5, ov_6, ov_7, ov_8, ov_9, ov_10, ov_11, ov_12, ov_13, ov_14, ov_15, ov_16, ov_17, ov_18, ov_19, ov_20, ov_21, ov_22, ov_23, ov_24, ov_25, ov_26, ov_27, ov_28, ov_29, ov_30, ov_31, ov_32, ov_33, ov_34, ov_35, ov_36, ov_37, ov_38, ov_39, ov_40, ov_41, ov_42, ov_43, ov_44, ov_45, ov_46, ov_e, ov_s]
      refine ⟨_, rfl, fun c3 => ?_, fun c3 => by rw [if_neg (by rw [c3]; decide)] at hQ; exact hQ⟩
      rw [if_pos c3] at hQ
      obtain ⟨q, hq, rfl⟩ := inF_nat (n := 11) (by omega) c3
      have vq : vp_in (I q) 12 := vp_I (by omega) (by omega)
      refine ⟨fun c4 => ⟨fun c5 => ?_, fun c5 => ⟨vq, ?_⟩⟩, fun c4 => ⟨vq, ?_⟩⟩
      · rw [if_neg c4, if_neg c5] at hQ
        apply M_bearersOf hS
        exact ⟨_, rfl, hQ⟩
      · rw [if_neg c4, if_pos c5] at hQ; exact hQ
      · rw [if_pos c4] at hQ; exact hQ
  · rw [if_pos c] at hQ
    apply M_isPerson
    simp only [ov_0, ov_1, ov_2, ov_3, ov_4, ov_5, ov_6, ov_7, ov_8, ov_9, ov_10, ov_11, ov_12, ov_13, ov_14, ov_15, ov_16, ov_17, ov_18, ov_19, ov_20, ov_21, ov_22, ov_23, ov_24, ov_25, ov_26, ov_27, ov_28, ov_29, ov_30, ov_31, ov_32, ov_33, ov_34, ov_35, ov_36, ov_37, ov_38, ov_39, ov_40, ov_41, ov_42, ov_43, ov_44, ov_45, ov_46, ov_e, ov_s]
    refine ⟨_, rfl, fun c3 => ?_, fun c3 => by rw [if_neg (by rw [c3]; decide)] at hQ; exact hQ⟩
    rw [if_pos c3] at hQ
    have c' := c3
    rw [hS.e] at c'
    obtain ⟨q, hq, rfl⟩ := inF_p (by omega) c'
    have vq : vp_in (I q) 12 := vp_I (by omega) (by omega)
    refine ⟨fun c4 => ⟨fun c5 => ⟨fun c6 => ?_, fun c6 => ⟨vq, ?_⟩⟩, fun c5 => ⟨vq, ?_⟩⟩, fun c4 => ⟨vq, ?_⟩⟩
    · rw [if_neg c4, if_neg c5, if_neg c6] at hQ
      apply M_placeOf hS vq
      exact ⟨_, rfl, hQ⟩
    · rw [if_neg c4, if_neg c5, if_pos c6] at hQ; exact hQ
    · rw [if_neg c4, if_pos c5] at hQ; exact hQ
    · rw [if_pos c4] at hQ; exact hQ
theorem A_feed {n : Nat} (hn : n ≤ 120) (e19 : S.1 19 0 = I n) {c : Int32} (hQ : Q (.returned (some (.int (o_feed S c).1))) (ov (o_feed S c).2 t)) : MR G mX5_feed 2 0 [(0, .ref m), (1, .int c)] [] m (ov S t) Q := by
  unfold o_feed at hQ
  apply sX5_feed_0
  apply M_in
  simp only [uo_0, uo_1, uo_2, uo_3, uo_4, uo_5, uo_6, uo_7, uo_8, uo_9, uo_10, uo_11, uo_12, uo_13, uo_14, uo_15, uo_16, uo_17, uo_18, uo_19, uo_20, uo_21, uo_22, uo_23, uo_24, uo_25, uo_26, uo_27, uo_28, uo_29, uo_30, uo_31, uo_32, uo_33, uo_34, uo_35, uo_36, uo_37, uo_38, uo_39, uo_40, uo_41, uo_42, uo_43, uo_44, uo_45, uE_ov, ov_0, ov_1, ov_2, ov_3, ov_4, ov_5, ov_6, ov_7, ov_8, ov_9, ov_10, ov_11, ov_12, ov_13, ov_14, ov_15, ov_16, ov_17, ov_18, ov_19, ov_20, ov_21, ov_22, ov_23, ov_24, ov_25, ov_26, ov_27, ov_28, ov_29, ov_30, ov_31, ov_32, ov_33, ov_34, ov_35, ov_36, ov_37, ov_38, ov_39, ov_40, ov_41, ov_42, ov_43, ov_44, ov_45, ov_46, ov_e, ov_s]
  rw [uS_at, uS_ne (k' := 19) (by decide)]
  refine ⟨_, rfl, fun c1 => ⟨fun c2 => ⟨?_, ?_⟩, fun c2 => ?_⟩, fun c1 => by rw [if_neg (by rw [c1]; decide)] at hQ; exact hQ⟩
  · rw [e19]
    exact vp_I (Nat.lt_of_le_of_ne hn (fun e => c2 (by rw [e19, e]; rfl))) (by omega)
  · rw [if_pos c1, if_neg c2] at hQ; exact hQ
  · rw [if_pos c1, if_pos c2] at hQ; exact hQ
theorem imN_s {S : MS} {k : Nat} : uS (imN S k) 38 k (S.1 4 k) = imN S (k + 1) := by
  unfold imN uS up2
  congr 1
  funext f i
  simp only
  by_cases e : f = 38
  · subst e
    by_cases e2 : i = k
    · subst e2; simp
    · have : (i < k + 1) ↔ i < k := by omega
      simp [e2, this]
  · simp [e]
theorem A_image (hS : Ppl S) (hQ : Q (.returned (some (.int (o_image S).1))) (ov (o_image S).2 t)) : MR G mX5_image 1 0 [(0, .ref m)] [] m (ov S t) Q := by
  have h12 := hS.n
  apply sX5_image_0
  simp only [uo_0, uo_1, uo_2, uo_3, uo_4, uo_5, uo_6, uo_7, uo_8, uo_9, uo_10, uo_11, uo_12, uo_13, uo_14, uo_15, uo_16, uo_17, uo_18, uo_19, uo_20, uo_21, uo_22, uo_23, uo_24, uo_25, uo_26, uo_27, uo_28, uo_29, uo_30, uo_31, uo_32, uo_33, uo_34, uo_35, uo_36, uo_37, uo_38, uo_39, uo_40, uo_41, uo_42, uo_43, uo_44, uo_45, uE_ov, ov_0, ov_1, ov_2, ov_3, ov_4, ov_5, ov_6, ov_7, ov_8, ov_9, ov_10, ov_11, ov_12, ov_13, ov_14, ov_15, ov_16, ov_17, ov_18, ov_19, ov_20, ov_21, ov_22, ov_23, ov_24, ov_25, ov_26, ov_27, ov_28, ov_29, ov_30, ov_31, ov_32, ov_33, ov_34, ov_35, ov_36, ov_37, ov_38, ov_39, ov_40, ov_41, ov_42, ov_43, ov_44, ov_45, ov_46, ov_e, ov_s]
  rw [uS_ne (k' := 1) (by decide)]
  have key : ∀ i, i ≤ np S → MR G mX5_image 1 15 [(0, .ref m), (1, .int (I i))] [] m (ov (imN (uS (uS S 36 0 1) 37 0 (S.1 1 0)) i) t) Q := by
    refine up_ind ?_ (fun i hi ih => ?_)
    · exact sX5_image_15 ⟨fun _ => hQ, fun c => absurd (pp_end hS) c⟩
    · have vi : vp_in (I i) 12 := vp_I (by omega) (by omega)
      apply sX5_image_15
      rw [I_succ, I_nat (by omega), uo_38]
      refine ⟨fun c => absurd c (pp_lt hS hi), fun _ => ⟨vi, vi, ?_⟩⟩
      rw [← imN_s] at ih; exact ih
  have := key 0 (by omega)
  have e : ∀ S : MS, imN S 0 = S := by
    intro S; unfold imN; congr 1; funext f i; simp
  rw [e] at this; exact this
theorem bkN_s {S : MS} {k : Nat} : uS (bkN S k) 4 k (S.1 38 k) = bkN S (k + 1) := by
  unfold bkN uS up2
  congr 1
  funext f i
  simp only
  by_cases e : f = 4
  · subst e
    by_cases e2 : i = k
    · subst e2; simp
    · have : (i < k + 1) ↔ i < k := by omega
      simp [e2, this]
  · simp [e]
theorem A_back (h : S.1 36 0 = 0 ∨ ∃ n, n ≤ 12 ∧ S.1 37 0 = I n) (hQ : Q (.returned (some (.int (o_back S).1))) (ov (o_back S).2 t)) : MR G mX5_back 1 0 [(0, .ref m)] [] m (ov S t) Q := by
  unfold o_back at hQ
  apply sX5_back_0
  refine ⟨fun c => ?_, fun c => by have c : S.1 36 0 = 0 := c; rw [if_pos c] at hQ; exact hQ⟩
  have c : ¬ S.1 36 0 = 0 := c
  rw [if_neg c] at hQ
  obtain ⟨n, hn, e⟩ := h.resolve_left c
  rw [e, I_nat (by omega)] at hQ
  have key : ∀ i, i ≤ n → MR G mX5_back 1 12 [(0, .ref m), (1, .int (I i))] [] m (ov (bkN S i) t) Q := by
    refine up_ind ?_ (fun i hi ih => ?_)
    · refine sX5_back_12 ⟨fun _ => qi hQ e.symm, fun c => absurd (show S.1 37 0 ≤ I n by rw [e]; exact c_end (by omega)) c⟩
    · have vi : vp_in (I i) 12 := vp_I (by omega) (by omega)
      apply sX5_back_12
      rw [I_succ, I_nat (by omega), uo_4]
      refine ⟨fun c => absurd (show S.1 37 0 ≤ I i from c) (by rw [e]; exact c_lt (by omega) hi), fun _ => ⟨vi, vi, ?_⟩⟩
      rw [← bkN_s] at ih; exact ih
  have := key 0 (by omega)
  have e : ∀ S : MS, bkN S 0 = S := by
    intro S; unfold bkN; congr 1; funext f i; simp
  rw [e] at this; exact this
theorem A_body {n : Nat} (hn : n ≤ 50) (e39 : S.1 39 0 = I n) {k : Int32} (hQ : Q (.returned (some (.int (o_body S k).1))) (ov (o_body S k).2 t)) : MR G mX5_body 2 0 [(0, .ref m), (1, .int k)] [] m (ov S t) Q := by
  unfold o_body at hQ
  apply sX5_body_0
  apply M_in
  simp only [uo_0, uo_1, uo_2, uo_3, uo_4, uo_5, uo_6, uo_7, uo_8, uo_9, uo_10, uo_11, uo_12, uo_13, uo_14, uo_15, uo_16, uo_17, uo_18, uo_19, uo_20, uo_21, uo_22, uo_23, uo_24, uo_25, uo_26, uo_27, uo_28, uo_29, uo_30, uo_31, uo_32, uo_33, uo_34, uo_35, uo_36, uo_37, uo_38, uo_39, uo_40, uo_41, uo_42, uo_43, uo_44, uo_45, uE_ov, ov_0, ov_1, ov_2, ov_3, ov_4, ov_5, ov_6, ov_7, ov_8, ov_9, ov_10, ov_11, ov_12, ov_13, ov_14, ov_15, ov_16, ov_17, ov_18, ov_19, ov_20, ov_21, ov_22, ov_23, ov_24, ov_25, ov_26, ov_27, ov_28, ov_29, ov_30, ov_31, ov_32, ov_33, ov_34, ov_35, ov_36, ov_37, ov_38, ov_39, ov_40, ov_41, ov_42, ov_43, ov_44, ov_45, ov_46, ov_e, ov_s]
  rw [uS_at, uS_ne (k' := 39) (by decide), add1_sub1]
  refine ⟨_, rfl, fun c1 => ⟨fun c2 => ⟨?_, ?_⟩, fun c2 => ?_⟩, fun c1 => by rw [if_neg (by rw [c1]; decide)] at hQ; exact hQ⟩
  · rw [e39]
    exact vp_I (Nat.lt_of_le_of_ne hn (fun e => c2 (by rw [e39, e]; rfl))) (by omega)
  · rw [if_pos c1, if_neg c2] at hQ; exact hQ
  · rw [if_pos c1, if_pos c2] at hQ; exact hQ
theorem A_trace {i : Int32} (hQ : Q (.returned (some (.int (a_trace S i)))) (ov S t)) : MR G mX5_trace 1 0 [(0, .ref m), (1, .int i)] [] m (ov S t) Q := by
  unfold a_trace at hQ
  apply sX5_trace_0
  simp only [ov_0, ov_1, ov_2, ov_3, ov_4, ov_5, ov_6, ov_7, ov_8, ov_9, ov_10, ov_11, ov_12, ov_13, ov_14, ov_15, ov_16, ov_17, ov_18, ov_19, ov_20, ov_21, ov_22, ov_23, ov_24, ov_25, ov_26, ov_27, ov_28, ov_29, ov_30, ov_31, ov_32, ov_33, ov_34, ov_35, ov_36, ov_37, ov_38, ov_39, ov_40, ov_41, ov_42, ov_43, ov_44, ov_45, ov_46, ov_e, ov_s]
  refine ⟨fun c => by rw [if_pos c] at hQ; exact hQ, fun c => ⟨fun c2 => by rw [if_neg c, if_pos c2] at hQ; exact hQ, fun c2 => ⟨fun c3 => by rw [if_neg c, if_neg c2, if_pos c3] at hQ; exact hQ, fun c3 => ⟨?_, by rw [if_neg c, if_neg c2, if_neg c3] at hQ; exact hQ⟩⟩⟩⟩
  obtain ⟨q, hq, rfl⟩ := I_of (b := 23) (by omega) c (by
    rw [lt_I]; rw [le_I] at c3
    have e1 : (I 23 : Int32).toInt = 23 := rfl
    have e2 : (24 : Int32).toInt = 24 := rfl
    omega)
  exact vp_I (by omega) (by omega)
theorem M_isUnder {k a : Int32} (hQ : Q (.returned (some (.int (bi (udF k a))))) sg) : MR G mX5_isUnder 1 0 [(0, .int k), (1, .int a)] [] m sg Q := by
  have h34 : (¬ a = 0) → ¬ k = a → ¬ (a = 1 ∧ k = 4) → ¬ (a = 2 ∧ (k = 3 ∨ k = 5)) → MR G mX5_isUnder 1 34 [(0, .int k), (1, .int a)] [] m sg Q := by
    intro a0 ka a1 a2
    apply sX5_isUnder_34
    have e : udF k a = ((decide (a = 3) && decide (k = 5)) || (decide (a = 6) && decide (k = 7))) := by
      unfold udF
      simp only [a0, ka, decide_false, Bool.false_or]
      by_cases x1 : a = 1
      · have : ¬ k = 4 := fun y => a1 ⟨x1, y⟩
        subst x1; simp [this]
      · by_cases x2 : a = 2
        · have y1 : ¬ k = 3 := fun y => a2 ⟨x2, Or.inl y⟩
          have y2 : ¬ k = 5 := fun y => a2 ⟨x2, Or.inr y⟩
          subst x2; simp [y1, y2]
        · simp [x1, x2]
    refine ⟨fun c => ⟨fun c2 => ?_, fun c2 => ⟨fun c3 => ?_, fun c3 => ?_⟩⟩, fun c => ⟨fun c2 => ?_, fun c2 => ⟨fun c3 => ?_, fun c3 => ⟨fun c4 => ?_, fun c4 => ?_⟩⟩⟩⟩ <;> (refine qb hQ ?_; rw [e]; first | (simp [*]; done) | exact absurd (c.symm.trans c3) (by decide))
  have h19 : (¬ a = 0) → ¬ k = a → ¬ (a = 1 ∧ k = 4) → MR G mX5_isUnder 1 19 [(0, .int k), (1, .int a)] [] m sg Q := by
    intro a0 ka a1
    apply sX5_isUnder_19
    refine ⟨fun c => h34 a0 ka a1 (fun x => c x.1), fun c => ⟨fun c2 => ?_, fun c2 => ⟨fun c3 => ?_, fun c3 => h34 a0 ka a1 (fun x => by rcases x.2 with y | y <;> contradiction)⟩⟩⟩ <;> (refine qb hQ ?_; simp [udF, *])
  apply sX5_isUnder_0
  refine ⟨fun c => ?_, fun c => ⟨fun c2 => ?_, fun c2 => ⟨fun c3 => h19 c c2 (fun x => c3 x.1), fun c3 => ⟨fun c4 => ?_, fun c4 => h19 c c2 (fun x => c4 x.2)⟩⟩⟩⟩ <;> (refine qb hQ ?_; simp [udF, *])
def TrB (S : MS) (N : Nat) : Prop := ∃ n, n ≤ N ∧ S.1 41 0 = I n
theorem TrB.s {S : MS} {N : Nat} {b : Int32} (h : TrB S N) : TrB (rnS S b) (N + 1) := by
  obtain ⟨n, hn, e⟩ := h
  refine ⟨n + 1, by omega, ?_⟩
  unfold rnS
  split <;> rw [uS_at, e, I_succ]
theorem TrB.l {S : MS} {N : Nat} {l : List Int32} (h : TrB S N) : TrB (rnL S l) (N + l.length) := by
  induction l generalizing S N with
  | nil => exact h
  | cons a l ih =>
    have := ih (h.s (b := a))
    simp only [List.length_cons]
    rw [show N + (l.length + 1) = N + 1 + l.length by omega]; exact this
theorem rnS_40 {S : MS} {b : Int32} : (rnS S b).1 40 = S.1 40 := by
  unfold rnS; split
  · rw [uS_ne (by decide)]
  · rw [uS_ne (by decide), uS_ne (by decide)]
theorem rnL_40 {S : MS} {l : List Int32} : (rnL S l).1 40 = S.1 40 := by
  induction l generalizing S with
  | nil => rfl
  | cons a l ih => exact ih.trans rnS_40
theorem M_ran {N : Nat} (hT : TrB S N) (hN : N ≤ 1000) {b : Int32} (hQ : Q (.returned none) (ov (rnS S b) t)) : MR G mX5_ran 1 0 [(0, .ref m), (1, .int b)] [] m (ov S t) Q := by
  unfold rnS at hQ
  obtain ⟨n, hn, e⟩ := hT
  apply sX5_ran_0
  simp only [uo_0, uo_1, uo_2, uo_3, uo_4, uo_5, uo_6, uo_7, uo_8, uo_9, uo_10, uo_11, uo_12, uo_13, uo_14, uo_15, uo_16, uo_17, uo_18, uo_19, uo_20, uo_21, uo_22, uo_23, uo_24, uo_25, uo_26, uo_27, uo_28, uo_29, uo_30, uo_31, uo_32, uo_33, uo_34, uo_35, uo_36, uo_37, uo_38, uo_39, uo_40, uo_41, uo_42, uo_43, uo_44, uo_45, uE_ov, ov_0, ov_1, ov_2, ov_3, ov_4, ov_5, ov_6, ov_7, ov_8, ov_9, ov_10, ov_11, ov_12, ov_13, ov_14, ov_15, ov_16, ov_17, ov_18, ov_19, ov_20, ov_21, ov_22, ov_23, ov_24, ov_25, ov_26, ov_27, ov_28, ov_29, ov_30, ov_31, ov_32, ov_33, ov_34, ov_35, ov_36, ov_37, ov_38, ov_39, ov_40, ov_41, ov_42, ov_43, ov_44, ov_45, ov_46, ov_e, ov_s]
  rw [uS_ne (k' := 41) (by decide)]
  refine ⟨fun c => by rw [if_pos c] at hQ; exact hQ, fun c => ⟨?_, by rw [if_neg c] at hQ; exact hQ⟩⟩
  rw [e] at c ⊢
  refine vp_I ?_ (by omega)
  apply Nat.lt_of_not_le
  intro x; apply c
  exact (I_le (a := 24) (by omega) (by omega)).2 x
section
variable {N : Nat} {b x k : Int32}
theorem M_plainGives (hT : TrB S N) (hN : N ≤ 999) (hQ : Q (.returned (some (.int (pgL b x).1))) (ov (rnL S (pgL b x).2) t)) : MR G mX5_plainGives 2 0 [(0, .ref m), (1, .int b), (2, .int x)] [] m (ov S t) Q :=
  sX5_plainGives_0 (M_ran hT (by omega) ⟨rfl, hQ⟩)
theorem M_toldGives (hT : TrB S N) (hN : N ≤ 998) (hQ : Q (.returned (some (.int (tgL b x).1))) (ov (rnL S (tgL b x).2) t)) : MR G mX5_toldGives 3 0 [(0, .ref m), (1, .int b), (2, .int x)] [] m (ov S t) Q :=
  sX5_toldGives_0 (M_ran hT (by omega) ⟨rfl, M_plainGives hT.s (by omega) ⟨_, rfl, hQ⟩⟩)
theorem M_giving (hk : S.1 40 b.toNatClampNeg = k) (hb : vp_in b 50) (hT : TrB S N) (hN : N ≤ 990) (hQ : Q (.returned (some (.int (giL k b x).1))) (ov (rnL S (giL k b x).2) t)) : MR G mX5_giving 4 0 [(0, .ref m), (1, .int b), (2, .int x)] [] m (ov S t) Q := by
  unfold giL at hQ
  apply sX5_giving_0
  refine ⟨hb, ?_⟩
  apply M_isUnder
  simp only [ov_0, ov_1, ov_2, ov_3, ov_4, ov_5, ov_6, ov_7, ov_8, ov_9, ov_10, ov_11, ov_12, ov_13, ov_14, ov_15, ov_16, ov_17, ov_18, ov_19, ov_20, ov_21, ov_22, ov_23, ov_24, ov_25, ov_26, ov_27, ov_28, ov_29, ov_30, ov_31, ov_32, ov_33, ov_34, ov_35, ov_36, ov_37, ov_38, ov_39, ov_40, ov_41, ov_42, ov_43, ov_44, ov_45, ov_46, ov_e, ov_s]
  rw [hk]
  refine ⟨_, rfl, fun c => ⟨hb, fun c2 => ⟨hb, fun c3 => ?_, fun c3 => ?_⟩, fun c2 => ?_⟩, fun c => ?_⟩
  · rw [if_neg (by rw [c]; decide), if_neg c2, if_neg c3] at hQ
    exact M_plainGives hT (by omega) ⟨_, rfl, hQ⟩
  · rw [if_neg (by rw [c]; decide), if_neg c2, if_pos c3] at hQ
    exact M_toldGives hT (by omega) ⟨_, rfl, hQ⟩
  · rw [if_neg (by rw [c]; decide), if_pos c2] at hQ
    exact M_ran hT (by omega) ⟨rfl, M_toldGives hT.s (by omega) ⟨_, rfl, hQ⟩⟩
  · rw [if_pos c] at hQ
    exact M_ran hT (by omega) ⟨rfl, M_plainGives hT.s (by omega) ⟨_, rfl, hQ⟩⟩
theorem gi_len : (giL k b x).2.length ≤ 3 := by
  unfold giL
  split
  · simp
  · split
    · simp
    · split <;> simp [tgL, pgL]
theorem M_plainHolds (hk : S.1 40 b.toNatClampNeg = k) (hb : vp_in b 50) (hT : TrB S N) (hN : N ≤ 980) (hQ : Q (.returned (some (.int (phL k b x).1))) (ov (rnL S (phL k b x).2) t)) : MR G mX5_plainHolds 5 0 [(0, .ref m), (1, .int b), (2, .int x)] [] m (ov S t) Q :=
  sX5_plainHolds_0 (M_ran hT (by omega) ⟨rfl, M_giving (by rw [rnS_40]; exact hk) hb hT.s (by omega) ⟨_, rfl, hQ⟩⟩)
theorem M_soonHolds (hk : S.1 40 b.toNatClampNeg = k) (hb : vp_in b 50) (hT : TrB S N) (hN : N ≤ 970) (hQ : Q (.returned (some (.int (soL k b x).1))) (ov (rnL S (soL k b x).2) t)) : MR G mX5_soonHolds 6 0 [(0, .ref m), (1, .int b), (2, .int x)] [] m (ov S t) Q :=
  sX5_soonHolds_0 (M_ran hT (by omega) ⟨rfl, M_plainHolds (by rw [rnS_40]; exact hk) hb hT.s (by omega) ⟨_, rfl, hQ⟩⟩)
theorem M_plainKnows (hT : TrB S N) (hN : N ≤ 990) (hQ : Q (.returned (some (.int (pkL b x).1))) (ov (rnL S (pkL b x).2) t)) : MR G mX5_plainKnows 2 0 [(0, .ref m), (1, .int b), (2, .int x)] [] m (ov S t) Q :=
  sX5_plainKnows_0 (M_ran hT (by omega) ⟨rfl, hQ⟩)
theorem M_wishKnows (hT : TrB S N) (hN : N ≤ 980) (hQ : Q (.returned (some (.int (wkL b x).1))) (ov (rnL S (wkL b x).2) t)) : MR G mX5_wishKnows 3 0 [(0, .ref m), (1, .int b), (2, .int x)] [] m (ov S t) Q :=
  sX5_wishKnows_0 (M_ran hT (by omega) ⟨rfl, M_plainKnows hT.s (by omega) ⟨_, rfl, hQ⟩⟩)
theorem M_knowing (hk : S.1 40 b.toNatClampNeg = k) (hb : vp_in b 50) (hT : TrB S N) (hN : N ≤ 970) (hQ : Q (.returned (some (.int (knL k b x).1))) (ov (rnL S (knL k b x).2) t)) : MR G mX5_knowing 5 0 [(0, .ref m), (1, .int b), (2, .int x)] [] m (ov S t) Q := by
  unfold knL at hQ
  apply sX5_knowing_0
  simp only [ov_0, ov_1, ov_2, ov_3, ov_4, ov_5, ov_6, ov_7, ov_8, ov_9, ov_10, ov_11, ov_12, ov_13, ov_14, ov_15, ov_16, ov_17, ov_18, ov_19, ov_20, ov_21, ov_22, ov_23, ov_24, ov_25, ov_26, ov_27, ov_28, ov_29, ov_30, ov_31, ov_32, ov_33, ov_34, ov_35, ov_36, ov_37, ov_38, ov_39, ov_40, ov_41, ov_42, ov_43, ov_44, ov_45, ov_46, ov_e, ov_s]
  rw [hk]
  refine ⟨hb, fun c => ⟨hb, fun c2 => ?_, fun c2 => ?_⟩, fun c => ?_⟩
  · rw [if_neg c, if_neg c2] at hQ
    exact M_plainKnows hT (by omega) ⟨_, rfl, hQ⟩
  · rw [if_neg c, if_pos c2] at hQ
    exact M_wishKnows hT (by omega) ⟨_, rfl, hQ⟩
  · rw [if_pos c] at hQ
    simp only [rnL] at hQ
    rw [rnL_app] at hQ
    refine M_ran hT (by omega) ⟨rfl, M_wishKnows hT.s (by omega) ⟨_, rfl, M_giving (k := k) (by rw [rnL_40, rnS_40]; exact hk) hb (TrB.l hT.s) (by simp [wkL]; omega) ⟨_, rfl, hQ⟩⟩⟩
theorem M_holding (hk : S.1 40 b.toNatClampNeg = k) (hb : vp_in b 50) (hT : TrB S N) (hN : N ≤ 950) (hQ : Q (.returned (some (.int (hoL k b x).1))) (ov (rnL S (hoL k b x).2) t)) : MR G mX5_holding 7 0 [(0, .ref m), (1, .int b), (2, .int x)] [] m (ov S t) Q := by
  unfold hoL at hQ
  apply sX5_holding_0
  refine ⟨hb, ?_⟩
  apply M_isUnder
  simp only [ov_0, ov_1, ov_2, ov_3, ov_4, ov_5, ov_6, ov_7, ov_8, ov_9, ov_10, ov_11, ov_12, ov_13, ov_14, ov_15, ov_16, ov_17, ov_18, ov_19, ov_20, ov_21, ov_22, ov_23, ov_24, ov_25, ov_26, ov_27, ov_28, ov_29, ov_30, ov_31, ov_32, ov_33, ov_34, ov_35, ov_36, ov_37, ov_38, ov_39, ov_40, ov_41, ov_42, ov_43, ov_44, ov_45, ov_46, ov_e, ov_s]
  rw [hk]
  refine ⟨_, rfl, fun c => ⟨hb, fun c2 => ⟨hb, fun c3 => ?_, fun c3 => ?_⟩, fun c2 => ?_⟩, fun c => ?_⟩
  · rw [if_neg (by rw [c]; decide), if_neg c2, if_neg c3] at hQ
    exact M_plainHolds hk hb hT (by omega) ⟨_, rfl, hQ⟩
  · rw [if_neg (by rw [c]; decide), if_neg c2, if_pos c3] at hQ
    exact M_soonHolds hk hb hT (by omega) ⟨_, rfl, hQ⟩
  · rw [if_neg (by rw [c]; decide), if_pos c2] at hQ
    simp only [rnL] at hQ
    rw [rnL_app] at hQ
    have hl := gi_len (k := k) (b := b) (x := x)
    exact M_ran hT (by omega) ⟨rfl, M_plainHolds (by rw [rnS_40]; exact hk) hb hT.s (by omega) ⟨_, rfl, M_knowing (k := k) (by rw [rnL_40, rnS_40]; exact hk) hb (TrB.l hT.s) (by simp [phL]; omega) ⟨_, rfl, hQ⟩⟩⟩
  · rw [if_pos c] at hQ
    exact M_ran hT (by omega) ⟨rfl, M_soonHolds (by rw [rnS_40]; exact hk) hb hT.s (by omega) ⟨_, rfl, hQ⟩⟩
theorem kn_len : (knL k b x).2.length ≤ 6 := by
  have := gi_len (k := k) (b := b) (x := 2)
  unfold knL
  split
  · simp [wkL]; omega
  · split <;> simp [wkL, pkL]
theorem ho_len : (hoL k b x).2.length ≤ 15 := by
  have h1 := gi_len (k := k) (b := b) (x := x)
  have h2 := gi_len (k := k) (b := b) (x := x + 1)
  have h3 := kn_len (k := k) (b := b) (x := 2)
  unfold hoL
  split
  · simp [soL, phL]; omega
  · split
    · simp [phL]; omega
    · split <;> simp [soL, phL] <;> omega
theorem M_plainTells (hk : S.1 40 b.toNatClampNeg = k) (hb : vp_in b 50) (hT : TrB S N) (hN : N ≤ 930) (hQ : Q (.returned (some (.int (ptL k b x).1))) (ov (rnL S (ptL k b x).2) t)) : MR G mX5_plainTells 8 0 [(0, .ref m), (1, .int b), (2, .int x)] [] m (ov S t) Q := by
  unfold ptL at hQ
  simp only [rnL] at hQ
  rw [rnL_app] at hQ
  have := ho_len (k := k) (b := b) (x := x)
  exact sX5_plainTells_0 (M_ran hT (by omega) ⟨rfl, M_holding (k := k) (by rw [rnS_40]; exact hk) hb hT.s (by omega) ⟨_, rfl, M_knowing (k := k) (by rw [rnL_40, rnS_40]; exact hk) hb (TrB.l hT.s) (by omega) ⟨_, rfl, hQ⟩⟩⟩)
theorem M_telling (hk : S.1 40 b.toNatClampNeg = k) (hb : vp_in b 50) (hT : TrB S N) (hN : N ≤ 900) (hQ : Q (.returned (some (.int (teL k b x).1))) (ov (rnL S (teL k b x).2) t)) : MR G mX5_telling 9 0 [(0, .ref m), (1, .int b), (2, .int x)] [] m (ov S t) Q := by
  unfold teL at hQ
  apply sX5_telling_0
  simp only [ov_0, ov_1, ov_2, ov_3, ov_4, ov_5, ov_6, ov_7, ov_8, ov_9, ov_10, ov_11, ov_12, ov_13, ov_14, ov_15, ov_16, ov_17, ov_18, ov_19, ov_20, ov_21, ov_22, ov_23, ov_24, ov_25, ov_26, ov_27, ov_28, ov_29, ov_30, ov_31, ov_32, ov_33, ov_34, ov_35, ov_36, ov_37, ov_38, ov_39, ov_40, ov_41, ov_42, ov_43, ov_44, ov_45, ov_46, ov_e, ov_s]
  rw [hk]
  refine ⟨hb, fun c => ⟨hb, fun c2 => ?_, fun c2 => ?_⟩, fun c => ?_⟩
  · rw [if_neg c, if_neg c2] at hQ
    exact M_plainTells hk hb hT (by omega) ⟨_, rfl, hQ⟩
  · rw [if_neg c, if_pos c2] at hQ
    exact M_ran hT (by omega) ⟨rfl, M_plainTells (by rw [rnS_40]; exact hk) hb hT.s (by omega) ⟨_, rfl, hQ⟩⟩
  · rw [if_pos c] at hQ
    exact M_ran hT (by omega) ⟨rfl, M_plainTells (by rw [rnS_40]; exact hk) hb hT.s (by omega) ⟨_, rfl, hQ⟩⟩
end
theorem A_act {n : Nat} (hn : n ≤ 50) (e39 : S.1 39 0 = I n) {b w x : Int32} (hQ : Q (.returned (some (.int (o_act S b w x).1))) (ov (o_act S b w x).2 t)) : MR G mX5_act 10 0 [(0, .ref m), (1, .int b), (2, .int w), (3, .int x)] [] m (ov S t) Q := by
  unfold o_act at hQ
  have hT : TrB (uS S 41 0 0) 0 := ⟨0, Nat.le_refl _, uS_at⟩
  apply sX5_act_0
  rw [uo_41]
  apply M_isBody
  rw [ov_39, uS_ne (k' := 39) (by decide)]
  refine ⟨_, rfl, fun c => by rw [if_neg (by rw [c]; decide)] at hQ; exact hQ, fun c => ?_⟩
  rw [if_pos c] at hQ
  have c' := c
  rw [e39] at c'
  obtain ⟨q, hq, rfl⟩ := inF_p (by omega) c'
  have vb : vp_in (I q) 50 := vp_I (by omega) (by omega)
  have hk : (uS S 41 0 0).1 40 (I q).toNatClampNeg = S.1 40 (I q).toNatClampNeg := by rw [uS_ne (by decide)]
  apply M_in
  refine ⟨_, rfl, fun c1 => ?_, fun c1 => by rw [if_neg (by rw [c1]; decide)] at hQ; exact hQ⟩
  rw [if_pos c1] at hQ
  unfold acL at hQ
  refine ⟨fun c2 => ⟨fun c3 => ⟨fun c4 => ?_, fun c4 => ?_⟩, fun c3 => ?_⟩, fun c2 => ?_⟩
  · rw [if_neg c2, if_neg c3, if_neg c4] at hQ
    exact M_telling hk vb hT (by omega) ⟨_, rfl, hQ⟩
  · rw [if_neg c2, if_neg c3, if_pos c4] at hQ
    exact M_knowing hk vb hT (by omega) ⟨_, rfl, hQ⟩
  · rw [if_neg c2, if_pos c3] at hQ
    exact M_holding hk vb hT (by omega) ⟨_, rfl, hQ⟩
  · rw [if_pos c2] at hQ
    exact M_giving hk vb hT (by omega) ⟨_, rfl, hQ⟩
theorem A_count (hS : Ppl S) {w : Int32} (hQ : Q (.returned (some (.int (a_count S w)))) (ov S t)) : MR G mX5_count 2 0 [(0, .ref m), (1, .int w)] [] m (ov S t) Q := by
  unfold a_count at hQ
  apply sX5_count_0
  simp only [ov_0, ov_1, ov_2, ov_3, ov_4, ov_5, ov_6, ov_7, ov_8, ov_9, ov_10, ov_11, ov_12, ov_13, ov_14, ov_15, ov_16, ov_17, ov_18, ov_19, ov_20, ov_21, ov_22, ov_23, ov_24, ov_25, ov_26, ov_27, ov_28, ov_29, ov_30, ov_31, ov_32, ov_33, ov_34, ov_35, ov_36, ov_37, ov_38, ov_39, ov_40, ov_41, ov_42, ov_43, ov_44, ov_45, ov_46, ov_e, ov_s]
  refine ⟨fun c => ?_, fun c0 => ⟨fun c => ?_, fun c1 => ⟨fun c => ?_, fun c2 => ⟨fun c => ?_, fun c3 => ⟨fun c => ?_, fun c4 => ⟨fun c => ?_, fun c5 => ⟨fun c => ?_, fun c6 => ?_⟩⟩⟩⟩⟩⟩⟩
  · rw [if_pos c] at hQ; exact hQ
  · rw [if_neg c0, if_pos c] at hQ; exact hQ
  · rw [if_neg c0, if_neg c1, if_pos c] at hQ
    exact M_namedMany hS ⟨_, rfl, hQ⟩
  · rw [if_neg c0, if_neg c1, if_neg c2, if_pos c] at hQ; exact hQ
  · rw [if_neg c0, if_neg c1, if_neg c2, if_neg c3, if_pos c] at hQ; exact hQ
  · rw [if_neg c0, if_neg c1, if_neg c2, if_neg c3, if_neg c4, if_pos c] at hQ; exact hQ
  · rw [if_neg c0, if_neg c1, if_neg c2, if_neg c3, if_neg c4, if_neg c5, if_pos c] at hQ; exact hQ
  · rw [if_neg c0, if_neg c1, if_neg c2, if_neg c3, if_neg c4, if_neg c5, if_neg c6] at hQ; exact hQ
end

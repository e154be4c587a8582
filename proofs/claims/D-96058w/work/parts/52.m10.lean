/-! LAYER 3.12: the model: shelves, rows, people out of a row -/
set_option maxRecDepth 100000
theorem lg_lt {x y : Int64} : lg_cmp x y < 0 ↔ x.toInt < y.toInt := by
  unfold lg_cmp
  rw [← Int64.lt_iff_toInt_lt]
  by_cases h1 : x > y
  · rw [if_pos h1]
    have : ¬ x < y := by rw [gt_iff_lt, Int64.lt_iff_toInt_lt] at h1; rw [Int64.lt_iff_toInt_lt]; omega
    simp [this]
  · rw [if_neg h1]
    by_cases h2 : x = y
    · subst h2; simp [Int64.lt_iff_toInt_lt]
    · rw [if_neg h2]
      have : x < y := by
        rw [gt_iff_lt, Int64.lt_iff_toInt_lt] at h1
        have : ¬ x.toInt = y.toInt := fun e => h2 (Int64.toInt_inj.1 e)
        rw [Int64.lt_iff_toInt_lt]; omega
      simp [this]
theorem lg_gt {x y : Int64} : 0 < lg_cmp x y ↔ y.toInt < x.toInt := by
  unfold lg_cmp
  rw [← Int64.lt_iff_toInt_lt]
  by_cases h1 : x > y
  · rw [if_pos h1]; simp [gt_iff_lt.1 h1]
  · rw [if_neg h1]
    have h1' : ¬ y < x := h1
    by_cases h2 : x = y
    · rw [if_pos h2]; simp [h1']
    · rw [if_neg h2]; simp [h1']
theorem lg_ge {x y : Int64} : 0 ≤ lg_cmp x y ↔ y.toInt ≤ x.toInt := by
  rw [← nlt_I, lg_lt]; omega
theorem i64 {a : Int32} : a.toInt64.toInt = a.toInt := Int32.toInt_toInt64 a
theorem at_64 {i : Int32} {k : Nat} (hk : k ≤ 100) : (i.toInt64 + (3 * I k).toInt64).toInt = i.toInt + 3 * k := by
  have h1 := i.toInt_lt
  have h2 := i.le_toInt
  have e : (3 * I k : Int32) = I (3 * k) := I_mul 3 k
  rw [Int64.toInt_add, i64, i64, e, I_int (by omega), Int.bmod_eq_of_le] <;> omega
theorem at_64c {i : Int32} {k : Nat} (hk : k ≤ 100) : (i.toInt64 + (3 * (I k).toInt64)).toInt = i.toInt + 3 * k := by
  have h1 := i.toInt_lt
  have h2 := i.le_toInt
  have e3 : (3 : Int64).toInt = 3 := rfl
  have e : ((3 : Int64) * (I k).toInt64).toInt = 3 * k := by
    rw [Int64.toInt_mul, i64, I_int (by omega), e3, Int.bmod_eq_of_le] <;> omega
  rw [Int64.toInt_add, i64, e, Int.bmod_eq_of_le] <;> omega
theorem add_64 {x c : Int64} {n : Nat} (hc : c.toInt = n) (hn : n ≤ 100) (h1 : -2 ^ 40 ≤ x.toInt) (h2 : x.toInt ≤ 2 ^ 40) : (x + c).toInt = x.toInt + n := by
  rw [Int64.toInt_add, hc, Int.bmod_eq_of_le] <;> omega
theorem sm_32 {x : Int64} {n : Nat} (h : x.toInt = n) (hn : n ≤ 100000) : x.toInt32 = I n := by
  apply Int32.toInt_inj.1
  rw [Int64.toInt_toInt32, h, I_int hn, Int.bmod_eq_of_le] <;> omega
def She (S : MS) : Prop := ∀ s, s < 6 → S.1 43 s = -1 ∨ (∃ b, b < (S.1 39 0).toNatClampNeg ∧ b < 50 ∧ S.1 43 s = I b) ∨ (∃ k n, k ≤ 4 ∧ n ≤ 60 ∧ S.1 43 s = -2 - I k ∧ S.1 44 s = I n)
def o_keep (S : MS) (s b : Int32) : Int32 × MS := if inF s 0 5 = true then (if b = -1 then (1, uS S 43 s.toNatClampNeg b) else if inF b 0 (S.1 39 0 - 1) = true then (1, uS S 43 s.toNatClampNeg b) else (-1, S)) else (-1, S)
def rwN (S : MS) (a j : Nat) : MS := (S.1, fun f i => if f = 45 ∧ a ≤ i ∧ i < a + j then 0 else S.2 f i)
def o_row (S : MS) (s k n : Int32) : Int32 × MS := if inF s 0 5 = true then (if inF k 0 4 = true then (if n ≤ 60 then (if 0 ≤ n then (1, rwN (uS (uS S 43 s.toNatClampNeg (-2 - k)) 44 s.toNatClampNeg n) (60 * s.toNatClampNeg) 60) else (-14, S)) else (-1, S)) else (-1, S)) else (-1, S)
def wyF (S : MS) (s i : Int32) : Int32 := if inF s 0 5 = true then (if S.1 43 s.toNatClampNeg = -1 then -11 else if S.1 43 s.toNatClampNeg < 0 then (if inF i 0 (S.1 44 s.toNatClampNeg - 1) = true then 0 else -13) else -12) else -1
def pvF (q : Int32) (v : Int64) : Int64 := if q = 0 then v.toInt32.toInt8.toInt32.toInt64 else if q = 1 then v.toInt32.toInt16.toInt32.toInt64 else if q = 2 then v.toInt32.toInt64 else if q = 3 then v else if lg_cmp v 0 = 0 then 0 else 1
def o_put (S : MS) (s i : Int32) (v : Int64) : Int32 × MS := if 0 ≤ wyF S s i then (1, uE S 45 (60 * s.toNatClampNeg + i.toNatClampNeg) (pvF (-2 - S.1 43 s.toNatClampNeg) v)) else (wyF S s i, S)
def a_element (S : MS) (s i : Int32) : Int64 := if 0 ≤ wyF S s i then S.2 45 (60 * s.toNatClampNeg + i.toNatClampNeg) else -9223372036854775808
def cpN (S : MS) (a b n : Nat) : MS := (S.1, fun f k => if f = 45 ∧ b ≤ k ∧ k < b + n then S.2 45 (a + (k - b)) else S.2 f k)
def o_shift (S : MS) (s i o j n : Int32) : Int32 × MS :=
  if inF s 0 5 = false then (-1, S) else if inF o 0 5 = false then (-1, S) else if S.1 43 s.toNatClampNeg = -1 then (-11, S) else if S.1 43 o.toNatClampNeg = -1 then (-11, S) else if 0 ≤ S.1 43 s.toNatClampNeg then (-12, S) else if ¬ S.1 43 s.toNatClampNeg = S.1 43 o.toNatClampNeg then (-12, S) else
  if n < 0 then (-13, S) else if i < 0 then (-13, S) else if j < 0 then (-13, S) else if S.1 44 s.toNatClampNeg - n < i then (-13, S) else if j ≤ S.1 44 o.toNatClampNeg - n then (n, cpN S (60 * s.toNatClampNeg + i.toNatClampNeg) (60 * o.toNatClampNeg + j.toNatClampNeg) n.toNatClampNeg) else (-13, S)
def a_taken (S : MS) (s k : Int32) : Int32 := if inF s 0 5 = false then -1 else if inF k 0 7 = false then -1 else if S.1 43 s.toNatClampNeg = -1 then -11 else if S.1 43 s.toNatClampNeg < 0 then -12 else if udF (S.1 40 (S.1 43 s.toNatClampNeg).toNatClampNeg) k = true then S.1 40 (S.1 43 s.toNatClampNeg).toNatClampNeg else -12
/-- of a row: what tells of the k-th one, from i on -/
def peF (S : MS) (s : Nat) (i : Int) (k : Nat) (j : Nat) : Int32 := (S.2 45 (60 * s + (i + 3 * k).toNat + j)).toInt32
def peG (S : MS) (s : Nat) (i : Int) (k : Nat) : Bool := decide (0 ≤ i + 3 * k) && decide (i + 3 * k + 2 < (S.1 44 s).toInt) && !(decide (S.1 1 0 = 12)) && (inF (peF S s i k 0) 0 99 && inF (peF S s i k 1) (peF S s i k 0 + 1) 100) && inF (peF S s i k 2) (-1) 11
def ppN (s : Nat) (i : Int) (n : Nat) : Nat → MS → Int32 × MS
  | 0, S => (I n, S)
  | j + 1, S => if peG S s i (n - (j + 1)) = true then ppN s i n j (addP S (peF S s i (n - (j + 1)) 0) (peF S s i (n - (j + 1)) 1) (peF S s i (n - (j + 1)) 2)) else (I (n - (j + 1)), S)
theorem ppN_s {s : Nat} {i : Int} {n j : Nat} {S : MS} : ppN s i n (j + 1) S = if peG S s i (n - (j + 1)) = true then ppN s i n j (addP S (peF S s i (n - (j + 1)) 0) (peF S s i (n - (j + 1)) 1) (peF S s i (n - (j + 1)) 2)) else (I (n - (j + 1)), S) := rfl
def o_people (S : MS) (s i n : Int32) : Int32 × MS := if inF s 0 5 = true then (if inF n 1 12 = true then (if S.1 43 s.toNatClampNeg = -1 then (0, S) else if S.1 43 s.toNatClampNeg = -2 then ppN s.toNatClampNeg i.toInt n.toNatClampNeg n.toNatClampNeg S else (-12, S)) else (-1, S)) else (-1, S)
theorem np_addP {S : MS} (hS : Ppl S) {b d n : Int32} : np (addP S b d n) = np S + 1 := by
  have h12 := hS.n
  unfold np addP
  rw [uS_at, hS.e, I_succ, I_nat (by omega), I_nat (by omega)]
theorem Ppl_addP {S : MS} (hS : Ppl S) (h : np S < 12) {b d n : Int32} (h1 : (inF b 0 99 && inF d (b + 1) 100) = true) (h2 : inF n (-1) 11 = true) : Ppl (addP S b d n) := by
  have en := np_addP hS (b := b) (d := d) (n := n)
  simp only [Bool.and_eq_true, inF_iff] at h1
  rw [inF_iff] at h2
  have c0 : (0 : Int32).toInt = 0 := rfl
  have c1 : (99 : Int32).toInt = 99 := rfl
  have c2 : (100 : Int32).toInt = 100 := rfl
  have c3 : (-1 : Int32).toInt = -1 := rfl
  have c4 : (11 : Int32).toInt = 11 := rfl
  have c5 : (b + 1).toInt = b.toInt + 1 := by
    have : (1 : Int32).toInt = 1 := rfl
    rw [Int32.toInt_add, this, Int.bmod_eq_of_le] <;> omega
  refine ⟨by omega, ?_, fun p hp => ?_⟩
  · rw [en]; unfold addP; rw [uS_at, hS.e, I_succ]
  · rw [en] at hp
    unfold addP
    rw [uS_ne (k' := 2) (by decide), uS_ne (k' := 2) (by decide), uS_ne (k' := 2) (by decide), uS_ne (k' := 3) (by decide), uS_ne (k' := 3) (by decide), uS_ne (k' := 4) (by decide), uS_if, uS_if, uS_if]
    by_cases e : p = np S
    · rw [if_pos e, if_pos e, if_pos e]; omega
    · rw [if_neg e, if_neg e, if_neg e, uS_ne (k' := 3) (by decide), uS_ne (k' := 4) (by decide), uS_ne (k' := 4) (by decide)]
      exact hS.2.2 p (by omega)
section
variable {G : GG} {m : Nat} {S t sg : MS} {L : Lw} {Q : Outcome → MS → Prop}
theorem A_keep {s b : Int32} (hQ : Q (.returned (some (.int (o_keep S s b).1))) (ov (o_keep S s b).2 t)) : MR G mX5_keep 3 0 [(0, .ref m), (1, .int s), (2, .int b)] [] m (ov S t) Q := by
  unfold o_keep at hQ
  apply sX5_keep_0
  apply M_isShelf
  refine ⟨_, rfl, fun c => by rw [if_neg (by rw [c]; decide)] at hQ; exact hQ, fun c => ?_⟩
  rw [if_pos c] at hQ
  obtain ⟨q, hq, rfl⟩ := inF_nat (n := 5) (by omega) c
  have vq : vp_in (I q) 6 := vp_I (by omega) (by omega)
  refine ⟨fun c2 => ⟨vq, by rw [if_pos c2] at hQ; rw [uo_43]; exact hQ⟩, fun c2 => ?_⟩
  rw [if_neg c2] at hQ
  apply M_isBody
  rw [ov_39, uo_43]
  refine ⟨_, rfl, fun c3 => ⟨vq, by rw [if_pos c3] at hQ; exact hQ⟩, fun c3 => by rw [if_neg (by rw [c3]; decide)] at hQ; exact hQ⟩
theorem rwN_s {S : MS} {a j : Nat} : uE (rwN S a j) 45 (a + j) 0 = rwN S a (j + 1) := by
  unfold rwN uE up2
  congr 1
  funext f i
  simp only
  by_cases e : f = 45
  · subst e
    by_cases e2 : i = a + j
    · subst e2; simp
    · have : (i < a + (j + 1)) ↔ i < a + j := by omega
      simp [e2, this]
  · simp [e]
theorem A_row {s k n : Int32} (hQ : Q (.returned (some (.int (o_row S s k n).1))) (ov (o_row S s k n).2 t)) : MR G mX5_row 3 0 [(0, .ref m), (1, .int s), (2, .int k), (3, .int n)] [] m (ov S t) Q := by
  unfold o_row at hQ
  apply sX5_row_0
  apply M_isShelf
  refine ⟨_, rfl, fun c => by rw [if_neg (by rw [c]; decide)] at hQ; exact hQ, fun c => ?_⟩
  rw [if_pos c] at hQ
  obtain ⟨q, hq, rfl⟩ := inF_nat (n := 5) (by omega) c
  have vq : vp_in (I q) 6 := vp_I (by omega) (by omega)
  apply M_in
  refine ⟨_, rfl, fun c1 => by rw [if_neg (by rw [c1]; decide)] at hQ; exact hQ, fun c1 => ?_⟩
  rw [if_pos c1] at hQ
  refine ⟨fun c2 => ⟨fun c3 => ⟨vq, vq, ?_⟩, fun c3 => ?_⟩, fun c2 => ?_⟩
  · rw [if_pos c2, if_pos c3, I_nat (by omega)] at hQ
    simp only [uo_0, uo_1, uo_2, uo_3, uo_4, uo_5, uo_6, uo_7, uo_8, uo_9, uo_10, uo_11, uo_12, uo_13, uo_14, uo_15, uo_16, uo_17, uo_18, uo_19, uo_20, uo_21, uo_22, uo_23, uo_24, uo_25, uo_26, uo_27, uo_28, uo_29, uo_30, uo_31, uo_32, uo_33, uo_34, uo_35, uo_36, uo_37, uo_38, uo_39, uo_40, uo_41, uo_42, uo_43, uo_44, uo_45, uE_ov]
    rw [I_nat (by omega), show (60 : Int32) * I q = I (60 * q) from I_mul 60 q]
    generalize uS (uS S 43 q (-2 - k)) 44 q n = S1 at hQ
    have key : ∀ i, i ≤ 60 → MR G mX5_row 3 54 [(0, .ref m), (1, .int (I q)), (4, .int (I (60 * q + i)))] [] m (ov (rwN S1 (60 * q) i) t) Q := by
      have e60 : (60 : Int32) * I q + 60 = I (60 * q + 60) := by rw [show (60 : Int32) * I q = I (60 * q) from I_mul 60 q]; exact I_add _ 60
      refine up_ind ?_ (fun i hi ih => ?_)
      · refine sX5_row_54 ⟨fun _ => hQ, fun c => absurd (by rw [e60]; exact c_end (by omega)) c⟩
      · apply sX5_row_54
        rw [e60, I_succ, I_nat (by omega), uE_ovS (by decide)]
        refine ⟨fun c => absurd c (c_lt (by omega) (by omega)), fun _ => ⟨vp_I (by omega) (by omega), ?_⟩⟩
        rw [← rwN_s] at ih; exact ih
    have := key 0 (by omega)
    have e : ∀ S : MS, rwN S (60 * q) 0 = S := by
      intro S; unfold rwN; congr 1; funext f i
      rw [if_neg (by omega)]
    rw [e] at this; exact this
  · rw [if_pos c2, if_neg c3] at hQ; exact hQ
  · rw [if_neg c2] at hQ; exact hQ
theorem M_whyNoPlace {s i : Int32} (hQ : Q (.returned (some (.int (wyF S s i)))) (ov S t)) : MR G mX5_whyNoPlace 3 0 [(0, .ref m), (1, .int s), (2, .int i)] [] m (ov S t) Q := by
  unfold wyF at hQ
  apply sX5_whyNoPlace_0
  apply M_isShelf
  refine ⟨_, rfl, fun c => ?_, fun c => by rw [if_neg (by rw [c]; decide)] at hQ; exact hQ⟩
  rw [if_pos c] at hQ
  obtain ⟨q, hq, rfl⟩ := inF_nat (n := 5) (by omega) c
  have vq : vp_in (I q) 6 := vp_I (by omega) (by omega)
  simp only [ov_0, ov_1, ov_2, ov_3, ov_4, ov_5, ov_6, ov_7, ov_8, ov_9, ov_10, ov_11, ov_12, ov_13, ov_14, ov_15, ov_16, ov_17, ov_18, ov_19, ov_20, ov_21, ov_22, ov_23, ov_24, ov_25, ov_26, ov_27, ov_28, ov_29, ov_30, ov_31, ov_32, ov_33, ov_34, ov_35, ov_36, ov_37, ov_38, ov_39, ov_40, ov_41, ov_42, ov_43, ov_44, ov_45, ov_46, ov_e, ov_s]
  refine ⟨vq, fun c2 => ⟨vq, fun c3 => ⟨vq, ?_⟩, fun c3 => ?_⟩, fun c2 => ?_⟩
  · rw [if_neg c2, if_pos c3] at hQ
    apply M_in
    refine ⟨_, rfl, fun c4 => by rw [if_neg (by rw [c4]; decide)] at hQ; exact hQ, fun c4 => by rw [if_pos c4] at hQ; exact hQ⟩
  · rw [if_neg c2, if_neg c3] at hQ; exact hQ
  · rw [if_pos c2] at hQ; exact hQ
/-- where an element lies -/
theorem wy_ok (hH : She S) {s i : Int32} (h : 0 ≤ wyF S s i) : ∃ q j k n, q < 6 ∧ s = I q ∧ i = I j ∧ j < n ∧ n ≤ 60 ∧ k ≤ 4 ∧ S.1 43 q = -2 - I k ∧ S.1 44 q = I n ∧ wyF S s i = 0 := by
  unfold wyF at h
  by_cases c : inF s 0 5 = true
  · rw [if_pos c] at h
    have c0 := c
    obtain ⟨q, hq, rfl⟩ := inF_nat (n := 5) (by omega) c
    rw [I_nat (by omega)] at h
    by_cases c1 : S.1 43 q = -1
    · rw [if_pos c1] at h; exact absurd h (by decide)
    · rw [if_neg c1] at h
      by_cases c2 : S.1 43 q < 0
      · rw [if_pos c2] at h
        by_cases c3 : inF i 0 (S.1 44 q - 1) = true
        · rcases hH q (by omega) with e | ⟨b, hb, hb2, e⟩ | ⟨k, n, hk, hn, e, e2⟩
          · exact absurd e c1
          · rw [e] at c2; exact absurd c2 (I_nonneg (by omega))
          · have c4 := c3
            rw [e2] at c4
            obtain ⟨j, hj, rfl⟩ := inF_p (by omega) c4
            refine ⟨q, j, k, n, by omega, rfl, rfl, hj, hn, hk, e, e2, ?_⟩
            unfold wyF
            rw [if_pos c0, I_nat (by omega), if_neg c1, if_pos c2, if_pos c3]
        · rw [if_neg c3] at h; exact absurd h (by decide)
      · rw [if_neg c2] at h; exact absurd h (by decide)
  · rw [if_neg c] at h; exact absurd h (by decide)
theorem A_put (hH : She S) {s i : Int32} {v : Int64} (hQ : Q (.returned (some (.int (o_put S s i v).1))) (ov (o_put S s i v).2 t)) : MR G mX5_put 4 0 [(0, .ref m), (1, .int s), (2, .int i), (3, .long v)] [] m (ov S t) Q := by
  unfold o_put at hQ
  apply sX5_put_0
  apply M_whyNoPlace
  refine ⟨_, rfl, fun c => ?_, fun c => by rw [if_neg c] at hQ; exact hQ⟩
  rw [if_pos c] at hQ
  obtain ⟨q, j, k, n, hq, rfl, rfl, hj, hn, hk, e, e2, e3⟩ := wy_ok hH c
  have vq : vp_in (I q) 6 := vp_I (by omega) (by omega)
  have ei : (60 : Int32) * I q + I j = I (60 * q + j) := by rw [show (60 : Int32) * I q = I (60 * q) from I_mul 60 q]; exact I_add _ j
  rw [ei, ov_43]
  have ve : vp_in (I (60 * q + j)) 360 := vp_I (by omega) (by omega)
  rw [I_nat (show 60 * q + j ≤ 100000 by omega), I_nat (show q ≤ 100000 by omega)]
  rw [I_nat (show q ≤ 100000 by omega), I_nat (show j ≤ 100000 by omega)] at hQ
  simp only [uE_ovS (k := 45) (show ¬ 45 = 46 by decide)]
  unfold pvF at hQ
  refine ⟨vq, fun c0 => ⟨fun c1 => ⟨fun c2 => ⟨fun c3 => ⟨fun c4 => ⟨ve, ?_⟩, fun c4 => ⟨ve, ?_⟩⟩, fun c3 => ⟨ve, ?_⟩⟩, fun c2 => ⟨ve, ?_⟩⟩, fun c1 => ⟨ve, ?_⟩⟩, fun c0 => ⟨ve, ?_⟩⟩
  · rw [if_neg c0, if_neg c1, if_neg c2, if_neg c3, if_pos c4] at hQ; exact hQ
  · rw [if_neg c0, if_neg c1, if_neg c2, if_neg c3, if_neg c4] at hQ; exact hQ
  · rw [if_neg c0, if_neg c1, if_neg c2, if_pos c3] at hQ; exact hQ
  · rw [if_neg c0, if_neg c1, if_pos c2] at hQ; exact hQ
  · rw [if_neg c0, if_pos c1] at hQ; exact hQ
  · rw [if_pos c0] at hQ; exact hQ
theorem A_element (hH : She S) {s i : Int32} (hQ : Q (.returned (some (.long (a_element S s i)))) (ov S t)) : MR G mX5_element 4 0 [(0, .ref m), (1, .int s), (2, .int i)] [] m (ov S t) Q := by
  unfold a_element at hQ
  apply sX5_element_0
  apply M_whyNoPlace
  refine ⟨_, rfl, fun c => ?_, fun c => by rw [if_neg c] at hQ; exact hQ⟩
  rw [if_pos c] at hQ
  obtain ⟨q, j, k, n, hq, rfl, rfl, hj, hn, hk, e, e2, e3⟩ := wy_ok hH c
  have ei : (60 : Int32) * I q + I j = I (60 * q + j) := by rw [show (60 : Int32) * I q = I (60 * q) from I_mul 60 q]; exact I_add _ j
  rw [ei, ov_e, I_nat (show 60 * q + j ≤ 100000 by omega)]
  rw [I_nat (show q ≤ 100000 by omega), I_nat (show j ≤ 100000 by omega)] at hQ
  exact ⟨vp_I (by omega) (by omega), hQ⟩
theorem A_taken (hH : She S) {s k : Int32} (hQ : Q (.returned (some (.int (a_taken S s k)))) (ov S t)) : MR G mX5_taken 3 0 [(0, .ref m), (1, .int s), (2, .int k)] [] m (ov S t) Q := by
  unfold a_taken at hQ
  apply sX5_taken_0
  apply M_isShelf
  refine ⟨_, rfl, fun c => by rw [if_pos c] at hQ; exact hQ, fun c => ?_⟩
  rw [if_neg (by rw [c]; decide)] at hQ
  obtain ⟨q, hq, rfl⟩ := inF_nat (n := 5) (by omega) c
  have vq : vp_in (I q) 6 := vp_I (by omega) (by omega)
  apply M_in
  refine ⟨_, rfl, fun c1 => ?_, fun c1 => by rw [if_pos c1] at hQ; exact hQ⟩
  rw [if_neg (by rw [c1]; decide)] at hQ
  rw [I_nat (by omega)] at hQ
  simp only [ov_0, ov_1, ov_2, ov_3, ov_4, ov_5, ov_6, ov_7, ov_8, ov_9, ov_10, ov_11, ov_12, ov_13, ov_14, ov_15, ov_16, ov_17, ov_18, ov_19, ov_20, ov_21, ov_22, ov_23, ov_24, ov_25, ov_26, ov_27, ov_28, ov_29, ov_30, ov_31, ov_32, ov_33, ov_34, ov_35, ov_36, ov_37, ov_38, ov_39, ov_40, ov_41, ov_42, ov_43, ov_44, ov_45, ov_46, ov_e, ov_s]
  rw [I_nat (by omega)]
  refine ⟨vq, fun c2 => ⟨vq, fun c3 => by rw [if_neg c2, if_pos c3] at hQ; exact hQ, fun c3 => ?_⟩, fun c2 => by rw [if_pos c2] at hQ; exact hQ⟩
  rw [if_neg c2, if_neg c3] at hQ
  have vb : vp_in (S.1 43 q) 50 := by
    rcases hH q (by omega) with e | ⟨b, hb, hb2, e⟩ | ⟨k, n, hk, hn, e, e2⟩
    · exact absurd e c2
    · rw [e]; exact vp_I hb2 (by omega)
    · exfalso; apply c3; rw [e]
      have : ∀ k : Fin 5, (-2 - I k.val : Int32) < 0 := by decide +kernel
      exact this ⟨k, by omega⟩
  refine ⟨vq, vb, ?_⟩
  apply M_isUnder
  simp only [ov_0, ov_1, ov_2, ov_3, ov_4, ov_5, ov_6, ov_7, ov_8, ov_9, ov_10, ov_11, ov_12, ov_13, ov_14, ov_15, ov_16, ov_17, ov_18, ov_19, ov_20, ov_21, ov_22, ov_23, ov_24, ov_25, ov_26, ov_27, ov_28, ov_29, ov_30, ov_31, ov_32, ov_33, ov_34, ov_35, ov_36, ov_37, ov_38, ov_39, ov_40, ov_41, ov_42, ov_43, ov_44, ov_45, ov_46, ov_e, ov_s]
  refine ⟨_, rfl, fun c4 => by rw [if_neg (by rw [c4]; decide)] at hQ; exact hQ, fun c4 => ⟨vq, vb, by rw [if_pos c4] at hQ; exact hQ⟩⟩
theorem sub_I {n : Nat} {a x : Int32} (hn : n ≤ 60) (ha : ¬ a < 0) (hx : ¬ x < 0) : (¬ I n - a < x) ↔ ∃ p q, a = I p ∧ x = I q ∧ q + p ≤ n := by
  have e0 : (0 : Int32).toInt = 0 := rfl
  have h1 := a.toInt_lt
  have h2 := x.toInt_lt
  rw [lt_I, e0] at ha hx
  have es : (I n - a).toInt = n - a.toInt := by
    rw [Int32.toInt_sub, I_int (by omega), Int.bmod_eq_of_le] <;> omega
  rw [lt_I, es]
  constructor
  · intro h
    refine ⟨a.toInt.toNat, x.toInt.toNat, ?_, ?_, by omega⟩
    · apply Int32.toInt_inj.1; rw [I_int (by omega)]; omega
    · apply Int32.toInt_inj.1; rw [I_int (by omega)]; omega
  · rintro ⟨p, q, rfl, rfl, h⟩
    rw [I_int (by omega), I_int (by omega)]; omega
theorem A_shift (hH : She S) {s i o j n : Int32} (hQ : ∀ t', t'.1 = t.1 → Q (.returned (some (.int (o_shift S s i o j n).1))) (ov (o_shift S s i o j n).2 t')) : MR G mX5_shift 3 0 [(0, .ref m), (1, .int s), (2, .int i), (3, .int o), (4, .int j), (5, .int n)] [] m (ov S t) Q := by
  unfold o_shift at hQ
  apply sX5_shift_0
  apply M_isShelf
  refine ⟨_, rfl, fun c => by rw [if_pos c] at hQ; exact hQ t rfl, fun c => ?_⟩
  rw [if_neg (by rw [c]; decide)] at hQ
  obtain ⟨q, hq, rfl⟩ := inF_nat (n := 5) (by omega) c
  have vq : vp_in (I q) 6 := vp_I (by omega) (by omega)
  apply M_isShelf
  refine ⟨_, rfl, fun c1 => ?_, fun c1 => by rw [if_pos c1] at hQ; exact hQ t rfl⟩
  rw [if_neg (by rw [c1]; decide)] at hQ
  obtain ⟨r, hr, rfl⟩ := inF_nat (n := 5) (by omega) c1
  have vr : vp_in (I r) 6 := vp_I (by omega) (by omega)
  simp only [ov_0, ov_1, ov_2, ov_3, ov_4, ov_5, ov_6, ov_7, ov_8, ov_9, ov_10, ov_11, ov_12, ov_13, ov_14, ov_15, ov_16, ov_17, ov_18, ov_19, ov_20, ov_21, ov_22, ov_23, ov_24, ov_25, ov_26, ov_27, ov_28, ov_29, ov_30, ov_31, ov_32, ov_33, ov_34, ov_35, ov_36, ov_37, ov_38, ov_39, ov_40, ov_41, ov_42, ov_43, ov_44, ov_45, ov_46, ov_e, ov_s]
  rw [I_nat (show q ≤ 100000 by omega), I_nat (show r ≤ 100000 by omega)] at hQ ⊢
  refine ⟨vq, fun c2 => by rw [if_pos c2] at hQ; exact hQ t rfl, fun c2 => ⟨vr, fun c3 => ⟨vq, fun c4 => ?_, fun c4 => ⟨vq, vr, fun c5 => ?_, fun c5 => ?_⟩⟩, fun c3 => ?_⟩⟩
  · rw [if_neg c2, if_neg c3, if_pos c4] at hQ; exact hQ t rfl
  · rw [if_neg c2, if_neg c3, if_neg c4, if_neg (Decidable.not_not.2 c5)] at hQ
    refine ⟨fun c6 => by rw [if_pos c6] at hQ; exact hQ t rfl, fun c6 => ⟨fun c7 => by rw [if_neg c6, if_pos c7] at hQ; exact hQ t rfl, fun c7 => ⟨fun c8 => by rw [if_neg c6, if_neg c7, if_pos c8] at hQ; exact hQ t rfl, fun c8 => ⟨vq, fun c9 => by rw [if_neg c6, if_neg c7, if_neg c8, if_pos c9] at hQ; exact hQ t rfl, fun c9 => ⟨vr, fun c10 => ?_, fun c10 => by rw [if_neg c6, if_neg c7, if_neg c8, if_neg c9, if_neg c10] at hQ; exact hQ t rfl⟩⟩⟩⟩⟩
    rw [if_neg c6, if_neg c7, if_neg c8, if_neg c9, if_pos c10] at hQ
    obtain ⟨k, n1, hk, hn1, e1, e2⟩ : ∃ k n, k ≤ 4 ∧ n ≤ 60 ∧ S.1 43 q = -2 - I k ∧ S.1 44 q = I n := by
      rcases hH q (by omega) with e | ⟨b, hb, hb2, e⟩ | h
      · exact absurd e c2
      · rw [e] at c4; exact absurd (nlt_I.1 (I_nonneg (by omega))) c4
      · exact h
    obtain ⟨k', n2, hk', hn2, e3, e4⟩ : ∃ k n, k ≤ 4 ∧ n ≤ 60 ∧ S.1 43 r = -2 - I k ∧ S.1 44 r = I n := by
      rcases hH r (by omega) with e | ⟨b, hb, hb2, e⟩ | h
      · exact absurd e c3
      · rw [c5, e] at c4; exact absurd (nlt_I.1 (I_nonneg (by omega))) c4
      · exact h
    rw [e2] at c9
    rw [e4, ← nlt_I] at c10
    obtain ⟨nn, ii, rfl, rfl, h1⟩ := (sub_I hn1 c6 c7).1 c9
    obtain ⟨nn', jj, en, rfl, h2⟩ := (sub_I hn2 c6 c8).1 c10
    have := (I_inj (by omega) (by omega)).1 en
    subst this
    rw [I_nat (show ii ≤ 100000 by omega), I_nat (show jj ≤ 100000 by omega), I_nat (show nn ≤ 100000 by omega)] at hQ
    have ea : (60 : Int32) * I q + I ii = I (60 * q + ii) := by rw [show (60 : Int32) * I q = I (60 * q) from I_mul 60 q]; exact I_add _ ii
    have eb : (60 : Int32) * I r + I jj = I (60 * r + jj) := by rw [show (60 : Int32) * I r = I (60 * r) from I_mul 60 r]; exact I_add _ jj
    have ph2 : ∀ t1 : MS, t1.1 = t.1 → (∀ k, k < nn → t1.2 46 k = S.2 45 (60 * q + ii + k)) → ∀ k, k ≤ nn → MR G mX5_shift 3 150 [(0, .ref m), (3, .int (I r)), (4, .int (I jj)), (5, .int (I nn)), (6, .int (I k))] [] m (ov (cpN S (60 * q + ii) (60 * r + jj) k) t1) Q := by
      intro t1 ht hs
      refine up_ind ?_ (fun k hk ih => ?_)
      · exact sX5_shift_150 ⟨fun _ => hQ t1 ht, fun c => absurd (c_end (by omega)) c⟩
      · apply sX5_shift_150
        rw [eb, I_succ, I_add, I_nat (show 60 * r + jj + k ≤ 100000 by omega), I_nat (show k ≤ 100000 by omega), uE_ovS (by decide)]
        refine ⟨fun c => absurd c (c_lt (by omega) hk), fun _ => ⟨vp_I (by omega) (by omega), vp_I (by omega) (by omega), ?_⟩⟩
        have e : uE (cpN S (60 * q + ii) (60 * r + jj) k) 45 (60 * r + jj + k) (t1.2 46 k) = cpN S (60 * q + ii) (60 * r + jj) (k + 1) := by
          rw [hs k hk]
          unfold cpN uE up2
          congr 1
          funext f z
          simp only
          by_cases e : f = 45
          · subst e
            by_cases e2 : z = 60 * r + jj + k
            · subst e2; simp
            · have : (z < 60 * r + jj + (k + 1)) ↔ z < 60 * r + jj + k := by omega
              simp [e2, this]
          · simp [e]
        rw [ov_s, e]; exact ih
    have ph1 : ∀ k, k ≤ nn → ∀ t1 : MS, t1.1 = t.1 → (∀ z, z < k → t1.2 46 z = S.2 45 (60 * q + ii + z)) → MR G mX5_shift 3 113 [(0, .ref m), (1, .int (I q)), (2, .int (I ii)), (3, .int (I r)), (4, .int (I jj)), (5, .int (I nn)), (6, .int (I k))] [] m (ov S t1) Q := by
      refine up_ind ?_ (fun k hk ih => ?_)
      · intro t1 ht hs
        refine sX5_shift_113 ⟨fun _ => ?_, fun c => absurd (c_end (by omega)) c⟩
        have := ph2 t1 ht hs 0 (by omega)
        have e : cpN S (60 * q + ii) (60 * r + jj) 0 = S := by
          unfold cpN; congr 1; funext f z
          rw [if_neg (by omega)]
        rw [e] at this; exact this
      · intro t1 ht hs
        apply sX5_shift_113
        rw [ea, I_succ, I_add, I_nat (show 60 * q + ii + k ≤ 100000 by omega), I_nat (show k ≤ 100000 by omega), uE_ov, ov_e]
        refine ⟨fun c => absurd c (c_lt (by omega) hk), fun _ => ⟨vp_I (by omega) (by omega), vp_I (by omega) (by omega), ih _ ht (fun z hz => ?_)⟩⟩
        show (if 46 = 46 ∧ z = k then _ else _) = _
        by_cases e : z = k
        · subst e; simp
        · rw [if_neg (by simp [e])]; exact hs z (by omega)
    exact ph1 0 (by omega) t rfl (fun z hz => by omega)
  · rw [if_neg c2, if_neg c3, if_neg c4, if_pos c5] at hQ; exact hQ t rfl
  · rw [if_neg c2, if_pos c3] at hQ; exact hQ t rfl
theorem A_people (hH : She S) (hS : Ppl S) {s i n : Int32} (hQ : Q (.returned (some (.int (o_people S s i n).1))) (ov (o_people S s i n).2 t)) : MR G mX5_people 4 0 [(0, .ref m), (1, .int s), (2, .int i), (3, .int n)] [] m (ov S t) Q := by
  unfold o_people at hQ
  apply sX5_people_0
  apply M_isShelf
  refine ⟨_, rfl, fun c => by rw [if_neg (by rw [c]; decide)] at hQ; exact hQ, fun c => ?_⟩
  rw [if_pos c] at hQ
  obtain ⟨q, hq, rfl⟩ := inF_nat (n := 5) (by omega) c
  have vq : vp_in (I q) 6 := vp_I (by omega) (by omega)
  apply M_in
  refine ⟨_, rfl, fun c1 => ?_, fun c1 => by rw [if_neg (by rw [c1]; decide)] at hQ; exact hQ⟩
  rw [if_pos c1] at hQ
  simp only [ov_0, ov_1, ov_2, ov_3, ov_4, ov_5, ov_6, ov_7, ov_8, ov_9, ov_10, ov_11, ov_12, ov_13, ov_14, ov_15, ov_16, ov_17, ov_18, ov_19, ov_20, ov_21, ov_22, ov_23, ov_24, ov_25, ov_26, ov_27, ov_28, ov_29, ov_30, ov_31, ov_32, ov_33, ov_34, ov_35, ov_36, ov_37, ov_38, ov_39, ov_40, ov_41, ov_42, ov_43, ov_44, ov_45, ov_46, ov_e, ov_s]
  rw [I_nat (show q ≤ 100000 by omega)] at hQ ⊢
  obtain ⟨nn, hn1, hn2, rfl⟩ : ∃ n', 1 ≤ n' ∧ n' ≤ 12 ∧ n = I n' := by
    rw [inF_iff] at c1
    have e1 : (1 : Int32).toInt = 1 := rfl
    have e2 : (12 : Int32).toInt = 12 := rfl
    refine ⟨n.toInt.toNat, by omega, by omega, ?_⟩
    apply Int32.toInt_inj.1
    rw [I_int (by omega)]; omega
  rw [I_nat (show nn ≤ 100000 by omega)] at hQ
  refine ⟨vq, fun c2 => ⟨vq, fun c3 => absurd c2 c3, fun _ => by rw [if_pos c2] at hQ; exact hQ⟩, fun c2 => ⟨vq, fun c3 => ⟨vq, fun _ => ?_, fun c4 => absurd c4 c2⟩, fun c3 => by rw [if_neg c2, if_neg c3] at hQ; exact hQ⟩⟩
  rw [if_neg c2, if_pos c3] at hQ
  obtain ⟨sz, hsz, esz⟩ : ∃ sz, sz ≤ 60 ∧ S.1 44 q = I sz := by
    rcases hH q (by omega) with e | ⟨b, hb, hb2, e⟩ | ⟨k, n, hk, hn, e, e2⟩
    · exact absurd e c2
    · rw [e] at c3
      have := congrArg Int32.toInt c3
      rw [I_int (by omega)] at this
      have e2 : (-2 : Int32).toInt = -2 := rfl
      omega
    · exact ⟨n, hn, e2⟩
  have key : ∀ j, j ≤ nn → ∀ S1, Ppl S1 → S1.1 44 q = I sz → Q (.returned (some (.int (ppN q i.toInt nn j S1).1))) (ov (ppN q i.toInt nn j S1).2 t) → MR G mX5_people 4 58 [(0, .ref m), (1, .int (I q)), (2, .int i), (3, .int (I nn)), (4, .int (I (nn - j)))] [] m (ov S1 t) Q := by
    intro j
    induction j with
    | zero =>
      intro _ S1 hS1 hz hq1
      exact sX5_people_58 ⟨fun _ => hq1, fun c => absurd (c_end (by omega)) c⟩
    | succ j ih =>
      intro hj S1 hS1 hz hq1
      have h12 := hS1.n
      have hi1 := i.toInt_lt
      have hi2 := i.le_toInt
      rw [ppN_s] at hq1
      generalize hk : nn - (j + 1) = k at hq1 ⊢
      have hk12 : k < nn := by omega
      have eA := at_64 (i := i) (k := k) (by omega)
      have eC : ((i.toInt64 + (3 * I k).toInt64) + 2).toInt = i.toInt + 3 * k + 2 := by
        have := add_64 (x := i.toInt64 + (3 * I k).toInt64) (c := 2) (n := 2) rfl (by omega) (by rw [eA]; omega) (by rw [eA]; omega)
        rw [this, eA]; rfl
      apply sX5_people_58
      have z0 : (0 : Int64).toInt = 0 := rfl
      rw [lg_lt, eA, z0, lg_ge, i64, eC]
      simp only [ov_0, ov_1, ov_2, ov_3, ov_4, ov_5, ov_6, ov_7, ov_8, ov_9, ov_10, ov_11, ov_12, ov_13, ov_14, ov_15, ov_16, ov_17, ov_18, ov_19, ov_20, ov_21, ov_22, ov_23, ov_24, ov_25, ov_26, ov_27, ov_28, ov_29, ov_30, ov_31, ov_32, ov_33, ov_34, ov_35, ov_36, ov_37, ov_38, ov_39, ov_40, ov_41, ov_42, ov_43, ov_44, ov_45, ov_46, ov_e, ov_s]
      rw [I_nat (show q ≤ 100000 by omega), hz, I_int (by omega)]
      have no : peG S1 q i.toInt k = false → Q (.returned (some (.int (I k)))) (ov S1 t) := by
        intro h
        rw [if_neg (by rw [h]; decide)] at hq1; exact hq1
      refine ⟨fun c => absurd c (c_lt (by omega) hk12), fun _ => ⟨fun c4 => no ?_, fun c4 => ⟨vq, fun c5 => no ?_, fun c5 => ⟨fun c6 => ?_, fun c6 => no ?_⟩⟩⟩⟩
      · have : ¬ 0 ≤ i.toInt + 3 * (k : Int) := by omega
        unfold peG; rw [decide_eq_false this]; rfl
      · have : ¬ i.toInt + 3 * (k : Int) + 2 < (S1.1 44 q).toInt := by rw [hz, I_int (by omega)]; omega
        unfold peG; rw [decide_eq_false this]; simp
      · obtain ⟨a, ha⟩ : ∃ a : Nat, i.toInt + 3 * (k : Int) = a := ⟨(i.toInt + 3 * (k : Int)).toNat, by omega⟩
        have e32 : (i.toInt64 + (3 * I k).toInt64).toInt32 = I a := sm_32 (by rw [eA, ha]) (by omega)
        have e60 : (60 : Int32) * I q + I a = I (60 * q + a) := by rw [show (60 : Int32) * I q = I (60 * q) from I_mul 60 q]; exact I_add _ a
        have e61 : I (60 * q + a) + 1 = I (60 * q + a + 1) := I_succ _
        have e62 : I (60 * q + a) + 2 = I (60 * q + a + 2) := I_add _ 2
        have p0 : peF S1 q i.toInt k 0 = (S1.2 45 (60 * q + a)).toInt32 := by unfold peF; rw [ha]; simp
        have p1 : peF S1 q i.toInt k 1 = (S1.2 45 (60 * q + a + 1)).toInt32 := by unfold peF; rw [ha]; simp
        have p2 : peF S1 q i.toInt k 2 = (S1.2 45 (60 * q + a + 2)).toInt32 := by unfold peF; rw [ha]; simp
        have v0 : vp_in (I (60 * q + a)) 360 := vp_I (by omega) (by omega)
        have v1 : vp_in (I (60 * q + a + 1)) 360 := vp_I (by omega) (by omega)
        have v2 : vp_in (I (60 * q + a + 2)) 360 := vp_I (by omega) (by omega)
        rw [e32, e60, e61, e62, I_nat (show 60 * q + a ≤ 100000 by omega), I_nat (show 60 * q + a + 1 ≤ 100000 by omega), I_nat (show 60 * q + a + 2 ≤ 100000 by omega), ← p0, ← p1]
        have g1 : decide (0 ≤ i.toInt + 3 * (k : Int)) = true := by simp; omega
        have g2 : decide (i.toInt + 3 * (k : Int) + 2 < (S1.1 44 q).toInt) = true := by rw [hz, I_int (by omega)]; simp; omega
        refine ⟨v0, v1, ?_⟩
        apply M_isLife
        refine ⟨_, rfl, fun c7 => no (by unfold peG; rw [c7]; simp), fun c7 => ⟨v2, ?_⟩⟩
        simp only [ov_0, ov_1, ov_2, ov_3, ov_4, ov_5, ov_6, ov_7, ov_8, ov_9, ov_10, ov_11, ov_12, ov_13, ov_14, ov_15, ov_16, ov_17, ov_18, ov_19, ov_20, ov_21, ov_22, ov_23, ov_24, ov_25, ov_26, ov_27, ov_28, ov_29, ov_30, ov_31, ov_32, ov_33, ov_34, ov_35, ov_36, ov_37, ov_38, ov_39, ov_40, ov_41, ov_42, ov_43, ov_44, ov_45, ov_46, ov_e, ov_s]
        rw [← p2]
        apply M_in
        refine ⟨_, rfl, fun c8 => ⟨v0, v1, v2, ?_⟩, fun c8 => no (by unfold peG; rw [c8]; simp)⟩
        simp only [ov_0, ov_1, ov_2, ov_3, ov_4, ov_5, ov_6, ov_7, ov_8, ov_9, ov_10, ov_11, ov_12, ov_13, ov_14, ov_15, ov_16, ov_17, ov_18, ov_19, ov_20, ov_21, ov_22, ov_23, ov_24, ov_25, ov_26, ov_27, ov_28, ov_29, ov_30, ov_31, ov_32, ov_33, ov_34, ov_35, ov_36, ov_37, ov_38, ov_39, ov_40, ov_41, ov_42, ov_43, ov_44, ov_45, ov_46, ov_e, ov_s]
        rw [← p0, ← p1, ← p2]
        have hn := np_ne hS1 c6
        have g : peG S1 q i.toInt k = true := by
          unfold peG; rw [g1, g2, c7, c8]; simp [c6]
        rw [if_pos g] at hq1
        apply M_addPerson hS1 hn
        refine ⟨_, rfl, ?_⟩
        rw [I_succ, show k + 1 = nn - j by omega]
        refine ih (by omega) _ (Ppl_addP hS1 hn c7 c8) ?_ hq1
        unfold addP
        rw [uS_ne (by decide), uS_ne (by decide), uS_ne (by decide), uS_ne (by decide)]; exact hz
      · unfold peG; simp [c6]
  have := key nn (Nat.le_refl _) S hS esz hQ
  rw [Nat.sub_self] at this; exact this
end

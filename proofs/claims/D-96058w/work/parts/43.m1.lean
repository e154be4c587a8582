/-! LAYER 3.3: the model's small methods -/
set_option maxRecDepth 100000
theorem qb {Q : Outcome → MS → Prop} {s : MS} {b b' : Bool} (h : Q (.returned (some (.int (bi b)))) s) (e : b = b') : Q (.returned (some (.int (bi b')))) s := e ▸ h
theorem qi {Q : Outcome → MS → Prop} {s : MS} {b b' : Int32} (h : Q (.returned (some (.int b))) s) (e : b = b') : Q (.returned (some (.int b'))) s := e ▸ h
theorem ql {Q : Outcome → MS → Prop} {s : MS} {b b' : Int64} (h : Q (.returned (some (.long b))) s) (e : b = b') : Q (.returned (some (.long b'))) s := e ▸ h
section
variable {G : GG} {m : Nat} {S t sg : MS} {Q : Outcome → MS → Prop}
theorem M_in {a b c : Int32} (hQ : Q (.returned (some (.int (bi (inF a b c))))) sg) : MR G mX5_in 1 0 [(0, .int a), (1, .int b), (2, .int c)] [] m sg Q := by
  apply sX5_in_0
  repeat' (first | assumption | (refine ⟨_, rfl, ?_⟩) | (refine im (fun _ => ?_)) | (refine ⟨?_, ?_⟩) | fail)
  all_goals (refine qb hQ ?_; simp [inF, *])
theorem M_isPerson {a : Int32} (hQ : Q (.returned (some (.int (bi (inF a 0 (sg.1 1 0 - 1)))))) sg) : MR G mX5_isPerson 2 0 [(0, .ref m), (1, .int a)] [] m sg Q :=
  sX5_isPerson_0 (M_in ⟨_, rfl, hQ⟩)
theorem M_isName {a : Int32} (hQ : Q (.returned (some (.int (bi (inF a 0 11))))) sg) : MR G mX5_isName 2 0 [(0, .int a)] [] m sg Q :=
  sX5_isName_0 (M_in ⟨_, rfl, hQ⟩)
theorem M_isYear {a : Int32} (hQ : Q (.returned (some (.int (bi (inF a 0 99))))) sg) : MR G mX5_isYear 2 0 [(0, .int a)] [] m sg Q :=
  sX5_isYear_0 (M_in ⟨_, rfl, hQ⟩)
theorem M_isShelf {a : Int32} (hQ : Q (.returned (some (.int (bi (inF a 0 5))))) sg) : MR G mX5_isShelf 2 0 [(0, .int a)] [] m sg Q :=
  sX5_isShelf_0 (M_in ⟨_, rfl, hQ⟩)
theorem M_isBody {a : Int32} (hQ : Q (.returned (some (.int (bi (inF a 0 (sg.1 39 0 - 1)))))) sg) : MR G mX5_isBody 2 0 [(0, .ref m), (1, .int a)] [] m sg Q :=
  sX5_isBody_0 (M_in ⟨_, rfl, hQ⟩)
theorem M_isLife {a b : Int32} (hQ : Q (.returned (some (.int (bi (inF a 0 99 && inF b (a + 1) 100))))) sg) : MR G mX5_isLife 3 0 [(0, .int a), (1, .int b)] [] m sg Q := by
  apply sX5_isLife_0
  apply M_isYear
  refine ⟨_, rfl, fun c => ?_, fun c => ?_⟩
  · exact qb hQ (by simp [c])
  · apply M_in
    refine ⟨_, rfl, fun c2 => ?_, fun c2 => ?_⟩ <;> exact qb hQ (by simp [c, c2])
theorem M_lives {p y : Int32} (hp : vp_in p 12) (hQ : Q (.returned (some (.int (bi (lvF S p y))))) (ov S t)) : MR G mX5_lives 1 0 [(0, .ref m), (1, .int p), (2, .int y)] [] m (ov S t) Q := by
  apply sX5_lives_0
  simp only [ov_0, ov_1, ov_2, ov_3, ov_4, ov_5, ov_6, ov_7, ov_8, ov_9, ov_10, ov_11, ov_12, ov_13, ov_14, ov_15, ov_16, ov_17, ov_18, ov_19, ov_20, ov_21, ov_22, ov_23, ov_24, ov_25, ov_26, ov_27, ov_28, ov_29, ov_30, ov_31, ov_32, ov_33, ov_34, ov_35, ov_36, ov_37, ov_38, ov_39, ov_40, ov_41, ov_42, ov_43, ov_44, ov_45, ov_46, ov_e, ov_s]
  repeat' (first | assumption | (refine ⟨_, rfl, ?_⟩) | (refine im (fun _ => ?_)) | (refine ⟨?_, ?_⟩) | fail)
  all_goals (refine qb hQ ?_; simp [lvF, *])
theorem M_isAhead {p q : Int32} (hp : vp_in p 12) (hq : vp_in q 12) (hQ : Q (.returned (some (.int (bi (ahF S p q))))) (ov S t)) : MR G mX5_isAhead 1 0 [(0, .ref m), (1, .int p), (2, .int q)] [] m (ov S t) Q := by
  apply sX5_isAhead_0
  simp only [ov_0, ov_1, ov_2, ov_3, ov_4, ov_5, ov_6, ov_7, ov_8, ov_9, ov_10, ov_11, ov_12, ov_13, ov_14, ov_15, ov_16, ov_17, ov_18, ov_19, ov_20, ov_21, ov_22, ov_23, ov_24, ov_25, ov_26, ov_27, ov_28, ov_29, ov_30, ov_31, ov_32, ov_33, ov_34, ov_35, ov_36, ov_37, ov_38, ov_39, ov_40, ov_41, ov_42, ov_43, ov_44, ov_45, ov_46, ov_e, ov_s]
  repeat' (first | assumption | (refine ⟨_, rfl, ?_⟩) | (refine im (fun _ => ?_)) | (refine ⟨?_, ?_⟩) | fail)
  all_goals (refine qb hQ ?_; simp [ahF, *])
theorem M_counts {k : Int32} (hk : vp_in k 16) (h1 : vp_in (S.1 6 k.toNatClampNeg) 12) (h2 : vp_in (S.1 7 k.toNatClampNeg) 12) (hQ : Q (.returned (some (.int (bi (ctF S k))))) (ov S t)) : MR G mX5_counts 2 0 [(0, .ref m), (1, .int k)] [] m (ov S t) Q := by
  apply sX5_counts_0
  refine ⟨hk, hk, ?_⟩
  apply M_lives h1
  refine ⟨_, rfl, fun c => ?_, fun c => ⟨hk, hk, ?_⟩⟩
  · exact qb hQ (by simp only [ov_0, ov_1, ov_2, ov_3, ov_4, ov_5, ov_6, ov_7, ov_8, ov_9, ov_10, ov_11, ov_12, ov_13, ov_14, ov_15, ov_16, ov_17, ov_18, ov_19, ov_20, ov_21, ov_22, ov_23, ov_24, ov_25, ov_26, ov_27, ov_28, ov_29, ov_30, ov_31, ov_32, ov_33, ov_34, ov_35, ov_36, ov_37, ov_38, ov_39, ov_40, ov_41, ov_42, ov_43, ov_44, ov_45, ov_46, ov_e, ov_s] at c; simp [ctF, c])
  · apply M_lives h2
    simp only [ov_0, ov_1, ov_2, ov_3, ov_4, ov_5, ov_6, ov_7, ov_8, ov_9, ov_10, ov_11, ov_12, ov_13, ov_14, ov_15, ov_16, ov_17, ov_18, ov_19, ov_20, ov_21, ov_22, ov_23, ov_24, ov_25, ov_26, ov_27, ov_28, ov_29, ov_30, ov_31, ov_32, ov_33, ov_34, ov_35, ov_36, ov_37, ov_38, ov_39, ov_40, ov_41, ov_42, ov_43, ov_44, ov_45, ov_46, ov_e, ov_s] at c ⊢
    refine ⟨_, rfl, fun c2 => ?_, fun c2 => ?_⟩ <;> exact qb hQ (by simp [ctF, c, c2])
theorem M_bitsOf {a : Int32} (hQ : Q (.returned (some (.int (I (ones a))))) sg) : MR G mX5_bitsOf 1 0 [(0, .int a)] [] m sg Q := by
  apply sX5_bitsOf_0
  have : ∀ N (x n : Int32), x.toBitVec.toNat < N → n + I (ones x) = I (ones a) → MR G mX5_bitsOf 1 4 [(1, .int n), (2, .int x)] [] m sg Q := by
    intro N
    induction N with
    | zero => intro x n h; omega
    | succ N ih =>
      intro x n hx e
      apply sX5_bitsOf_4
      refine ⟨fun c => ?_, fun c => ?_⟩
      · subst c
        rw [ones_zero] at e
        refine qi hQ ?_
        rw [← e]; exact Int32.add_zero n
      · refine ih _ _ (by have := clr_lt c; omega) ?_
        rw [← e, ones_clr c, ← I_succ, Int32.add_assoc, Int32.add_comm 1]
  exact this _ a 0 (Nat.lt_succ_self _) (Int32.zero_add _)
theorem pp_end (hS : Ppl S) : S.1 1 0 ≤ I (np S) := by
  have := hS.n
  rw [hS.e, I_le (by omega) (by omega)]; exact Nat.le_refl _
theorem pp_lt (hS : Ppl S) {i : Nat} (hi : i < np S) : ¬ S.1 1 0 ≤ I i := by
  have := hS.n
  rw [hS.e, I_le (by omega) (by omega)]; omega
theorem mt_end (hS : Mtg S) : S.1 5 0 ≤ I (nm S) := by
  have := hS.n
  rw [hS.e, I_le (by omega) (by omega)]; exact Nat.le_refl _
theorem mt_lt (hS : Mtg S) {i : Nat} (hi : i < nm S) : ¬ S.1 5 0 ≤ I i := by
  have := hS.n
  rw [hS.e, I_le (by omega) (by omega)]; omega
theorem c_end {n : Nat} (hn : n ≤ 1000) : I n ≤ I n := by
  rw [I_le (by omega) (by omega)]; exact Nat.le_refl _
theorem c_lt {i n : Nat} (hn : n ≤ 1000) (hi : i < n) : ¬ I n ≤ I i := by
  rw [I_le (by omega) (by omega)]; omega
/-- a loop up to the number of people -/
theorem M_placeOf (hS : Ppl S) {p : Int32} (hp : vp_in p 12) (hQ : Q (.returned (some (.int (I (plF S p))))) (ov S t)) : MR G mX5_placeOf 2 0 [(0, .ref m), (1, .int p)] [] m (ov S t) Q := by
  apply sX5_placeOf_0
  have hn := hS.n
  have : ∀ i, i ≤ np S → MR G mX5_placeOf 2 4 [(0, .ref m), (1, .int p), (2, .int (I (cnt i (fun o => ahF S (I o) p)))), (3, .int (I i))] [] m (ov S t) Q := by
    refine up_ind ?_ (fun i hi ih => ?_)
    · exact sX5_placeOf_4 ⟨fun c => hQ, fun c => absurd (pp_end hS) c⟩
    · apply sX5_placeOf_4
      refine ⟨fun c => absurd c (pp_lt hS hi), fun c => ?_⟩
      apply M_isAhead (vp_I (by omega) (by omega)) hp
      refine ⟨_, rfl, fun c2 => ?_, fun c2 => ?_⟩
      · rw [I_succ]; rw [cnt_f c2] at ih; exact ih
      · rw [I_succ, I_succ]; rw [cnt_t c2] at ih; exact ih
  exact this 0 (by omega)
theorem M_personAt (hS : Ppl S) {a : Int32} {p : Nat} (hp : p < np S) (h1 : I (plF S (I p)) = a) (h2 : ∀ i, i < p → ¬ I (plF S (I i)) = a) (hQ : Q (.returned (some (.int (I p)))) (ov S t)) : MR G mX5_personAt 3 0 [(0, .ref m), (1, .int a)] [] m (ov S t) Q := by
  apply sX5_personAt_0
  have hn := hS.n
  have : ∀ i, i ≤ p → MR G mX5_personAt 3 2 [(0, .ref m), (1, .int a), (2, .int (I i))] [] m (ov S t) Q := by
    refine up_ind ?_ (fun i hi ih => ?_)
    · apply sX5_personAt_2
      refine ⟨fun c => absurd c (pp_lt hS hp), fun c => ?_⟩
      apply M_placeOf hS (vp_I (by omega) (by omega))
      exact ⟨_, rfl, fun c2 => absurd h1 c2, fun _ => hQ⟩
    · apply sX5_personAt_2
      refine ⟨fun c => absurd c (pp_lt hS (by omega)), fun c => ?_⟩
      apply M_placeOf hS (vp_I (by omega) (by omega))
      exact ⟨_, rfl, fun c2 => by rw [I_succ]; exact ih, fun c2 => absurd c2 (h2 i hi)⟩
  exact this 0 (by omega)
theorem M_aheadOf (hS : Ppl S) {p : Int32} (hp : vp_in p 12) (hQ : Q (.returned (some (.int (aoF S p)))) (ov S t)) : MR G mX5_aheadOf 2 0 [(0, .ref m), (1, .int p)] [] m (ov S t) Q := by
  apply sX5_aheadOf_0
  have hn := hS.n
  have : ∀ i, i ≤ np S → MR G mX5_aheadOf 2 4 [(0, .ref m), (1, .int p), (2, .int (orB i (fun o => ahF S (I o) p))), (3, .int (I i))] [] m (ov S t) Q := by
    refine up_ind ?_ (fun i hi ih => ?_)
    · exact sX5_aheadOf_4 ⟨fun c => hQ, fun c => absurd (pp_end hS) c⟩
    · apply sX5_aheadOf_4
      refine ⟨fun c => absurd c (pp_lt hS hi), fun c => ?_⟩
      apply M_isAhead (vp_I (by omega) (by omega)) hp
      refine ⟨_, rfl, fun c2 => ?_, fun c2 => ?_⟩
      · rw [I_succ]; rw [orB_f c2] at ih; exact ih
      · rw [I_succ]; rw [orB_t c2] at ih; exact ih
  exact this 0 (by omega)
def bnF (S : MS) (n : Int32) : Int32 := orB (np S) (fun p => decide (S.1 4 p = n))
theorem M_bearersOf (hS : Ppl S) {a : Int32} (hQ : Q (.returned (some (.int (bnF S a)))) (ov S t)) : MR G mX5_bearersOf 1 0 [(0, .ref m), (1, .int a)] [] m (ov S t) Q := by
  apply sX5_bearersOf_0
  have hn := hS.n
  have : ∀ i, i ≤ np S → MR G mX5_bearersOf 1 4 [(0, .ref m), (1, .int a), (2, .int (orB i (fun p => decide (S.1 4 p = a)))), (3, .int (I i))] [] m (ov S t) Q := by
    refine up_ind ?_ (fun i hi ih => ?_)
    · exact sX5_bearersOf_4 ⟨fun c => hQ, fun c => absurd (pp_end hS) c⟩
    · apply sX5_bearersOf_4
      rw [I_nat (by omega)]
      refine ⟨fun c => absurd c (pp_lt hS hi), fun c => ⟨vp_I (by omega) (by omega), fun c2 => ?_, fun c2 => ?_⟩⟩
      · have c2 : ¬ S.1 4 i = a := c2
        rw [I_succ]; rw [orB_f (by simpa using c2)] at ih; exact ih
      · have c2 : S.1 4 i = a := c2
        rw [I_succ]; rw [orB_t (by simpa using c2)] at ih; exact ih
  exact this 0 (by omega)
def nyF (S : MS) : Nat := cnt (np S) (fun p => !(decide (S.1 4 p < 0)))
theorem M_namedMany (hS : Ppl S) (hQ : Q (.returned (some (.int (I (nyF S))))) (ov S t)) : MR G mX5_namedMany 1 0 [(0, .ref m)] [] m (ov S t) Q := by
  apply sX5_namedMany_0
  have hn := hS.n
  have : ∀ i, i ≤ np S → MR G mX5_namedMany 1 4 [(0, .ref m), (1, .int (I (cnt i (fun p => !(decide (S.1 4 p < 0)))))), (2, .int (I i))] [] m (ov S t) Q := by
    refine up_ind ?_ (fun i hi ih => ?_)
    · exact sX5_namedMany_4 ⟨fun c => hQ, fun c => absurd (pp_end hS) c⟩
    · apply sX5_namedMany_4
      rw [I_nat (by omega)]
      refine ⟨fun c => absurd c (pp_lt hS hi), fun c => ⟨vp_I (by omega) (by omega), fun c2 => ?_, fun c2 => ?_⟩⟩
      · have c2 : S.1 4 i < 0 := c2
        rw [I_succ]; rw [cnt_f (by simpa using c2)] at ih; exact ih
      · have c2 : ¬ S.1 4 i < 0 := c2
        rw [I_succ, I_succ]; rw [cnt_t (by simpa using c2)] at ih; exact ih
  exact this 0 (by omega)
end

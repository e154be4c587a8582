/-! LAYER 3.8: the model's calls that ask: knows, held, free, most, judge, run, used, freed, never -/
set_option maxRecDepth 100000
theorem inF_iff {v a b : Int32} : inF v a b = true ↔ a.toInt ≤ v.toInt ∧ v.toInt ≤ b.toInt := by
  unfold inF
  rw [← le_I, ← le_I]
  by_cases h1 : v < a
  · simp [h1, nle_I.2 h1]
  · by_cases h2 : b < v
    · simp [h2, nle_I.2 h2]
    · simp [h1, h2, nlt_I.1 h1, nlt_I.1 h2]
theorem inF_nat {v : Int32} {n : Nat} (hn : n ≤ 1000) (h : inF v 0 (I n) = true) : ∃ q, q ≤ n ∧ v = I q := by
  rw [inF_iff, I_int (by omega)] at h
  have e : (0 : Int32).toInt = 0 := rfl
  refine ⟨v.toInt.toNat, by omega, ?_⟩
  apply Int32.toInt_inj.1
  rw [I_int (by omega)]; omega
theorem inF_p {v : Int32} {n : Nat} (hn : n ≤ 1000) (h : inF v 0 (I n - 1) = true) : ∃ q, q < n ∧ v = I q := by
  cases n with
  | zero =>
    rw [inF_iff] at h
    have e : (0 : Int32).toInt = 0 := rfl
    have e2 : (I 0 - 1 : Int32).toInt = -1 := rfl
    omega
  | succ n =>
    rw [I_pred (by omega)] at h
    obtain ⟨q, h1, h2⟩ := inF_nat (by omega) h
    exact ⟨q, by simp at h1; omega, h2⟩
theorem inF_I {q n : Nat} (hn : n ≤ 1000) (h : q < n) : inF (I q) 0 (I n - 1) = true := by
  cases n with
  | zero => omega
  | succ n =>
    rw [I_pred (by omega), inF_iff, I_int (by omega), I_int (by omega)]
    have e : (0 : Int32).toInt = 0 := rfl
    simp; omega
abbrev SE : List Nat := [20, 21, 22, 23, 29, 30, 32, 33, 34, 35]
theorem frF_he {S : MS} {L : Lw} {B : Nat → Int32} {y : Int32} : 4095 &&& (heF S L B y ^^^ (-1)) = frF S L B y := by
  apply tb_ext
  intro i hi
  have h1 : ∀ i : Fin 32, tb 4095 i.val = decide (i.val < 12) := by decide +kernel
  have h2 : ∀ x : Int32, tb (x ^^^ (-1)) i = !(tb x i) := by
    intro x
    have : ∀ i : Fin 32, tb (-1) i.val = true := by decide +kernel
    have := this ⟨i, hi⟩
    simp only [tb, Int32.toBitVec_xor, BitVec.getLsbD_xor] at this ⊢
    rw [this]; simp
  rw [tb_and, h1 ⟨i, hi⟩, h2]
  unfold heF frF
  rw [tb_orB (by omega) hi, tb_orB (by omega) hi]
  by_cases e : i < 12 <;> simp [e]
def a_knows (S : MS) (p y : Int32) : Int32 := if inF p 0 (S.1 1 0 - 1) = false then -1 else if inF y 0 99 = false then -1 else kuF S y 0 p.toNatClampNeg
def tlN (S : MS) (L : Lw) (B : Nat → Int32) (n : Int32) : Nat → Int32
  | 0 => -2
  | k + 1 => if hyF S L B n (I (100 - (k + 1))) = false then I (100 - (k + 1)) else tlN S L B n k
theorem tlN_s {S : MS} {L : Lw} {B : Nat → Int32} {n : Int32} {k : Nat} : tlN S L B n (k + 1) = if hyF S L B n (I (100 - (k + 1))) = false then I (100 - (k + 1)) else tlN S L B n k := rfl
def a_held (S : MS) (L : Lw) (n y w : Int32) : Int32 := if inF n 0 11 = false then -1 else if inF y 0 99 = false then -1 else if inF w 0 2 = false then -1 else if w = 2 then tlN S L (S.1 4) n (100 - y.toNatClampNeg) else if w = 1 then hoF S L (kuF S y 0) (S.1 4) n y else bi (hyF S L (S.1 4) n y)
def a_free (S : MS) (L : Lw) (y : Int32) : Int32 := if inF y 0 99 = false then -1 else frF S L (S.1 4) y
def moN (S : MS) (L : Lw) : Nat → Int32 × Int32
  | 0 => (0, -1)
  | y + 1 => if (moN S L y).2 < I (ones (heF S L (S.1 4) (I y))) then (I y, I (ones (heF S L (S.1 4) (I y)))) else moN S L y
theorem moN_s {S : MS} {L : Lw} {y : Nat} : moN S L (y + 1) = if (moN S L y).2 < I (ones (heF S L (S.1 4) (I y))) then (I y, I (ones (heF S L (S.1 4) (I y)))) else moN S L y := rfl
def a_most (S : MS) (L : Lw) (w : Int32) : Int32 := if inF w 0 1 = false then -1 else if w = 0 then (moN S L 100).2 else (moN S L 100).1
def juP (S : MS) (L : Lw) (k : Nat) : Bool := decide (0 ≤ S.1 4 (ordF S k)) && hyF S L (amB (aoF S (I (ordF S k))) (S.1 4)) (S.1 4 (ordF S k)) (S.1 2 (ordF S k))
def juN (S : MS) (L : Lw) (n : Nat) : Nat → Int32
  | 0 => -2
  | k + 1 => if juP S L (n - (k + 1)) = true then I (ordF S (n - (k + 1))) else juN S L n k
def a_judge (S : MS) (L : Lw) : Int32 := juN S L (np S) (np S)
def a_run (S : MS) (L : Lw) (way p : Int32) : Int32 := if inF way 0 2 = false then -1 else if inF p 0 (S.1 1 0 - 1) = false then -1 else if rnF S L way (np S) p.toNatClampNeg = -1 then -2 else rnF S L way (np S) p.toNatClampNeg
/-- worths of the names given; how many got none -/
def usN (S : MS) (B : Nat → Int32) (w : Int32) : Nat → Int32
  | 0 => 0
  | p + 1 => if B p = -1 then (if w = 1 then usN S B w p else usN S B w p + 1) else (if w = 1 then usN S B w p + S.1 10 (B p).toNatClampNeg else usN S B w p)
def a_used (S : MS) (L : Lw) (way w : Int32) : Int32 := if inF way 0 2 = false then -1 else if inF w 0 2 = false then -1 else if w = 0 then I (ones (unF (rnF S L way (np S)) (np S))) else usN S (rnF S L way (np S)) w (np S)
def fdP (S : MS) (L : Lw) (p y : Int32) (n : Nat) : Bool := !(faF S (S.1 4) (I n) y) && decide (hoF S L (kuF S y 0) (S.1 4) (I n) y = (1 : Int32) <<< (p &&& 31))
def a_freed (S : MS) (L : Lw) (p y : Int32) : Int32 := if inF p 0 (S.1 1 0 - 1) = false then -1 else if inF y 0 99 = false then -1 else orB 12 (fdP S L p y)
section
variable {G : GG} {m : Nat} {S t sg : MS} {L : Lw} {Q : Outcome → MS → Prop}
theorem A_knows (hS : Ppl S) (hM : Mtg S) {p y : Int32} (hQ : ∀ t', EqE SE t t' → Q (.returned (some (.int (a_knows S p y)))) (ov S t')) : MR G mX5_knows 4 0 [(0, .ref m), (1, .int p), (2, .int y)] [] m (ov S t) Q := by
  have h12 := hS.n
  apply sX5_knows_0
  apply M_isPerson
  refine ⟨_, rfl, fun c => qi (hQ t EqE.refl) (by have c : inF p 0 (S.1 1 0 - 1) = false := c; simp [a_knows, c]), fun c => ?_⟩
  have c : inF p 0 (S.1 1 0 - 1) = true := c
  apply M_isYear
  refine ⟨_, rfl, fun c2 => ?_, fun c2 => qi (hQ t EqE.refl) (by simp [a_knows, c2])⟩
  apply M_findKnown hS hM
  intro t' ht' hK
  have c' := c
  rw [hS.e] at c'
  obtain ⟨q, hq, rfl⟩ := inF_p (by omega) c'
  refine ⟨rfl, vp_I (by omega) (by omega), qi (hQ t' (ht'.mono (by decide))) ?_⟩
  rw [ov_32, I_nat (by omega), hK q hq]
  simp [a_knows, c, c2, I_nat (show q ≤ 100000 by omega)]
theorem A_held (hS : Ppl S) (hM : Mtg S) (hL : LawM S L t) {n y w : Int32} (hQ : ∀ t', EqE SE t t' → Q (.returned (some (.int (a_held S L n y w)))) (ov S t')) : MR G mX5_held 8 0 [(0, .ref m), (1, .int n), (2, .int y), (3, .int w)] [] m (ov S t) Q := by
  have h12 := hS.n
  apply sX5_held_0
  apply M_isName
  refine ⟨_, rfl, fun c => qi (hQ t EqE.refl) (by simp [a_held, c]), fun c => ?_⟩
  apply M_isYear
  refine ⟨_, rfl, fun c2 => qi (hQ t EqE.refl) (by simp [a_held, c2]), fun c2 => ?_⟩
  apply M_in
  refine ⟨_, rfl, fun c3 => ?_, fun c3 => qi (hQ t EqE.refl) (by simp [a_held, c3])⟩
  obtain ⟨n, hn, rfl⟩ := inF_nat (n := 11) (by omega) c
  obtain ⟨y, hy, rfl⟩ := inF_nat (n := 99) (by omega) c2
  have vn : vp_in (I n) 12 := vp_I (by omega) (by omega)
  apply M_asNamed hS
  intro t1 ht1 hN
  have hL1 := hL.e (ht1.mono (by decide))
  refine ⟨rfl, fun c4 => ?_, fun c4 => ?_⟩
  · apply M_findKnown hS hM
    intro t2 ht2 hK
    have h34 : t2.1 34 = t1.1 34 := ht2.2 34 (by decide)
    have hL2 := hL1.e (ht2.mono (by decide))
    have h02 : EqE SE t t2 := (ht1.mono (by decide)).trans (ht2.mono (by decide))
    refine ⟨rfl, fun c5 => ?_, fun c5 => ?_⟩
    · apply M_everybody
      refine ⟨_, rfl, ?_⟩
      apply M_isHeldK hS hL2 vn hK
      intro t3 ht3
      rw [hyF_congr hS.n (B' := S.1 4) (fun q hq => by rw [am_ev hS q hq, h34, hN q hq])]
      refine ⟨_, rfl, fun c6 => ?_, fun c6 => ?_⟩ <;> (refine qi (hQ t3 (h02.trans (ht3.mono (by decide)))) ?_; simp only [a_held]; rw [if_neg (by rw [c]; decide), if_neg (by rw [c2]; decide), if_neg (by rw [c3]; decide), if_neg c4, if_neg c5, c6]; rfl)
    · apply M_everybody
      refine ⟨_, rfl, ?_⟩
      apply M_holders hS hL2 vn
      intro t3 ht3
      rw [hoF_congr hS.n (K' := kuF S (I y) 0) (B' := S.1 4) hK (fun q hq => by rw [am_ev hS q hq, h34, hN q hq])]
      refine ⟨_, rfl, qi (hQ t3 (h02.trans (ht3.mono (by decide)))) ?_⟩
      simp only [a_held]; rw [if_neg (by rw [c]; decide), if_neg (by rw [c2]; decide), if_neg (by rw [c3]; decide), if_neg c4, if_pos c5]
  · have key : ∀ k, k ≤ 100 → tlN S L (S.1 4) (I n) k = a_held S L (I n) (I y) w → ∀ t2, EqE SE t1 t2 → (∀ p, p < np S → t2.1 34 p = S.1 4 p) → MR G mX5_held 8 37 [(0, .ref m), (1, .int (I n)), (4, .int (I (100 - k)))] [] m (ov S t2) Q := by
      intro k
      induction k with
      | zero =>
        intro _ e t2 ht2 _
        refine sX5_held_37 ⟨fun _ => qi (hQ t2 ((ht1.mono (by decide)).trans ht2)) e.symm, fun c => absurd (by decide) c⟩
      | succ k ih =>
        intro hk e t2 ht2 hN2
        apply sX5_held_37
        refine ⟨fun c => ?_, fun _ => ?_⟩
        · have := (I_lt (a := 99) (b := 100 - (k + 1)) (by omega) (by omega)).1 c
          omega
        apply M_findKnown hS hM
        intro t3 ht3 hK
        refine ⟨rfl, ?_⟩
        apply M_everybody
        refine ⟨_, rfl, ?_⟩
        apply M_isHeldK hS ((hL1.e ht2).e (ht3.mono (by decide))) vn hK
        intro t4 ht4
        have h34 : t3.1 34 = t2.1 34 := ht3.2 34 (by decide)
        have h24 : EqE SE t2 t4 := (ht3.mono (by decide)).trans (ht4.mono (by decide))
        rw [hyF_congr hS.n (B' := S.1 4) (fun q hq => by rw [am_ev hS q hq, h34, hN2 q hq])]
        refine ⟨_, rfl, fun c6 => ?_, fun c6 => ?_⟩
        · rw [I_succ, show 100 - (k + 1) + 1 = 100 - k by omega]
          refine ih (by omega) ?_ t4 (ht2.trans h24) (fun p hp => by rw [ht4.2 34 (by decide), h34]; exact hN2 p hp)
          rw [← e, tlN_s, if_neg (by rw [c6]; decide)]
        · refine qi (hQ t4 ((ht1.mono (by decide)).trans (ht2.trans h24))) ?_
          rw [← e, tlN_s, if_pos c6]
    have := key (100 - y) (by omega) ?_ t1 EqE.refl hN
    · rw [show 100 - (100 - y) = y by omega] at this; exact this
    · simp only [a_held]; rw [if_neg (by rw [c]; decide), if_neg (by rw [c2]; decide), if_neg (by rw [c3]; decide), if_pos c4, I_nat (by omega)]
theorem A_free (hS : Ppl S) (hM : Mtg S) (hL : LawM S L t) {y : Int32} (hQ : ∀ t', EqE SE t t' → Q (.returned (some (.int (a_free S L y)))) (ov S t')) : MR G mX5_free 9 0 [(0, .ref m), (1, .int y)] [] m (ov S t) Q := by
  apply sX5_free_0
  apply M_isYear
  refine ⟨_, rfl, fun c => ?_, fun c => qi (hQ t EqE.refl) (by simp [a_free, c])⟩
  apply M_asNamed hS
  intro t1 ht1 hN
  refine ⟨rfl, ?_⟩
  apply M_heldIn hS hM (hL.e (ht1.mono (by decide)))
  intro t2 ht2
  refine ⟨_, rfl, qi (hQ t2 ((ht1.mono (by decide)).trans (ht2.mono (by decide)))) ?_⟩
  rw [heF_congr (B' := S.1 4) hS.n hN, frF_he]
  simp [a_free, c]
theorem A_most (hS : Ppl S) (hM : Mtg S) (hL : LawM S L t) {w : Int32} (hQ : ∀ t', EqE SE t t' → Q (.returned (some (.int (a_most S L w)))) (ov S t')) : MR G mX5_most 9 0 [(0, .ref m), (1, .int w)] [] m (ov S t) Q := by
  apply sX5_most_0
  apply M_in
  refine ⟨_, rfl, fun c => ?_, fun c => qi (hQ t EqE.refl) (by simp [a_most, c])⟩
  apply M_asNamed hS
  intro t1 ht1 hN
  refine ⟨rfl, ?_⟩
  have key : ∀ i, i ≤ 100 → ∀ q, q = moN S L i → ∀ t2, EqE SE t t2 → (∀ p, p < np S → t2.1 34 p = S.1 4 p) → MR G mX5_most 9 22 [(0, .ref m), (1, .int w), (2, .int q.1), (3, .int q.2), (4, .int (I i))] [] m (ov S t2) Q := by
    refine up_ind ?_ (fun i hi ih => ?_)
    · intro q hq t2 ht2 _
      refine sX5_most_22 ⟨fun _ => ⟨fun c2 => ?_, fun c2 => ?_⟩, fun c => absurd (by decide) c⟩
      · exact qi (hQ t2 ht2) (by simp [a_most, c, c2, hq])
      · exact qi (hQ t2 ht2) (by simp [a_most, c2, hq]; intro h; rw [c2] at c; rw [c] at h; cases h)
    · intro q hq t2 ht2 hN2
      apply sX5_most_22
      refine ⟨fun c => ?_, fun _ => ?_⟩
      · have := (I_lt (a := 99) (b := i) (by omega) (by omega)).1 c
        omega
      apply M_heldIn hS hM (hL.e ht2)
      intro t3 ht3
      refine ⟨_, rfl, ?_⟩
      apply M_bitsOf
      have h3 := ht2.trans (ht3.mono (by decide : ∀ k ∈ [29, 30, 32, 33], k ∈ SE))
      have hN3 : ∀ p, p < np S → t3.1 34 p = S.1 4 p := fun p hp => by rw [ht3.2 34 (by decide)]; exact hN2 p hp
      rw [heF_congr (B' := S.1 4) hS.n hN2, I_succ]
      refine ⟨_, rfl, fun c2 => ih (I i, I (ones (heF S L (S.1 4) (I i)))) ?_ t3 h3 hN3, fun c2 => ih q ?_ t3 h3 hN3⟩
      · rw [moN_s, ← hq, if_pos c2]
      · rw [moN_s, ← hq, if_neg c2]
  exact key 0 (by omega) (0, -1) rfl t1 (ht1.mono (by decide)) hN
theorem A_judge (hS : Ppl S) (hM : Mtg S) (hL : LawM S L t) (hQ : ∀ t', EqE SE t t' → Q (.returned (some (.int (a_judge S L)))) (ov S t')) : MR G mX5_judge 8 0 [(0, .ref m)] [] m (ov S t) Q := by
  have h12 := hS.n
  apply sX5_judge_0
  apply M_asNamed hS
  intro t1 ht1 hN
  refine ⟨rfl, ?_⟩
  have key : ∀ k, k ≤ np S → juN S L (np S) k = a_judge S L → ∀ t2, EqE SE t t2 → (∀ p, p < np S → t2.1 34 p = S.1 4 p) → MR G mX5_judge 8 6 [(0, .ref m), (1, .int (I (np S - k)))] [] m (ov S t2) Q := by
    intro k
    induction k with
    | zero =>
      intro _ e t2 ht2 _
      refine sX5_judge_6 ⟨fun _ => qi (hQ t2 ht2) e.symm, fun c => absurd (pp_end hS) c⟩
    | succ k ih =>
      intro hk e t2 ht2 hN2
      have hj : np S - (k + 1) < np S := by omega
      have ho := ord_lt hj
      have vo : vp_in (I (ordF S (np S - (k + 1)))) 12 := vp_I (by omega) (by omega)
      have nx : ∀ t3, EqE SE t t3 → (∀ p, p < np S → t3.1 34 p = S.1 4 p) → juP S L (np S - (k + 1)) = false → MR G mX5_judge 8 6 [(0, .ref m), (1, .int (I (np S - (k + 1)) + 1))] [] m (ov S t3) Q := by
        intro t3 ht3 hN3 hf
        rw [I_succ, show np S - (k + 1) + 1 = np S - k by omega]
        refine ih (by omega) ?_ t3 ht3 hN3
        rw [← e]; simp [juN, hf]
      apply sX5_judge_6
      refine ⟨fun c => absurd c (pp_lt hS hj), fun _ => ?_⟩
      apply M_personAt hS ho
      · rw [pl_ord hS hj]
      · intro i hi e
        obtain ⟨j, hj2, ej⟩ := ord_sur (S := S) (p := i) (by omega)
        rw [← ej, pl_ord hS hj2] at e
        have := (I_inj (by omega) (by omega)).1 e
        subst this
        omega
      simp only [ov_0, ov_1, ov_2, ov_3, ov_4, ov_5, ov_6, ov_7, ov_8, ov_9, ov_10, ov_11, ov_12, ov_13, ov_14, ov_15, ov_16, ov_17, ov_18, ov_19, ov_20, ov_21, ov_22, ov_23, ov_24, ov_25, ov_26, ov_27, ov_28, ov_29, ov_30, ov_31, ov_32, ov_33, ov_34, ov_35, ov_36, ov_37, ov_38, ov_39, ov_40, ov_41, ov_42, ov_43, ov_44, ov_45, ov_46, ov_e, ov_s]
      refine ⟨_, rfl, vo, fun c => ⟨vo, ?_⟩, fun c => ?_⟩
      · rw [I_nat (by omega)] at c ⊢
        apply M_findKnown hS hM
        intro t3 ht3 hK
        refine ⟨rfl, vo, vo, ?_⟩
        apply M_aheadOf hS vo
        refine ⟨_, rfl, ?_⟩
        simp only [ov_0, ov_1, ov_2, ov_3, ov_4, ov_5, ov_6, ov_7, ov_8, ov_9, ov_10, ov_11, ov_12, ov_13, ov_14, ov_15, ov_16, ov_17, ov_18, ov_19, ov_20, ov_21, ov_22, ov_23, ov_24, ov_25, ov_26, ov_27, ov_28, ov_29, ov_30, ov_31, ov_32, ov_33, ov_34, ov_35, ov_36, ov_37, ov_38, ov_39, ov_40, ov_41, ov_42, ov_43, ov_44, ov_45, ov_46, ov_e, ov_s]
        have h3 : EqE SE t t3 := ht2.trans (ht3.mono (by decide))
        have h34 : t3.1 34 = t2.1 34 := ht3.2 34 (by decide)
        have bn := (hS.2.2 _ ho).2.2.2.2
        have vn : vp_in (S.1 4 (ordF S (np S - (k + 1)))) 12 := by
          obtain ⟨z, hz, ez⟩ : ∃ z, z ≤ 11 ∧ S.1 4 (ordF S (np S - (k + 1))) = I z := by
            rw [le_I] at c
            have e0 : (0 : Int32).toInt = 0 := rfl
            refine ⟨(S.1 4 (ordF S (np S - (k + 1)))).toInt.toNat, by omega, ?_⟩
            apply Int32.toInt_inj.1
            rw [I_int (by omega)]; omega
          rw [ez]; exact vp_I (by omega) (by omega)
        apply M_isHeldK hS (hL.e h3) vn hK
        intro t4 ht4
        have hn1 : ¬ S.1 4 (ordF S (np S - (k + 1))) = -1 := by intro e; rw [e] at c; exact absurd c (by decide)
        have h4 : EqE SE t t4 := h3.trans (ht4.mono (by decide))
        have hN4 : ∀ p, p < np S → t4.1 34 p = S.1 4 p := fun p hp => by rw [ht4.2 34 (by decide), h34]; exact hN2 p hp
        rw [hyF_congr hS.n (B' := amB (aoF S (I (ordF S (np S - (k + 1))))) (S.1 4)) (fun q hq => by unfold amB; rw [h34, hN2 q hq])]
        refine ⟨_, rfl, fun c2 => nx t4 h4 hN4 (by simp [juP, c2]), fun c2 => ?_⟩
        refine qi (hQ t4 h4) ?_
        rw [← e]
        have : juP S L (np S - (k + 1)) = true := by simp [juP, c2, c]
        simp [juN, this]
      · rw [I_nat (by omega)] at c
        exact nx t2 ht2 hN2 (by simp [juP, c])
  have := key (np S) (Nat.le_refl _) rfl t1 (ht1.mono (by decide)) hN
  rw [Nat.sub_self] at this
  exact this
theorem A_run (hS : Ppl S) (hM : Mtg S) (hL : LawM S L t) {way p : Int32} (hQ : ∀ t', EqE SE t t' → Q (.returned (some (.int (a_run S L way p)))) (ov S t')) : MR G mX5_run 11 0 [(0, .ref m), (1, .int way), (2, .int p)] [] m (ov S t) Q := by
  have h12 := hS.n
  apply sX5_run_0
  apply M_in
  refine ⟨_, rfl, fun c => qi (hQ t EqE.refl) (by simp [a_run, c]), fun c => ?_⟩
  apply M_isPerson
  refine ⟨_, rfl, fun c2 => ?_, fun c2 => qi (hQ t EqE.refl) (by have c2 : inF p 0 (S.1 1 0 - 1) = false := c2; simp [a_run, c2])⟩
  have c2 : inF p 0 (S.1 1 0 - 1) = true := c2
  have c' := c2
  rw [hS.e] at c'
  obtain ⟨q, hq, rfl⟩ := inF_p (by omega) c'
  have vq : vp_in (I q) 12 := vp_I (by omega) (by omega)
  apply M_runBy hS hM hL
  intro t1 ht1 hR
  rw [I_nat (by omega), ov_34, hR q hq]
  have := neg1_iff (rnF_rng (S := S) (L := L) (way := way) (k := np S) (p := q))
  rw [← nlt_I, this]
  refine ⟨rfl, vq, fun c3 => ⟨vq, qi (hQ t1 (ht1.mono (by decide))) ?_⟩, fun c3 => qi (hQ t1 (ht1.mono (by decide))) ?_⟩
  · unfold a_run
    rw [if_neg (by rw [c]; decide), if_neg (by rw [c2]; decide), I_nat (by omega), if_neg c3]
  · unfold a_run
    rw [if_neg (by rw [c]; decide), if_neg (by rw [c2]; decide), I_nat (by omega), if_pos (Decidable.not_not.1 c3)]
theorem A_used (hS : Ppl S) (hM : Mtg S) (hL : LawM S L t) {way w : Int32} (hQ : ∀ t', EqE SE t t' → Q (.returned (some (.int (a_used S L way w)))) (ov S t')) : MR G mX5_used 11 0 [(0, .ref m), (1, .int way), (2, .int w)] [] m (ov S t) Q := by
  have h12 := hS.n
  apply sX5_used_0
  apply M_in
  refine ⟨_, rfl, fun c => qi (hQ t EqE.refl) (by simp [a_used, c]), fun c => ?_⟩
  apply M_in
  refine ⟨_, rfl, fun c2 => ?_, fun c2 => qi (hQ t EqE.refl) (by simp [a_used, c2])⟩
  apply M_runBy hS hM hL
  intro t1 ht1 hR
  have h1 : EqE SE t t1 := ht1.mono (by decide)
  have rg := fun p => rnF_rng (S := S) (L := L) (way := way) (k := np S) (p := p)
  refine ⟨rfl, fun c3 => ?_, fun c3 => ?_⟩
  · have hw : w = 1 ∨ w = 2 := by
      obtain ⟨q, hq, rfl⟩ := inF_nat (n := 2) (by omega) c2
      match q, hq with
      | 0, _ => exact absurd rfl c3
      | 1, _ => exact Or.inl rfl
      | 2, _ => exact Or.inr rfl
    have key : ∀ i, i ≤ np S → MR G mX5_used 11 39 [(0, .ref m), (2, .int w), (3, .int (usN S (rnF S L way (np S)) w i)), (4, .int (I i))] [] m (ov S t1) Q := by
      refine up_ind ?_ (fun i hi ih => ?_)
      · refine sX5_used_39 ⟨fun _ => qi (hQ t1 h1) ?_, fun c => absurd (pp_end hS) c⟩
        simp [a_used, c, c2, c3]
      · have vi : vp_in (I i) 12 := vp_I (by omega) (by omega)
        apply sX5_used_39
        rw [I_nat (by omega), ov_34, hR i hi, neg1_iff (rg i)]
        refine ⟨fun c => absurd c (pp_lt hS hi), fun _ => ⟨fun c4 => ?_, fun c4 => ⟨vi, fun c5 => ?_, fun c5 => ⟨vi, ?_, ?_⟩⟩⟩⟩
        · have c5 := hw.resolve_left c4
          apply sX5_used_78
          rw [I_nat (by omega), ov_34, hR i hi, I_succ]
          refine ⟨fun c => absurd c5 c, fun _ => ⟨vi, fun c6 => ?_, fun c6 => ?_⟩⟩
          · have : ¬ rnF S L way (np S) i = -1 := fun e => by rw [e] at c6; exact absurd c6 (by decide)
            simpa [usN, this, c4] using ih
          · have : rnF S L way (np S) i = -1 := (neg1_iff (rg i)).1 (nle_I.1 c6)
            simpa [usN, this, c4] using ih
        · apply sX5_used_78
          rw [I_succ]
          refine ⟨fun _ => ?_, fun c => absurd (c4.symm.trans c) (by decide)⟩
          simpa [usN, c5, c4] using ih
        · rcases rg i with e | ⟨z, hz, e⟩
          · exact absurd e c5
          · rw [e]; exact vp_I hz (by omega)
        · apply sX5_used_78
          rw [I_succ]
          refine ⟨fun _ => ?_, fun c => absurd (c4.symm.trans c) (by decide)⟩
          simp only [ov_0, ov_1, ov_2, ov_3, ov_4, ov_5, ov_6, ov_7, ov_8, ov_9, ov_10, ov_11, ov_12, ov_13, ov_14, ov_15, ov_16, ov_17, ov_18, ov_19, ov_20, ov_21, ov_22, ov_23, ov_24, ov_25, ov_26, ov_27, ov_28, ov_29, ov_30, ov_31, ov_32, ov_33, ov_34, ov_35, ov_36, ov_37, ov_38, ov_39, ov_40, ov_41, ov_42, ov_43, ov_44, ov_45, ov_46, ov_e, ov_s]
          simpa [usN, c5, c4] using ih
    exact key 0 (by omega)
  · apply M_unlikeNames hS hR rg
    refine ⟨_, rfl, qi (hQ t1 h1) ?_⟩
    unfold a_used
    rw [if_neg (by rw [c]; decide), if_neg (by rw [c2]; decide), if_pos c3]
theorem A_freed (hS : Ppl S) (hM : Mtg S) (hL : LawM S L t) {p y : Int32} (hQ : ∀ t', EqE SE t t' → Q (.returned (some (.int (a_freed S L p y)))) (ov S t')) : MR G mX5_freed 7 0 [(0, .ref m), (1, .int p), (2, .int y)] [] m (ov S t) Q := by
  have h12 := hS.n
  apply sX5_freed_0
  apply M_isPerson
  refine ⟨_, rfl, fun c => qi (hQ t EqE.refl) (by have c : inF p 0 (S.1 1 0 - 1) = false := c; simp [a_freed, c]), fun c => ?_⟩
  have c : inF p 0 (S.1 1 0 - 1) = true := c
  apply M_isYear
  refine ⟨_, rfl, fun c2 => ?_, fun c2 => qi (hQ t EqE.refl) (by simp [a_freed, c2])⟩
  apply M_asNamed hS
  intro t1 ht1 hN
  refine ⟨rfl, ?_⟩
  apply M_findKnown hS hM
  intro t2 ht2 hK
  refine ⟨rfl, ?_⟩
  have h34 : t2.1 34 = t1.1 34 := ht2.2 34 (by decide)
  have h2 : EqE SE t t2 := (ht1.mono (by decide)).trans (ht2.mono (by decide))
  have key : ∀ i, i ≤ 12 → ∀ t3, EqE [29, 30] t2 t3 → MR G mX5_freed 7 32 [(0, .ref m), (1, .int p), (2, .int y), (3, .int (orB i (fdP S L p y))), (4, .int (I i))] [] m (ov S t3) Q := by
    refine up_ind ?_ (fun i hi ih => ?_)
    · intro t3 ht3
      refine sX5_freed_32 ⟨fun _ => qi (hQ t3 (h2.trans (ht3.mono (by decide)))) ?_, fun c => absurd (c_end (n := 12) (by omega)) c⟩
      simp [a_freed, c, c2]
    · intro t3 ht3
      have vi := vp_I hi (by omega)
      apply sX5_freed_32
      refine ⟨fun c => absurd c (c_lt (n := 12) (by omega) hi), fun _ => ?_⟩
      have hB : ∀ q, q < np S → amB (evF S) (t3.1 34) q = S.1 4 q := fun q hq => by rw [am_ev hS q hq, ht3.2 34 (by decide), h34, hN q hq]
      apply M_everybody
      refine ⟨_, rfl, ?_⟩
      apply M_isFamous hS vi
      rw [faF_congr (B' := S.1 4) (fun q hq => by rw [hB q hq]), I_succ]
      refine ⟨_, rfl, fun c3 => ?_, fun c3 => ?_⟩
      · have := ih t3 ht3; rw [orB_f (by simp [fdP, c3])] at this; exact this
      · apply M_everybody
        refine ⟨_, rfl, ?_⟩
        apply M_holders hS ((hL.e h2).e (ht3.mono (by decide))) vi
        intro t4 ht4
        rw [hoF_congr hS.n (K' := kuF S y 0) (B' := S.1 4) (fun p hp => by rw [ht3.2 32 (by decide)]; exact hK p hp) (fun q hq => by rw [hB q hq])]
        refine ⟨_, rfl, fun c4 => ?_, fun c4 => ?_⟩
        · have := ih t4 (ht3.trans ht4); rw [orB_f (by simp [fdP, c4])] at this; exact this
        · have := ih t4 (ht3.trans ht4); rw [orB_t (by simp [fdP, c3, c4])] at this; exact this
  exact key 0 (by omega) t2 EqE.refl
end

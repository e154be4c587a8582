/-! LAYER 3.9: the model: never, give, apart, needs -/
set_option maxRecDepth 100000
def nvG (S : MS) (p : Int32) (q : Nat) : Bool := !(decide (S.1 4 p.toNatClampNeg < 0)) && !(decide (I q = p)) && decide (S.1 4 q = S.1 4 p.toNatClampNeg) && ahF S p (I q)
def nvR (S : MS) (p : Int32) (q r : Nat) : Bool := !(decide (I r = p)) && !(decide (I r = I q)) && lvF S (I r) (S.1 2 q)
def nvB (S : MS) (p : Int32) (i r : Nat) : Bool := anyB i (fun q => nvG S p q && nvR S p q r)
def a_never (S : MS) (p : Int32) : Int32 := if inF p 0 (S.1 1 0 - 1) = false then -1 else orB (np S) (nvB S p (np S))
theorem anyB_s {n : Nat} {P : Nat → Bool} : anyB (n + 1) P = (anyB n P || P n) := by
  rw [Bool.eq_iff_iff]
  simp only [anyB_iff, Bool.or_eq_true]
  constructor
  · rintro ⟨i, hi, h⟩
    by_cases e : i = n
    · subst e; exact Or.inr h
    · exact Or.inl ⟨i, by omega, h⟩
  · rintro (⟨i, hi, h⟩ | h)
    · exact ⟨i, by omega, h⟩
    · exact ⟨n, by omega, h⟩
def gaF (S : MS) (L : Lw) (p way : Int32) : Int32 := gvF S L (amB (aoF S p) (S.1 4)) (S.1 2 p.toNatClampNeg) way
def a_give (S : MS) (L : Lw) (p way : Int32) : Int32 := if inF p 0 (S.1 1 0 - 1) = false then -1 else if inF way 0 2 = false then -1 else if S.1 4 p.toNatClampNeg < 0 then gaF S L p way else -5
def s_give (S : MS) (L : Lw) (p way : Int32) : MS := if inF p 0 (S.1 1 0 - 1) = false then S else if inF way 0 2 = false then S else if S.1 4 p.toNatClampNeg < 0 then (if gaF S L p way = -2 then S else uS S 4 p.toNatClampNeg (gaF S L p way)) else S
/-! apart -/
def frW (S : MS) (L : Lw) (n y set : Int32) : Bool := !(ihF S L (kuF S y set) (S.1 4) n y)
def allF (S : MS) (y : Int32) : Int32 := orB (nm S) (fun k => ctF S (I k) && !(decide (y < S.1 8 k)))
def sbs (a b : Int32) : Bool := decide (a &&& (b ^^^ (-1)) = 0)
def apN (S : MS) (L : Lw) (n y all : Int32) : Nat → Int32
  | 0 => all
  | i + 1 => if (sbs (I i) all && decide (ones (I i) < ones (apN S L n y all i)) && frW S L n y (I i)) = true then I i else apN S L n y all i
def a_apart (S : MS) (L : Lw) (n y : Int32) : Int32 := if inF n 0 11 = false then -1 else if inF y 0 99 = false then -1 else if frW S L n y (allF S y) = false then -2 else apN S L n y (allF S y) (2 ^ nm S)
theorem tb_I {n i : Nat} (hn : n < 2 ^ 31) (hi : i < 32) : tb (I n) i = n.testBit i := by
  have : (I n).toBitVec = BitVec.ofNat 32 n := rfl
  unfold tb
  rw [this, BitVec.getLsbD_ofNat]; simp [hi]
theorem tb_xor1 {x : Int32} {i : Nat} (hi : i < 32) : tb (x ^^^ (-1)) i = !(tb x i) := by
  have : ∀ i : Fin 32, tb (-1) i.val = true := by decide +kernel
  have := this ⟨i, hi⟩
  simp only [tb, Int32.toBitVec_xor, BitVec.getLsbD_xor] at this ⊢
  rw [this]; simp
theorem sbs_iff {a b : Int32} : sbs a b = true ↔ ∀ i, i < 32 → tb a i = true → tb b i = true := by
  unfold sbs
  rw [decide_eq_true_eq]
  constructor
  · intro h i hi ha
    have := congrArg (fun z => tb z i) h
    simp only [tb_and, tb_xor1 hi, tb_zero, ha] at this
    simpa using this
  · intro h
    apply tb_ext; intro i hi
    rw [tb_and, tb_xor1 hi, tb_zero]
    cases ha : tb a i
    · rfl
    · rw [h i hi ha]; rfl
theorem nat_I (x : Int32) : I x.toBitVec.toNat = x := by
  apply Int32.toBitVec_inj.1
  show BitVec.ofNat 32 x.toBitVec.toNat = x.toBitVec
  exact BitVec.ofNat_toNat ..|>.trans (by simp)
theorem orB_I {n : Nat} {P : Nat → Bool} (hn : n ≤ 16) : ∃ A, A < 2 ^ n ∧ orB n P = I A := by
  refine ⟨(orB n P).toBitVec.toNat, ?_, (nat_I _).symm⟩
  apply Nat.lt_pow_two_of_testBit
  intro i hi
  by_cases h : i < 32
  · have := tb_orB (P := P) (show n ≤ 32 by omega) h
    rw [tb_nat] at this
    rw [this]; simp; omega
  · rw [Nat.testBit_lt_two_pow (Nat.lt_of_lt_of_le (orB n P).toBitVec.isLt (Nat.pow_le_pow_right (by omega) (by omega)))]
theorem p16 {n : Nat} (h : n ≤ 16) : 2 ^ n ≤ 65536 := Nat.pow_le_pow_right (n := 2) (by omega) h
theorem sbs_le {j A : Nat} (hj : j < 2 ^ 31) (hA : A < 2 ^ 31) (h : sbs (I j) (I A) = true) : j ≤ A := by
  rw [sbs_iff] at h
  have : j &&& A = j := by
    apply Nat.eq_of_testBit_eq
    intro i
    rw [Nat.testBit_and]
    by_cases hi : i < 32
    · have := h i hi
      rw [tb_I hj hi, tb_I hA hi] at this
      cases e : j.testBit i
      · rfl
      · rw [this e]; rfl
    · have : j.testBit i = false := Nat.testBit_lt_two_pow (Nat.lt_of_lt_of_le hj (Nat.pow_le_pow_right (by omega) (by omega)))
      rw [this]; rfl
  rw [← this]; exact Nat.and_le_right
theorem sbs_ones {a b : Int32} (h : sbs a b = true) (e : ones b ≤ ones a) : a = b := by
  rw [sbs_iff] at h
  apply tb_ext
  intro i hi
  cases ha : tb a i
  · cases hb : tb b i
    · rfl
    · have := cnt_lt (n := 32) (P := tb a) (P' := tb b) h hi ha hb
      unfold ones at e; omega
  · rw [h i hi ha]
theorem sbs_refl {a : Int32} : sbs a a = true := sbs_iff.2 (fun _ _ h => h)
/-- what is found by the component's search -/
theorem apN_ok {S : MS} {L : Lw} {n y : Int32} {A : Nat} (hA : A < 65536) (hf : frW S L n y (I A) = true) : ∀ i, i ≤ 65536 → ∃ r, r < 65536 ∧ apN S L n y (I A) i = I r ∧ sbs (I r) (I A) = true ∧ frW S L n y (I r) = true ∧ (r = A ∨ r < i) ∧ ∀ j, j < i → sbs (I j) (I A) = true → frW S L n y (I j) = true → ones (I r) < ones (I j) ∨ (ones (I r) = ones (I j) ∧ r ≤ j) := by
  intro i
  induction i with
  | zero => intro _; exact ⟨A, hA, rfl, sbs_refl, hf, Or.inl rfl, fun j hj => by omega⟩
  | succ i ih =>
    intro hi
    obtain ⟨r, hr, e, h1, h2, h4, h3⟩ := ih (by omega)
    unfold apN
    rw [e]
    by_cases c : (sbs (I i) (I A) && decide (ones (I i) < ones (I r)) && frW S L n y (I i)) = true
    · rw [if_pos c]
      simp only [Bool.and_eq_true, decide_eq_true_eq] at c
      refine ⟨i, by omega, rfl, c.1.1, c.2, Or.inr (by omega), fun j hj hs hfj => ?_⟩
      by_cases ej : j = i
      · subst ej; exact Or.inr ⟨rfl, Nat.le_refl _⟩
      · rcases h3 j (by omega) hs hfj with h | ⟨h, _⟩ <;> left <;> omega
    · rw [if_neg c]
      refine ⟨r, hr, rfl, h1, h2, by omega, fun j hj hs hfj => ?_⟩
      by_cases ej : j = i
      · subst ej
        simp only [Bool.and_eq_true, decide_eq_true_eq, hs, hfj, true_and, and_true] at c
        by_cases e1 : ones (I r) < ones (I j)
        · exact Or.inl e1
        · have e2 : ones (I r) = ones (I j) := by omega
          refine Or.inr ⟨e2, ?_⟩
          rcases h4 with rfl | h4
          · have := (I_inj (by omega) (by omega)).1 (sbs_ones hs (by omega))
            omega
          · omega
      · exact h3 j (by omega) hs hfj
section
variable {G : GG} {m : Nat} {S t sg : MS} {L : Lw} {Q : Outcome → MS → Prop}
theorem A_never (hS : Ppl S) {p : Int32} (hQ : Q (.returned (some (.int (a_never S p)))) (ov S t)) : MR G mX5_never 3 0 [(0, .ref m), (1, .int p)] [] m (ov S t) Q := by
  have h12 := hS.n
  apply sX5_never_0
  apply M_isPerson
  refine ⟨_, rfl, fun c => ?_, fun c => qi hQ (by have c : inF p 0 (S.1 1 0 - 1) = false := c; simp [a_never, c])⟩
  have c : inF p 0 (S.1 1 0 - 1) = true := c
  have c' := c
  rw [hS.e] at c'
  obtain ⟨p', hp, rfl⟩ := inF_p (by omega) c'
  have vp : vp_in (I p') 12 := vp_I (by omega) (by omega)
  have key : ∀ i, i ≤ np S → ∀ b : Int32, (∀ r, r < 32 → tb b r = (decide (r < np S) && nvB S (I p') i r)) → MR G mX5_never 3 14 [(0, .ref m), (1, .int (I p')), (2, .int b), (3, .int (I i))] [] m (ov S t) Q := by
    refine up_ind ?_ (fun i hi ih => ?_)
    · intro b hb
      refine sX5_never_14 ⟨fun _ => qi hQ ?_, fun c => absurd (pp_end hS) c⟩
      unfold a_never
      rw [if_neg (by rw [c]; decide)]
      apply tb_ext; intro r hr
      rw [tb_orB (by omega) hr, hb r hr]
    · intro b hb
      have vi : vp_in (I i) 12 := vp_I (by omega) (by omega)
      have no : nvG S (I p') i = false → MR G mX5_never 3 14 [(0, .ref m), (1, .int (I p')), (2, .int b), (3, .int (I i + 1))] [] m (ov S t) Q := by
        intro h
        rw [I_succ]
        refine ih b (fun r hr => ?_)
        rw [hb r hr]; unfold nvB; rw [anyB_s, h]; simp
      apply sX5_never_14
      rw [I_nat (show i ≤ 100000 by omega)]
      refine ⟨fun c => absurd c (pp_lt hS hi), fun _ => ⟨vp, fun c1 => ?_, fun c1 => ⟨fun c2 => ?_, fun c2 => ⟨vi, vp, fun c3 => ?_, fun c3 => ?_⟩⟩⟩⟩
      · have c1 : S.1 4 (I p').toNatClampNeg < 0 := c1
        exact no (by simp [nvG, c1])
      · exact no (by simp [nvG, c2])
      · have c3 : ¬ S.1 4 i = S.1 4 (I p').toNatClampNeg := c3
        exact no (by simp [nvG, c3])
      · have c1 : ¬ S.1 4 (I p').toNatClampNeg < 0 := c1
        have c3 : S.1 4 i = S.1 4 (I p').toNatClampNeg := c3
        apply M_isAhead vp vi
        refine ⟨_, rfl, fun c4 => ?_, fun c4 => no (by simp [nvG, c4])⟩
        have hg : nvG S (I p') i = true := by simp [nvG, c1, c2, c3, c4]
        have inner : ∀ j, j ≤ np S → ∀ b' : Int32, (∀ r, r < 32 → tb b' r = ((decide (r < np S) && nvB S (I p') i r) || (decide (r < j) && nvR S (I p') i r))) → MR G mX5_never 3 66 [(0, .ref m), (1, .int (I p')), (2, .int b'), (3, .int (I i)), (4, .int (I j))] [] m (ov S t) Q := by
          refine up_ind ?_ (fun j hj ihj => ?_)
          · intro b' hb'
            refine sX5_never_66 ⟨fun _ => ?_, fun c => absurd (pp_end hS) c⟩
            rw [I_succ]
            refine ih b' (fun r hr => ?_)
            rw [hb' r hr]; unfold nvB; rw [anyB_s, hg]
            cases decide (r < np S) <;> simp
          · intro b' hb'
            have vj : vp_in (I j) 12 := vp_I (by omega) (by omega)
            have sk : nvR S (I p') i j = false → MR G mX5_never 3 66 [(0, .ref m), (1, .int (I p')), (2, .int b'), (3, .int (I i)), (4, .int (I j + 1))] [] m (ov S t) Q := by
              intro h
              rw [I_succ]
              refine ihj b' (fun r hr => ?_)
              rw [hb' r hr]
              congr 1
              by_cases e : r = j
              · subst e; rw [h]; simp
              · have : decide (r < j + 1) = decide (r < j) := by congr 1; simp; omega
                rw [this]
            apply sX5_never_66
            refine ⟨fun c => absurd c (pp_lt hS hj), fun _ => ⟨fun c5 => sk (by simp [nvR, c5]), fun c5 => ⟨fun c6 => sk (by simp [nvR, c6]), fun c6 => ⟨vi, ?_⟩⟩⟩⟩
            rw [I_nat (show i ≤ 100000 by omega)]
            simp only [ov_0, ov_1, ov_2, ov_3, ov_4, ov_5, ov_6, ov_7, ov_8, ov_9, ov_10, ov_11, ov_12, ov_13, ov_14, ov_15, ov_16, ov_17, ov_18, ov_19, ov_20, ov_21, ov_22, ov_23, ov_24, ov_25, ov_26, ov_27, ov_28, ov_29, ov_30, ov_31, ov_32, ov_33, ov_34, ov_35, ov_36, ov_37, ov_38, ov_39, ov_40, ov_41, ov_42, ov_43, ov_44, ov_45, ov_46, ov_e, ov_s]
            apply M_lives vj
            refine ⟨_, rfl, fun c7 => sk (by simp [nvR, c7]), fun c7 => ?_⟩
            have hR : nvR S (I p') i j = true := by simp [nvR, c5, c6, c7]
            rw [I_succ]
            refine ihj _ (fun r hr => ?_)
            rw [tb_or, hb' r hr, show (1 : Int32) <<< (I j &&& 31) = bitI j from rfl, tb_bit (by omega) hr]
            by_cases e : r = j
            · subst e; rw [hR]; simp
            · have : decide (r < j + 1) = decide (r < j) := by congr 1; simp; omega
              rw [this]
              have e' : ¬ j = r := fun x => e x.symm
              simp [e']
        exact inner 0 (by omega) b (fun r hr => by rw [hb r hr]; simp)
  exact key 0 (by omega) 0 (fun r hr => by rw [tb_zero]; simp [nvB, anyB])
theorem A_give (hS : Ppl S) (hM : Mtg S) (hL : LawM S L t) {p way : Int32} (hQ : ∀ t', EqE SE t t' → Q (.returned (some (.int (a_give S L p way)))) (ov (s_give S L p way) t')) : MR G mX5_give 10 0 [(0, .ref m), (1, .int p), (2, .int way)] [] m (ov S t) Q := by
  have h12 := hS.n
  apply sX5_give_0
  apply M_isPerson
  refine ⟨_, rfl, fun c => ?_, fun c => ?_⟩
  · have c : inF p 0 (S.1 1 0 - 1) = false := c
    simpa [a_give, s_give, c] using hQ t EqE.refl
  have c : inF p 0 (S.1 1 0 - 1) = true := c
  have c' := c
  rw [hS.e] at c'
  obtain ⟨q, hq, rfl⟩ := inF_p (by omega) c'
  have vq : vp_in (I q) 12 := vp_I (by omega) (by omega)
  apply M_in
  refine ⟨_, rfl, fun c2 => ⟨vq, fun c3 => ?_, fun c3 => ?_⟩, fun c2 => ?_⟩
  · have c3 : S.1 4 (I q).toNatClampNeg < 0 := c3
    apply M_asNamed hS
    intro t1 ht1 hN
    refine ⟨rfl, ?_⟩
    apply M_given hS hM (hL.e (ht1.mono (by decide))) hq
    intro t2 ht2
    have h2 : EqE SE t t2 := (ht1.mono (by decide)).trans (ht2.mono (by decide))
    have e : gvF S L (amB (aoF S (I q)) (t1.1 34)) (S.1 2 q) way = gaF S L (I q) way := by
      unfold gaF
      rw [I_nat (by omega)]
      exact gvF_congr hS.n (fun p hp => by unfold amB; rw [hN p hp])
    rw [e]
    have hq2 := hQ t2 h2
    simp only [a_give, s_give] at hq2
    rw [if_neg (by rw [c]; decide), if_neg (by rw [c2]; decide), if_pos c3, if_neg (by rw [c]; decide), if_neg (by rw [c2]; decide), if_pos c3] at hq2
    refine ⟨_, rfl, fun c4 => ?_, fun c4 => ⟨vq, ?_⟩⟩
    · have : gaF S L (I q) way = -2 := by
        rcases gvF_rng (S := S) (L := L) (B := amB (aoF S (I q)) (S.1 4)) (y := S.1 2 (I q).toNatClampNeg) (way := way) with h | ⟨i, hi, h⟩
        · exact h
        · have h' : gaF S L (I q) way = I i := h
          rw [h'] at c4
          exact absurd c4 (I_nonneg (by omega))
      rw [if_pos this] at hq2; exact hq2
    · have : ¬ gaF S L (I q) way = -2 := fun e => by rw [e] at c4; exact absurd (by decide) c4
      rw [if_neg this] at hq2
      rw [uS_ovS rfl]; exact hq2
  · have c3 : ¬ S.1 4 (I q).toNatClampNeg < 0 := c3
    have hq2 := hQ t EqE.refl
    simp only [a_give, s_give] at hq2
    rw [if_neg (by rw [c]; decide), if_neg (by rw [c2]; decide), if_neg c3, if_neg (by rw [c]; decide), if_neg (by rw [c2]; decide), if_neg c3] at hq2
    exact hq2
  · have hq2 := hQ t EqE.refl
    simp only [a_give, s_give] at hq2
    rw [if_neg (by rw [c]; decide), if_pos c2, if_neg (by rw [c]; decide), if_pos c2] at hq2
    exact hq2
theorem M_isFreeWithout (hS : Ppl S) (hM : Mtg S) (hL : LawM S L t) {n : Nat} {y set : Int32} (hn : n < 12) (hN : ∀ p, p < np S → t.1 34 p = S.1 4 p) (hQ : ∀ t', EqE [29, 30, 32, 33] t t' → Q (.returned (some (.int (bi (frW S L (I n) y set))))) (ov S t')) : MR G mX5_isFreeWithout 8 0 [(0, .ref m), (1, .int (I n)), (2, .int y), (3, .int set)] [] m (ov S t) Q := by
  apply sX5_isFreeWithout_0
  apply M_findKnown hS hM
  intro t1 ht1 hK
  refine ⟨rfl, ?_⟩
  apply M_everybody
  refine ⟨_, rfl, ?_⟩
  apply M_isHeld hS (hL.e (ht1.mono (by decide))) (vp_I hn (by omega))
  intro t2 ht2
  have h2 : EqE [29, 30, 32, 33] t t2 := (ht1.mono (by decide)).trans (ht2.mono (by decide))
  rw [ihF_congr (K' := kuF S y set) (B' := S.1 4) hS.n hK (fun q hq => by rw [am_ev hS q hq, ht1.2 34 (by decide), hN q hq])]
  refine ⟨_, rfl, fun c => qb (hQ t2 h2) (by simp [frW, c]), fun c => qb (hQ t2 h2) (by simp [frW, c])⟩
theorem A_apart (hS : Ppl S) (hM : Mtg S) (hL : LawM S L t) {n y : Int32} (hQ : ∀ t', EqE SE t t' → Q (.returned (some (.int (a_apart S L n y)))) (ov S t')) : MR G mX5_apart 9 0 [(0, .ref m), (1, .int n), (2, .int y)] [] m (ov S t) Q := by
  have h12 := hS.n
  have h16 := hM.n
  have hp16 := p16 h16
  apply sX5_apart_0
  apply M_isName
  refine ⟨_, rfl, fun c => qi (hQ t EqE.refl) (by simp [a_apart, c]), fun c => ?_⟩
  apply M_isYear
  refine ⟨_, rfl, fun c2 => ?_, fun c2 => qi (hQ t EqE.refl) (by simp [a_apart, c2])⟩
  obtain ⟨n, hn, rfl⟩ := inF_nat (n := 11) (by omega) c
  apply M_asNamed hS
  intro t1 ht1 hN
  refine ⟨rfl, ?_⟩
  have h1 : EqE SE t t1 := ht1.mono (by decide)
  have hL1 := hL.e h1
  obtain ⟨A, hA, eA⟩ := orB_I (n := nm S) (P := fun k => ctF S (I k) && !(decide (y < S.1 8 k))) h16
  have eA : allF S y = I A := eA
  have eN : ∀ t2, EqE [29, 30, 32, 33] t1 t2 → ∀ p, p < np S → t2.1 34 p = S.1 4 p := fun t2 h p hp => by rw [h.2 34 (by decide)]; exact hN p hp
  have eL : ∀ t2, EqE [29, 30, 32, 33] t1 t2 → LawM S L t2 := fun t2 h => hL1.e (h.mono (by decide))
  have eE : ∀ t2, EqE [29, 30, 32, 33] t1 t2 → EqE SE t t2 := fun t2 h => h1.trans (h.mono (by decide))
  have ph1 : ∀ i, i ≤ nm S → MR G mX5_apart 9 25 [(0, .ref m), (1, .int (I n)), (2, .int y), (3, .int (orB i (fun k => ctF S (I k) && !(decide (y < S.1 8 k))))), (4, .int (I i))] [] m (ov S t1) Q := by
    refine up_ind ?_ (fun i hi ih => ?_)
    · refine sX5_apart_25 ⟨fun _ => ?_, fun c => absurd (mt_end hM) c⟩
      apply M_isFreeWithout hS hM hL1 (by omega) hN
      intro t2 ht2
      refine ⟨_, rfl, fun c3 => ?_, fun c3 => qi (hQ t2 (eE t2 ht2)) ?_⟩
      · have c3 : frW S L (I n) y (allF S y) = true := c3
        rw [eA] at c3
        obtain ⟨r, hr, e, r1, r2, r3, r4⟩ := apN_ok (by omega) c3 (2 ^ nm S) hp16
        have eQ : a_apart S L (I n) y = I r := by
          unfold a_apart
          rw [if_neg (by rw [c]; decide), if_neg (by rw [c2]; decide), eA, if_neg (by rw [c3]; decide), e]
        rw [eQ] at hQ
        have hrA : r ≤ A := sbs_le (by omega) (by omega) r1
        have hor : ones (I r) ≤ nm S := by
          have a1 : ones (I r) ≤ ones (I A) := cnt_mono (fun i hi => sbs_iff.1 r1 i hi)
          have a2 : ones (I A) ≤ nm S := by
            rw [← eA]
            unfold ones allF
            rw [cnt_congr (P' := fun i => decide (i < nm S) && (ctF S (I i) && !(decide (y < S.1 8 i)))) (fun i hi => tb_orB (by omega) hi), cnt_ext (by omega)]
            exact cnt_le _ _
          omega
        show MR G mX5_apart 9 83 [(0, .ref m), (1, .int (I n)), (2, .int y), (3, .int (allF S y)), (4, .int 0)] [] m (ov S t2) Q
        rw [eA]
        have outer : ∀ k, k ≤ ones (I r) → ∀ t3, EqE [29, 30, 32, 33] t1 t3 → MR G mX5_apart 9 83 [(0, .ref m), (1, .int (I n)), (2, .int y), (3, .int (I A)), (4, .int (I k))] [] m (ov S t3) Q := by
          have inner : ∀ k, k ≤ ones (I r) → (k < ones (I r) → ∀ t3, EqE [29, 30, 32, 33] t1 t3 → MR G mX5_apart 9 83 [(0, .ref m), (1, .int (I n)), (2, .int y), (3, .int (I A)), (4, .int (I (k + 1)))] [] m (ov S t3) Q) → ∀ s, s ≤ A + 1 → (k = ones (I r) → s ≤ r) → ∀ t3, EqE [29, 30, 32, 33] t1 t3 → MR G mX5_apart 9 95 [(0, .ref m), (1, .int (I n)), (2, .int y), (3, .int (I A)), (4, .int (I k)), (5, .int (I s))] [] m (ov S t3) Q := by
            intro k hk nxt
            refine up_ind ?_ (fun s hs ihs => ?_)
            · intro hlast t3 ht3
              refine sX5_apart_95 ⟨fun _ => ?_, fun c => absurd ((I_lt (by omega) (by omega)).2 (by omega)) c⟩
              rw [I_succ]
              refine nxt ?_ t3 ht3
              apply Nat.lt_of_le_of_ne hk
              intro e; have := hlast e; omega
            · intro hlast t3 ht3
              apply sX5_apart_95
              rw [I_succ s]
              have hop : ones (I s) ≤ 32 := ones_le _
              have hor2 : ones (I r) ≤ 32 := ones_le _
              have skip : ¬ (k = ones (I r) ∧ s = r) → ∀ t4, EqE [29, 30, 32, 33] t1 t4 → MR G mX5_apart 9 95 [(0, .ref m), (1, .int (I n)), (2, .int y), (3, .int (I A)), (4, .int (I k)), (5, .int (I (s + 1)))] [] m (ov S t4) Q := by
                intro hne t4 ht4
                refine ihs (fun e => ?_) t4 ht4
                have := hlast e
                apply Nat.lt_of_le_of_ne this
                intro e2; exact hne ⟨e, e2⟩
              refine ⟨fun c => absurd ((I_lt (by omega) (by omega)).1 c) (by omega), fun _ => ⟨fun c5 => skip (fun h => ?_) t3 ht3, fun c5 => ?_⟩⟩
              · rw [h.2] at c5; exact c5 (by simpa [sbs] using r1)
              · have hsb : sbs (I s) (I A) = true := by simpa [sbs] using c5
                apply M_bitsOf
                refine ⟨_, rfl, fun c6 => skip (fun h => ?_) t3 ht3, fun c6 => ?_⟩
                · rw [h.2, h.1] at c6; exact c6 rfl
                · have hks : ones (I s) = k := (I_inj (by omega) (by omega)).1 c6
                  apply M_isFreeWithout hS hM (eL t3 ht3) (by omega) (eN t3 ht3)
                  intro t4 ht4
                  refine ⟨_, rfl, fun c7 => skip (fun h => ?_) t4 (ht3.trans ht4), fun c7 => ?_⟩
                  · rw [h.2, r2] at c7; cases c7
                  · have hs2 : s < 2 ^ nm S := by omega
                    rcases r4 s hs2 hsb c7 with h | ⟨h, h'⟩
                    · omega
                    · have : s = r := by
                        have := hlast (by omega)
                        omega
                      subst this
                      exact hQ t4 (eE t4 (ht3.trans ht4))
          intro k hk
          obtain ⟨d, hd⟩ : ∃ d, k + d = ones (I r) := ⟨ones (I r) - k, by omega⟩
          clear hk
          induction d generalizing k with
          | zero =>
            intro t3 ht3
            refine sX5_apart_83 ⟨fun c => ?_, fun _ => ?_⟩
            · have c : S.1 5 0 < I k := c
              rw [hM.e] at c
              have := (I_lt (by omega) (by omega)).1 c
              omega
            · exact inner k (by omega) (fun h => by omega) 0 (by omega) (fun _ => by omega) t3 ht3
          | succ d ihd =>
            intro t3 ht3
            refine sX5_apart_83 ⟨fun c => ?_, fun _ => ?_⟩
            · have c : S.1 5 0 < I k := c
              rw [hM.e] at c
              have := (I_lt (by omega) (by omega)).1 c
              omega
            · exact inner k (by omega) (fun _ => ihd (k + 1) (by omega)) 0 (by omega) (fun h => by omega) t3 ht3
        exact outer 0 (by omega) t2 ht2
      · have c3 : frW S L (I n) y (allF S y) = false := c3
        unfold a_apart
        rw [if_neg (by rw [c]; decide), if_neg (by rw [c2]; decide), if_pos c3]
    · obtain ⟨a, b, ha, hb, la, lb, hab⟩ := hM.2.2 i hi
      have vi : vp_in (I i) 16 := vp_I (by omega) (by omega)
      apply sX5_apart_25
      rw [I_succ]
      refine ⟨fun c => absurd c (mt_lt hM hi), fun _ => ?_⟩
      apply M_counts vi
      · rw [I_nat (by omega), ha]; exact vp_I (by omega) (by omega)
      · rw [I_nat (by omega), hb]; exact vp_I (by omega) (by omega)
      rw [I_nat (by omega)]
      refine ⟨_, rfl, fun c3 => ?_, fun c3 => ⟨vi, fun c4 => ?_, fun c4 => ?_⟩⟩
      · rw [orB_f (by simp [c3])] at ih; exact ih
      · have c4 : y < S.1 8 i := c4
        rw [orB_f (by simp [c4])] at ih; exact ih
      · have c4 : ¬ y < S.1 8 i := c4
        rw [orB_t (by simp [c3, c4])] at ih; exact ih
  exact ph1 0 (by omega)
end

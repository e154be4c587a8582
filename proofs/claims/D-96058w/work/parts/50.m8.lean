/-! LAYER 3.10: the model: needs -/
set_option maxRecDepth 100000
theorem uo_0 {S t : MS} {i : Nat} {v : Int32} : uS (ov S t) 0 i v = ov (uS S 0 i v) t := uS_ovS rfl
theorem uo_1 {S t : MS} {i : Nat} {v : Int32} : uS (ov S t) 1 i v = ov (uS S 1 i v) t := uS_ovS rfl
theorem uo_2 {S t : MS} {i : Nat} {v : Int32} : uS (ov S t) 2 i v = ov (uS S 2 i v) t := uS_ovS rfl
theorem uo_3 {S t : MS} {i : Nat} {v : Int32} : uS (ov S t) 3 i v = ov (uS S 3 i v) t := uS_ovS rfl
theorem uo_4 {S t : MS} {i : Nat} {v : Int32} : uS (ov S t) 4 i v = ov (uS S 4 i v) t := uS_ovS rfl
theorem uo_5 {S t : MS} {i : Nat} {v : Int32} : uS (ov S t) 5 i v = ov (uS S 5 i v) t := uS_ovS rfl
theorem uo_6 {S t : MS} {i : Nat} {v : Int32} : uS (ov S t) 6 i v = ov (uS S 6 i v) t := uS_ovS rfl
theorem uo_7 {S t : MS} {i : Nat} {v : Int32} : uS (ov S t) 7 i v = ov (uS S 7 i v) t := uS_ovS rfl
theorem uo_8 {S t : MS} {i : Nat} {v : Int32} : uS (ov S t) 8 i v = ov (uS S 8 i v) t := uS_ovS rfl
theorem uo_9 {S t : MS} {i : Nat} {v : Int32} : uS (ov S t) 9 i v = ov (uS S 9 i v) t := uS_ovS rfl
theorem uo_10 {S t : MS} {i : Nat} {v : Int32} : uS (ov S t) 10 i v = ov (uS S 10 i v) t := uS_ovS rfl
theorem uo_11 {S t : MS} {i : Nat} {v : Int32} : uS (ov S t) 11 i v = ov (uS S 11 i v) t := uS_ovS rfl
theorem uo_12 {S t : MS} {i : Nat} {v : Int32} : uS (ov S t) 12 i v = ov (uS S 12 i v) t := uS_ovS rfl
theorem uo_13 {S t : MS} {i : Nat} {v : Int32} : uS (ov S t) 13 i v = ov (uS S 13 i v) t := uS_ovS rfl
theorem uo_14 {S t : MS} {i : Nat} {v : Int32} : uS (ov S t) 14 i v = ov (uS S 14 i v) t := uS_ovS rfl
theorem uo_15 {S t : MS} {i : Nat} {v : Int32} : uS (ov S t) 15 i v = ov (uS S 15 i v) t := uS_ovS rfl
theorem uo_16 {S t : MS} {i : Nat} {v : Int32} : uS (ov S t) 16 i v = ov (uS S 16 i v) t := uS_ovS rfl
theorem uo_17 {S t : MS} {i : Nat} {v : Int32} : uS (ov S t) 17 i v = ov (uS S 17 i v) t := uS_ovS rfl
theorem uo_18 {S t : MS} {i : Nat} {v : Int32} : uS (ov S t) 18 i v = ov (uS S 18 i v) t := uS_ovS rfl
theorem uo_19 {S t : MS} {i : Nat} {v : Int32} : uS (ov S t) 19 i v = ov (uS S 19 i v) t := uS_ovS rfl
theorem uo_20 {S t : MS} {i : Nat} {v : Int32} : uS (ov S t) 20 i v = ov S (uS t 20 i v) := uS_ov rfl
theorem uo_21 {S t : MS} {i : Nat} {v : Int32} : uS (ov S t) 21 i v = ov S (uS t 21 i v) := uS_ov rfl
theorem uo_22 {S t : MS} {i : Nat} {v : Int32} : uS (ov S t) 22 i v = ov S (uS t 22 i v) := uS_ov rfl
theorem uo_23 {S t : MS} {i : Nat} {v : Int32} : uS (ov S t) 23 i v = ov S (uS t 23 i v) := uS_ov rfl
theorem uo_24 {S t : MS} {i : Nat} {v : Int32} : uS (ov S t) 24 i v = ov S (uS t 24 i v) := uS_ov rfl
theorem uo_25 {S t : MS} {i : Nat} {v : Int32} : uS (ov S t) 25 i v = ov S (uS t 25 i v) := uS_ov rfl
theorem uo_26 {S t : MS} {i : Nat} {v : Int32} : uS (ov S t) 26 i v = ov S (uS t 26 i v) := uS_ov rfl
theorem uo_27 {S t : MS} {i : Nat} {v : Int32} : uS (ov S t) 27 i v = ov S (uS t 27 i v) := uS_ov rfl
theorem uo_28 {S t : MS} {i : Nat} {v : Int32} : uS (ov S t) 28 i v = ov S (uS t 28 i v) := uS_ov rfl
theorem uo_29 {S t : MS} {i : Nat} {v : Int32} : uS (ov S t) 29 i v = ov S (uS t 29 i v) := uS_ov rfl
theorem uo_30 {S t : MS} {i : Nat} {v : Int32} : uS (ov S t) 30 i v = ov S (uS t 30 i v) := uS_ov rfl
theorem uo_31 {S t : MS} {i : Nat} {v : Int32} : uS (ov S t) 31 i v = ov (uS S 31 i v) t := uS_ovS rfl
theorem uo_32 {S t : MS} {i : Nat} {v : Int32} : uS (ov S t) 32 i v = ov S (uS t 32 i v) := uS_ov rfl
theorem uo_33 {S t : MS} {i : Nat} {v : Int32} : uS (ov S t) 33 i v = ov S (uS t 33 i v) := uS_ov rfl
theorem uo_34 {S t : MS} {i : Nat} {v : Int32} : uS (ov S t) 34 i v = ov S (uS t 34 i v) := uS_ov rfl
theorem uo_35 {S t : MS} {i : Nat} {v : Int32} : uS (ov S t) 35 i v = ov S (uS t 35 i v) := uS_ov rfl
theorem uo_36 {S t : MS} {i : Nat} {v : Int32} : uS (ov S t) 36 i v = ov (uS S 36 i v) t := uS_ovS rfl
theorem uo_37 {S t : MS} {i : Nat} {v : Int32} : uS (ov S t) 37 i v = ov (uS S 37 i v) t := uS_ovS rfl
theorem uo_38 {S t : MS} {i : Nat} {v : Int32} : uS (ov S t) 38 i v = ov (uS S 38 i v) t := uS_ovS rfl
theorem uo_39 {S t : MS} {i : Nat} {v : Int32} : uS (ov S t) 39 i v = ov (uS S 39 i v) t := uS_ovS rfl
theorem uo_40 {S t : MS} {i : Nat} {v : Int32} : uS (ov S t) 40 i v = ov (uS S 40 i v) t := uS_ovS rfl
theorem uo_41 {S t : MS} {i : Nat} {v : Int32} : uS (ov S t) 41 i v = ov (uS S 41 i v) t := uS_ovS rfl
theorem uo_42 {S t : MS} {i : Nat} {v : Int32} : uS (ov S t) 42 i v = ov (uS S 42 i v) t := uS_ovS rfl
theorem uo_43 {S t : MS} {i : Nat} {v : Int32} : uS (ov S t) 43 i v = ov (uS S 43 i v) t := uS_ovS rfl
theorem uo_44 {S t : MS} {i : Nat} {v : Int32} : uS (ov S t) 44 i v = ov (uS S 44 i v) t := uS_ovS rfl
theorem uo_45 {S t : MS} {i : Nat} {v : Int32} : uS (ov S t) 45 i v = ov (uS S 45 i v) t := uS_ovS rfl
def nz (z : Int32) : Int32 := (z * 1103515245) + 12345
def nrF (z b : Int32) : Int32 := (b + 1) + ((z.toUInt32 >>> ((8 : Int32).toUInt32 &&& Int32.toUInt32 31)).toInt32 - (z.toUInt32 >>> ((8 : Int32).toUInt32 &&& Int32.toUInt32 31)).toInt32 / (100 - b) * (100 - b))
def drS (S : MS) (z : Int32) : Nat → Int32 × MS
  | 0 => (z, S)
  | p + 1 => (nz (drS S z p).1, uS (drS S z p).2 3 p (nrF (nz (drS S z p).1) (S.1 2 p)))
def ndU (S : MS) (L : Lw) : Int32 := I (ones (unF (rnF S L 0 (np S)) (np S)))
def ndN (S : MS) (L : Lw) (z : Int32) : Nat → Int32 × MS × Int32 × Int32
  | 0 => (z, S, 0, 0)
  | k + 1 => ((drS (ndN S L z k).2.1 (ndN S L z k).1 (np S)).1, (drS (ndN S L z k).2.1 (ndN S L z k).1 (np S)).2, (ndN S L z k).2.2.1 + ndU (drS (ndN S L z k).2.1 (ndN S L z k).1 (np S)).2 L, if ndU (drS (ndN S L z k).2.1 (ndN S L z k).1 (np S)).2 L ≤ (ndN S L z k).2.2.2 then (ndN S L z k).2.2.2 else ndU (drS (ndN S L z k).2.1 (ndN S L z k).1 (np S)).2 L)
def a_needs (S : MS) (L : Lw) (z n w : Int32) : Int32 := if inF n 1 20 = false then -1 else if inF w 0 1 = false then -1 else if w = 0 then (ndN S L z n.toNatClampNeg).2.2.1 / n else (ndN S L z n.toNatClampNeg).2.2.2
/-- alike but for the years in which people die -/
def DV (S S' : MS) : Prop := S'.2 = S.2 ∧ (∀ k, ¬ k = 3 → S'.1 k = S.1 k) ∧ (∀ p, np S ≤ p → S'.1 3 p = S.1 3 p) ∧ Ppl S'
theorem DV.en {S S' : MS} (h : DV S S') : np S' = np S := by unfold np; rw [h.2.1 1 (by decide)]
theorem DV.mtg {S S' : MS} (h : DV S S') (hM : Mtg S) : Mtg S' := by
  unfold Mtg at *
  have e : nm S' = nm S := by unfold nm; rw [h.2.1 5 (by decide)]
  rw [e, h.2.1 5 (by decide), h.2.1 6 (by decide), h.2.1 7 (by decide), h.en]
  exact hM
theorem DV.law {S S' t : MS} {L : Lw} (h : DV S S') (hL : LawM S L t) : LawM S' L t := by
  unfold LawM at *
  rw [h.2.1 31 (by decide)]; exact hL
theorem u8 (z : Int32) : 0 ≤ (z.toUInt32 >>> ((8 : Int32).toUInt32 &&& Int32.toUInt32 31)).toInt32.toInt := by
  have e : ((8 : Int32).toUInt32 &&& Int32.toUInt32 31) = 8 := by decide
  rw [e]
  have h : (z.toUInt32 >>> (8 : UInt32)).toNat < 2 ^ 24 := by
    rw [UInt32.toNat_shiftRight]
    have := z.toUInt32.toBitVec.isLt
    show z.toUInt32.toNat >>> (8 % 32) < _
    rw [Nat.shiftRight_eq_div_pow]
    have : z.toUInt32.toNat < 2 ^ 32 := this
    show z.toUInt32.toNat / 256 < 16777216
    omega
  have e2 : (z.toUInt32 >>> (8 : UInt32)).toInt32.toInt = ((z.toUInt32 >>> (8 : UInt32)).toNat : Int) := by
    show (z.toUInt32 >>> (8 : UInt32)).toInt32.toBitVec.toInt = _
    rw [BitVec.toInt_eq_toNat_of_lt]
    · rfl
    · show 2 * (z.toUInt32 >>> (8 : UInt32)).toNat < 2 ^ 32
      omega
  rw [e2]; omega
theorem nr_rng {z b : Int32} (h0 : 0 ≤ b.toInt) (h1 : b.toInt ≤ 99) : b.toInt < (nrF z b).toInt ∧ (nrF z b).toInt ≤ 100 := by
  unfold nrF
  have hu := u8 z
  generalize (z.toUInt32 >>> ((8 : Int32).toUInt32 &&& Int32.toUInt32 31)).toInt32 = R at hu
  have hR := R.toInt_lt
  have c100 : (100 - b).toInt = 100 - b.toInt := by
    rw [Int32.toInt_sub]
    have : (100 : Int32).toInt = 100 := rfl
    rw [this, Int.bmod_eq_of_le] <;> omega
  have hd : (R / (100 - b)).toInt = R.toInt / (100 - b.toInt) := by
    rw [Int32.toInt_div, c100, Int.tdiv_eq_ediv_of_nonneg hu]
    have h2 : 0 ≤ R.toInt / (100 - b.toInt) := Int.ediv_nonneg hu (by omega)
    have h3 : R.toInt / (100 - b.toInt) ≤ R.toInt := Int.ediv_le_self _ hu
    rw [Int.bmod_eq_of_le] <;> omega
  have hm : (R - R / (100 - b) * (100 - b)).toInt = R.toInt % (100 - b.toInt) := by
    have e := Int.mul_ediv_add_emod R.toInt (100 - b.toInt)
    have e1 := Int.emod_nonneg R.toInt (show (100 - b.toInt) ≠ 0 by omega)
    have h2 : 0 ≤ R.toInt / (100 - b.toInt) := Int.ediv_nonneg hu (by omega)
    have h3 : 0 ≤ (100 - b.toInt) * (R.toInt / (100 - b.toInt)) := Int.mul_nonneg (by omega) h2
    have hmul : (R / (100 - b) * (100 - b)).toInt = (100 - b.toInt) * (R.toInt / (100 - b.toInt)) := by
      rw [Int32.toInt_mul, hd, c100, Int.mul_comm]
      rw [Int.bmod_eq_of_le] <;> omega
    rw [Int32.toInt_sub, hmul, Int.bmod_eq_of_le] <;> omega
  have e1 := Int.emod_nonneg R.toInt (show (100 - b.toInt) ≠ 0 by omega)
  have e2 := Int.emod_lt_of_pos R.toInt (show 0 < (100 - b.toInt) by omega)
  have hb1 : (b + 1).toInt = b.toInt + 1 := by
    rw [Int32.toInt_add]
    have : (1 : Int32).toInt = 1 := rfl
    rw [this, Int.bmod_eq_of_le] <;> omega
  have : ((b + 1) + (R - R / (100 - b) * (100 - b))).toInt = b.toInt + 1 + R.toInt % (100 - b.toInt) := by
    rw [Int32.toInt_add, hb1, hm, Int.bmod_eq_of_le] <;> omega
  rw [this]; omega
theorem DV.refl {S : MS} (h : Ppl S) : DV S S := ⟨rfl, fun _ _ => rfl, fun _ _ => rfl, h⟩
theorem DV.up {S S' : MS} (h : DV S S') {p : Nat} {v : Int32} (hp : p < np S) (h1 : (S.1 2 p).toInt < v.toInt) (h2 : v.toInt ≤ 100) : DV S (uS S' 3 p v) := by
  have en := h.en
  refine ⟨h.1, fun k hk => by rw [uS_ne hk]; exact h.2.1 k hk, fun q hq => by rw [uS_nei (by omega)]; exact h.2.2.1 q hq, ?_⟩
  have hS' := h.2.2.2
  have e1 : np (uS S' 3 p v) = np S' := by unfold np; rw [uS_ne (by decide)]
  refine ⟨by rw [e1]; exact hS'.1, by rw [e1, uS_ne (by decide)]; exact hS'.2.1, fun q hq => ?_⟩
  rw [e1] at hq
  have := hS'.2.2 q hq
  rw [uS_ne (k' := 2) (by decide), uS_ne (k' := 4) (by decide), uS_if]
  split
  · rename_i e; subst e
    have b2 := h.2.1 2 (by decide)
    rw [b2] at this ⊢
    omega
  · exact this
theorem DV.trans {S S1 S2 : MS} (a : DV S S1) (b : DV S1 S2) : DV S S2 := ⟨b.1.trans a.1, fun k hk => (b.2.1 k hk).trans (a.2.1 k hk), fun p hp => (b.2.2.1 p (by rw [a.en]; exact hp)).trans (a.2.2.1 p hp), b.2.2.2⟩
theorem drS_dv {S : MS} (hS : Ppl S) {z : Int32} : ∀ p, p ≤ np S → DV S (drS S z p).2 := by
  intro p
  induction p with
  | zero => intro _; exact DV.refl hS
  | succ p ih =>
    intro hp
    have b := hS.2.2 p (by omega)
    have r := nr_rng (z := nz (drS S z p).1) (b := S.1 2 p) b.1 b.2.1
    exact (ih (by omega)).up (by omega) r.1 r.2
theorem ndN_dv {S : MS} {L : Lw} (hS : Ppl S) {z : Int32} (k : Nat) : DV S (ndN S L z k).2.1 := by
  induction k with
  | zero => exact DV.refl hS
  | succ k ih =>
    have := drS_dv ih.2.2.2 (z := (ndN S L z k).1) (np S) (by rw [ih.en]; exact Nat.le_refl _)
    exact ih.trans this
theorem DV.back {S S' : MS} (h : DV S S') (e : ∀ p, p < np S → S'.1 3 p = S.1 3 p) : S' = S := by
  have h1 : S'.1 = S.1 := by
    funext k
    by_cases hk : k = 3
    · subst hk
      funext p
      by_cases hp : p < np S
      · exact e p hp
      · exact h.2.2.1 p (by omega)
    · exact h.2.1 k hk
  have h2 := h.1
  cases S; cases S'; simp at h1 h2; rw [h1, h2]
section
variable {G : GG} {m : Nat} {S t sg : MS} {L : Lw} {Q : Outcome → MS → Prop}
theorem A_needs (hS : Ppl S) (hM : Mtg S) (hL : LawM S L t) {z n w : Int32} (hQ : ∀ t', EqE SE t t' → Q (.returned (some (.int (a_needs S L z n w)))) (ov S t')) : MR G mX5_needs 11 0 [(0, .ref m), (1, .int z), (2, .int n), (3, .int w)] [] m (ov S t) Q := by
  have h12 := hS.n
  apply sX5_needs_0
  apply M_in
  refine ⟨_, rfl, fun c => qi (hQ t EqE.refl) (by simp [a_needs, c]), fun c => ?_⟩
  apply M_in
  refine ⟨_, rfl, fun c2 => ?_, fun c2 => qi (hQ t EqE.refl) (by simp [a_needs, c2])⟩
  obtain ⟨n, hn1, hn2, rfl⟩ : ∃ n', 1 ≤ n' ∧ n' ≤ 20 ∧ n = I n' := by
    rw [inF_iff] at c
    have e1 : (1 : Int32).toInt = 1 := rfl
    have e2 : (20 : Int32).toInt = 20 := rfl
    refine ⟨n.toInt.toNat, by omega, by omega, ?_⟩
    apply Int32.toInt_inj.1
    rw [I_int (by omega)]; omega
  -- behind the runs: what was is laid back
  have fin : ∀ a5 a6 : Int32, a_needs S L z (I n) w = (if w = 0 then a5 / I n else a6) → ∀ i, i ≤ np S → ∀ S1 t1, DV S S1 → EqE SE t t1 → (∀ p, p < np S → t1.1 35 p = S.1 3 p) → (∀ p, p < i → S1.1 3 p = S.1 3 p) → MR G mX5_needs 11 172 [(0, .ref m), (2, .int (I n)), (3, .int w), (5, .int a5), (6, .int a6), (7, .int (I i))] [] m (ov S1 t1) Q := by
    intro a5 a6 ea
    refine up_ind ?_ (fun i hi ih => ?_)
    · intro S1 t1 hd ht h35 h3
      have := hd.back h3
      subst this
      refine sX5_needs_172 ⟨fun _ => ⟨fun c3 => qi (hQ t1 ht) ?_, fun c3 => ⟨?_, qi (hQ t1 ht) ?_⟩⟩, fun c => absurd (pp_end hS) c⟩
      · rw [ea, if_neg c3]
      · intro e
        have := (I_inj (b := 0) (by omega) (by omega)).1 e
        omega
      · rw [ea, if_pos c3]
    · intro S1 t1 hd ht h35 h3
      have vi : vp_in (I i) 12 := vp_I (by omega) (by omega)
      apply sX5_needs_172
      rw [I_succ, I_nat (by omega), uo_3, ov_35, h35 i hi]
      refine ⟨fun c => absurd c (pp_lt hd.2.2.2 (by rw [hd.en]; exact hi)), fun _ => ⟨vi, vi, ?_⟩⟩
      have b := hS.2.2 i hi
      refine ih _ t1 (hd.up hi b.2.2.1 b.2.2.2.1) ht h35 (fun p hp => ?_)
      rw [uS_if]
      split
      · rename_i e; subst e; rfl
      · exact h3 p (by omega)
  have runs : ∀ k, k ≤ n → ∀ t1, EqE SE t t1 → (∀ p, p < np S → t1.1 35 p = S.1 3 p) → MR G mX5_needs 11 65 [(0, .ref m), (2, .int (I n)), (3, .int w), (4, .int (ndN S L z k).1), (5, .int (ndN S L z k).2.2.1), (6, .int (ndN S L z k).2.2.2), (7, .int (I k))] [] m (ov (ndN S L z k).2.1 t1) Q := by
    refine up_ind ?_ (fun k hk ih => ?_)
    · intro t1 ht h35
      refine sX5_needs_65 ⟨fun _ => ?_, fun c => absurd (c_end (by omega)) c⟩
      refine fin _ _ ?_ 0 (by omega) _ t1 (ndN_dv hS n) ht h35 (fun p hp => by omega)
      unfold a_needs
      rw [if_neg (by rw [c]; decide), if_neg (by rw [c2]; decide), I_nat (by omega)]
    · intro t1 ht h35
      refine sX5_needs_65 ⟨fun c => absurd c (c_lt (by omega) hk), fun _ => ?_⟩
      have hd := ndN_dv (L := L) hS (z := z) k
      have en := hd.en
      have draw : ∀ i, i ≤ np S → MR G mX5_needs 11 74 [(0, .ref m), (2, .int (I n)), (3, .int w), (4, .int (drS (ndN S L z k).2.1 (ndN S L z k).1 i).1), (5, .int (ndN S L z k).2.2.1), (6, .int (ndN S L z k).2.2.2), (7, .int (I k)), (8, .int (I i))] [] m (ov (drS (ndN S L z k).2.1 (ndN S L z k).1 i).2 t1) Q := by
        refine up_ind ?_ (fun i hi ihd => ?_)
        · have hd2 := hd.trans (drS_dv hd.2.2.2 (z := (ndN S L z k).1) (np S) (by rw [en]; exact Nat.le_refl _))
          have en2 := hd2.en
          have hS2 := hd2.2.2.2
          refine sX5_needs_74 ⟨fun _ => ?_, fun c => absurd (by have := pp_end hS2; rw [en2] at this; exact this) c⟩
          apply M_runBy hS2 (hd2.mtg hM) (hd2.law (hL.e ht))
          intro t2 ht2 hR
          refine ⟨rfl, ?_⟩
          apply M_unlikeNames hS2 hR (fun p => rnF_rng)
          have ht2' : EqE SE t t2 := ht.trans (ht2.mono (by decide))
          have := ih t2 ht2' (fun p hp => by rw [ht2.2 35 (by decide)]; exact h35 p hp)
          rw [I_succ]
          refine ⟨_, rfl, fun c3 => ?_, fun c3 => ?_⟩
          · simp only [ndN] at this
            have c3 : ndU (drS (ndN S L z k).2.1 (ndN S L z k).1 (np S)).2 L ≤ (ndN S L z k).2.2.2 := c3
            rw [if_pos c3] at this
            exact this
          · simp only [ndN] at this
            have c3 : ¬ ndU (drS (ndN S L z k).2.1 (ndN S L z k).1 (np S)).2 L ≤ (ndN S L z k).2.2.2 := c3
            rw [if_neg c3] at this
            exact this
        · have hd2 := hd.trans (drS_dv hd.2.2.2 (z := (ndN S L z k).1) i (by rw [en]; omega))
          have hS2 := hd2.2.2.2
          have vi : vp_in (I i) 12 := vp_I (by omega) (by omega)
          have b := hS.2.2 i hi
          have b2 : (drS (ndN S L z k).2.1 (ndN S L z k).1 i).2.1 2 i = (ndN S L z k).2.1.1 2 i := by rw [hd2.2.1 2 (by decide), hd.2.1 2 (by decide)]
          have b3 : (ndN S L z k).2.1.1 2 i = S.1 2 i := by rw [hd.2.1 2 (by decide)]
          apply sX5_needs_74
          rw [I_succ i, I_nat (by omega)]
          simp only [ov_0, ov_1, ov_2, ov_3, ov_4, ov_5, ov_6, ov_7, ov_8, ov_9, ov_10, ov_11, ov_12, ov_13, ov_14, ov_15, ov_16, ov_17, ov_18, ov_19, ov_20, ov_21, ov_22, ov_23, ov_24, ov_25, ov_26, ov_27, ov_28, ov_29, ov_30, ov_31, ov_32, ov_33, ov_34, ov_35, ov_36, ov_37, ov_38, ov_39, ov_40, ov_41, ov_42, ov_43, ov_44, ov_45, ov_46, ov_e, ov_s, uo_3]
          refine ⟨fun c => absurd c (pp_lt hS2 (by rw [hd2.en]; exact hi)), fun _ => ⟨vi, vi, ?_, vi, ?_⟩⟩
          · rw [b2, b3]
            intro e
            have := congrArg Int32.toInt e
            rw [Int32.toInt_sub] at this
            have e1 : (100 : Int32).toInt = 100 := rfl
            have e2 : (0 : Int32).toInt = 0 := rfl
            rw [e1, e2, Int.bmod_eq_of_le] at this <;> omega
          · rw [b2]; exact ihd
      exact draw 0 (by omega)
  have save : ∀ i, i ≤ np S → ∀ t1, EqE SE t t1 → (∀ p, p < i → t1.1 35 p = S.1 3 p) → MR G mX5_needs 11 24 [(0, .ref m), (1, .int z), (2, .int (I n)), (3, .int w), (4, .int (I i))] [] m (ov S t1) Q := by
    refine up_ind ?_ (fun i hi ih => ?_)
    · intro t1 ht h35
      exact sX5_needs_24 ⟨fun _ => runs 0 (by omega) t1 ht h35, fun c => absurd (pp_end hS) c⟩
    · intro t1 ht h35
      have vi : vp_in (I i) 12 := vp_I (by omega) (by omega)
      apply sX5_needs_24
      rw [I_succ, I_nat (by omega), uo_35]
      refine ⟨fun c => absurd c (pp_lt hS hi), fun _ => ⟨vi, vi, ih _ (ht.tu (by decide)) (fun p hp => ?_)⟩⟩
      rw [uS_if]
      split
      · rename_i e; subst e; rfl
      · exact h35 p (by omega)
  exact save 0 (by omega) t EqE.refl (fun p hp => by omega)
end

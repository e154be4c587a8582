/-! LAYER 3.0: small numbers as Int32, bits, plain loops -/
set_option maxRecDepth 100000
abbrev I (n : Nat) : Int32 := Int32.ofNat n
theorem I_succ (n : Nat) : I n + 1 = I (n + 1) := (Int32.ofNat_add n 1).symm
theorem I_add (a b : Nat) : I a + I b = I (a + b) := (Int32.ofNat_add a b).symm
theorem I_sub {a b : Nat} (h : b ≤ a) : I a - I b = I (a - b) := (Int32.ofNat_sub a b h).symm
theorem I_pred {a : Nat} (h : 1 ≤ a) : I a - 1 = I (a - 1) := I_sub h
theorem I_predn {a : Nat} (h : 1 ≤ a) : I a + (-1) = I (a - 1) := by rw [← I_pred h, Int32.sub_eq_add_neg]
theorem I_nat {n : Nat} (h : n ≤ 100000) : (I n).toNatClampNeg = n := Int32.toNatClampNeg_ofNat_of_lt (by omega)
theorem I_int {n : Nat} (h : n ≤ 100000) : (I n).toInt = n := Int32.toInt_ofNat_of_lt (by omega)
theorem I_le {a b : Nat} (ha : a ≤ 100000) (hb : b ≤ 100000) : I a ≤ I b ↔ a ≤ b := Int32.ofNat_le_iff_le (by omega) (by omega)
theorem I_lt {a b : Nat} (ha : a ≤ 100000) (hb : b ≤ 100000) : I a < I b ↔ a < b := Int32.ofNat_lt_iff_lt (by omega) (by omega)
theorem I_inj {a b : Nat} (ha : a ≤ 100000) (hb : b ≤ 100000) : I a = I b ↔ a = b := by
  constructor
  · intro h; have := congrArg Int32.toInt h; rw [I_int ha, I_int hb] at this; omega
  · rintro rfl; rfl
theorem I_nonneg {a : Nat} (ha : a ≤ 100000) : ¬ I a < 0 := by
  have := (I_lt (a := a) (b := 0) ha (by omega)); intro h; have := this.1 h; omega
theorem I_ne_neg {a : Nat} (ha : a ≤ 100000) : ¬ I a = -1 := by
  intro h; have := congrArg Int32.toInt h; rw [I_int ha] at this
  have e : (-1 : Int32).toInt = -1 := rfl
  omega
theorem vp_I {i n : Nat} (h : i < n) (hn : n ≤ 100000) : vp_in (I i) n := by
  unfold vp_in; rw [I_nat (by omega)]; intro h2; rcases h2 with h2 | h2
  · exact I_nonneg (by omega) h2
  · omega
/-- a number that lies in [0, b] is a small number -/
theorem I_of {v : Int32} {b : Nat} (hb : b ≤ 100000) (h0 : ¬ v < 0) (h1 : ¬ I b < v) : ∃ n, n ≤ b ∧ v = I n := by
  refine ⟨v.toInt.toNat, ?_, ?_⟩
  · rw [Int32.lt_iff_toInt_lt] at h0 h1; rw [I_int hb] at h1
    have e : (0 : Int32).toInt = 0 := rfl
    omega
  · apply Int32.toInt_inj.1
    rw [Int32.lt_iff_toInt_lt] at h0 h1; rw [I_int hb] at h1
    have e : (0 : Int32).toInt = 0 := rfl
    rw [I_int (by omega)]; omega
theorem lt_I {a b : Int32} : a < b ↔ a.toInt < b.toInt := Int32.lt_iff_toInt_lt
theorem le_I {a b : Int32} : a ≤ b ↔ a.toInt ≤ b.toInt := Int32.le_iff_toInt_le
theorem nlt_I {a b : Int32} : ¬ a < b ↔ b ≤ a := by rw [lt_I, le_I]; omega
theorem nle_I {a b : Int32} : ¬ a ≤ b ↔ b < a := by rw [lt_I, le_I]; omega
/-! bits -/
def tb (x : Int32) (i : Nat) : Bool := x.toBitVec.getLsbD i
def bitI (i : Nat) : Int32 := (1 : Int32) <<< (I i &&& 31)
theorem I_and31 {i : Nat} (h : i < 32) : I i &&& 31 = I i := by
  have : ∀ i : Fin 32, I i.val &&& 31 = I i.val := by decide +kernel
  exact this ⟨i, h⟩
theorem tb_or (x y : Int32) (i : Nat) : tb (x ||| y) i = (tb x i || tb y i) := by simp [tb]
theorem tb_and (x y : Int32) (i : Nat) : tb (x &&& y) i = (tb x i && tb y i) := by simp [tb]
theorem tb_not (x : Int32) {i : Nat} (h : i < 32) : tb (~~~ x) i = !(tb x i) := by simp [tb, h]
theorem tb_zero (i : Nat) : tb 0 i = false := by simp [tb]
theorem tb_ext {x y : Int32} (h : ∀ i, i < 32 → tb x i = tb y i) : x = y := by
  apply Int32.toBitVec_inj.1
  apply BitVec.eq_of_getLsbD_eq
  intro i hi; exact h i hi
theorem tb_bit {i j : Nat} (hi : i < 32) (hj : j < 32) : tb (bitI i) j = decide (i = j) := by
  have : ∀ i : Fin 32, ∀ j : Fin 32, tb (bitI i.val) j.val = decide (i.val = j.val) := by decide +kernel
  exact this ⟨i, hi⟩ ⟨j, hj⟩
theorem and_one (y : Int32) : (y &&& 1 = 1) ↔ tb y 0 = true := by
  constructor
  · intro h
    have := congrArg (fun z => tb z 0) h
    simp only [tb_and] at this
    have e : tb 1 0 = true := by decide
    rw [e] at this; simpa using this
  · intro h
    apply tb_ext
    intro i hi
    rw [tb_and]
    by_cases h0 : i = 0
    · subst h0; rw [h]; decide
    · have : ∀ i : Fin 32, i.val ≠ 0 → tb 1 i.val = false := by decide +kernel
      rw [this ⟨i, hi⟩ h0]; simp
theorem sh_bit {x : Int32} {i : Nat} (hi : i < 32) : ((x >>> (I i &&& 31)) &&& 1 = 1) ↔ tb x i = true := by
  rw [I_and31 hi, and_one]
  have e : ∀ i : Fin 32, ((I i.val).toBitVec.smod 32).toNat = i.val := by decide +kernel
  have e := e ⟨i, hi⟩
  simp only [tb, Int32.toBitVec_shiftRight, BitVec.sshiftRight_eq'] at *
  rw [show (BitVec.smod (I i).toBitVec 32).toNat = i from e]
  rw [BitVec.getLsbD_sshiftRight]
  simp [hi]

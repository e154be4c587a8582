/-! LAYER 3.1: plain loops, sets as bits, sorted lists -/
set_option maxRecDepth 100000
theorem im {a b : Prop} (h : a → b) : a → b := h
theorem up_ind {n : Nat} {R : Nat → Prop} (h0 : R n) (hs : ∀ i, i < n → R (i + 1) → R i) : ∀ i, i ≤ n → R i := by
  intro i hi
  obtain ⟨k, rfl⟩ : ∃ k, i + k = n := ⟨n - i, by omega⟩
  clear hi
  induction k generalizing i with
  | zero => exact h0
  | succ k ih => exact hs i (by omega) (by have := ih (i + 1); rw [show i + 1 + k = i + (k + 1) by omega] at this; exact this h0 hs)
/-- the bits i < n with P i -/
def orB (n : Nat) (P : Nat → Bool) : Int32 := match n with
  | 0 => 0
  | n + 1 => if P n = true then orB n P ||| bitI n else orB n P
theorem orB_t {n : Nat} {P : Nat → Bool} (h : P n = true) : orB (n + 1) P = orB n P ||| bitI n := by simp [orB, h]
theorem orB_f {n : Nat} {P : Nat → Bool} (h : P n = false) : orB (n + 1) P = orB n P := by simp [orB, h]
theorem or_zero (x : Int32) : x ||| 0 = x := by
  apply tb_ext; intro i _; rw [tb_or, tb_zero]; simp
theorem zero_or (x : Int32) : 0 ||| x = x := by
  apply tb_ext; intro i _; rw [tb_or, tb_zero]; simp
theorem z_shl (i : Nat) : (0 : Int32) <<< (I i &&& 31) = 0 := by
  apply Int32.toBitVec_inj.1
  simp [Int32.toBitVec_shiftLeft]
theorem orB_bi {n : Nat} {P : Nat → Bool} : orB n P ||| (bi (P n) <<< (I n &&& 31)) = orB (n + 1) P := by
  cases h : P n
  · rw [orB_f h]; show orB n P ||| ((0 : Int32) <<< (I n &&& 31)) = _; rw [z_shl, or_zero]
  · rw [orB_t h]; rfl
theorem tb_orB {n : Nat} {P : Nat → Bool} (hn : n ≤ 32) {i : Nat} (hi : i < 32) : tb (orB n P) i = (decide (i < n) && P i) := by
  induction n with
  | zero => simp [orB, tb_zero]
  | succ n ih =>
    have ih := ih (by omega)
    unfold orB
    by_cases h : P n = true
    · rw [if_pos h, tb_or, ih, tb_bit (by omega) hi]
      by_cases e : n = i
      · subst e; simp [h]
      · have : decide (i < n + 1) = decide (i < n) := by congr 1; simp; omega
        rw [this]; simp [e]
    · rw [if_neg h, ih]
      by_cases e : n = i
      · subst e; simp [h]
      · have : decide (i < n + 1) = decide (i < n) := by congr 1; simp; omega
        rw [this]
theorem orB_congr {n : Nat} {P P' : Nat → Bool} (h : ∀ i, i < n → P i = P' i) : orB n P = orB n P' := by
  induction n with
  | zero => rfl
  | succ n ih => unfold orB; rw [ih (fun i hi => h i (by omega)), h n (by omega)]
theorem orB_zero {n : Nat} {P : Nat → Bool} (hn : n ≤ 32) : orB n P = 0 ↔ ∀ i, i < n → P i = false := by
  constructor
  · intro h i hi
    have := tb_orB (P := P) hn (i := i) (by omega)
    rw [h, tb_zero] at this
    simpa [hi] using this.symm
  · intro h
    apply tb_ext; intro i hi; rw [tb_orB hn hi, tb_zero]
    by_cases e : i < n
    · simp [h i e]
    · simp [e]
def anyB (n : Nat) (P : Nat → Bool) : Bool := (List.range n).any P
theorem anyB_iff {n : Nat} {P : Nat → Bool} : anyB n P = true ↔ ∃ i, i < n ∧ P i = true := by simp [anyB]
theorem anyB_t {n : Nat} {P : Nat → Bool} {i : Nat} (hi : i < n) (h : P i = true) : anyB n P = true := anyB_iff.2 ⟨i, hi, h⟩
theorem anyB_f {n : Nat} {P : Nat → Bool} (h : ∀ i, i < n → P i = false) : anyB n P = false := by
  simp [anyB]; exact h
theorem anyB_congr {n : Nat} {P P' : Nat → Bool} (h : ∀ i, i < n → P i = P' i) : anyB n P = anyB n P' := by
  rw [Bool.eq_iff_iff, anyB_iff, anyB_iff]
  constructor <;> rintro ⟨i, hi, e⟩ <;> exact ⟨i, hi, by rw [← e]; first | exact h i hi | exact (h i hi).symm⟩
/-- how many i < n -/
def cnt (n : Nat) (P : Nat → Bool) : Nat := match n with
  | 0 => 0
  | n + 1 => if P n = true then cnt n P + 1 else cnt n P
theorem cnt_t {n : Nat} {P : Nat → Bool} (h : P n = true) : cnt (n + 1) P = cnt n P + 1 := by simp [cnt, h]
theorem cnt_f {n : Nat} {P : Nat → Bool} (h : P n = false) : cnt (n + 1) P = cnt n P := by simp [cnt, h]
theorem cnt_le (n : Nat) (P : Nat → Bool) : cnt n P ≤ n := by
  induction n with
  | zero => exact Nat.le_refl _
  | succ n ih => unfold cnt; split <;> omega
theorem cnt_congr {n : Nat} {P P' : Nat → Bool} (h : ∀ i, i < n → P i = P' i) : cnt n P = cnt n P' := by
  induction n with
  | zero => rfl
  | succ n ih => unfold cnt; rw [ih (fun i hi => h i (by omega)), h n (by omega)]
theorem cnt_del {n : Nat} {P P' : Nat → Bool} {k : Nat} (hk : k < n) (h1 : P k = true) (h2 : P' k = false) (h : ∀ i, i < n → i ≠ k → P' i = P i) : cnt n P = cnt n P' + 1 := by
  induction n with
  | zero => omega
  | succ n ih =>
    by_cases e : k = n
    · subst e
      rw [cnt_t h1, cnt_f h2, cnt_congr (P := P') (P' := P) (fun i hi => h i (by omega) (by omega))]
    · have ih := ih (by omega) (fun i hi hne => h i (by omega) hne)
      have e2 := h n (by omega) (fun x => e x.symm)
      cases hp : P n
      · rw [cnt_f hp, cnt_f (e2.trans hp)]; exact ih
      · rw [cnt_t hp, cnt_t (e2.trans hp)]; omega
theorem cnt_not (n : Nat) (P : Nat → Bool) : cnt n P + cnt n (fun i => !(P i)) = n := by
  induction n with
  | zero => rfl
  | succ n ih => unfold cnt; cases h : P n <;> simp <;> omega
theorem cnt_ext {n N : Nat} {P : Nat → Bool} (hn : n ≤ N) : cnt N (fun i => decide (i < n) && P i) = cnt n P := by
  induction N with
  | zero => have : n = 0 := by omega
            subst this; rfl
  | succ N ih =>
    by_cases e : n ≤ N
    · rw [cnt_f (by simp; omega)]; exact ih e
    · have : n = N + 1 := by omega
      subst this
      exact cnt_congr (fun i hi => by simp [hi])
theorem cnt_zero {n : Nat} {P : Nat → Bool} (h : ∀ i, i < n → P i = false) : cnt n P = 0 := by
  induction n with
  | zero => rfl
  | succ n ih => rw [cnt_f (h n (by omega))]; exact ih (fun i hi => h i (by omega))
theorem cnt_mono {n : Nat} {P P' : Nat → Bool} (h : ∀ i, i < n → P i = true → P' i = true) : cnt n P ≤ cnt n P' := by
  induction n with
  | zero => exact Nat.le_refl _
  | succ n ih =>
    have ih := ih (fun i hi => h i (by omega))
    have := h n (by omega)
    unfold cnt
    cases h1 : P n <;> cases h2 : P' n <;> simp [h1, h2] at this ⊢ <;> omega
theorem cnt_lt {n : Nat} {P P' : Nat → Bool} (h : ∀ i, i < n → P i = true → P' i = true) {k : Nat} (hk : k < n) (h1 : P k = false) (h2 : P' k = true) : cnt n P < cnt n P' := by
  have a := cnt_del (P := P') (P' := fun i => P' i && decide (i ≠ k)) hk h2 (by simp) (fun i _ hne => by simp [hne])
  have b := cnt_mono (n := n) (P := P) (P' := fun i => P' i && decide (i ≠ k)) (fun i hi hp => by
    have e : i ≠ k := by rintro rfl; rw [h1] at hp; cases hp
    simp [h i hi hp, e])
  omega
/-! ones of a set -/
def ones (x : Int32) : Nat := cnt 32 (tb x)
theorem ones_zero : ones 0 = 0 := cnt_zero (fun i _ => tb_zero i)
theorem ones_le (x : Int32) : ones x ≤ 32 := cnt_le _ _
theorem low_bit {n : Nat} (h : 0 < n) : ∃ i q, n = 2 ^ i * (2 * q + 1) := by
  induction n using Nat.strongRecOn with
  | _ n ih =>
    by_cases e : n % 2 = 1
    · exact ⟨0, n / 2, by omega⟩
    · obtain ⟨i, q, e2⟩ := ih (n / 2) (by omega) (by omega)
      refine ⟨i + 1, q, ?_⟩
      have : n = 2 * (n / 2) := by omega
      rw [this, e2, Nat.pow_succ, Nat.mul_comm (2 ^ i) 2, Nat.mul_assoc]
theorem and_pred {n : Nat} (h : 0 < n) : ∃ i, n.testBit i = true ∧ ∀ j, (n &&& (n - 1)).testBit j = (n.testBit j && decide (j ≠ i)) := by
  obtain ⟨i, q, e⟩ := low_bit h
  have p : 0 < 2 ^ i := Nat.two_pow_pos i
  have e1 : n = 2 ^ i * (2 * q + 1) + 0 := by omega
  have e2 : n - 1 = 2 ^ i * (2 * q) + (2 ^ i - 1) := by rw [e, Nat.mul_add]; omega
  have t1 : ∀ j, n.testBit j = if j < i then false else (2 * q + 1).testBit (j - i) := by
    intro j
    rw [e1, Nat.testBit_two_pow_mul_add _ p]
    split <;> simp
  have t2 : ∀ j, (n - 1).testBit j = if j < i then (2 ^ i - 1).testBit j else (2 * q).testBit (j - i) := by
    intro j
    rw [e2, Nat.testBit_two_pow_mul_add _ (by omega)]
  refine ⟨i, by rw [t1]; simp, fun j => ?_⟩
  rw [Nat.testBit_and, t1, t2]
  by_cases c : j < i
  · simp [c]
  · by_cases c2 : j = i
    · subst c2; simp
    · obtain ⟨k, rfl⟩ : ∃ k, j = i + (k + 1) := ⟨j - i - 1, by omega⟩
      have s1 : (2 * q + 1).testBit (k + 1) = q.testBit k := by rw [Nat.testBit_succ]; congr 1; omega
      have s2 : (2 * q).testBit (k + 1) = q.testBit k := by rw [Nat.testBit_succ]; congr 1; omega
      rw [show i + (k + 1) - i = k + 1 by omega, s1, s2]
      simp
      exact fun h => Or.inr h
theorem tb_nat (x : Int32) (i : Nat) : tb x i = x.toBitVec.toNat.testBit i := rfl
theorem nz_nat {x : Int32} (h : ¬ x = 0) : 0 < x.toBitVec.toNat := by
  apply Nat.pos_of_ne_zero
  intro e
  apply h
  apply Int32.toBitVec_inj.1
  apply BitVec.eq_of_toNat_eq
  rw [e]; rfl
theorem pred_nat {x : Int32} (h : ¬ x = 0) : (x - 1).toBitVec.toNat = x.toBitVec.toNat - 1 := by
  have := nz_nat h
  have l := x.toBitVec.isLt
  rw [Int32.toBitVec_sub, BitVec.toNat_sub]
  show (2 ^ 32 - 1 + x.toBitVec.toNat) % 2 ^ 32 = _
  omega
theorem clr_nat {x : Int32} (h : ¬ x = 0) : (x &&& (x - 1)).toBitVec.toNat = x.toBitVec.toNat &&& (x.toBitVec.toNat - 1) := by
  rw [Int32.toBitVec_and, BitVec.toNat_and, pred_nat h]
theorem clr_lt {x : Int32} (h : ¬ x = 0) : (x &&& (x - 1)).toBitVec.toNat < x.toBitVec.toNat := by
  have := nz_nat h
  rw [clr_nat h]
  exact Nat.lt_of_le_of_lt Nat.and_le_right (by omega)
theorem ones_clr {x : Int32} (h : ¬ x = 0) : ones x = ones (x &&& (x - 1)) + 1 := by
  obtain ⟨i, h1, h2⟩ := and_pred (nz_nat h)
  have hi : i < 32 := by
    apply Nat.lt_of_not_le
    intro hi
    rw [Nat.testBit_lt_two_pow (Nat.lt_of_lt_of_le x.toBitVec.isLt (Nat.pow_le_pow_right (by omega) hi))] at h1
    cases h1
  refine cnt_del hi h1 ?_ (fun j hj hne => ?_)
  · rw [tb_nat, clr_nat h, h2]; simp
  · rw [tb_nat, clr_nat h, h2, tb_nat]; simp [hne]
/-! sorted by a key, then by number: 0 .. n-1 put in one by one -/
def lx (f : Nat → Int32) (a b : Nat) : Prop := f a < f b ∨ (f a = f b ∧ a < b)
def insL (f : Nat → Int32) (n : Nat) : List Nat → List Nat
  | [] => [n]
  | a :: l => if f n < f a then n :: a :: l else a :: insL f n l
def srt (f : Nat → Int32) : Nat → List Nat
  | 0 => []
  | n + 1 => insL f n (srt f n)
theorem insL_len {f : Nat → Int32} {n : Nat} {l : List Nat} : (insL f n l).length = l.length + 1 := by
  induction l with
  | nil => rfl
  | cons a l ih => unfold insL; split <;> simp [ih]
theorem srt_len {f : Nat → Int32} (n : Nat) : (srt f n).length = n := by
  induction n with
  | zero => rfl
  | succ n ih => show (insL f n (srt f n)).length = _; rw [insL_len, ih]
theorem insL_mem {f : Nat → Int32} {n a : Nat} {l : List Nat} : a ∈ insL f n l ↔ a = n ∨ a ∈ l := by
  induction l with
  | nil => simp [insL]
  | cons b l ih =>
    unfold insL; split
    · simp
    · simp [ih]
      constructor
      · rintro (h | h | h) <;> simp [h]
      · rintro (h | h | h) <;> simp [h]
theorem srt_mem {f : Nat → Int32} {n a : Nat} : a ∈ srt f n ↔ a < n := by
  induction n with
  | zero => simp [srt]
  | succ n ih => show a ∈ insL f n (srt f n) ↔ _; rw [insL_mem, ih]; omega
theorem lt_tr {a b c : Int32} (h1 : a < b) (h2 : b < c) : a < c := by rw [lt_I] at *; omega
theorem lx_tr {f : Nat → Int32} {a b c : Nat} (h1 : lx f a b) (h2 : lx f b c) : lx f a c := by
  unfold lx at *
  rcases h1 with h1 | ⟨h1, h1'⟩ <;> rcases h2 with h2 | ⟨h2, h2'⟩
  · exact Or.inl (lt_tr h1 h2)
  · exact Or.inl (h2 ▸ h1)
  · exact Or.inl (h1 ▸ h2)
  · exact Or.inr ⟨h1.trans h2, by omega⟩
theorem lx_irr {f : Nat → Int32} {a : Nat} : ¬ lx f a a := by
  unfold lx; rw [lt_I]; omega
theorem lx_tot {f : Nat → Int32} {a b : Nat} (h : a ≠ b) : lx f a b ∨ lx f b a := by
  unfold lx
  by_cases h1 : f a < f b
  · exact Or.inl (Or.inl h1)
  · by_cases h2 : f b < f a
    · exact Or.inr (Or.inl h2)
    · have : f a = f b := by
        apply Int32.toInt_inj.1; rw [lt_I] at *; omega
      rcases Nat.lt_or_gt_of_ne h with h | h
      · exact Or.inl (Or.inr ⟨this, h⟩)
      · exact Or.inr (Or.inr ⟨this.symm, h⟩)
theorem insL_pw {f : Nat → Int32} {n : Nat} {l : List Nat} (hl : l.Pairwise (lx f)) (hn : ∀ a ∈ l, a < n) : (insL f n l).Pairwise (lx f) := by
  induction l with
  | nil => simp [insL]
  | cons a l ih =>
    have ⟨h1, h2⟩ := List.pairwise_cons.1 hl
    unfold insL
    split
    · rename_i c
      refine List.pairwise_cons.2 ⟨fun b hb => ?_, hl⟩
      rcases List.mem_cons.1 hb with rfl | hb
      · exact Or.inl c
      · exact lx_tr (Or.inl c) (h1 b hb)
    · rename_i c
      refine List.pairwise_cons.2 ⟨fun b hb => ?_, ih h2 (fun b hb => hn b (List.mem_cons_of_mem _ hb))⟩
      rcases insL_mem.1 hb with rfl | hb
      · have := hn a (List.mem_cons_self ..)
        unfold lx
        by_cases e : f a < f b
        · exact Or.inl e
        · refine Or.inr ⟨?_, this⟩
          apply Int32.toInt_inj.1; rw [lt_I] at *; omega
      · exact h1 b hb
theorem srt_pw {f : Nat → Int32} (n : Nat) : (srt f n).Pairwise (lx f) := by
  induction n with
  | zero => exact List.Pairwise.nil
  | succ n ih => exact insL_pw ih (fun a ha => srt_mem.1 ha)
theorem insL_congr {f g : Nat → Int32} {n : Nat} {l : List Nat} (hn : f n = g n) (h : ∀ a ∈ l, f a = g a) : insL f n l = insL g n l := by
  induction l with
  | nil => rfl
  | cons a l ih =>
    unfold insL
    rw [hn, h a (List.mem_cons_self ..), ih (fun b hb => h b (List.mem_cons_of_mem _ hb))]
theorem srt_congr {f g : Nat → Int32} {n : Nat} (h : ∀ a, a < n → f a = g a) : srt f n = srt g n := by
  induction n with
  | zero => rfl
  | succ n ih =>
    show insL f n (srt f n) = insL g n (srt g n)
    rw [← ih (fun a ha => h a (by omega))]
    exact insL_congr (h n (by omega)) (fun a ha => h a (by have := srt_mem.1 ha; omega))

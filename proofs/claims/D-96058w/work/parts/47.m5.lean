/-! LAYER 3.7: the model: free names, giving, a run -/
set_option maxRecDepth 100000
theorem and_one0 (y : Int32) : (y &&& 1 = 0) ↔ tb y 0 = false := by
  constructor
  · intro h
    have := congrArg (fun z => tb z 0) h
    simp only [tb_and] at this
    have e : tb 1 0 = true := by decide
    rw [e, tb_zero] at this; simpa using this
  · intro h
    apply tb_ext
    intro i hi
    rw [tb_and, tb_zero]
    by_cases h0 : i = 0
    · subst h0; rw [h]; rfl
    · have : ∀ i : Fin 32, i.val ≠ 0 → tb 1 i.val = false := by decide +kernel
      rw [this ⟨i, hi⟩ h0]; simp
theorem sh_bit0 {x : Int32} {i : Nat} (hi : i < 32) : ((x >>> (I i &&& 31)) &&& 1 = 0) ↔ tb x i = false := by
  have h1 := sh_bit (x := x) hi
  rw [and_one] at h1
  rw [and_one0, ← Bool.not_eq_true, h1, Bool.not_eq_true]
def evF (S : MS) : Int32 := ((1 : Int32) <<< (S.1 1 0 &&& 31)) - 1
theorem tb_ev {S : MS} (hS : Ppl S) {p : Nat} (hp : p < 32) : tb (evF S) p = decide (p < np S) := by
  have h : ∀ n : Fin 13, ∀ p : Fin 32, tb (((1 : Int32) <<< (I n.val &&& 31)) - 1) p.val = decide (p.val < n.val) := by decide +kernel
  have hn := hS.n
  unfold evF
  rw [hS.e]
  exact h ⟨np S, by omega⟩ ⟨p, hp⟩
theorem am_ev {S : MS} (hS : Ppl S) {R : Nat → Int32} : ∀ q, q < np S → amB (evF S) R q = R q := by
  intro q hq
  have hn := hS.n
  unfold amB
  rw [tb_ev hS (by omega)]; simp [hq]
theorem born_I {S : MS} (hS : Ppl S) {p : Nat} (hp : p < np S) : ∃ y, y ≤ 99 ∧ S.1 2 p = I y := by
  obtain ⟨h1, h2, -⟩ := hS.2.2 p hp
  refine ⟨(S.1 2 p).toInt.toNat, by omega, ?_⟩
  apply Int32.toInt_inj.1
  rw [I_int (by omega)]; omega
/-! places -/
def lxb (f : Nat → Int32) (a b : Nat) : Bool := decide (f a < f b) || (decide (f a = f b) && decide (a < b))
theorem lxb_iff {f : Nat → Int32} {a b : Nat} : lxb f a b = true ↔ lx f a b := by simp [lxb, lx]
theorem ah_lx {S : MS} {o p : Nat} (ho : o < 12) (hp : p < 12) : ahF S (I o) (I p) = lxb (S.1 2) o p := by
  unfold ahF lxb
  rw [I_nat (by omega), I_nat (by omega)]
  by_cases h1 : S.1 2 o < S.1 2 p
  · simp [h1]
  · by_cases h2 : S.1 2 o = S.1 2 p
    · rw [if_neg h1, if_pos h2]
      by_cases h3 : o < p
      · rw [if_neg (c_lt (by omega) h3)]; simp [h2, h3]
      · have : I p ≤ I o := by rw [I_le (by omega) (by omega)]; omega
        rw [if_pos this]; simp [h2, h3, lt_I]
    · rw [if_neg h1, if_neg h2]; simp [h1, h2]
theorem insL_count {f : Nat → Int32} {n : Nat} {l : List Nat} {P : Nat → Bool} : (insL f n l).countP P = l.countP P + (if P n = true then 1 else 0) := by
  induction l with
  | nil => simp [insL, List.countP_cons]
  | cons a l ih =>
    unfold insL
    split
    · simp [List.countP_cons]
    · simp only [List.countP_cons, ih]; omega
theorem srt_count {f : Nat → Int32} {P : Nat → Bool} (n : Nat) : (srt f n).countP P = cnt n P := by
  induction n with
  | zero => rfl
  | succ n ih => show (insL f n (srt f n)).countP P = _; rw [insL_count, ih]; cases h : P n <;> simp [cnt, h]
theorem pw_count {f : Nat → Int32} : ∀ {l : List Nat} {k : Nat}, l.Pairwise (lx f) → (h : k < l.length) → l.countP (fun o => lxb f o l[k]) = k := by
  intro l
  induction l with
  | nil => intro k _ h; simp at h
  | cons a l ih =>
    intro k hp h
    have hp' := List.pairwise_cons.1 hp
    cases k with
    | zero =>
      rw [List.countP_eq_zero.2]
      intro b hb
      simp only [List.getElem_cons_zero, lxb_iff]
      rcases List.mem_cons.1 hb with rfl | hb
      · exact lx_irr
      · exact fun e => lx_irr (lx_tr e (hp'.1 b hb))
    | succ k =>
      simp only [List.length_cons] at h
      rw [List.countP_cons]
      simp only [List.getElem_cons_succ]
      rw [ih hp'.2 (by omega), if_pos]
      rw [lxb_iff]
      exact hp'.1 _ (List.getElem_mem _)
theorem ord_get {S : MS} {k : Nat} (hk : k < np S) : ordF S k = (srt (S.1 2) (np S))[k]'(by rw [srt_len]; exact hk) := by
  unfold ordF
  rw [List.getD_eq_getElem?_getD, List.getElem?_eq_getElem (by rw [srt_len]; exact hk)]; rfl
theorem ord_lt {S : MS} {k : Nat} (hk : k < np S) : ordF S k < np S := by
  rw [ord_get hk]; exact srt_mem.1 (List.getElem_mem _)
theorem pl_ord {S : MS} (hS : Ppl S) {k : Nat} (hk : k < np S) : plF S (I (ordF S k)) = k := by
  have hn := hS.n
  have ho := ord_lt hk
  unfold plF
  rw [cnt_congr (P' := fun o => lxb (S.1 2) o (ordF S k)) (fun o ho2 => ah_lx (by omega) (by omega)), ← srt_count (f := S.1 2)]
  have e := ord_get hk
  rw [e]
  exact pw_count (srt_pw _) _
theorem ord_lx {S : MS} {j k : Nat} (hj : j < k) (hk : k < np S) : lx (S.1 2) (ordF S j) (ordF S k) := by
  rw [ord_get hk, ord_get (by omega : j < np S)]
  exact List.pairwise_iff_getElem.1 (srt_pw _) j k _ _ hj
theorem ord_sur {S : MS} {p : Nat} (hp : p < np S) : ∃ k, k < np S ∧ ordF S k = p := by
  obtain ⟨k, hk, e⟩ := List.getElem_of_mem (srt_mem (f := S.1 2).2 hp)
  rw [srt_len] at hk
  exact ⟨k, hk, by rw [ord_get hk]; exact e⟩
theorem ord_inj {S : MS} {j k : Nat} (hj : j < np S) (hk : k < np S) (e : ordF S j = ordF S k) : j = k := by
  rcases Nat.lt_trichotomy j k with h | h | h
  · have := ord_lx h hk; rw [e] at this; exact absurd this lx_irr
  · exact h
  · have := ord_lx h hj; rw [e] at this; exact absurd this lx_irr
theorem am_ao {S : MS} (hS : Ppl S) {R : Nat → Int32} {p q : Nat} (hp : p < np S) (hq : q < np S) : amB (aoF S (I p)) R q = if lxb (S.1 2) q p = true then R q else -1 := by
  have hn := hS.n
  unfold amB aoF
  rw [tb_orB (by omega) (by omega), ah_lx (by omega) (by omega)]
  simp [hq]
theorem rn_un {S : MS} {L : Lw} {way : Int32} {k q : Nat} (h : ∀ j, j < k → ¬ ordF S j = q) : rnF S L way k q = -1 := by
  induction k with
  | zero => rfl
  | succ k ih =>
    unfold rnF va_up
    have := h k (by omega)
    rw [if_neg (fun e => this e.symm)]
    exact ih (fun j hj => h j (by omega))
/-- in a run the names of those ahead are all that have been given -/
theorem am_rn {S : MS} (hS : Ppl S) {L : Lw} {way : Int32} {R : Nat → Int32} {k : Nat} (hk : k < np S) (hR : ∀ q, q < np S → R q = rnF S L way k q) : ∀ q, q < np S → amB (aoF S (I (ordF S k))) R q = rnF S L way k q := by
  intro q hq
  rw [am_ao hS (ord_lt hk) hq]
  split
  · exact hR q hq
  · rename_i h
    rw [rn_un]
    intro j hj e
    exact h (lxb_iff.2 (e ▸ ord_lx hj hk))
section
variable {G : GG} {m : Nat} {S t sg : MS} {L : Lw} {Q : Outcome → MS → Prop}
theorem M_everybody (hQ : Q (.returned (some (.int (evF S)))) (ov S t)) : MR G mX5_everybody 1 0 [(0, .ref m)] [] m (ov S t) Q := sX5_everybody_0 hQ
theorem M_asNamed (hS : Ppl S) (hQ : ∀ t', EqE [34] t t' → (∀ p, p < np S → t'.1 34 p = S.1 4 p) → Q (.returned none) (ov S t')) : MR G mX5_asNamed 1 0 [(0, .ref m)] [] m (ov S t) Q := by
  have hn := hS.n
  apply sX5_asNamed_0
  have key : ∀ i, i ≤ 12 → ∀ t1, EqE [34] t t1 → (∀ p, p < i → p < np S → t1.1 34 p = S.1 4 p) → MR G mX5_asNamed 1 2 [(0, .ref m), (1, .int (I i))] [] m (ov S t1) Q := by
    refine up_ind ?_ (fun i hi ih => ?_)
    · intro t1 ht h
      exact sX5_asNamed_2 ⟨fun _ => hQ t1 ht (fun p hp => h p (by omega) hp), fun c => absurd (c_end (n := 12) (by omega)) c⟩
    · intro t1 ht h
      have vi := vp_I hi (by omega)
      apply sX5_asNamed_2
      rw [I_succ, I_nat (by omega), uS_ov rfl, uS_ov rfl]
      refine ⟨fun c => absurd c (c_lt (n := 12) (by omega) hi), fun _ => ⟨fun c => ⟨vi, ih _ (ht.tu (by decide)) (fun p hp hpn => ?_)⟩, fun c => ⟨vi, vi, ih _ (ht.tu (by decide)) (fun p hp hpn => ?_)⟩⟩⟩
      · have : ¬ p = i := by
          rintro rfl
          exact pp_lt hS hpn c
        rw [uS_nei this]; exact h p (by omega) hpn
      · rw [uS_if]
        split
        · rename_i e; subst e; rfl
        · exact h p (by omega) hpn
  exact key 0 (by omega) t EqE.refl (fun p hp => by omega)
/-- a year's names that are held, found anew -/
theorem M_isHeldK (hS : Ppl S) (hL : LawM S L t) {n y am : Int32} (hn : vp_in n 12) (hK : ∀ p, p < np S → t.1 32 p = kuF S y 0 p) (hQ : ∀ t', EqE [29, 30] t t' → Q (.returned (some (.int (bi (hyF S L (amB am (t.1 34)) n y))))) (ov S t')) : MR G mX5_isHeld 7 0 [(0, .ref m), (1, .int n), (2, .int y), (3, .int am)] [] m (ov S t) Q :=
  M_isHeld hS hL hn (fun t' ht' => qb (hQ t' ht') (ihF_congr hS.n (fun p hp => (hK p hp).symm) (fun _ _ => Iff.rfl)))
theorem M_heldIn (hS : Ppl S) (hM : Mtg S) (hL : LawM S L t) {y : Int32} (hQ : ∀ t', EqE [29, 30, 32, 33] t t' → Q (.returned (some (.int (heF S L (t.1 34) y)))) (ov S t')) : MR G mX5_heldIn 8 0 [(0, .ref m), (1, .int y)] [] m (ov S t) Q := by
  apply sX5_heldIn_0
  apply M_findKnown hS hM
  intro t0 ht0 hK
  refine ⟨rfl, ?_⟩
  have h34 : t0.1 34 = t.1 34 := ht0.2 34 (by decide)
  have key : ∀ i, i ≤ 12 → ∀ t1, EqE [29, 30] t0 t1 → MR G mX5_heldIn 8 10 [(0, .ref m), (1, .int y), (2, .int (orB i (fun n => hyF S L (t.1 34) (I n) y))), (3, .int (I i))] [] m (ov S t1) Q := by
    refine up_ind ?_ (fun i hi ih => ?_)
    · intro t1 ht
      exact sX5_heldIn_10 ⟨fun _ => hQ t1 ((ht0.mono (by decide)).trans (ht.mono (by decide))), fun c => absurd (c_end (n := 12) (by omega)) c⟩
    · intro t1 ht
      apply sX5_heldIn_10
      refine ⟨fun c => absurd c (c_lt (n := 12) (by omega) hi), fun _ => ?_⟩
      apply M_everybody
      refine ⟨_, rfl, ?_⟩
      apply M_isHeldK hS ((hL.e (ht0.mono (by decide))).e (ht.mono (by decide))) (vp_I hi (by omega)) (fun p hp => by rw [ht.2 32 (by decide)]; exact hK p hp)
      intro t2 ht2
      rw [I_succ, hyF_congr hS.n (B' := t.1 34) (fun q hq => by rw [am_ev hS q hq, ht.2 34 (by decide), h34])]
      refine ⟨_, rfl, fun c => ?_, fun c => ?_⟩
      · have := ih t2 (ht.trans ht2); rw [orB_f c] at this; exact this
      · have := ih t2 (ht.trans ht2); rw [orB_t c] at this; exact this
  exact key 0 (by omega) t0 EqE.refl
theorem M_latestHeld (hS : Ppl S) (hM : Mtg S) (hL : LawM S L t) {n am : Int32} {y : Nat} (hy : y ≤ 99) (hn : vp_in n 12) (hQ : ∀ t', EqE [29, 30, 32, 33] t t' → Q (.returned (some (.int (lhN S L (amB am (t.1 34)) n y)))) (ov S t')) : MR G mX5_latestHeld 8 0 [(0, .ref m), (1, .int n), (2, .int (I y)), (3, .int am)] [] m (ov S t) Q := by
  apply sX5_latestHeld_0
  have key : ∀ k, k ≤ y → lhN S L (amB am (t.1 34)) n k = lhN S L (amB am (t.1 34)) n y → ∀ t1, EqE [29, 30, 32, 33] t t1 → MR G mX5_latestHeld 8 5 [(0, .ref m), (1, .int n), (3, .int am), (4, .int (I k - 1))] [] m (ov S t1) Q := by
    intro k
    induction k with
    | zero =>
      intro _ e t1 ht
      refine sX5_latestHeld_5 ⟨fun _ => qi (hQ t1 ht) e.symm, fun c => absurd (by decide) c⟩
    | succ k ih =>
      intro hk e t1 ht
      have e1 : I (k + 1) - 1 = I k := I_pred (by omega)
      rw [e1]
      apply sX5_latestHeld_5
      refine ⟨fun c => absurd c (I_nonneg (by omega)), fun _ => ?_⟩
      apply M_findKnown hS hM
      intro t2 ht2 hK
      refine ⟨rfl, ?_⟩
      have h2 : EqE [29, 30, 32, 33] t t2 := ht.trans (ht2.mono (by decide))
      apply M_isHeldK hS (hL.e (h2.mono (by decide))) hn hK
      intro t3 ht3
      rw [h2.2 34 (by decide)]
      have h3 : EqE [29, 30, 32, 33] t t3 := h2.trans (ht3.mono (by decide))
      refine ⟨_, rfl, fun c => ?_, fun c => ?_⟩
      · rw [show I k + -1 = I k - 1 from (Int32.sub_eq_add_neg ..).symm]
        refine ih (by omega) ?_ t3 h3
        rw [← e]; simp [lhN, c]
      · refine qi (hQ t3 h3) ?_
        rw [← e]; simp [lhN, c]
  exact key y (Nat.le_refl _) rfl t EqE.refl
theorem M_given (hS : Ppl S) (hM : Mtg S) (hL : LawM S L t) {p : Nat} {way : Int32} (hp : p < np S) (hQ : ∀ t', EqE [29, 30, 32, 33] t t' → Q (.returned (some (.int (gvF S L (amB (aoF S (I p)) (t.1 34)) (S.1 2 p) way)))) (ov S t')) : MR G mX5_given 9 0 [(0, .ref m), (1, .int (I p)), (2, .int way)] [] m (ov S t) Q := by
  have h12 := hS.n
  obtain ⟨y, hy, ey⟩ := born_I hS hp
  have vp : vp_in (I p) 12 := vp_I (by omega) (by omega)
  apply sX5_given_0
  apply M_aheadOf hS vp
  refine ⟨_, rfl, vp, ?_⟩
  rw [I_nat (by omega)]
  simp only [ov_0, ov_1, ov_2, ov_3, ov_4, ov_5, ov_6, ov_7, ov_8, ov_9, ov_10, ov_11, ov_12, ov_13, ov_14, ov_15, ov_16, ov_17, ov_18, ov_19, ov_20, ov_21, ov_22, ov_23, ov_24, ov_25, ov_26, ov_27, ov_28, ov_29, ov_30, ov_31, ov_32, ov_33, ov_34, ov_35, ov_36, ov_37, ov_38, ov_39, ov_40, ov_41, ov_42, ov_43, ov_44, ov_45, ov_46, ov_e, ov_s]
  apply M_findKnown hS hM
  intro t0 ht0 hK
  refine ⟨rfl, ?_⟩
  have h34 : t0.1 34 = t.1 34 := ht0.2 34 (by decide)
  have h0 : EqE [29, 30, 32, 33] t t0 := ht0.mono (by decide)
  have rest : ∀ i, i ≤ 12 → ∀ t1, EqE [29, 30, 32, 33] t t1 → ∀ q, q = gvS (frF S L (amB (aoF S (I p)) (t.1 34)) (S.1 2 p)) (fun n => rkF S L (amB (aoF S (I p)) (t.1 34)) way (I n) (S.1 2 p)) i → MR G mX5_given 9 71 [(0, .ref m), (1, .int (I p)), (2, .int way), (3, .int (aoF S (I p))), (4, .int (frF S L (amB (aoF S (I p)) (t.1 34)) (S.1 2 p))), (5, .int q.1), (6, .int q.2), (7, .int (I i))] [] m (ov S t1) Q := by
    refine up_ind ?_ (fun i hi ih => ?_)
    · intro t1 ht q hq
      refine sX5_given_71 ⟨fun _ => qi (hQ t1 ht) (by rw [hq]; rfl), fun c => absurd (c_end (n := 12) (by omega)) c⟩
    · intro t1 ht q hq
      have st : ∀ t2 r, EqE [29, 30, 32, 33] t t2 → r = rkF S L (amB (aoF S (I p)) (t.1 34)) way (I i) (S.1 2 p) → tb (frF S L (amB (aoF S (I p)) (t.1 34)) (S.1 2 p)) i = true → MR G mX5_given 9 127 [(0, .ref m), (1, .int (I p)), (2, .int way), (3, .int (aoF S (I p))), (4, .int (frF S L (amB (aoF S (I p)) (t.1 34)) (S.1 2 p))), (5, .int q.1), (6, .int q.2), (7, .int (I i))] [.int r] m (ov S t2) Q := by
        intro t2 r ht2 hr hf
        apply sX5_given_127
        rw [I_succ]
        have take : (q.1 = -2 ∨ q.2 < r) → MR G mX5_given 9 71 [(0, .ref m), (1, .int (I p)), (2, .int way), (3, .int (aoF S (I p))), (4, .int (frF S L (amB (aoF S (I p)) (t.1 34)) (S.1 2 p))), (5, .int (I i)), (6, .int r), (7, .int (I (i + 1)))] [] m (ov S t2) Q := by
          intro h
          refine ih t2 ht2 (I i, r) ?_
          unfold gvS
          rw [← hq, if_neg (by rw [hf]; decide), if_neg, hr]
          rintro ⟨a, b⟩
          rcases h with h | h
          · exact a h
          · rw [← hr] at b; exact nle_I.2 h b
        rcases gvS_rng (fr := frF S L (amB (aoF S (I p)) (t.1 34)) (S.1 2 p)) (rk := fun n => rkF S L (amB (aoF S (I p)) (t.1 34)) way (I n) (S.1 2 p)) (n := i) with h | ⟨j, hj, h, -⟩
        · rw [← hq] at h
          refine ⟨fun _ => take (Or.inl h), fun c => absurd (by rw [h]; decide) c⟩
        · rw [← hq] at h
          refine ⟨fun c => absurd c (by rw [h]; exact I_nonneg (by omega)), fun _ => ⟨fun c => take (Or.inr c), fun c => ?_⟩⟩
          refine ih t2 ht2 q ?_
          have hc : ¬ q.1 = -2 ∧ rkF S L (amB (aoF S (I p)) (t.1 34)) way (I i) (S.1 2 p) ≤ q.2 := by
            refine ⟨?_, ?_⟩
            · rw [h]; intro e
              have := congrArg Int32.toInt e
              rw [I_int (by omega)] at this
              have e2 : (-2 : Int32).toInt = -2 := rfl
              omega
            · rw [← hr]; exact nlt_I.1 c
          unfold gvS
          rw [← hq, if_neg (by rw [hf]; decide), if_pos hc]
      apply sX5_given_71
      refine ⟨fun c => absurd c (c_lt (n := 12) (by omega) hi), fun _ => ?_⟩
      rw [sh_bit0 (by omega)]
      refine ⟨fun c => ⟨fun c1 => ⟨fun c2 => ⟨vp_I hi (by omega), ?_⟩, fun c2 => ⟨vp, ?_⟩⟩, fun c1 => ?_⟩, fun c => ?_⟩
      · refine st t1 _ ht ?_ (by simpa using c)
        simp [rkF, c1, c2, ov_0, ov_1, ov_2, ov_3, ov_4, ov_5, ov_6, ov_7, ov_8, ov_9, ov_10, ov_11, ov_12, ov_13, ov_14, ov_15, ov_16, ov_17, ov_18, ov_19, ov_20, ov_21, ov_22, ov_23, ov_24, ov_25, ov_26, ov_27, ov_28, ov_29, ov_30, ov_31, ov_32, ov_33, ov_34, ov_35, ov_36, ov_37, ov_38, ov_39, ov_40, ov_41, ov_42, ov_43, ov_44, ov_45, ov_46, ov_e, ov_s]
      · rw [I_nat (by omega)]
        simp only [ov_0, ov_1, ov_2, ov_3, ov_4, ov_5, ov_6, ov_7, ov_8, ov_9, ov_10, ov_11, ov_12, ov_13, ov_14, ov_15, ov_16, ov_17, ov_18, ov_19, ov_20, ov_21, ov_22, ov_23, ov_24, ov_25, ov_26, ov_27, ov_28, ov_29, ov_30, ov_31, ov_32, ov_33, ov_34, ov_35, ov_36, ov_37, ov_38, ov_39, ov_40, ov_41, ov_42, ov_43, ov_44, ov_45, ov_46, ov_e, ov_s]
        rw [ey]
        apply M_latestHeld hS hM (hL.e (ht.mono (by decide))) hy (vp_I hi (by omega))
        intro t2 ht2
        refine ⟨_, rfl, ?_⟩
        rw [← ey]
        refine st t2 _ (ht.trans ht2) ?_ (by simpa using c)
        rw [ht.2 34 (by decide), c2]
        unfold rkF
        rw [if_neg (by decide), if_pos rfl, ey, I_nat (by omega)]
      · refine st t1 0 ht ?_ (by simpa using c)
        simp [rkF, c1]
      · rw [I_succ]
        refine ih t1 ht q ?_
        unfold gvS
        rw [← hq, if_pos c]
  have key : ∀ i, i ≤ 12 → ∀ t1, EqE [29, 30] t0 t1 → MR G mX5_given 9 23 [(0, .ref m), (1, .int (I p)), (2, .int way), (3, .int (aoF S (I p))), (4, .int (orB i (fun n => !(hyF S L (amB (aoF S (I p)) (t.1 34)) (I n) (S.1 2 p))))), (5, .int (I i))] [] m (ov S t1) Q := by
    refine up_ind ?_ (fun i hi ih => ?_)
    · intro t1 ht
      exact sX5_given_23 ⟨fun _ => rest 0 (by omega) t1 (h0.trans (ht.mono (by decide))) (-2, 0) rfl, fun c => absurd (c_end (n := 12) (by omega)) c⟩
    · intro t1 ht
      apply sX5_given_23
      refine ⟨fun c => absurd c (c_lt (n := 12) (by omega) hi), fun _ => ⟨vp, ?_⟩⟩
      rw [I_nat (by omega)]
      simp only [ov_0, ov_1, ov_2, ov_3, ov_4, ov_5, ov_6, ov_7, ov_8, ov_9, ov_10, ov_11, ov_12, ov_13, ov_14, ov_15, ov_16, ov_17, ov_18, ov_19, ov_20, ov_21, ov_22, ov_23, ov_24, ov_25, ov_26, ov_27, ov_28, ov_29, ov_30, ov_31, ov_32, ov_33, ov_34, ov_35, ov_36, ov_37, ov_38, ov_39, ov_40, ov_41, ov_42, ov_43, ov_44, ov_45, ov_46, ov_e, ov_s]
      apply M_isHeldK hS ((hL.e (ht0.mono (by decide))).e (ht.mono (by decide))) (vp_I hi (by omega)) (fun p hp => by rw [ht.2 32 (by decide)]; exact hK p hp)
      intro t2 ht2
      rw [I_succ, ht.2 34 (by decide), h34]
      refine ⟨_, rfl, fun c => ?_, fun c => ?_⟩
      · have := ih t2 (ht.trans ht2); rw [orB_f (by rw [c]; rfl)] at this; exact this
      · have := ih t2 (ht.trans ht2); rw [orB_t (by rw [c]; rfl)] at this; exact this
  exact key 0 (by omega) t0 EqE.refl
theorem M_runBy (hS : Ppl S) (hM : Mtg S) (hL : LawM S L t) {way : Int32} (hQ : ∀ t', EqE [29, 30, 32, 33, 34] t t' → (∀ p, p < np S → t'.1 34 p = rnF S L way (np S) p) → Q (.returned none) (ov S t')) : MR G mX5_runBy 10 0 [(0, .ref m), (1, .int way)] [] m (ov S t) Q := by
  have h12 := hS.n
  apply sX5_runBy_0
  have rest : ∀ k, k ≤ np S → ∀ t1, EqE [29, 30, 32, 33, 34] t t1 → (∀ p, p < np S → t1.1 34 p = rnF S L way k p) → MR G mX5_runBy 10 23 [(0, .ref m), (1, .int way), (2, .int (I k))] [] m (ov S t1) Q := by
    refine up_ind ?_ (fun k hk ih => ?_)
    · intro t1 ht hR
      exact sX5_runBy_23 ⟨fun _ => hQ t1 ht hR, fun c => absurd (pp_end hS) c⟩
    · intro t1 ht hR
      have ho := ord_lt hk
      apply sX5_runBy_23
      refine ⟨fun c => absurd c (pp_lt hS hk), fun _ => ?_⟩
      apply M_personAt hS ho
      · rw [pl_ord hS hk]
      · intro i hi e
        obtain ⟨j, hj, ej⟩ := ord_sur (S := S) (p := i) (by omega)
        rw [← ej, pl_ord hS hj] at e
        have := (I_inj (by omega) (by omega)).1 e
        subst this
        omega
      refine ⟨_, rfl, ?_⟩
      apply M_given hS hM (hL.e (ht.mono (by decide))) ho
      intro t2 ht2
      rw [gvF_congr (B' := rnF S L way k) hS.n (am_rn hS hk hR)]
      have h2 : EqE [29, 30, 32, 33, 34] t t2 := ht.trans (ht2.mono (by decide))
      have hR2 : ∀ p, p < np S → t2.1 34 p = rnF S L way k p := fun p hp => by rw [ht2.2 34 (by decide)]; exact hR p hp
      rw [I_succ, I_nat (by omega)]
      have vo : vp_in (I (ordF S k)) 12 := vp_I (by omega) (by omega)
      refine ⟨_, rfl, fun c => ⟨vo, ?_⟩, fun c => ⟨vo, ?_⟩⟩ <;> rw [uS_ov rfl] <;> refine ih _ (h2.tu (by decide)) (fun p hp => ?_)
      · rw [uS_if]
        have : ¬ gvF S L (rnF S L way k) (S.1 2 (ordF S k)) way = -2 := by
          intro e; rw [e] at c; exact absurd c (by decide)
        simp only [rnF, va_up]
        rw [if_neg this, hR2 p hp]
      · rw [uS_if]
        have : gvF S L (rnF S L way k) (S.1 2 (ordF S k)) way = -2 := by
          rcases gvF_rng (S := S) (L := L) (B := rnF S L way k) (y := S.1 2 (ordF S k)) (way := way) with h | ⟨i, hi, h⟩
          · exact h
          · exfalso; apply c; rw [h]; exact nlt_I.1 (I_nonneg (by omega))
        simp only [rnF, va_up]
        rw [if_pos this, hR2 p hp]
  have key : ∀ i, i ≤ 12 → ∀ t1, EqE [29, 30, 32, 33, 34] t t1 → (∀ p, p < i → t1.1 34 p = -1) → MR G mX5_runBy 10 2 [(0, .ref m), (1, .int way), (2, .int (I i))] [] m (ov S t1) Q := by
    refine up_ind ?_ (fun i hi ih => ?_)
    · intro t1 ht h
      exact sX5_runBy_2 ⟨fun _ => rest 0 (by omega) t1 ht (fun p hp => h p (by omega)), fun c => absurd (c_end (n := 12) (by omega)) c⟩
    · intro t1 ht h
      apply sX5_runBy_2
      rw [I_succ, I_nat (by omega), uS_ov rfl]
      refine ⟨fun c => absurd c (c_lt (n := 12) (by omega) hi), fun _ => ⟨vp_I hi (by omega), ih _ (ht.tu (by decide)) (fun p hp => ?_)⟩⟩
      rw [uS_if]
      split
      · rfl
      · exact h p (by omega)
  exact key 0 (by omega) t EqE.refl (fun p hp => by omega)
theorem neg1_iff {B : Int32} (h : B = -1 ∨ ∃ i, i < 12 ∧ B = I i) : B < 0 ↔ B = -1 := by
  rcases h with rfl | ⟨i, hi, rfl⟩
  · decide
  · constructor
    · intro c; exact absurd c (I_nonneg (by omega))
    · intro c; exact absurd c (ne_neg1 hi)
theorem unF_congr {B B' : Nat → Int32} {n : Nat} (h : ∀ p, p < n → B p = B' p) : unF B n = unF B' n := by
  induction n with
  | zero => rfl
  | succ n ih => unfold unF; rw [ih (fun p hp => h p (by omega)), h n (by omega)]
theorem M_unlikeNames (hS : Ppl S) {B : Nat → Int32} (hB : ∀ p, p < np S → t.1 34 p = B p) (hr : ∀ p, B p = -1 ∨ ∃ i, i < 12 ∧ B p = I i) (hQ : Q (.returned (some (.int (I (ones (unF B (np S))))))) (ov S t)) : MR G mX5_unlikeNames 2 0 [(0, .ref m)] [] m (ov S t) Q := by
  have h12 := hS.n
  apply sX5_unlikeNames_0
  have key : ∀ i, i ≤ np S → MR G mX5_unlikeNames 2 4 [(0, .ref m), (1, .int (unF B i)), (2, .int (I i))] [] m (ov S t) Q := by
    refine up_ind ?_ (fun i hi ih => ?_)
    · refine sX5_unlikeNames_4 ⟨fun _ => M_bitsOf ⟨_, rfl, hQ⟩, fun c => absurd (pp_end hS) c⟩
    · apply sX5_unlikeNames_4
      have vi : vp_in (I i) 12 := vp_I (by omega) (by omega)
      rw [I_succ, I_nat (by omega), ov_34, hB i hi, neg1_iff (hr i)]
      refine ⟨fun c => absurd c (pp_lt hS hi), fun _ => ⟨vi, fun c => ?_, fun c => ⟨vi, ?_⟩⟩⟩
      · simpa [unF, c] using ih
      · simpa [unF, c] using ih
  exact key 0 (by omega)
end

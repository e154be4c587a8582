/-! LAYER 3.24: the component's calls that ask -/
set_option maxRecDepth 100000
theorem ones_hf {S : MS} {L : Lw} {B : Nat → Int32} {y : Int32} : ones (heF S L B y) + ones (frF S L B y) = 12 := by
  unfold ones heF frF
  rw [cnt_congr (P' := fun i => decide (i < 12) && hyF S L B (I i) y) (fun i hi => tb_orB (by omega) hi), cnt_congr (P := tb (orB 12 fun n => !(hyF S L B (I n) y))) (P' := fun i => decide (i < 12) && !(hyF S L B (I i) y)) (fun i hi => tb_orB (by omega) hi), cnt_ext (by omega), cnt_ext (by omega)]
  exact cnt_not 12 _
/-- those who come ahead of the j-th bear their names, the others none -/
theorem am_inv {S : MS} (hS : Ppl S) {j : Nat} (hj : j < np S) {b : Nat → Int32} (hb : ∀ q, q < np S → ((∃ l, l < j ∧ ordF S l = q) → b q = S.1 4 q) ∧ ((∀ l, l < j → ¬ ordF S l = q) → b q = -1)) : ∀ q, q < np S → b q = amB (aoF S (I (ordF S j))) (S.1 4) q := by
  intro q hq
  rw [am_ao hS (ord_lt hj) hq]
  obtain ⟨l, hl, el⟩ := ord_sur hq
  split
  · rename_i hx
    refine (hb q hq).1 ⟨l, ?_, el⟩
    apply Nat.lt_of_not_le
    intro hle
    rw [lxb_iff, ← el] at hx
    by_cases e : j = l
    · subst e; exact lx_irr hx
    · exact lx_irr (lx_tr hx (ord_lx (by omega) hl))
  · rename_i hx
    refine (hb q hq).2 (fun l' hl' el' => hx ?_)
    rw [lxb_iff, ← el']
    exact ord_lx hl' hj
theorem am_step {S : MS} {i : Nat} {b : Nat → Int32} (hb : ∀ q, q < np S → ((∃ l, l < i ∧ ordF S l = q) → b q = S.1 4 q) ∧ ((∀ l, l < i → ¬ ordF S l = q) → b q = -1)) : ∀ q, q < np S → ((∃ l, l < i + 1 ∧ ordF S l = q) → va_up b (ordF S i) (S.1 4 (ordF S i)) q = S.1 4 q) ∧ ((∀ l, l < i + 1 → ¬ ordF S l = q) → va_up b (ordF S i) (S.1 4 (ordF S i)) q = -1) := by
  intro q hq
  refine ⟨?_, ?_⟩
  · rintro ⟨l, hl, el⟩
    unfold va_up
    split
    · rename_i eq; rw [eq]
    · rename_i eq
      refine (hb q hq).1 ⟨l, ?_, el⟩
      apply Nat.lt_of_le_of_ne (by omega)
      rintro rfl; exact eq el.symm
  · intro hl
    unfold va_up
    rw [if_neg (fun eq => hl i (by omega) eq.symm)]
    exact (hb q hq).2 (fun l hl' => hl l (by omega))
theorem usN_s {S : MS} {B : Nat → Int32} {w : Int32} {p : Nat} : usN S B w (p + 1) = if B p = -1 then (if w = 1 then usN S B w p else usN S B w p + 1) else (if w = 1 then usN S B w p + S.1 10 (B p).toNatClampNeg else usN S B w p) := rfl
theorem tb_orbi {v : Int32} {c : Bool} {i r : Nat} (hi : i < 32) (hr : r < 32) : tb (v ||| (bi c <<< (I i &&& 31))) r = (tb v r || (c && decide (i = r))) := by
  rw [tb_or]
  cases c
  · rw [show bi false = 0 from rfl, z_shl, tb_zero]; simp
  · rw [show bi true <<< (I i &&& 31) = bitI i from rfl, tb_bit hi hr]; simp
theorem sh_pow {n : Nat} (h : n ≤ 16) : (1 : Int32) <<< (I n &&& 31) = I (2 ^ n) := by
  have : ∀ n : Fin 17, (1 : Int32) <<< (I n.val &&& 31) = I (2 ^ n.val) := by decide +kernel
  exact this ⟨n, by omega⟩
section
variable {G : GG} {x : Nat} {h : AH} {S : MS} {L : Lw} {f k b : Nat → Int32} {Q : Outcome → AH → Prop}
theorem EW.inP (W : EW G x S L h) {p : Int32} (c : inF p 0 (S.1 1 0 - 1) = true) : ∃ q, q < np S ∧ p = I q := by
  have := W.ppl.n
  rw [W.ppl.e] at c
  exact inF_p (by omega) c
theorem B_knows (W : EW G x S L h) {p y : Int32} (hQ : ∀ f k b, Q (.returned (some (.int (a_knows S p y)))) (hs x h f k b)) : Run G mX0_knows 5 0 [(0, .ref x), (1, .int p), (2, .int y)] [] (hs x h f k b) Q := by
  have h12 := W.ppl.n
  have B := fun f k b => W.xb.hs (f := f) (k := k) (b := b)
  unfold a_knows at hQ
  apply sX0_knows_0 (B f k b)
  refine X_isPerson (B f k b) ?_
  rw [hs_I, W.h8]
  refine ⟨_, rfl, B f k b, fun c => by rw [if_pos c] at hQ; exact hQ f k b, fun c => ?_⟩
  rw [if_neg (by rw [c]; decide)] at hQ
  refine X_isYear (B f k b) ⟨_, rfl, B f k b, fun c2 => ?_, fun c2 => by rw [if_pos c2] at hQ; exact hQ f k b⟩
  rw [if_neg (by rw [c2]; decide)] at hQ
  refine X_knowUpTo W (fun k' hK => ?_)
  obtain ⟨q, hq, rfl⟩ := W.inP c
  rw [I_nat (by omega)] at hQ
  refine ⟨rfl, B f k' b, vp_I (by omega) (by omega), qix (hQ f k' b) ?_⟩
  rw [hs_12, I_nat (by omega), hK q hq]
theorem B_held (W : EW G x S L h) {n y w : Int32} (hQ : ∀ f k b, Q (.returned (some (.int (a_held S L n y w)))) (hs x h f k b)) : Run G mX0_held 306 0 [(0, .ref x), (1, .int n), (2, .int y), (3, .int w)] [] (hs x h f k b) Q := by
  have h12 := W.ppl.n
  have B := fun f k b => W.xb.hs (f := f) (k := k) (b := b)
  unfold a_held at hQ
  apply sX0_held_0 (B f k b)
  refine X_isName (B f k b) ⟨_, rfl, B f k b, fun c => by rw [if_pos c] at hQ; exact hQ f k b, fun c => ?_⟩
  rw [if_neg (by rw [c]; decide)] at hQ
  refine X_isYear (B f k b) ⟨_, rfl, B f k b, fun c2 => by rw [if_pos c2] at hQ; exact hQ f k b, fun c2 => ?_⟩
  rw [if_neg (by rw [c2]; decide)] at hQ
  refine X_wi (B f k b) (l := 0) (u := 2) rfl rfl ⟨_, rfl, B f k b, fun c3 => ?_, fun c3 => by rw [if_pos c3] at hQ; exact hQ f k b⟩
  rw [if_neg (by rw [c3]; decide)] at hQ
  have cy := c2
  obtain ⟨n, hn, rfl⟩ := inF_nat (n := 11) (by omega) c
  obtain ⟨y, hy, rfl⟩ := inF_nat (n := 99) (by omega) c2
  rw [I_nat (by omega)] at hQ
  refine X_asNamed W (fun b' hb => ⟨rfl, B f k b', fun c4 => ?_, fun c4 => ?_⟩)
  · rw [if_neg c4] at hQ
    refine X_knowUpTo W (fun k' hK => ⟨rfl, B f k' b', fun c5 => ?_, fun c5 => ?_⟩)
    · have c6 : w = 1 := by
        obtain ⟨q, hq, rfl⟩ := inF_nat (n := 2) (by omega) c3
        match q, hq with
        | 0, _ => exact absurd rfl c5
        | 1, _ => rfl
        | 2, _ => exact absurd rfl c4
      rw [if_pos c6] at hQ
      refine X_holders W (by omega) cy (fun f' => ?_)
      rw [hoF_congr h12 (K' := kuF S (I y) 0) (B' := S.1 4) hK (fun q hq => by rw [hb q hq])]
      exact ⟨_, rfl, B f' k' b', hQ f' k' b'⟩
    · have c6 : ¬ w = 1 := by rw [c5]; decide
      rw [if_neg c6] at hQ
      refine X_isHeldK W (by omega) cy hK (fun f' => ?_)
      rw [hyF_congr h12 (B' := S.1 4) (fun q hq => by rw [hb q hq])]
      exact ⟨_, rfl, B f' k' b', X_bit (B f' k' b') ⟨_, rfl, B f' k' b', hQ f' k' b'⟩⟩
  · rw [if_pos c4] at hQ
    have et : ∀ t, tlN S L b' (I n) t = tlN S L (S.1 4) (I n) t := by
      intro t
      induction t with
      | zero => rfl
      | succ t ih => rw [tlN_s, tlN_s, ih, hyF_congr h12 (B' := S.1 4) (fun q hq => by rw [hb q hq])]
    refine X_tillOf W (by omega) hy (fun f' k' => ?_)
    rw [et]
    exact ⟨_, rfl, B f' k' b', hQ f' k' b'⟩
theorem B_free (W : EW G x S L h) {y : Int32} (hQ : ∀ f k b, Q (.returned (some (.int (a_free S L y)))) (hs x h f k b)) : Run G mX0_free 306 0 [(0, .ref x), (1, .int y)] [] (hs x h f k b) Q := by
  have h12 := W.ppl.n
  have B := fun f k b => W.xb.hs (f := f) (k := k) (b := b)
  unfold a_free at hQ
  apply sX0_free_0 (B f k b)
  refine X_isYear (B f k b) ⟨_, rfl, B f k b, fun c => ?_, fun c => by rw [if_pos c] at hQ; exact hQ f k b⟩
  rw [if_neg (by rw [c]; decide)] at hQ
  refine X_asNamed W (fun b' hb => ⟨rfl, B f k b', ?_⟩)
  refine X_freeIn W c (fun f' k' => ?_)
  rw [frF_congr h12 (B' := S.1 4) hb]
  exact ⟨_, rfl, B f' k' b', hQ f' k' b'⟩
theorem B_most (W : EW G x S L h) {w : Int32} (hQ : ∀ f k b, Q (.returned (some (.int (a_most S L w)))) (hs x h f k b)) : Run G mX0_most 306 0 [(0, .ref x), (1, .int w)] [] (hs x h f k b) Q := by
  have h12 := W.ppl.n
  have B := fun f k b => W.xb.hs (f := f) (k := k) (b := b)
  unfold a_most at hQ
  apply sX0_most_0 (B f k b)
  refine X_wi (B f k b) (l := 0) (u := 1) rfl rfl ⟨_, rfl, B f k b, fun c => ?_, fun c => by rw [if_pos c] at hQ; exact hQ f k b⟩
  rw [if_neg (by rw [c]; decide)] at hQ
  refine X_asNamed W (fun b' hb => ⟨rfl, B f k b', fun _ => ?_⟩)
  have key : ∀ i, i ≤ 100 → ∀ f k (q : Int32 × Int32), (q = if i = 0 then (0, 0) else moN S L i) → Run G mX0_most 306 23 [(0, .ref x), (1, .int w), (2, .int q.1), (3, .int q.2), (4, .int (I i))] [] (hs x h f k b') Q := by
    refine up_ind ?_ (fun i hi ih => ?_)
    · intro f k q hq
      rw [if_neg (by decide)] at hq
      refine sX0_most_23 (B f k b') ⟨fun _ => ⟨fun c2 => ?_, fun c2 => ?_⟩, fun c => absurd (c_end (n := 100) (by omega)) c⟩
      · rw [if_neg c2] at hQ; rw [hq]; exact hQ f k b'
      · rw [if_pos c2] at hQ; rw [hq]; exact hQ f k b'
    · intro f k q hq
      apply sX0_most_23 (B f k b')
      refine ⟨fun c => absurd c (c_lt (n := 100) (by omega) hi), fun _ => ?_⟩
      refine X_freeIn W (yr_I (by omega)) (fun f2 k2 => ⟨_, rfl, B f2 k2 b', ?_⟩)
      rw [frF_congr h12 (B' := S.1 4) hb]
      refine X_ones (B f2 k2 b') ⟨_, rfl, B f2 k2 b', ?_⟩
      have ho := ones_hf (S := S) (L := L) (B := S.1 4) (y := I i)
      have es : (12 : Int32) - I (ones (frF S L (S.1 4) (I i))) = I (ones (heF S L (S.1 4) (I i))) := by
        have : ones (heF S L (S.1 4) (I i)) = 12 - ones (frF S L (S.1 4) (I i)) := by omega
        rw [this]; exact I_sub (a := 12) (by omega)
      have hs0 : moN S L (i + 1) = if (moN S L i).2 < I (ones (heF S L (S.1 4) (I i))) then (I i, I (ones (heF S L (S.1 4) (I i)))) else moN S L i := moN_s
      rw [es, I_succ]
      by_cases e0 : i = 0
      · subst e0
        rw [if_pos rfl] at hq
        subst hq
        have hlt : (moN S L 0).2 < I (ones (heF S L (S.1 4) (I 0))) := by
          rw [lt_I, I_int (by omega)]
          have : (moN S L 0).2.toInt = -1 := rfl
          omega
        rw [if_pos hlt] at hs0
        refine ⟨fun c2 _ => ih f2 k2 (I 0, I (ones (heF S L (S.1 4) (I 0)))) ?_, fun c2 _ => ih f2 k2 (0, 0) ?_⟩
        · rw [if_neg (by decide), hs0]
        · rw [if_neg (by decide), hs0]
          have : ones (heF S L (S.1 4) (I 0)) = 0 := by
            have c2 : ¬ (0 : Int32) < I (ones (heF S L (S.1 4) (I 0))) := c2
            rw [lt_I, I_int (by omega)] at c2
            have e : (0 : Int32).toInt = 0 := rfl
            omega
          rw [this]; rfl
      · rw [if_neg e0] at hq
        rw [← hq] at hs0
        refine ⟨fun c2 _ => ih f2 k2 (I i, I (ones (heF S L (S.1 4) (I i)))) ?_, fun c2 _ => ih f2 k2 q ?_⟩
        · rw [if_neg (by omega), hs0, if_pos c2]
        · rw [if_neg (by omega), hs0, if_neg c2]
  exact key 0 (by omega) f k (0, 0) rfl
theorem B_judge (W : EW G x S L h) (hQ : ∀ f k b, Q (.returned (some (.int (a_judge S L)))) (hs x h f k b)) : Run G mX0_judge 306 0 [(0, .ref x)] [] (hs x h f k b) Q := by
  have h12 := W.ppl.n
  have B := fun f k b => W.xb.hs (f := f) (k := k) (b := b)
  apply sX0_judge_0 (B f k b)
  refine X_nobodyBears W (fun b1 hb1 => ⟨rfl, B f k b1, fun _ => ?_⟩)
  have key : ∀ j, j ≤ np S → juN S L (np S) j = a_judge S L → ∀ f k b, (∀ q, q < np S → ((∃ l, l < np S - j ∧ ordF S l = q) → b q = S.1 4 q) ∧ ((∀ l, l < np S - j → ¬ ordF S l = q) → b q = -1)) → Run G mX0_judge 306 6 [(0, .ref x), (1, .int (I (np S - j)))] [] (hs x h f k b) Q := by
    intro j
    induction j with
    | zero =>
      intro _ e f k b _
      exact sX0_judge_6 (B f k b) ⟨fun _ => qix (hQ f k b) e.symm, fun c => absurd (xp_end W) c⟩
    | succ j ih =>
      intro hj e f k b hb
      generalize hi : np S - (j + 1) = i at hb ⊢
      have hin : i < np S := by omega
      have h1 := ord_lt hin
      obtain ⟨a, ea, k1, -, eb, -, -, en⟩ := W.per h1
      obtain ⟨y, hy, ey⟩ := born_I W.ppl h1
      have bd := (W.ppl.2.2 _ h1).2.2.2.2
      have vi : vp_in (I i) 12 := vp_I (by omega) (by omega)
      have vo : vp_in (I (ordF S i)) 12 := vp_I (by omega) (by omega)
      have nx : ∀ f k, juP S L i = false → Run G mX0_judge 306 6 [(0, .ref x), (1, .int (I (i + 1)))] [] (hs x h f k (va_up b (ordF S i) (S.1 4 (ordF S i)))) Q := by
        intro f k hf
        have := ih (by omega) (by rw [← e]; unfold juN; rw [hi, if_neg (by rw [hf]; decide)]; cases j <;> rfl) f k (va_up b (ordF S i) (S.1 4 (ordF S i))) (by
          have e1 : np S - j = i + 1 := by omega
          rw [e1]; exact am_step hb)
        rw [show np S - j = i + 1 by omega] at this
        exact this
      apply sX0_judge_6 (B f k b)
      simp only [hs_5, hs_R, hs_I, sA_13]
      rw [I_nat (show i ≤ 100000 by omega), W.cp.2.2.2 i hin, I_nat (show ordF S i ≤ 100000 by omega), I_succ]
      refine ⟨fun c => absurd c (xp_lt W hin), fun _ => ⟨vi, vo, a, ea, k1, ?_⟩⟩
      rw [en, eb]
      refine ⟨fun c => ⟨vi, vo, fun _ => nx f k (by unfold juP; rw [c]; rfl)⟩, fun c => ?_⟩
      obtain ⟨n, hn, enn⟩ : ∃ n, n ≤ 11 ∧ S.1 4 (ordF S i) = I n := by
        refine ⟨(S.1 4 (ordF S i)).toInt.toNat, by omega, ?_⟩
        apply Int32.toInt_inj.1
        have : ¬ (S.1 4 (ordF S i)).toInt = -1 := fun e => c (Int32.toInt_inj.1 e)
        rw [I_int (by omega)]; omega
      refine X_freeIn W (by rw [ey]; exact yr_I hy) (fun f2 k2 => ⟨_, rfl, B f2 k2 b, k1, ?_⟩)
      simp only [hs_I]
      rw [en, enn]
      refine X_isIn (B f2 k2 b) (by omega) ⟨_, rfl, B f2 k2 b, ?_⟩
      simp only [sA_13, hs_I, hs_5]
      rw [W.cp.2.2.2 i hin, I_nat (show ordF S i ≤ 100000 by omega), en]
      have efr : tb (frF S L b (S.1 2 (ordF S i))) n = !(hyF S L (amB (aoF S (I (ordF S i))) (S.1 4)) (I n) (S.1 2 (ordF S i))) := by
        unfold frF
        rw [tb_orB (by omega) (by omega), hyF_congr h12 (B' := amB (aoF S (I (ordF S i))) (S.1 4)) (fun q hq => by rw [am_inv W.ppl hin hb q hq])]
        have : n < 12 := by omega
        simp [this]
      have ejp : juP S L i = hyF S L (amB (aoF S (I (ordF S i))) (S.1 4)) (I n) (S.1 2 (ordF S i)) := by
        unfold juP
        rw [enn, decide_eq_true (nlt_I.1 (I_nonneg (by omega)))]; rfl
      rw [efr, ← ejp]
      refine ⟨fun c2 => ⟨vi, k1, vo, fun _ => nx f2 k2 (by simpa using c2)⟩, fun c2 => ⟨vi, qix (hQ f2 k2 b) ?_⟩⟩
      rw [← e]; unfold juN
      rw [hi, if_pos (by simpa using c2)]
  have := key (np S) (Nat.le_refl _) rfl f k b1 (fun q hq => ⟨fun ⟨l, hl, _⟩ => by omega, fun _ => hb1 q hq⟩)
  rw [Nat.sub_self] at this; exact this
theorem B_run (W : EW G x S L h) {way p : Int32} (hQ : ∀ f k b, Q (.returned (some (.int (a_run S L way p)))) (hs x h f k b)) : Run G mX0_run 309 0 [(0, .ref x), (1, .int way), (2, .int p)] [] (hs x h f k b) Q := by
  have h12 := W.ppl.n
  have B := fun f k b => W.xb.hs (f := f) (k := k) (b := b)
  unfold a_run at hQ
  apply sX0_run_0 (B f k b)
  refine X_isWay (B f k b) ⟨_, rfl, B f k b, fun c => by rw [if_pos c] at hQ; exact hQ f k b, fun c => ?_⟩
  rw [if_neg (by rw [c]; decide)] at hQ
  refine X_isPerson (B f k b) ?_
  rw [hs_I, W.h8]
  refine ⟨_, rfl, B f k b, fun c2 => ?_, fun c2 => by rw [if_pos c2] at hQ; exact hQ f k b⟩
  rw [if_neg (by rw [c2]; decide)] at hQ
  obtain ⟨q, hq, rfl⟩ := W.inP c2
  rw [I_nat (by omega)] at hQ
  have vq : vp_in (I q) 12 := vp_I (by omega) (by omega)
  refine X_nameAll W (fun f' k' b' hb => ⟨rfl, B f' k' b', vq, ?_⟩)
  rw [hs_13, I_nat (by omega), hb q hq]
  refine ⟨fun c3 => ⟨vq, by rw [if_neg c3] at hQ; exact hQ f' k' b'⟩, fun c3 => by rw [if_pos c3] at hQ; exact hQ f' k' b'⟩
theorem B_used (W : EW G x S L h) {way w : Int32} (hQ : ∀ f k b, Q (.returned (some (.int (a_used S L way w)))) (hs x h f k b)) : Run G mX0_used 309 0 [(0, .ref x), (1, .int way), (2, .int w)] [] (hs x h f k b) Q := by
  have h12 := W.ppl.n
  have B := fun f k b => W.xb.hs (f := f) (k := k) (b := b)
  unfold a_used at hQ
  apply sX0_used_0 (B f k b)
  refine X_isWay (B f k b) ⟨_, rfl, B f k b, fun c => by rw [if_pos c] at hQ; exact hQ f k b, fun c => ?_⟩
  rw [if_neg (by rw [c]; decide)] at hQ
  refine X_wi (B f k b) (l := 0) (u := 2) rfl rfl ⟨_, rfl, B f k b, fun c2 => ?_, fun c2 => by rw [if_pos c2] at hQ; exact hQ f k b⟩
  rw [if_neg (by rw [c2]; decide)] at hQ
  have rg := fun p => rnF_rng (S := S) (L := L) (way := way) (k := np S) (p := p)
  refine X_nameAll W (fun f' k' b' hb => ⟨rfl, B f' k' b', fun c3 _ => ?_, fun c3 => ?_⟩)
  · rw [if_neg c3] at hQ
    have key : ∀ i, i ≤ np S → Run G mX0_used 309 43 [(0, .ref x), (2, .int w), (3, .int (usN S (rnF S L way (np S)) 1 i)), (4, .int (usN S (rnF S L way (np S)) 2 i)), (5, .int (I i))] [] (hs x h f' k' b') Q := by
      refine up_ind ?_ (fun i hi ih => ?_)
      · refine sX0_used_43 (B f' k' b') ⟨fun _ => ⟨fun c4 => ?_, fun c4 => ?_⟩, fun c => absurd (xp_end W) c⟩
        · have : w = 2 := by
            obtain ⟨q, hq, rfl⟩ := inF_nat (n := 2) (by omega) c2
            match q, hq with
            | 0, _ => exact absurd rfl c3
            | 1, _ => exact absurd rfl c4
            | 2, _ => rfl
          rw [this] at hQ; exact hQ f' k' b'
        · rw [c4] at hQ; exact hQ f' k' b'
      · have vi : vp_in (I i) 12 := vp_I (by omega) (by omega)
        apply sX0_used_43 (B f' k' b')
        simp only [hs_13, hs_R, hs_I]
        rw [I_nat (by omega), hb i hi, I_succ]
        refine ⟨fun c => absurd c (xp_lt W hi), fun _ => ⟨vi, fun c4 => ?_, fun c4 _ => ?_⟩⟩
        · obtain ⟨z, hz, ez⟩ := (rg i).resolve_left c4
          obtain ⟨w1, w2, w3, w4⟩ := W.cw.2 z hz
          have u1 : usN S (rnF S L way (np S)) 1 (i + 1) = usN S (rnF S L way (np S)) 1 i + S.1 10 z := by
            rw [usN_s, if_neg c4, if_pos rfl, ez, I_nat (by omega)]
          have u2 : usN S (rnF S L way (np S)) 2 (i + 1) = usN S (rnF S L way (np S)) 2 i := by
            rw [usN_s, if_neg c4, if_neg (by decide)]
          rw [ez, I_nat (show z ≤ 100000 by omega)]
          refine ⟨vi, vp_I hz (by omega), x + 59 + z, w2, w3, fun _ => ?_⟩
          rw [u1, u2] at ih
          rw [w4]; exact ih
        · have u1 : usN S (rnF S L way (np S)) 1 (i + 1) = usN S (rnF S L way (np S)) 1 i := by
            rw [usN_s, if_pos c4, if_pos rfl]
          have u2 : usN S (rnF S L way (np S)) 2 (i + 1) = usN S (rnF S L way (np S)) 2 i + 1 := by
            rw [usN_s, if_pos c4, if_neg (by decide)]
          rw [u1, u2] at ih; exact ih
    exact key 0 (by omega)
  · rw [if_pos c3] at hQ
    exact X_namesUsed W hb ⟨_, rfl, B f' k' b', hQ f' k' b'⟩
theorem B_freed (W : EW G x S L h) {p y : Int32} (hQ : ∀ f k b, Q (.returned (some (.int (a_freed S L p y)))) (hs x h f k b)) : Run G mX0_freed 304 0 [(0, .ref x), (1, .int p), (2, .int y)] [] (hs x h f k b) Q := by
  have h12 := W.ppl.n
  have B := fun f k b => W.xb.hs (f := f) (k := k) (b := b)
  unfold a_freed at hQ
  apply sX0_freed_0 (B f k b)
  refine X_isPerson (B f k b) ?_
  rw [hs_I, W.h8]
  refine ⟨_, rfl, B f k b, fun c => by rw [if_pos c] at hQ; exact hQ f k b, fun c => ?_⟩
  rw [if_neg (by rw [c]; decide)] at hQ
  refine X_isYear (B f k b) ⟨_, rfl, B f k b, fun c2 => ?_, fun c2 => by rw [if_pos c2] at hQ; exact hQ f k b⟩
  rw [if_neg (by rw [c2]; decide)] at hQ
  refine X_asNamed W (fun b' hb => ⟨rfl, B f k b', ?_⟩)
  refine X_knowUpTo W (fun k' hK => ⟨rfl, B f k' b', fun _ => ?_⟩)
  have key : ∀ i, i ≤ 12 → ∀ f, Run G mX0_freed 304 32 [(0, .ref x), (1, .int p), (2, .int y), (3, .int (orB i (fdP S L p y))), (4, .int (I i))] [] (hs x h f k' b') Q := by
    refine up_ind ?_ (fun i hi ih => ?_)
    · intro f
      exact sX0_freed_32 (B f k' b') ⟨fun _ => hQ f k' b', fun c => absurd (c_end (n := 12) (by omega)) c⟩
    · intro f
      have nx : ∀ f v, v = fdP S L p y i → Run G mX0_bit 1 0 [(0, .int (bi v))] [] (hs x h f k' b') (fun o h3 => ∃ r4 : Int32, o = .returned (some (.int r4)) ∧ XB G x h3 ∧ (XB G x h3 → Run G mX0_freed 304 32 [(0, .ref x), (1, .int p), (2, .int y), (3, .int (orB i (fdP S L p y) ||| (r4 <<< (I i &&& 31)))), (4, .int (I i + 1))] [] h3 Q)) := by
        intro f v hv
        refine X_bit (B f k' b') ⟨_, rfl, B f k' b', fun _ => ?_⟩
        rw [hv, orB_bi, I_succ]; exact ih f
      apply sX0_freed_32 (B f k' b')
      refine ⟨fun c => absurd c (c_lt (n := 12) (by omega) hi), fun _ => ?_⟩
      refine X_isFamed W hi ?_
      rw [faF_congr (B' := S.1 4) (fun q hq => by rw [hb q hq])]
      refine ⟨_, rfl, B f k' b', fun c3 => nx f false (by simp [fdP, c3]), fun c3 => ?_⟩
      refine X_holders W hi c2 (fun f2 => ?_)
      rw [hoF_congr h12 (K' := kuF S y 0) (B' := S.1 4) hK (fun q hq => by rw [hb q hq])]
      exact ⟨_, rfl, B f2 k' b', fun c4 => nx f2 false (by simp [fdP, c4]), fun c4 => nx f2 true (by simp [fdP, c3, c4])⟩
  exact key 0 (by omega) f
theorem B_never (W : EW G x S L h) {p : Int32} (hQ : Q (.returned (some (.int (a_never S p)))) (hs x h f k b)) : Run G mX0_never 3 0 [(0, .ref x), (1, .int p)] [] (hs x h f k b) Q := by
  have h12 := W.ppl.n
  have B := W.xb.hs (f := f) (k := k) (b := b)
  unfold a_never at hQ
  apply sX0_never_0 B
  refine X_isPerson B ?_
  rw [hs_I, W.h8]
  refine ⟨_, rfl, B, fun c => ?_, fun c => by rw [if_pos c] at hQ; exact hQ⟩
  rw [if_neg (by rw [c]; decide)] at hQ
  obtain ⟨q, hq, rfl⟩ := W.inP c
  have vq : vp_in (I q) 12 := vp_I (by omega) (by omega)
  obtain ⟨a, ea, ka, -, -, -, -, en⟩ := W.per hq
  have bd := (W.ppl.2.2 q hq).2.2.2.2
  simp only [hs_R]
  rw [I_nat (by omega)]
  refine ⟨vq, a, ea, ka, ?_⟩
  rw [en]
  obtain ⟨j, hj, ej⟩ := ord_sur hq
  refine ⟨fun c1 => ?_, fun c1 => qix hQ ?_⟩
  · have nn : ¬ S.1 4 q < 0 := by
      rw [lt_I]
      have : ¬ (S.1 4 q).toInt = -1 := fun e => c1 (Int32.toInt_inj.1 e)
      have e0 : (0 : Int32).toInt = 0 := rfl
      omega
    refine X_placeOf W hq ⟨_, rfl, B, fun _ => ?_⟩
    have epl : plF S (I q) = j := by rw [← ej]; exact pl_ord W.ppl hj
    rw [epl, I_succ]
    have eg : ∀ l, l < np S → nvG S (I q) (ordF S l) = (decide (j < l) && decide (S.1 4 (ordF S l) = S.1 4 q)) := by
      intro l hl
      have hol := ord_lt hl
      unfold nvG
      rw [I_nat (by omega), ah_lx (by omega) (by omega)]
      have e1 : lxb (S.1 2) q (ordF S l) = decide (j < l) := by
        rw [Bool.eq_iff_iff, lxb_iff, ← ej, decide_eq_true_eq]
        constructor
        · intro hx
          apply Nat.lt_of_not_le
          intro hle
          by_cases e : l = j
          · subst e; exact lx_irr hx
          · exact lx_irr (lx_tr hx (ord_lx (by omega) hj))
        · intro h; exact ord_lx h hl
      rw [e1]
      by_cases hjl : j < l
      · have : ¬ I (ordF S l) = I q := by
          intro e
          have := (I_inj (by omega) (by omega)).1 e
          rw [← ej] at this
          have := ord_inj hl hj this
          omega
        simp [nn, this, hjl]
      · simp [hjl]
    have key : ∀ i, i ≤ np S → j < i → ∀ v : Int32, (∀ r, r < 32 → tb v r = (decide (r < np S) && anyB i (fun l => nvG S (I q) (ordF S l) && nvR S (I q) (ordF S l) r))) → Run G mX0_never 3 35 [(0, .ref x), (1, .int (I q)), (2, .int v), (3, .int (I i))] [] (hs x h f k b) Q := by
      refine up_ind ?_ (fun i hi ih => ?_)
      · intro _ v hv
        refine sX0_never_35 B ⟨fun _ => qix hQ ?_, fun c => absurd (xp_end W) c⟩
        apply tb_ext; intro r hr
        rw [tb_orB (by omega) hr, hv r hr]
        congr 1
        rw [Bool.eq_iff_iff]
        unfold nvB
        rw [anyB_iff, anyB_iff]
        constructor
        · rintro ⟨z, hz, e⟩
          obtain ⟨l, hl, el⟩ := ord_sur hz
          exact ⟨l, hl, by rw [el]; exact e⟩
        · rintro ⟨l, hl, e⟩
          exact ⟨ordF S l, ord_lt hl, e⟩
      · intro hji v hv
        have hoi := ord_lt hi
        obtain ⟨a2, ea2, ka2, -, eb2, -, -, en2⟩ := W.per hoi
        have vi : vp_in (I i) 12 := vp_I (by omega) (by omega)
        have vo : vp_in (I (ordF S i)) 12 := vp_I (by omega) (by omega)
        have egi := eg i hi
        rw [decide_eq_true hji, Bool.true_and] at egi
        apply sX0_never_35 B
        simp only [hs_5, hs_R, hs_I]
        rw [I_nat (show i ≤ 100000 by omega), W.cp.2.2.2 i hi, I_nat (show ordF S i ≤ 100000 by omega), I_nat (show q ≤ 100000 by omega)]
        refine ⟨fun c => absurd c (xp_lt W hi), fun _ => ⟨vi, vo, a2, ea2, ka2, vq, a, ea, ka, ?_⟩⟩
        rw [en2, en]
        refine ⟨fun c3 _ => ?_, fun c3 _ => ?_⟩
        · have hg : nvG S (I q) (ordF S i) = true := by rw [egi]; simp [c3]
          have inner : ∀ z, z ≤ np S → ∀ v' : Int32, (∀ r, r < 32 → tb v' r = ((decide (r < np S) && anyB i (fun l => nvG S (I q) (ordF S l) && nvR S (I q) (ordF S l) r)) || (decide (r < z) && nvR S (I q) (ordF S i) r))) → Run G mX0_never 3 79 [(0, .ref x), (1, .int (I q)), (2, .int v'), (3, .int (I i)), (4, .int (I (ordF S i))), (5, .int (I z))] [] (hs x h f k b) Q := by
            refine up_ind ?_ (fun z hz ihz => ?_)
            · intro v' hv'
              refine sX0_never_79 B ⟨fun _ _ => ?_, fun c => absurd (xp_end W) c⟩
              rw [I_succ]
              refine ih (by omega) v' (fun r hr => ?_)
              rw [hv' r hr, anyB_s, hg]
              cases decide (r < np S) <;> simp
            · intro v' hv'
              have vz : vp_in (I z) 12 := vp_I (by omega) (by omega)
              obtain ⟨a3, ea3, ka3, -⟩ := W.per hz
              have nx : ∀ c, c = nvR S (I q) (ordF S i) z → Run G mX0_bit 1 0 [(0, .int (bi c))] [] (hs x h f k b) (fun o h1 => ∃ r2 : Int32, o = .returned (some (.int r2)) ∧ XB G x h1 ∧ (XB G x h1 → Run G mX0_never 3 79 [(0, .ref x), (1, .int (I q)), (2, .int (v' ||| (r2 <<< (I z &&& 31)))), (3, .int (I i)), (4, .int (I (ordF S i))), (5, .int (I z + 1))] [] h1 Q)) := by
                intro c hc
                refine X_bit B ⟨_, rfl, B, fun _ => ?_⟩
                rw [I_succ]
                refine ihz _ (fun r hr => ?_)
                rw [tb_orbi (by omega) hr, hv' r hr, hc]
                by_cases e : z = r
                · subst e; simp
                · have : decide (r < z + 1) = decide (r < z) := by congr 1; simp; omega
                  rw [this]; simp [e]
              apply sX0_never_79 B
              simp only [hs_R, hs_I]
              rw [I_nat (show z ≤ 100000 by omega), I_nat (show ordF S i ≤ 100000 by omega)]
              refine ⟨fun c => absurd c (xp_lt W hz), fun _ => ⟨fun c5 => nx false (by simp [nvR, c5]), fun c5 => ⟨fun c6 => nx false (by simp [nvR, c6]), fun c6 => ⟨vz, a3, ea3, vo, a2, ea2, ka2, ka3, ?_⟩⟩⟩⟩
              rw [eb2]
              exact X_lives W hz ea3 ⟨_, rfl, B, fun c7 => nx false (by simp [nvR, c7]), fun c7 => nx true (by simp [nvR, c5, c6, c7])⟩
          exact inner 0 (by omega) v (fun r hr => by rw [hv r hr]; simp)
        · rw [I_succ]
          refine ih (by omega) v (fun r hr => ?_)
          rw [hv r hr, anyB_s, egi]
          simp [c3]
    refine key (j + 1) (by omega) (by omega) 0 (fun r hr => ?_)
    rw [tb_zero, anyB_f (fun l hl => by rw [eg l (by omega)]; have : ¬ j < l := by omega
                                        simp [this])]
    simp
  · have : S.1 4 q < 0 := by rw [c1]; decide
    symm
    rw [eq_comm]
    refine (orB_zero (by omega)).2 (fun r _ => anyB_f (fun z _ => ?_))
    unfold nvG
    rw [I_nat (by omega)]
    simp [this]
theorem B_apart (W : EW G x S L h) {n y : Int32} (hQ : ∀ f k b, Q (.returned (some (.int (a_apart S L n y)))) (hs x h f k b)) : Run G mX0_apart 306 0 [(0, .ref x), (1, .int n), (2, .int y)] [] (hs x h f k b) Q := by
  have h12 := W.ppl.n
  have h16 := W.mtg.n
  have hp16 := p16 h16
  have B := fun f k b => W.xb.hs (f := f) (k := k) (b := b)
  unfold a_apart at hQ
  apply sX0_apart_0 (B f k b)
  refine X_isName (B f k b) ⟨_, rfl, B f k b, fun c => by rw [if_pos c] at hQ; exact hQ f k b, fun c => ?_⟩
  rw [if_neg (by rw [c]; decide)] at hQ
  refine X_isYear (B f k b) ⟨_, rfl, B f k b, fun c2 => ?_, fun c2 => by rw [if_pos c2] at hQ; exact hQ f k b⟩
  rw [if_neg (by rw [c2]; decide)] at hQ
  obtain ⟨n, hn, rfl⟩ := inF_nat (n := 11) (by omega) c
  refine X_asNamed W (fun b' hb => ⟨rfl, B f k b', fun _ => ?_⟩)
  have ph3 : ∀ i, i ≤ 2 ^ nm S → ∀ f k, frW S L (I n) y (allF S y) = true → Run G mX0_apart 306 115 [(0, .ref x), (1, .int (I n)), (2, .int y), (3, .int (allF S y)), (4, .int (apN S L (I n) y (allF S y) i)), (5, .int (I i))] [] (hs x h f k b') Q := by
    have e11 : ∀ f k, (1 : Int32) <<< (aI (hs x h f k b') 11 x &&& 31) = I (2 ^ nm S) := by
      intro f k; rw [hs_I, W.cm.1, W.mtg.e]; exact sh_pow h16
    refine up_ind ?_ (fun i hi ih => ?_)
    · intro f k hf
      rw [if_neg (by rw [hf]; decide)] at hQ
      apply sX0_apart_115 (B f k b')
      rw [e11]
      refine ⟨fun _ => hQ f k b', fun c => absurd ?_ c⟩
      rw [I_le (by omega) (by omega)]; exact Nat.le_refl _
    · intro f k hf
      have nx : ∀ f k v, v = apN S L (I n) y (allF S y) (i + 1) → Run G mX0_apart 306 115 [(0, .ref x), (1, .int (I n)), (2, .int y), (3, .int (allF S y)), (4, .int v), (5, .int (I i + 1))] [] (hs x h f k b') Q := by
        intro f k v hv
        rw [I_succ, hv]; exact ih f k hf
      have ho1 := ones_le (I i)
      have ho2 := ones_le (apN S L (I n) y (allF S y) i)
      apply sX0_apart_115 (B f k b')
      rw [e11]
      refine ⟨fun c => absurd c (by rw [I_le (by omega) (by omega)]; omega), fun _ => ⟨fun c5 _ => nx f k _ ?_, fun c5 => ?_⟩⟩
      · have : sbs (I i) (allF S y) = false := decide_eq_false c5
        conv => rhs; unfold apN
        rw [this]; simp
      · have hsb : sbs (I i) (allF S y) = true := decide_eq_true c5
        refine X_ones (B f k b') ⟨_, rfl, B f k b', X_ones (B f k b') ⟨_, rfl, B f k b', ?_⟩⟩
        rw [I_le (by omega) (by omega)]
        refine ⟨fun c6 _ => nx f k _ ?_, fun c6 => ?_⟩
        · have : ¬ ones (I i) < ones (apN S L (I n) y (allF S y) i) := by omega
          conv => rhs; unfold apN
          rw [hsb, decide_eq_false this]; simp
        · have h6 : ones (I i) < ones (apN S L (I n) y (allF S y) i) := by omega
          refine X_isFreeWithout W (by omega) c2 hb (fun f2 k2 => ⟨_, rfl, B f2 k2 b', fun c7 _ => nx f2 k2 _ ?_, fun c7 _ => nx f2 k2 _ ?_⟩)
          · conv => rhs; unfold apN
            rw [hsb, c7]; simp
          · conv => rhs; unfold apN
            rw [hsb, c7, decide_eq_true h6]; simp
  have ph2 : ∀ i, i ≤ nm S → ∀ v : Int32, (∀ r, r < 32 → tb v r = (decide (r < nm S) && (ctF S (I r) && !(decide (r < i) && decide (y < S.1 8 r))))) → Run G mX0_apart 306 58 [(0, .ref x), (1, .int (I n)), (2, .int y), (3, .int v), (4, .int (I i))] [] (hs x h f k b') Q := by
    refine up_ind ?_ (fun i hi ih => ?_)
    · intro v hv
      have ev : v = allF S y := by
        apply tb_ext; intro r hr
        unfold allF
        rw [tb_orB (by omega) hr, hv r hr]
        by_cases e : r < nm S <;> simp [e]
      subst ev
      refine sX0_apart_58 (B f k b') ⟨fun _ => ?_, fun c => absurd (xm_end W) c⟩
      refine X_isFreeWithout W (by omega) c2 hb (fun f2 k2 => ⟨_, rfl, B f2 k2 b', fun c3 _ => ?_, fun c3 => ?_⟩)
      · exact ph3 0 (Nat.zero_le _) f2 k2 c3
      · rw [if_pos c3] at hQ; exact hQ f2 k2 b'
    · intro v hv
      obtain ⟨a, e, _, ka, e6, e7, e8⟩ := W.cm.2.1 i hi
      apply sX0_apart_58 (B f k b')
      simp only [hs_R, hs_I]
      rw [I_nat (by omega), I_succ]
      refine ⟨fun c => absurd c (xm_lt W hi), fun _ => ⟨vp_I (by omega) (by omega), a, e, ka, ?_⟩⟩
      rw [e8]
      refine ⟨fun c3 _ => ih v (fun r hr => ?_), fun c3 _ => ih _ (fun r hr => ?_)⟩
      · rw [hv r hr]
        by_cases e : r = i
        · subst e
          have : ¬ y < S.1 8 r := nlt_I.2 c3
          simp [this]
        · have : decide (r < i + 1) = decide (r < i) := by congr 1; simp; omega
          rw [this]
      · rw [tb_and, tb_xor1 hr, show (1 : Int32) <<< (I i &&& 31) = bitI i from rfl, tb_bit (by omega) hr, hv r hr]
        by_cases e : r = i
        · subst e
          have : y < S.1 8 r := nle_I.1 c3
          simp [this]
        · have h1 : decide (r < i + 1) = decide (r < i) := by congr 1; simp; omega
          have h2 : ¬ i = r := fun x => e x.symm
          rw [h1]; simp [h2]
  have ph1 : ∀ i, i ≤ nm S → Run G mX0_apart 306 25 [(0, .ref x), (1, .int (I n)), (2, .int y), (3, .int (orB i (fun r => ctF S (I r)))), (4, .int (I i))] [] (hs x h f k b') Q := by
    refine up_ind ?_ (fun i hi ih => ?_)
    · refine sX0_apart_25 (B f k b') ⟨fun _ _ => ph2 0 (by omega) _ (fun r hr => ?_), fun c => absurd (xm_end W) c⟩
      rw [tb_orB (by omega) hr]; simp
    · apply sX0_apart_25 (B f k b')
      refine ⟨fun c => absurd c (xm_lt W hi), fun _ => ?_⟩
      refine X_doesCount W hi ⟨_, rfl, B f k b', X_bit (B f k b') ⟨_, rfl, B f k b', fun _ => ?_⟩⟩
      rw [orB_bi (P := fun r => ctF S (I r)), I_succ]; exact ih
  exact ph1 0 (by omega)
end

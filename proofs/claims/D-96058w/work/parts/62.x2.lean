/-! LAYER 3.22: the component: who knows whom, who holds a name, which are free -/
set_option maxRecDepth 100000
theorem by_get {S : MS} {k : Nat} (hk : k < nm S) : byF S k = (srt (S.1 8) (nm S))[k]'(by rw [srt_len]; exact hk) := by
  unfold byF
  rw [List.getD_eq_getElem?_getD, List.getElem?_eq_getElem (by rw [srt_len]; exact hk)]; rfl
theorem by_lt {S : MS} {k : Nat} (hk : k < nm S) : byF S k < nm S := by
  rw [by_get hk]; exact srt_mem.1 (List.getElem_mem _)
theorem drop_by {S : MS} {i : Nat} (hi : i < nm S) : (srt (S.1 8) (nm S)).drop i = byF S i :: (srt (S.1 8) (nm S)).drop (i + 1) := by
  rw [by_get hi, List.drop_eq_getElem_cons (by rw [srt_len]; exact hi)]
theorem elg_tb {S : MS} {y wo : Int32} {k : Nat} (hk : k < 32) : elg S y wo k = if y < S.1 8 k then false else if tb wo k = true then false else ctF S (I k) := by
  unfold elg
  by_cases c : tb wo k = true
  · have := (sh_bit (x := wo) hk).2 c
    simp [c, this]
  · have : ¬ ((wo >>> (I k &&& 31)) &&& 1 = 1) := fun e => c ((sh_bit hk).1 e)
    simp [c, this]
/-- behind one of a later year all are of a later year -/
theorem drop_none {S : MS} {y wo : Int32} {i : Nat} (hi : i < nm S) (h : y < S.1 8 (byF S i)) : ((srt (S.1 8) (nm S)).drop i).filter (elg S y wo) = [] := by
  rw [List.filter_eq_nil_iff]
  have hp : ((srt (S.1 8) (nm S)).drop i).Pairwise (lx (S.1 8)) := (srt_pw (f := S.1 8) (nm S)).drop
  rw [drop_by hi] at hp ⊢
  have hp' := List.pairwise_cons.1 hp
  intro a ha
  have : y < S.1 8 a := by
    rcases List.mem_cons.1 ha with rfl | ha
    · exact h
    · rcases hp'.1 a ha with l | ⟨l, _⟩
      · exact lt_tr h l
      · rw [← l]; exact h
  simp [elg, this]
section
variable {G : GG} {x : Nat} {h : AH} {S : MS} {L : Lw} {f k b : Nat → Int32} {Q : Outcome → AH → Prop}
theorem xp_end (W : EW G x S L h) : aI h 8 x ≤ I (np S) := by rw [W.h8]; exact pp_end W.ppl
theorem xp_lt (W : EW G x S L h) {i : Nat} (hi : i < np S) : ¬ aI h 8 x ≤ I i := by rw [W.h8]; exact pp_lt W.ppl hi
theorem xm_end (W : EW G x S L h) : aI h 11 x ≤ I (nm S) := by rw [W.cm.1]; exact mt_end W.mtg
theorem xm_lt (W : EW G x S L h) {i : Nat} (hi : i < nm S) : ¬ aI h 11 x ≤ I i := by rw [W.cm.1]; exact mt_lt W.mtg hi
theorem X_knowUpTo (W : EW G x S L h) {y wo : Int32} (hQ : ∀ k', (∀ p, p < np S → k' p = kuF S y wo p) → Q (.returned none) (hs x h f k' b)) : Run G mX0_knowUpTo 4 0 [(0, .ref x), (1, .int y), (2, .int wo)] [] (hs x h f k b) Q := by
  have h12 := W.ppl.n
  have h16 := W.mtg.n
  have B := fun k' => W.xb.hs (f := f) (k := k') (b := b)
  have ph2 : ∀ i, i ≤ nm S → ∀ k1 : Nat → Int32, (∀ p, p < np S → (((srt (S.1 8) (nm S)).drop i).filter (elg S y wo)).foldl (knS S) k1 p = kuF S y wo p) → Run G mX0_knowUpTo 4 27 [(0, .ref x), (1, .int y), (2, .int wo), (3, .int (I i))] [] (hs x h f k1 b) Q := by
    refine up_ind ?_ (fun i hi ih => ?_)
    · intro k1 hk
      refine sX0_knowUpTo_27 (B k1) ⟨fun _ => hQ k1 (fun p hp => ?_), fun c => absurd (xm_end W) c⟩
      rw [← hk p hp, List.drop_of_length_le (by rw [srt_len]; exact Nat.le_refl _)]; rfl
    · intro k1 hk
      have hb := by_lt hi
      obtain ⟨a, e, _, ka, e6, e7, e8⟩ := W.cm.2.1 (byF S i) hb
      obtain ⟨u, v, eu, ev, lu, lv, huv⟩ := W.mtg.2.2 (byF S i) hb
      have eby := W.cm.2.2 i hi
      have skip : elg S y wo (byF S i) = false → Run G mX0_knowUpTo 4 27 [(0, .ref x), (1, .int y), (2, .int wo), (3, .int (I i + 1))] [] (hs x h f k1 b) Q := by
        intro hf
        rw [I_succ]
        refine ih k1 (fun p hp => ?_)
        rw [← hk p hp, drop_by hi, List.filter_cons_of_neg (by rw [hf]; decide)]
      apply sX0_knowUpTo_27 (B k1)
      simp only [hs_I, hs_R, hs_7, hs_12]
      rw [I_nat (show i ≤ 100000 by omega), eby, I_nat (show byF S i ≤ 100000 by omega)]
      refine ⟨fun c => absurd c (xm_lt W hi), fun _ => ⟨vp_I (by omega) (by omega), vp_I (by omega) (by omega), a, e, ka, ?_⟩⟩
      rw [e8]
      refine ⟨fun c => ?_, fun c => hQ k1 (fun p hp => ?_)⟩
      · refine X_isIn (B k1) (by omega) ⟨_, rfl, B k1, fun c1 _ => skip ?_, fun c1 => ?_⟩
        · rw [elg_tb (by omega)]; simp [c1]
        · refine X_doesCount W hb ⟨_, rfl, B k1, fun c2 => ?_, fun c2 _ => skip ?_⟩
          · have he : elg S y wo (byF S i) = true := by
              rw [elg_tb (by omega), if_neg (nlt_I.2 c), if_neg (by rw [c1]; decide)]; exact c2
            have vu : vp_in (I u) 12 := vp_I (by omega) (by omega)
            have vv : vp_in (I v) 12 := vp_I (by omega) (by omega)
            have st : ∀ k2 : Nat → Int32, (∀ p, p < np S → k2 p = knS S k1 (byF S i) p) → Run G mX0_knowUpTo 4 27 [(0, .ref x), (1, .int y), (2, .int wo), (3, .int (I i + 1))] [] (hs x h f k2 b) Q := by
              intro k2 hk2
              rw [I_succ]
              refine ih k2 (fun p hp => ?_)
              rw [← hk p hp, drop_by hi, List.filter_cons_of_pos he]
              exact fold_congr W.mtg h12 (fun q hq => srt_mem.1 (List.mem_of_mem_drop (List.mem_filter.1 hq).1)) hk2 p hp
            simp only [hs_I, hs_12]
            rw [e6, e7, eu, ev, I_nat (show u ≤ 100000 by omega), I_nat (show v ≤ 100000 by omega)]
            refine ⟨ka, vu, vv, fun c3 _ => ?_, fun c3 _ => ?_⟩
            · apply sX0_knowUpTo_134 (B k1)
              simp only [sA_12, hs_I, hs_12]
              rw [e6, e7, eu, ev, I_nat (show u ≤ 100000 by omega), I_nat (show v ≤ 100000 by omega)]
              refine ⟨ka, vu, fun _ => ⟨vv, fun _ => st _ (fun p hp => ?_)⟩, fun c4 => absurd c4 c3⟩
              unfold knS va_up
              have c5 : ¬ S.1 9 0 = 1 := by rw [← W.cw.1]; exact c3
              rw [eu, ev, I_nat (show u ≤ 100000 by omega), I_nat (show v ≤ 100000 by omega), if_neg c5, if_neg c5]
            · apply sX0_knowUpTo_134 (B k1)
              simp only [sA_12, hs_I, hs_12]
              rw [e6, e7, eu, ev, I_nat (show u ≤ 100000 by omega), I_nat (show v ≤ 100000 by omega)]
              refine ⟨ka, vu, fun c4 => absurd c3 c4, fun _ => ⟨vv, fun _ => st _ (fun p hp => ?_)⟩⟩
              unfold knS va_up
              have c5 : S.1 9 0 = 1 := by rw [← W.cw.1]; exact c3
              rw [eu, ev, I_nat (show u ≤ 100000 by omega), I_nat (show v ≤ 100000 by omega), if_pos c5, if_pos c5]
          · rw [elg_tb (by omega), if_neg (nlt_I.2 c), if_neg (by rw [c1]; decide)]; exact c2
      · rw [← hk p hp, drop_none hi (nle_I.1 c)]; rfl
  have ph1 : ∀ i, i ≤ np S → ∀ k1 : Nat → Int32, (∀ p, p < i → k1 p = bitI p) → Run G mX0_knowUpTo 4 2 [(0, .ref x), (1, .int y), (2, .int wo), (3, .int (I i))] [] (hs x h f k1 b) Q := by
    refine up_ind ?_ (fun i hi ih => ?_)
    · intro k1 hk
      refine sX0_knowUpTo_2 (B k1) ⟨fun _ _ => ph2 0 (by omega) k1 (fun p hp => ?_), fun c => absurd (xp_end W) c⟩
      rw [List.drop_zero]
      exact fold_congr W.mtg h12 (fun q hq => srt_mem.1 (List.mem_filter.1 hq).1) hk p hp
    · intro k1 hk
      apply sX0_knowUpTo_2 (B k1)
      rw [I_succ, I_nat (by omega), sA_12]
      refine ⟨fun c => absurd c (xp_lt W hi), fun _ => ⟨vp_I (by omega) (by omega), fun _ => ih _ (fun p hp => ?_)⟩⟩
      unfold va_up
      split
      · rename_i e; subst e; rfl
      · exact hk p (by omega)
  exact sX0_knowUpTo_0 (B k) (fun _ => ph1 0 (by omega) k (fun p hp => by omega))
theorem X_doesHold (W : EW G x S L h) {p n : Nat} {y : Int32} (hp : p < np S) (hn : n < 12) (hy : inF y 0 99 = true) (hQ : ∀ f', Q (.returned (some (.int (bi (dhF S L k b (I p) (I n) y))))) (hs x h f' k b)) : Run G mX0_doesHold 302 0 [(0, .ref x), (1, .int (I p)), (2, .int (I n)), (3, .int y)] [] (hs x h f k b) Q := by
  have h12 := W.ppl.n
  obtain ⟨a, e, k1, -⟩ := W.per hp
  have B := fun f' => W.xb.hs (f := f') (k := k) (b := b)
  have vp : vp_in (I p) 12 := vp_I (by omega) (by omega)
  apply sX0_doesHold_0 (B f)
  rw [I_nat (by omega)]
  refine ⟨vp, a, e, k1, ?_⟩
  refine X_lives W hp e ⟨_, rfl, B f, fun c _ => ?_, fun c => qbx (hQ f) (by unfold dhF; rw [c]; rfl)⟩
  have key : ∀ i, i ≤ np S → (∀ j, j < i → (decide (b j = I n) && !(decide (y < S.1 2 j)) && tb (k (I p).toNatClampNeg) j && hfF S L (I p) (I j) (I n) y) = false) → ∀ f', Run G mX0_doesHold 302 18 [(0, .ref x), (1, .int (I p)), (2, .int (I n)), (3, .int y), (4, .int (I i))] [] (hs x h f' k b) Q := by
    refine up_ind ?_ (fun i hi ih => ?_)
    · intro hf f'
      refine sX0_doesHold_18 (B f') ⟨fun _ => qbx (hQ f') ?_, fun c => absurd (xp_end W) c⟩
      unfold dhF; rw [anyB_f hf]; simp
    · intro hf f'
      have st : ∀ f2, (decide (b i = I n) && !(decide (y < S.1 2 i)) && tb (k (I p).toNatClampNeg) i && hfF S L (I p) (I i) (I n) y) = false → Run G mX0_doesHold 302 18 [(0, .ref x), (1, .int (I p)), (2, .int (I n)), (3, .int y), (4, .int (I i + 1))] [] (hs x h f2 k b) Q := by
        intro f2 e
        rw [I_succ]
        refine ih (fun j hj => ?_) f2
        by_cases e2 : j = i
        · subst e2; exact e
        · exact hf j (by omega)
      obtain ⟨a2, e2, k2, -, eb, -⟩ := W.per hi
      have vi : vp_in (I i) 12 := vp_I (by omega) (by omega)
      apply sX0_doesHold_18 (B f')
      simp only [hs_I, hs_R, hs_12, hs_13]
      rw [I_nat (show i ≤ 100000 by omega)]
      refine ⟨fun c => absurd c (xp_lt W hi), fun _ => ⟨vi, fun c1 _ => st f' (by simp [c1]), fun c1 => ⟨vi, a2, e2, k2, ?_⟩⟩⟩
      rw [eb]
      refine ⟨fun c2 _ => st f' (by simp [c2]), fun c2 => ⟨vp, ?_⟩⟩
      refine X_isIn (B f') (by omega) ⟨_, rfl, B f', fun c3 _ => st f' (by rw [c3]; simp), fun c3 => ?_⟩
      refine X_holdsFor W hp hi hn hy (fun f2 => ⟨_, rfl, B f2, fun c4 _ => st f2 (by rw [c4]; simp), fun c4 => qbx (hQ f2) ?_⟩)
      unfold dhF
      rw [c, anyB_t hi (by rw [c3, c4]; simp [c1, c2])]; rfl
  exact key 0 (by omega) (fun j hj => by omega) f
theorem X_holders (W : EW G x S L h) {n : Nat} {y : Int32} (hn : n < 12) (hy : inF y 0 99 = true) (hQ : ∀ f', Q (.returned (some (.int (hoF S L k b (I n) y)))) (hs x h f' k b)) : Run G mX0_holders 303 0 [(0, .ref x), (1, .int (I n)), (2, .int y)] [] (hs x h f k b) Q := by
  have h12 := W.ppl.n
  have B := fun f' => W.xb.hs (f := f') (k := k) (b := b)
  apply sX0_holders_0 (B f)
  intro _
  have key : ∀ i, i ≤ np S → ∀ f', Run G mX0_holders 303 5 [(0, .ref x), (1, .int (I n)), (2, .int y), (3, .int (orB i (fun p => dhF S L k b (I p) (I n) y))), (4, .int (I i))] [] (hs x h f' k b) Q := by
    refine up_ind ?_ (fun i hi ih => ?_)
    · intro f'
      exact sX0_holders_5 (B f') ⟨fun _ => hQ f', fun c => absurd (xp_end W) c⟩
    · intro f'
      apply sX0_holders_5 (B f')
      refine ⟨fun c => absurd c (xp_lt W hi), fun _ => ?_⟩
      refine X_doesHold W hi hn hy (fun f2 => ⟨_, rfl, B f2, ?_⟩)
      refine X_bit (B f2) ⟨_, rfl, B f2, fun _ => ?_⟩
      rw [I_succ, orB_bi (P := fun p => dhF S L k b (I p) (I n) y)]
      exact ih f2
  exact key 0 (by omega) f
theorem X_isFamed (W : EW G x S L h) {n : Nat} {y : Int32} (hn : n < 12) (hQ : Q (.returned (some (.int (bi (faF S b (I n) y))))) (hs x h f k b)) : Run G mX0_isFamed 1 0 [(0, .ref x), (1, .int (I n)), (2, .int y)] [] (hs x h f k b) Q := by
  have h12 := W.ppl.n
  have B := W.xb.hs (f := f) (k := k) (b := b)
  have w1 := (W.cw.2 n hn).1
  apply sX0_isFamed_0 B
  simp only [hs_9]
  rw [I_nat (by omega), w1]
  refine ⟨vp_I hn (by omega), fun c _ => ?_, fun c => qbx hQ (by unfold faF; rw [I_nat (by omega), c]; simp)⟩
  have c : S.1 11 n = 1 := (W.fam n hn).resolve_left c
  have key : ∀ i, i ≤ np S → (∀ j, j < i → (decide (b j = I n) && !(decide (y < S.1 2 j))) = false) → Run G mX0_isFamed 1 13 [(0, .ref x), (1, .int (I n)), (2, .int y), (3, .int (I i))] [] (hs x h f k b) Q := by
    refine up_ind ?_ (fun i hi ih => ?_)
    · intro hf
      refine sX0_isFamed_13 B ⟨fun _ => qbx hQ ?_, fun c => absurd (xp_end W) c⟩
      unfold faF; rw [anyB_f hf]; simp
    · intro hf
      have st : (decide (b i = I n) && !(decide (y < S.1 2 i))) = false → Run G mX0_isFamed 1 13 [(0, .ref x), (1, .int (I n)), (2, .int y), (3, .int (I i + 1))] [] (hs x h f k b) Q := by
        intro e
        rw [I_succ]
        refine ih (fun j hj => ?_)
        by_cases e2 : j = i
        · subst e2; exact e
        · exact hf j (by omega)
      obtain ⟨a2, e2, k2, -, eb, -⟩ := W.per hi
      have vi : vp_in (I i) 12 := vp_I (by omega) (by omega)
      apply sX0_isFamed_13 B
      simp only [hs_I, hs_R, hs_13]
      rw [I_nat (show i ≤ 100000 by omega)]
      refine ⟨fun c => absurd c (xp_lt W hi), fun _ => ⟨vi, fun c1 _ => st (by simp [c1]), fun c1 => ⟨vi, a2, e2, k2, ?_⟩⟩⟩
      rw [eb]
      refine ⟨fun c2 _ => st (by simp [c2]), fun c2 => qbx hQ ?_⟩
      unfold faF
      rw [anyB_t hi (by simp [c1, c2]), I_nat (by omega), c]; rfl
  exact key 0 (by omega) (fun j hj => by omega)
theorem X_isHeld (W : EW G x S L h) {n : Nat} {y : Int32} (hn : n < 12) (hy : inF y 0 99 = true) (hQ : ∀ f', Q (.returned (some (.int (bi (ihF S L k b (I n) y))))) (hs x h f' k b)) : Run G mX0_isHeld 304 0 [(0, .ref x), (1, .int (I n)), (2, .int y)] [] (hs x h f k b) Q := by
  have B := fun f' => W.xb.hs (f := f') (k := k) (b := b)
  apply sX0_isHeld_0 (B f)
  refine X_isFamed W hn ⟨_, rfl, B f, fun c => qbx (hQ f) (by unfold ihF; rw [c]; rfl), fun c => ?_⟩
  refine X_holders W hn hy (fun f' => ⟨_, rfl, B f', fun c2 => qbx (hQ f') ?_, fun c2 => qbx (hQ f') ?_⟩) <;> (unfold ihF; rw [c]; simp [c2])
theorem X_isHeldK (W : EW G x S L h) {n : Nat} {y : Int32} (hn : n < 12) (hy : inF y 0 99 = true) (hK : ∀ p, p < np S → k p = kuF S y 0 p) (hQ : ∀ f', Q (.returned (some (.int (bi (hyF S L b (I n) y))))) (hs x h f' k b)) : Run G mX0_isHeld 304 0 [(0, .ref x), (1, .int (I n)), (2, .int y)] [] (hs x h f k b) Q :=
  X_isHeld W hn hy (fun f' => qbx (hQ f') (ihF_congr W.ppl.n (fun p hp => (hK p hp).symm) (fun _ _ => Iff.rfl)))
theorem X_freeIn (W : EW G x S L h) {y : Int32} (hy : inF y 0 99 = true) (hQ : ∀ f' k', Q (.returned (some (.int (frF S L b y)))) (hs x h f' k' b)) : Run G mX0_freeIn 305 0 [(0, .ref x), (1, .int y)] [] (hs x h f k b) Q := by
  have B := fun f' k' => W.xb.hs (f := f') (k := k') (b := b)
  apply sX0_freeIn_0 (B f k)
  refine X_knowUpTo W (fun k' hK => ⟨rfl, B f k', fun _ => ?_⟩)
  have key : ∀ i, i ≤ 12 → ∀ f', Run G mX0_freeIn 305 10 [(0, .ref x), (1, .int y), (2, .int (orB i (fun n => !(hyF S L b (I n) y)))), (3, .int (I i))] [] (hs x h f' k' b) Q := by
    refine up_ind ?_ (fun i hi ih => ?_)
    · intro f'
      exact sX0_freeIn_10 (B f' k') ⟨fun _ => hQ f' k', fun c => absurd (c_end (n := 12) (by omega)) c⟩
    · intro f'
      apply sX0_freeIn_10 (B f' k')
      refine ⟨fun c => absurd c (c_lt (n := 12) (by omega) hi), fun _ => ?_⟩
      refine X_isHeldK W hi hy hK (fun f2 => ⟨_, rfl, B f2 k', fun c => ?_, fun c => ?_⟩)
      · refine X_bit (B f2 k') ⟨_, rfl, B f2 k', fun _ => ?_⟩
        have e := orB_bi (n := i) (P := fun n => !(hyF S L b (I n) y))
        rw [c] at e
        rw [I_succ, show bi false = bi (!true) from rfl, e]
        exact ih f2
      · refine X_bit (B f2 k') ⟨_, rfl, B f2 k', fun _ => ?_⟩
        have e := orB_bi (n := i) (P := fun n => !(hyF S L b (I n) y))
        rw [c] at e
        rw [I_succ, show bi true = bi (!false) from rfl, e]
        exact ih f2
  exact key 0 (by omega) f
theorem yr_I {t : Nat} (h : t ≤ 99) : inF (I t) 0 99 = true := by
  rw [inF_iff, I_int (by omega)]
  have e0 : (0 : Int32).toInt = 0 := rfl
  have e1 : (99 : Int32).toInt = 99 := rfl
  omega
theorem X_latestHeld (W : EW G x S L h) {n y : Nat} (hn : n < 12) (hy : y ≤ 99) (hQ : ∀ f' k', Q (.returned (some (.int (lhN S L b (I n) y)))) (hs x h f' k' b)) : Run G mX0_latestHeld 305 0 [(0, .ref x), (1, .int (I n)), (2, .int (I y))] [] (hs x h f k b) Q := by
  have B := fun f' k' => W.xb.hs (f := f') (k := k') (b := b)
  apply sX0_latestHeld_0 (B f k)
  intro _
  have key : ∀ t, t ≤ y → lhN S L b (I n) t = lhN S L b (I n) y → ∀ f' k', Run G mX0_latestHeld 305 4 [(0, .ref x), (1, .int (I n)), (3, .int (I t - 1))] [] (hs x h f' k' b) Q := by
    intro t
    induction t with
    | zero =>
      intro _ e f' k'
      exact sX0_latestHeld_4 (B f' k') ⟨fun _ => qix (hQ f' k') e.symm, fun c => absurd (by decide) c⟩
    | succ t ih =>
      intro ht e f' k'
      rw [I_pred (by omega), show t + 1 - 1 = t from rfl]
      apply sX0_latestHeld_4 (B f' k')
      refine ⟨fun c => absurd c (I_nonneg (by omega)), fun _ => ?_⟩
      refine X_knowUpTo W (fun k2 hK => ⟨rfl, B f' k2, ?_⟩)
      refine X_isHeldK W hn (yr_I (by omega)) hK (fun f2 => ⟨_, rfl, B f2 k2, fun c _ => ?_, fun c => qix (hQ f2 k2) ?_⟩)
      · rw [show I t + -1 = I t - 1 from (Int32.sub_eq_add_neg ..).symm]
        refine ih (by omega) ?_ f2 k2
        rw [← e]; simp [lhN, c]
      · rw [← e]; simp [lhN, c]
  exact key y (Nat.le_refl _) rfl f k
theorem X_rank (W : EW G x S L h) {n y : Nat} {way : Int32} (hn : n < 12) (hy : y ≤ 99) (hQ : ∀ f' k', Q (.returned (some (.int (rkF S L b way (I n) (I y))))) (hs x h f' k' b)) : Run G mX0_rank 306 0 [(0, .ref x), (1, .int way), (2, .int (I n)), (3, .int (I y))] [] (hs x h f k b) Q := by
  have B := fun f' k' => W.xb.hs (f := f') (k := k') (b := b)
  obtain ⟨w1, w2, w3, w4⟩ := W.cw.2 n hn
  unfold rkF at hQ
  rw [I_nat (show y ≤ 100000 by omega), I_nat (show n ≤ 100000 by omega)] at hQ
  apply sX0_rank_0 (B f k)
  rw [I_nat (show n ≤ 100000 by omega)]
  refine ⟨fun c => ⟨fun c2 => ⟨vp_I hn (by omega), _, w2, w3, ?_⟩, fun c2 => ?_⟩, fun c => ?_⟩
  · rw [if_neg c, if_neg c2] at hQ
    exact qix (hQ f k) w4.symm
  · rw [if_neg c, if_pos c2] at hQ
    exact X_latestHeld W hn hy (fun f' k' => ⟨_, rfl, B f' k', hQ f' k'⟩)
  · rw [if_pos c] at hQ; exact hQ f k
theorem gvS_s {fr : Int32} {rk : Nat → Int32} {n : Nat} : gvS fr rk (n + 1) = if tb fr n = false then gvS fr rk n else if ¬ (gvS fr rk n).1 = -2 ∧ rk n ≤ (gvS fr rk n).2 then gvS fr rk n else (I n, rk n) := rfl
theorem X_givenIn (W : EW G x S L h) {y : Nat} {way : Int32} (hy : y ≤ 99) (hQ : ∀ f' k', Q (.returned (some (.int (gvF S L b (I y) way)))) (hs x h f' k' b)) : Run G mX0_givenIn 307 0 [(0, .ref x), (1, .int (I y)), (2, .int way)] [] (hs x h f k b) Q := by
  have B := fun f' k' => W.xb.hs (f := f') (k := k') (b := b)
  apply sX0_givenIn_0 (B f k)
  refine X_freeIn W (yr_I hy) (fun f1 k1 => ⟨_, rfl, B f1 k1, fun _ => ?_⟩)
  have key : ∀ i, i ≤ 12 → ∀ f' k' q, q = gvS (frF S L b (I y)) (fun n => rkF S L b way (I n) (I y)) i → Run G mX0_givenIn 307 16 [(0, .ref x), (1, .int (I y)), (2, .int way), (3, .int (frF S L b (I y))), (4, .int q.1), (5, .int q.2), (6, .int (I i))] [] (hs x h f' k' b) Q := by
    refine up_ind ?_ (fun i hi ih => ?_)
    · intro f' k' q hq
      exact sX0_givenIn_16 (B f' k') ⟨fun _ => qix (hQ f' k') (by rw [hq]; rfl), fun c => absurd (c_end (n := 12) (by omega)) c⟩
    · intro f' k' q hq
      apply sX0_givenIn_16 (B f' k')
      refine ⟨fun c => absurd c (c_lt (n := 12) (by omega) hi), fun _ => ?_⟩
      rw [I_succ]
      refine X_isIn (B f' k') (by omega) ⟨_, rfl, B f' k', fun c => ?_, fun c _ => ?_⟩
      · refine X_rank W hi hy (fun f2 k2 => ⟨_, rfl, B f2 k2, fun c1 _ => ?_, fun c1 => ⟨fun c2 _ => ?_, fun c2 _ => ?_⟩⟩)
        · refine ih f2 k2 (I i, rkF S L b way (I i) (I y)) ?_
          rw [gvS_s, ← hq, if_neg (by rw [c]; decide), if_neg (fun x => x.1 c1)]
        · refine ih f2 k2 (I i, rkF S L b way (I i) (I y)) ?_
          rw [gvS_s, ← hq, if_neg (by rw [c]; decide), if_neg (fun x => nle_I.2 c2 x.2)]
        · refine ih f2 k2 q ?_
          rw [gvS_s, ← hq, if_neg (by rw [c]; decide), if_pos ⟨c1, nlt_I.1 c2⟩]
      · refine ih f' k' q ?_
        rw [gvS_s, ← hq, if_pos c]
  exact key 0 (by omega) f1 k1 (-2, 0) rfl
theorem X_asNamed (W : EW G x S L h) (hQ : ∀ b', (∀ p, p < np S → b' p = S.1 4 p) → Q (.returned none) (hs x h f k b')) : Run G mX0_asNamed 1 0 [(0, .ref x)] [] (hs x h f k b) Q := by
  have h12 := W.ppl.n
  have B := fun b' => W.xb.hs (f := f) (k := k) (b := b')
  have key : ∀ i, i ≤ np S → ∀ b', (∀ p, p < i → b' p = S.1 4 p) → Run G mX0_asNamed 1 2 [(0, .ref x), (1, .int (I i))] [] (hs x h f k b') Q := by
    refine up_ind ?_ (fun i hi ih => ?_)
    · intro b' hb
      exact sX0_asNamed_2 (B b') ⟨fun _ => hQ b' hb, fun c => absurd (xp_end W) c⟩
    · intro b' hb
      obtain ⟨a, e, k1, -, -, -, -, en⟩ := W.per hi
      have vi : vp_in (I i) 12 := vp_I (by omega) (by omega)
      apply sX0_asNamed_2 (B b')
      simp only [hs_R, hs_I, sA_13]
      rw [I_succ, I_nat (by omega)]
      refine ⟨fun c => absurd c (xp_lt W hi), fun _ => ⟨vi, a, e, k1, vi, fun _ => ih _ (fun p hp => ?_)⟩⟩
      unfold va_up
      split
      · rename_i e; subst e; exact en
      · exact hb p (by omega)
  exact sX0_asNamed_0 (B b) (fun _ => key 0 (by omega) b (fun p hp => by omega))
theorem X_nobodyBears (W : EW G x S L h) (hQ : ∀ b', (∀ p, p < np S → b' p = -1) → Q (.returned none) (hs x h f k b')) : Run G mX0_nobodyBears 1 0 [(0, .ref x)] [] (hs x h f k b) Q := by
  have h12 := W.ppl.n
  have B := fun b' => W.xb.hs (f := f) (k := k) (b := b')
  have key : ∀ i, i ≤ np S → ∀ b', (∀ p, p < i → b' p = -1) → Run G mX0_nobodyBears 1 2 [(0, .ref x), (1, .int (I i))] [] (hs x h f k b') Q := by
    refine up_ind ?_ (fun i hi ih => ?_)
    · intro b' hb
      exact sX0_nobodyBears_2 (B b') ⟨fun _ => hQ b' hb, fun c => absurd (xp_end W) c⟩
    · intro b' hb
      apply sX0_nobodyBears_2 (B b')
      simp only [sA_13]
      rw [I_succ, I_nat (by omega)]
      refine ⟨fun c => absurd c (xp_lt W hi), fun _ => ⟨vp_I (by omega) (by omega), fun _ => ih _ (fun p hp => ?_)⟩⟩
      unfold va_up
      split
      · rfl
      · exact hb p (by omega)
  exact sX0_nobodyBears_0 (B b) (fun _ => key 0 (by omega) b (fun p hp => by omega))
theorem X_placeOf (W : EW G x S L h) {p : Nat} (hp : p < np S) (hQ : Q (.returned (some (.int (I (plF S (I p)))))) (hs x h f k b)) : Run G mX0_placeOf 1 0 [(0, .ref x), (1, .int (I p))] [] (hs x h f k b) Q := by
  have h12 := W.ppl.n
  have B := W.xb.hs (f := f) (k := k) (b := b)
  obtain ⟨j, hj, ej⟩ := ord_sur hp
  have epl : plF S (I p) = j := by rw [← ej]; exact pl_ord W.ppl hj
  rw [epl] at hQ
  have key : ∀ i, i ≤ j → Run G mX0_placeOf 1 2 [(0, .ref x), (1, .int (I p)), (2, .int (I i))] [] (hs x h f k b) Q := by
    refine up_ind ?_ (fun i hi ih => ?_)
    · apply sX0_placeOf_2 B
      simp only [hs_5]
      rw [I_nat (by omega), W.cp.2.2.2 j hj, ej]
      exact ⟨vp_I (by omega) (by omega), fun _ => hQ, fun c => absurd rfl c⟩
    · apply sX0_placeOf_2 B
      simp only [hs_5]
      rw [I_nat (by omega), W.cp.2.2.2 i (by omega), I_succ]
      refine ⟨vp_I (by omega) (by omega), fun c => ?_, fun _ _ => ih⟩
      have h1 := ord_lt (S := S) (k := i) (by omega)
      have := (I_inj (by omega) (by omega)).1 c
      rw [← ej] at this
      have := ord_inj (by omega) hj this
      omega
  exact sX0_placeOf_0 B (fun _ => key 0 (by omega))
theorem X_asAheadOf (W : EW G x S L h) {p : Nat} (hp : p < np S) (hQ : ∀ b', (∀ q, q < np S → b' q = amB (aoF S (I p)) (S.1 4) q) → Q (.returned none) (hs x h f k b')) : Run G mX0_asAheadOf 2 0 [(0, .ref x), (1, .int (I p))] [] (hs x h f k b) Q := by
  have h12 := W.ppl.n
  have B := fun b' => W.xb.hs (f := f) (k := k) (b := b')
  obtain ⟨j, hj, ej⟩ := ord_sur hp
  apply sX0_asAheadOf_0 (B b)
  refine X_nobodyBears W (fun b1 hb1 => ⟨rfl, B b1, fun _ => ?_⟩)
  have key : ∀ i, i ≤ j → ∀ b', (∀ q, q < np S → ((∃ l, l < i ∧ ordF S l = q) → b' q = S.1 4 q) ∧ ((∀ l, l < i → ¬ ordF S l = q) → b' q = -1)) → Run G mX0_asAheadOf 2 6 [(0, .ref x), (1, .int (I p)), (2, .int (I i))] [] (hs x h f k b') Q := by
    refine up_ind ?_ (fun i hi ih => ?_)
    · intro b' hb
      apply sX0_asAheadOf_6 (B b')
      simp only [hs_5]
      rw [I_nat (by omega), W.cp.2.2.2 j hj, ej]
      refine ⟨vp_I (by omega) (by omega), fun _ => hQ b' (fun q hq => ?_), fun c => absurd rfl c⟩
      rw [am_ao W.ppl hp hq]
      obtain ⟨l, hl, el⟩ := ord_sur hq
      split
      · rename_i hx
        refine (hb q hq).1 ⟨l, ?_, el⟩
        apply Nat.lt_of_not_le
        intro hle
        rw [lxb_iff, ← el, ← ej] at hx
        by_cases e : j = l
        · subst e; exact lx_irr hx
        · exact lx_irr (lx_tr hx (ord_lx (by omega) hl))
      · rename_i hx
        refine (hb q hq).2 (fun l' hl' el' => hx ?_)
        rw [lxb_iff, ← el', ← ej]
        exact ord_lx hl' hj
    · intro b' hb
      have hin : i < np S := by omega
      have h1 := ord_lt hin
      obtain ⟨a, e, k1, -, -, -, -, en⟩ := W.per h1
      have vi : vp_in (I i) 12 := vp_I (by omega) (by omega)
      have vo : vp_in (I (ordF S i)) 12 := vp_I (by omega) (by omega)
      apply sX0_asAheadOf_6 (B b')
      simp only [hs_5, hs_R, hs_I, sA_13]
      rw [I_nat (show i ≤ 100000 by omega), W.cp.2.2.2 i hin, I_nat (show ordF S i ≤ 100000 by omega), I_succ]
      refine ⟨vi, fun c => ?_, fun _ => ⟨vi, vi, vo, a, e, k1, vo, fun _ => ih _ (fun q hq => ⟨?_, ?_⟩)⟩⟩
      · have := (I_inj (by omega) (by omega)).1 c
        rw [← ej] at this
        have := ord_inj hin hj this
        omega
      · rintro ⟨l, hl, el⟩
        unfold va_up
        split
        · rename_i eq; rw [eq]; exact en
        · rename_i eq
          refine (hb q hq).1 ⟨l, ?_, el⟩
          apply Nat.lt_of_le_of_ne (by omega)
          rintro rfl; exact eq el.symm
      · intro hl
        unfold va_up
        rw [if_neg (fun eq => hl i (by omega) eq.symm)]
        exact (hb q hq).2 (fun l hl' => hl l (by omega))
  exact key 0 (by omega) b1 (fun q hq => ⟨fun ⟨l, hl, _⟩ => by omega, fun _ => hb1 q hq⟩)
theorem X_nameAll (W : EW G x S L h) {way : Int32} (hQ : ∀ f' k' b', (∀ p, p < np S → b' p = rnF S L way (np S) p) → Q (.returned none) (hs x h f' k' b')) : Run G mX0_nameAll 308 0 [(0, .ref x), (1, .int way)] [] (hs x h f k b) Q := by
  have h12 := W.ppl.n
  have B := fun f' k' b' => W.xb.hs (f := f') (k := k') (b := b')
  apply sX0_nameAll_0 (B f k b)
  refine X_nobodyBears W (fun b1 hb1 => ⟨rfl, B f k b1, fun _ => ?_⟩)
  have key : ∀ i, i ≤ np S → ∀ f' k' b', (∀ p, p < np S → b' p = rnF S L way i p) → Run G mX0_nameAll 308 6 [(0, .ref x), (1, .int way), (2, .int (I i))] [] (hs x h f' k' b') Q := by
    refine up_ind ?_ (fun i hi ih => ?_)
    · intro f' k' b' hb
      exact sX0_nameAll_6 (B f' k' b') ⟨fun _ => hQ f' k' b' hb, fun c => absurd (xp_end W) c⟩
    · intro f' k' b' hb
      have h1 := ord_lt hi
      obtain ⟨a, e, k1, -, eb, -⟩ := W.per h1
      obtain ⟨y, hy, ey⟩ := born_I W.ppl h1
      have vi : vp_in (I i) 12 := vp_I (by omega) (by omega)
      have vo : vp_in (I (ordF S i)) 12 := vp_I (by omega) (by omega)
      apply sX0_nameAll_6 (B f' k' b')
      simp only [hs_5, hs_R, hs_I]
      rw [I_nat (show i ≤ 100000 by omega), W.cp.2.2.2 i hi, I_nat (show ordF S i ≤ 100000 by omega), I_succ]
      refine ⟨fun c => absurd c (xp_lt W hi), fun _ => ⟨vi, vo, a, e, k1, ?_⟩⟩
      rw [eb, ey]
      refine X_givenIn W hy (fun f2 k2 => ⟨_, rfl, B f2 k2 b', vi, ?_⟩)
      simp only [hs_5, sA_13]
      rw [W.cp.2.2.2 i hi, I_nat (show ordF S i ≤ 100000 by omega), ← ey, gvF_congr (B' := rnF S L way i) h12 hb]
      refine ⟨fun c => ⟨vo, fun _ => ih f2 k2 _ (fun p hp => ?_)⟩, fun c => ⟨vo, fun _ => ih f2 k2 _ (fun p hp => ?_)⟩⟩
      · simp only [rnF, va_up]
        rw [if_neg c, hb p hp]
      · simp only [rnF, va_up]
        rw [if_pos c, hb p hp]
  exact key 0 (by omega) f k b1 hb1
theorem X_namesUsed (W : EW G x S L h) {B' : Nat → Int32} (hb : ∀ p, p < np S → b p = B' p) (hQ : Q (.returned (some (.int (I (ones (unF B' (np S))))))) (hs x h f k b)) : Run G mX0_namesUsed 2 0 [(0, .ref x)] [] (hs x h f k b) Q := by
  have h12 := W.ppl.n
  have B := W.xb.hs (f := f) (k := k) (b := b)
  have key : ∀ i, i ≤ np S → Run G mX0_namesUsed 2 4 [(0, .ref x), (1, .int (unF B' i)), (2, .int (I i))] [] (hs x h f k b) Q := by
    refine up_ind ?_ (fun i hi ih => ?_)
    · exact sX0_namesUsed_4 B ⟨fun _ => X_ones B ⟨_, rfl, B, hQ⟩, fun c => absurd (xp_end W) c⟩
    · apply sX0_namesUsed_4 B
      have vi : vp_in (I i) 12 := vp_I (by omega) (by omega)
      simp only [hs_13]
      rw [I_succ, I_nat (by omega), hb i hi]
      refine ⟨fun c => absurd c (xp_lt W hi), fun _ => ⟨vi, fun c _ => ?_, fun c => ⟨vi, fun _ => ?_⟩⟩⟩
      · simpa [unF, c] using ih
      · simpa [unF, c] using ih
  exact sX0_namesUsed_0 B (fun _ => key 0 (by omega))
theorem X_tillOf (W : EW G x S L h) {n y : Nat} (hn : n < 12) (hy : y ≤ 99) (hQ : ∀ f' k', Q (.returned (some (.int (tlN S L b (I n) (100 - y))))) (hs x h f' k' b)) : Run G mX0_tillOf 305 0 [(0, .ref x), (1, .int (I n)), (2, .int (I y))] [] (hs x h f k b) Q := by
  have B := fun f' k' => W.xb.hs (f := f') (k := k') (b := b)
  apply sX0_tillOf_0 (B f k)
  intro _
  have key : ∀ t, t ≤ 100 → tlN S L b (I n) t = tlN S L b (I n) (100 - y) → ∀ f' k', Run G mX0_tillOf 305 2 [(0, .ref x), (1, .int (I n)), (3, .int (I (100 - t)))] [] (hs x h f' k' b) Q := by
    intro t
    induction t with
    | zero =>
      intro _ e f' k'
      exact sX0_tillOf_2 (B f' k') ⟨fun _ => qix (hQ f' k') e.symm, fun c => absurd (c_end (n := 100) (by omega)) c⟩
    | succ t ih =>
      intro ht e f' k'
      apply sX0_tillOf_2 (B f' k')
      refine ⟨fun c => absurd c (c_lt (n := 100) (by omega) (by omega)), fun _ => ?_⟩
      refine X_knowUpTo W (fun k2 hK => ⟨rfl, B f' k2, ?_⟩)
      refine X_isHeldK W hn (yr_I (by omega)) hK (fun f2 => ⟨_, rfl, B f2 k2, fun c _ => ?_, fun c => qix (hQ f2 k2) ?_⟩)
      · rw [I_succ, show 100 - (t + 1) + 1 = 100 - t by omega]
        refine ih (by omega) ?_ f2 k2
        rw [← e, tlN_s, if_neg (by rw [c]; decide)]
      · rw [← e, tlN_s, if_pos c]
  have := key (100 - y) (by omega) rfl f k
  rw [show 100 - (100 - y) = y by omega] at this; exact this
theorem X_isFreeWithout (W : EW G x S L h) {n : Nat} {y set : Int32} (hn : n < 12) (hy : inF y 0 99 = true) (hb : ∀ p, p < np S → b p = S.1 4 p) (hQ : ∀ f' k', Q (.returned (some (.int (bi (frW S L (I n) y set))))) (hs x h f' k' b)) : Run G mX0_isFreeWithout 305 0 [(0, .ref x), (1, .int (I n)), (2, .int y), (3, .int set)] [] (hs x h f k b) Q := by
  have B := fun f' k' => W.xb.hs (f := f') (k := k') (b := b)
  apply sX0_isFreeWithout_0 (B f k)
  refine X_knowUpTo W (fun k2 hK => ⟨rfl, B f k2, ?_⟩)
  refine X_isHeld W hn hy (fun f2 => ?_)
  rw [ihF_congr (K' := kuF S y set) (B' := S.1 4) W.ppl.n hK (fun q hq => by rw [hb q hq])]
  exact ⟨_, rfl, B f2 k2, fun c => qbx (hQ f2 k2) (by simp [frW, c]), fun c => qbx (hQ f2 k2) (by simp [frW, c])⟩
end

/-! LAYER 3.16: the model's law is read and kept (2) -/
set_option maxRecDepth 100000
def lawR (S : MS) : Except Nat (List (List Stq × List Stq)) := pLaw (lkF S) (tpN S) 70 [] 0
def a_law (S : MS) : Int32 := match lawR S with
  | .error e => -100 - I e
  | .ok _ => 1
def s_law (S : MS) : MS := match lawR S with
  | .error _ => uS S 19 0 0
  | .ok _ => uS (uS S 19 0 0) 31 0 1
def l_law (S : MS) (L : Lw) : Lw := match lawR S with
  | .error _ => L
  | .ok ls => some ls
theorem law_e {S : MS} {L : Lw} {x : Nat} (h : lawR S = .error x) : a_law S = -100 - I x ∧ s_law S = uS S 19 0 0 ∧ l_law S L = L := by
  unfold a_law s_law l_law; rw [h]; exact ⟨rfl, rfl, rfl⟩
theorem law_k {S : MS} {L : Lw} {ls : List (List Stq × List Stq)} (h : lawR S = .ok ls) : a_law S = 1 ∧ s_law S = uS (uS S 19 0 0) 31 0 1 ∧ l_law S L = some ls := by
  unfold a_law s_law l_law; rw [h]; exact ⟨rfl, rfl, rfl⟩
theorem pLine_rg {S : MS} {p : Nat} (hp : p ≤ tpN S) : match pLine (lkF S) p with
  | .error e => p ≤ e ∧ e ≤ tpN S
  | .ok q => ((q.1.1 = [] ∨ GoodP q.1.1) ∧ GoodP q.1.2) ∧ p < q.2 ∧ q.2 ≤ tpN S := by
  have rgE := rg_pE (lk_end (S := S)) (rg_one lk_end 6)
  have rg := rgE p hp
  unfold pLine
  cases e : pE (lkF S) (pOne (lkF S) 6) p with
  | error x => rw [e] at rg; exact rg
  | ok q =>
    rw [e] at rg
    obtain ⟨r1, r2, r3, r4, r5⟩ := rg
    simp only
    by_cases c : lkF S q.2 = 63
    · rw [if_pos c]
      have hq1 : q.2 < tpN S := c_in lk_end (by rw [c]; decide)
      have rg2 := rgE (q.2 + 1) (by omega)
      cases e2 : pE (lkF S) (pOne (lkF S) 6) (q.2 + 1) with
      | error x => rw [e2] at rg2; have rg2 : q.2 + 1 ≤ x ∧ x ≤ tpN S := rg2; exact ⟨by omega, rg2.2⟩
      | ok r =>
        rw [e2] at rg2
        obtain ⟨b1, b2, b3, b4, b5⟩ := rg2
        exact ⟨⟨Or.inr r1, b1⟩, by simp only; omega, b4⟩
    · rw [if_neg c]
      exact ⟨⟨Or.inl rfl, r1⟩, r3, r4⟩
theorem flat_asc {ls : List (List Stq × List Stq)} (h : GoodL ls) : ∀ s ∈ flat ls, s.1.toInt8.toInt32 = s.1 := by
  intro s hs
  unfold flat at hs
  rw [List.mem_flatMap] at hs
  obtain ⟨q, hq, hs⟩ := hs
  obtain ⟨g1, g2⟩ := h q hq
  rcases List.mem_append.1 hs with hs | hs
  · rcases g1 with g1 | g1
    · rw [g1] at hs; cases hs
    · exact g1.2 s hs
  · exact g2.2 s hs
theorem LnX.snoc {t : MS} {b : Nat} {ls : List (List Stq × List Stq)} {q : List Stq × List Stq} (h : LnX t b ls) (h1 : t.1 27 (b + ls.length) = I ((flat ls).length + q.1.length)) (h2 : t.1 28 (b + ls.length) = I ((flat ls).length + q.1.length + q.2.length)) : LnX t b (ls ++ [q]) := by
  intro i hi
  simp only [List.length_append, List.length_singleton] at hi
  by_cases e : i = ls.length
  · subst e
    simp [h1, h2]
  · have hi2 : i < ls.length := by omega
    have e1 : (ls ++ [q])[i] = ls[i] := List.getElem_append_left hi2
    have e2 : (ls ++ [q]).take i = ls.take i := by rw [List.take_append_of_le_length (by omega)]
    rw [e1, e2]; exact h i hi2
theorem LnX.e {t t' : MS} {b : Nat} {ls : List (List Stq × List Stq)} (h : LnX t b ls) (h7 : ∀ i, i < b + ls.length → t'.1 27 i = t.1 27 i ∧ t'.1 28 i = t.1 28 i) : LnX t' b ls := by
  intro i hi
  obtain ⟨a, c⟩ := h7 (b + i) (by omega)
  rw [a, c]; exact h i hi
theorem take_len {ls : List (List Stq × List Stq)} (i : Nat) : (flat (ls.take i)).length ≤ (flat ls).length := by
  have : flat ls = flat (ls.take i) ++ flat (ls.drop i) := by rw [← flat_app, List.take_append_drop]
  rw [this]; simp
theorem at_len {ls : List (List Stq × List Stq)} {i : Nat} (hi : i < ls.length) : (flat (ls.take i)).length + ls[i].1.length + ls[i].2.length ≤ (flat ls).length := by
  have h1 := take_len (ls := ls) (i + 1)
  have e : ls.take (i + 1) = ls.take i ++ [ls[i]] := by simp
  rw [e, flat_app, flat_one] at h1
  simp only [List.length_append] at h1
  omega
section
variable {G : GG} {m : Nat} {S t sg : MS} {L : Lw} {Q : Outcome → MS → Prop}
/-- what has been read is laid into place -/
theorem M_keep {S1 : MS} {ls : List (List Stq × List Stq)} (h23 : t.1 23 0 = I (flat ls).length) (hl : (flat ls).length ≤ 120) (hls : ls.length ≤ 60) (hN : NewAt t (flat ls)) (h26 : t.1 26 1 = I ls.length) (hX : LnX t 61 ls) (hG : GoodL ls)
    (hQ : ∀ t', t'.1 26 0 = I ls.length → LinesAt t' 0 0 ls → Q (.returned (some (.int (-1)))) (ov S1 t')) : MR G mX5_readText 402 105 [(0, .ref m), (1, .int 0), (2, .int 0)] [] m (ov S1 t) Q := by
  have v1 : vp_in 1 2 := vp_I (i := 1) (by omega) (by omega)
  have v0 : vp_in 0 2 := vp_I (i := 0) (by omega) (by omega)
  have c1 : (1 : Int32).toNatClampNeg = 1 := rfl
  have c0 : (0 : Int32).toNatClampNeg = 0 := rfl
  have e13 : (130 : Int32) * 0 = 0 := rfl
  have e6 : (61 : Int32) * 0 = 0 := rfl
  have ph2 : ∀ i, i ≤ ls.length → ∀ t1 : MS, t1.1 26 0 = I ls.length → (∀ j (h : j < (flat ls).length), t1.1 24 j = (flat ls)[j].1 ∧ t1.1 25 j = (flat ls)[j].2) → LnX t1 61 ls → (∀ j (h : j < ls.length), j < i → t1.1 27 j = I ((flat (ls.take j)).length + ls[j].1.length) ∧ t1.1 28 j = I ((flat (ls.take j)).length + ls[j].1.length + ls[j].2.length)) → MR G mX5_readText 402 177 [(0, .ref m), (1, .int 0), (2, .int (I i))] [] m (ov S1 t1) Q := by
    refine up_ind ?_ (fun i hi ih => ?_)
    · intro t1 g26 gP gX gD
      apply sX5_readText_177
      rw [c0, ov_26, g26]
      refine ⟨v0, fun _ => hQ t1 g26 (lines_of ?_ hG gP (by omega)), fun c => absurd (c_end (by omega)) c⟩
      intro j hj
      rw [Nat.zero_add]; exact gD j hj hj
    · intro t1 g26 gP gX gD
      obtain ⟨x1, x2⟩ := gX i hi
      have hat := at_len hi
      apply sX5_readText_177
      rw [c0, e6, Int32.zero_add, ov_26, g26]
      simp only [uo_0, uo_1, uo_2, uo_3, uo_4, uo_5, uo_6, uo_7, uo_8, uo_9, uo_10, uo_11, uo_12, uo_13, uo_14, uo_15, uo_16, uo_17, uo_18, uo_19, uo_20, uo_21, uo_22, uo_23, uo_24, uo_25, uo_26, uo_27, uo_28, uo_29, uo_30, uo_31, uo_32, uo_33, uo_34, uo_35, uo_36, uo_37, uo_38, uo_39, uo_40, uo_41, uo_42, uo_43, uo_44, uo_45, uE_ov, ov_0, ov_1, ov_2, ov_3, ov_4, ov_5, ov_6, ov_7, ov_8, ov_9, ov_10, ov_11, ov_12, ov_13, ov_14, ov_15, ov_16, ov_17, ov_18, ov_19, ov_20, ov_21, ov_22, ov_23, ov_24, ov_25, ov_26, ov_27, ov_28, ov_29, ov_30, ov_31, ov_32, ov_33, ov_34, ov_35, ov_36, ov_37, ov_38, ov_39, ov_40, ov_41, ov_42, ov_43, ov_44, ov_45, ov_46, ov_e, ov_s]
      have e61 : (61 : Int32) + I i = I (61 + i) := I_add 61 i
      have va : vp_in (I (61 + i)) 122 := vp_I (by omega) (by omega)
      have vb : vp_in (I i) 122 := vp_I (by omega) (by omega)
      rw [e61, I_nat (show 61 + i ≤ 100000 by omega), I_nat (show i ≤ 100000 by omega), uS_ne (k' := 28) (by decide), x1, x2, I_succ]
      refine ⟨v0, fun c => absurd c (c_lt (by omega) hi), fun _ => ⟨va, vb, i16 (by omega), va, vb, i16 (by omega), ?_⟩⟩
      refine ih _ ?_ (fun j hj => ?_) ?_ (fun j hj hji => ?_)
      · rw [uS_ne (by decide), uS_ne (by decide)]; exact g26
      · rw [uS_ne (k' := 24) (by decide), uS_ne (k' := 24) (by decide), uS_ne (k' := 25) (by decide), uS_ne (k' := 25) (by decide)]; exact gP j hj
      · intro j hj
        rw [uS_ne (k' := 27) (by decide), uS_nei (by omega), uS_nei (by omega), uS_ne (k' := 28) (by decide)]; exact gX j hj
      · rw [uS_ne (k' := 27) (by decide)]
        by_cases e : j = i
        · subst e
          rw [uS_at, uS_at]; exact ⟨rfl, rfl⟩
        · rw [uS_nei (by omega), uS_nei (by omega), uS_ne (k' := 28) (by decide)]
          exact gD j hj (by omega)
  have ph1 : ∀ i, i ≤ (flat ls).length → ∀ t1 : MS, t1.1 23 0 = I (flat ls).length → NewAt t1 (flat ls) → t1.1 26 1 = I ls.length → LnX t1 61 ls → (∀ j (h : j < (flat ls).length), j < i → t1.1 24 j = (flat ls)[j].1 ∧ t1.1 25 j = (flat ls)[j].2) → MR G mX5_readText 402 105 [(0, .ref m), (1, .int 0), (2, .int (I i))] [] m (ov S1 t1) Q := by
    refine up_ind ?_ (fun i hi ih => ?_)
    · intro t1 g23 gN g26 gX gD
      apply sX5_readText_105
      rw [ov_23, g23, c0, c1, ov_26, g26, uo_26]
      refine ⟨fun _ => ⟨v1, v0, ?_⟩, fun c => absurd (c_end (by omega)) c⟩
      refine ph2 0 (by omega) _ uS_at (fun j hj => ?_) (gX.e (fun i hi => ?_)) (fun j hj h => by omega)
      · rw [uS_ne (k' := 24) (by decide), uS_ne (k' := 25) (by decide)]; exact gD j hj hj
      · rw [uS_ne (k' := 27) (by decide), uS_ne (k' := 28) (by decide)]; exact ⟨rfl, rfl⟩
    · intro t1 g23 gN g26 gX gD
      obtain ⟨x1, x2⟩ := gN i hi
      have hasc := flat_asc hG _ (List.getElem_mem hi)
      apply sX5_readText_105
      rw [e13, Int32.zero_add, ov_23, g23]
      simp only [uo_0, uo_1, uo_2, uo_3, uo_4, uo_5, uo_6, uo_7, uo_8, uo_9, uo_10, uo_11, uo_12, uo_13, uo_14, uo_15, uo_16, uo_17, uo_18, uo_19, uo_20, uo_21, uo_22, uo_23, uo_24, uo_25, uo_26, uo_27, uo_28, uo_29, uo_30, uo_31, uo_32, uo_33, uo_34, uo_35, uo_36, uo_37, uo_38, uo_39, uo_40, uo_41, uo_42, uo_43, uo_44, uo_45, uE_ov, ov_0, ov_1, ov_2, ov_3, ov_4, ov_5, ov_6, ov_7, ov_8, ov_9, ov_10, ov_11, ov_12, ov_13, ov_14, ov_15, ov_16, ov_17, ov_18, ov_19, ov_20, ov_21, ov_22, ov_23, ov_24, ov_25, ov_26, ov_27, ov_28, ov_29, ov_30, ov_31, ov_32, ov_33, ov_34, ov_35, ov_36, ov_37, ov_38, ov_39, ov_40, ov_41, ov_42, ov_43, ov_44, ov_45, ov_46, ov_e, ov_s]
      have e130 : (130 : Int32) + I i = I (130 + i) := I_add 130 i
      have va : vp_in (I (130 + i)) 260 := vp_I (by omega) (by omega)
      have vb : vp_in (I i) 260 := vp_I (by omega) (by omega)
      rw [e130, I_nat (show 130 + i ≤ 100000 by omega), I_nat (show i ≤ 100000 by omega), uS_ne (k' := 25) (by decide), x1, x2, I_succ]
      refine ⟨fun c => absurd c (c_lt (by omega) hi), fun _ => ⟨va, vb, hasc, va, vb, ?_⟩⟩
      refine ih _ ?_ (fun j hj => ?_) ?_ (gX.e (fun i hi => ?_)) (fun j hj hji => ?_)
      · rw [uS_ne (by decide), uS_ne (by decide)]; exact g23
      · rw [uS_ne (k' := 24) (by decide), uS_nei (by omega), uS_nei (by omega), uS_ne (k' := 25) (by decide)]; exact gN j hj
      · rw [uS_ne (by decide), uS_ne (by decide)]; exact g26
      · rw [uS_ne (k' := 27) (by decide), uS_ne (k' := 27) (by decide), uS_ne (k' := 28) (by decide), uS_ne (k' := 28) (by decide)]; exact ⟨rfl, rfl⟩
      · rw [uS_ne (k' := 24) (by decide)]
        by_cases e : j = i
        · subst e
          rw [uS_at, uS_at]; exact ⟨rfl, rfl⟩
        · rw [uS_nei (by omega), uS_nei (by omega), uS_ne (k' := 25) (by decide)]
          exact gD j hj (by omega)
  exact ph1 0 (by omega) t h23 hN h26 hX (fun j hj h => by omega)
theorem A_law (hT : Tap S) (hL : LawM S L t) (hQ : ∀ t', LawM (s_law S) (l_law S L) t' → Q (.returned (some (.int (a_law S)))) (ov (s_law S) t')) : MR G mX5_law 403 0 [(0, .ref m)] [] m (ov S t) Q := by
  have hn := hT.1
  have v1 : vp_in 1 2 := vp_I (i := 1) (by omega) (by omega)
  have c1 : (1 : Int32).toNatClampNeg = 1 := rfl
  apply sX5_law_0
  apply sX5_readText_0
  refine ⟨v1, ?_⟩
  simp only [uo_0, uo_1, uo_2, uo_3, uo_4, uo_5, uo_6, uo_7, uo_8, uo_9, uo_10, uo_11, uo_12, uo_13, uo_14, uo_15, uo_16, uo_17, uo_18, uo_19, uo_20, uo_21, uo_22, uo_23, uo_24, uo_25, uo_26, uo_27, uo_28, uo_29, uo_30, uo_31, uo_32, uo_33, uo_34, uo_35, uo_36, uo_37, uo_38, uo_39, uo_40, uo_41, uo_42, uo_43, uo_44, uo_45, uE_ov]
  -- a fault ends it
  have bad : ∀ t1 x, LEq 0 0 t t1 → x ≤ tpN S → t1.1 21 0 = I x → lawR S = .error x → ((((uS (ov S t1) 19 0 0).1 21 0) < 0 → (MR G mX5_readText 402 105 [(0, .ref m), (1, .int 0), (2, .int 0)] [] m (uS (ov S t1) 19 0 0) (fun o sg1 => ∃ r2 : Int32, o = .returned (some (.int r2)) ∧ ((r2 < 0 → (Q (.returned (some (.int 1))) (uS sg1 31 0 1))) ∧ (¬ r2 < 0 → (Q (.returned (some (.int ((-100) - r2)))) sg1)))))) ∧ (¬ ((uS (ov S t1) 19 0 0).1 21 0) < 0 → (∃ r2 : Int32, (Outcome.returned (some (.int ((uS (ov S t1) 19 0 0).1 21 0)))) = .returned (some (.int r2)) ∧ ((r2 < 0 → (Q (.returned (some (.int 1))) (uS (uS (ov S t1) 19 0 0) 31 0 1))) ∧ (¬ r2 < 0 → (Q (.returned (some (.int ((-100) - r2)))) (uS (ov S t1) 19 0 0))))))) := by
    intro t1 x hE hx e21 er
    simp only [uo_0, uo_1, uo_2, uo_3, uo_4, uo_5, uo_6, uo_7, uo_8, uo_9, uo_10, uo_11, uo_12, uo_13, uo_14, uo_15, uo_16, uo_17, uo_18, uo_19, uo_20, uo_21, uo_22, uo_23, uo_24, uo_25, uo_26, uo_27, uo_28, uo_29, uo_30, uo_31, uo_32, uo_33, uo_34, uo_35, uo_36, uo_37, uo_38, uo_39, uo_40, uo_41, uo_42, uo_43, uo_44, uo_45, uE_ov, ov_0, ov_1, ov_2, ov_3, ov_4, ov_5, ov_6, ov_7, ov_8, ov_9, ov_10, ov_11, ov_12, ov_13, ov_14, ov_15, ov_16, ov_17, ov_18, ov_19, ov_20, ov_21, ov_22, ov_23, ov_24, ov_25, ov_26, ov_27, ov_28, ov_29, ov_30, ov_31, ov_32, ov_33, ov_34, ov_35, ov_36, ov_37, ov_38, ov_39, ov_40, ov_41, ov_42, ov_43, ov_44, ov_45, ov_46, ov_e, ov_s]
    rw [e21]
    refine ⟨fun c => absurd c (I_nonneg (by omega)), fun c => ⟨_, rfl, fun c2 => absurd c2 c, fun _ => ?_⟩⟩
    have hq := hQ t1
    obtain ⟨l1, l2, l3⟩ := law_e (L := L) er
    rw [l1, l2, l3] at hq
    refine hq (hL.e2 (by rw [uS_ne (by decide)]) hE.2.2.2.1 (fun i hi => hE.2.2.1 i (by omega)) (fun i hi => hE.2.2.2.2 i (by omega)))
  have key : ∀ f (acc : List (List Stq × List Stq)) (p : Nat) (t1 : MS), f + acc.length = 70 → 2 * acc.length ≤ p → p ≤ tpN S → PSt S t1 p 0 (flat acc) → t1.1 26 1 = I acc.length → LnX t1 61 acc → GoodL acc → LEq 0 0 t t1 → pLaw (lkF S) (tpN S) f acc p = lawR S → MR G mX5_line 401 0 [(0, .ref m)] [] m (ov S t1) (fun o sg1 => o = .returned none ∧ (MR G mX5_readText 402 31 [(0, .ref m), (1, .int 0)] [] m sg1 (fun o sg1 => ∃ r2 : Int32, o = .returned (some (.int r2)) ∧ ((r2 < 0 → (Q (.returned (some (.int 1))) (uS sg1 31 0 1))) ∧ (¬ r2 < 0 → (Q (.returned (some (.int ((-100) - r2)))) sg1)))))) := by
    intro f
    induction f with
    | zero => intro acc p t1 h1 h2 h3; omega
    | succ f ih =>
      intro acc p t1 hf hp2 hpn hP h26 hX hG hE er
      refine M_line hT hP (by omega) h26 (fun t2 h2 => ⟨rfl, ?_⟩)
      obtain ⟨hE2, h2⟩ := h2
      have rg := pLine_rg (S := S) hpn
      have hE02 : LEq 0 0 t t2 := hE.trans hE2 (by omega) (by omega)
      unfold pLaw at er
      cases e : pLine (lkF S) p with
      | error x =>
        rw [e] at h2 rg er
        have rg : p ≤ x ∧ x ≤ tpN S := rg
        obtain ⟨l, g1, g2, g3⟩ := h2
        have hz := fz (S := S) (by omega) g1.2.1
        refine sX5_readText_31 ⟨fun _ => ?_, fun c => absurd hz c⟩
        exact sX5_readText_64 ⟨fun _ => bad t2 x hE02 rg.2 g1.2.1 er.symm, fun c => absurd hz c⟩
      | ok q =>
        rw [e] at h2 rg er
        obtain ⟨q1, q2, q3, q4⟩ := h2
        obtain ⟨r1, r2, r3⟩ := rg
        simp only at er
        have hfl : flat (acc ++ [q.1]) = flat acc ++ q.1.1 ++ q.1.2 := by rw [flat_app, flat_one, List.append_assoc]
        have hX2 : LnX t2 61 (acc ++ [q.1]) := (hX.e (fun i hi => hE2.2.2.2.2 i hi)).snoc q3 q4
        have hG2 : GoodL (acc ++ [q.1]) := by
          intro x hx
          rcases List.mem_append.1 hx with hx | hx
          · exact hG x hx
          · rw [List.mem_singleton.1 hx]; exact r1
        have q2 : t2.1 26 1 = I (acc ++ [q.1]).length := by rw [q2]; simp
        rw [← hfl] at q1
        have hfn := fn (S := S) q1.2.1
        -- the lines are over
        have over : ¬ lkF S q.2 = 59 → MR G mX5_readText 402 64 [(0, .ref m), (1, .int 0)] [] m (ov S t2) (fun o sg1 => ∃ r2 : Int32, o = .returned (some (.int r2)) ∧ ((r2 < 0 → (Q (.returned (some (.int 1))) (uS sg1 31 0 1))) ∧ (¬ r2 < 0 → (Q (.returned (some (.int ((-100) - r2)))) sg1)))) := by
          intro c
          rw [if_neg c] at er
          apply sX5_readText_64
          refine ⟨fun c => absurd c hfn, fun _ => ?_⟩
          have e1 : (ov S t2).1 19 0 = I (tpN S) := hT.2
          have e2 : (ov S t2).1 20 0 = I q.2 := q1.1
          rw [e1, e2, I_le (by omega) (by omega)]
          refine ⟨fun c2 => ?_, fun c2 => ?_⟩
          · rw [if_neg (by omega)] at er
            simp only [uo_0, uo_1, uo_2, uo_3, uo_4, uo_5, uo_6, uo_7, uo_8, uo_9, uo_10, uo_11, uo_12, uo_13, uo_14, uo_15, uo_16, uo_17, uo_18, uo_19, uo_20, uo_21, uo_22, uo_23, uo_24, uo_25, uo_26, uo_27, uo_28, uo_29, uo_30, uo_31, uo_32, uo_33, uo_34, uo_35, uo_36, uo_37, uo_38, uo_39, uo_40, uo_41, uo_42, uo_43, uo_44, uo_45, uE_ov, ov_0, ov_1, ov_2, ov_3, ov_4, ov_5, ov_6, ov_7, ov_8, ov_9, ov_10, ov_11, ov_12, ov_13, ov_14, ov_15, ov_16, ov_17, ov_18, ov_19, ov_20, ov_21, ov_22, ov_23, ov_24, ov_25, ov_26, ov_27, ov_28, ov_29, ov_30, ov_31, ov_32, ov_33, ov_34, ov_35, ov_36, ov_37, ov_38, ov_39, ov_40, ov_41, ov_42, ov_43, ov_44, ov_45, ov_46, ov_e, ov_s]
            rw [q1.2.1]
            refine ⟨fun _ => ?_, fun c => absurd (by decide) c⟩
            have hle := q1.2.2.2.2.2.2
            refine M_keep (ls := acc ++ [q.1]) q1.2.2.2.1 (by omega) (by simp; omega) q1.2.2.2.2.1 q2 hX2 hG2 (fun t3 g26 gL => ⟨_, rfl, fun _ => ?_, fun c => absurd (by decide) c⟩)
            rw [uo_31]
            have hq := hQ t3
            obtain ⟨l1, l2, l3⟩ := law_k (L := L) er.symm
            rw [l1, l2, l3] at hq
            exact hq ⟨by rw [uS_at]; decide, by simp; omega, g26, gL⟩
          · rw [if_pos (by omega)] at er
            apply M_faulty q1.1 q1.2.1
            refine ⟨rfl, bad _ q.2 (hE02.trans (PEq.u (by simp)).l (Nat.le_refl _) (Nat.le_refl _)) r3 uS_at er.symm⟩
        apply sX5_readText_31
        refine ⟨fun c => absurd c hfn, fun _ => ?_⟩
        apply M_look hT q1.1 r3
        refine ⟨_, rfl, over, fun c => ?_⟩
        rw [if_pos c] at er
        have hq1 : q.2 < tpN S := c_in lk_end (by rw [c]; decide)
        rw [uo_20, ov_20]
        refine ih (acc ++ [q.1]) (q.2 + 1) _ (by simp; omega) (by simp; omega) (by omega) (q1.next hq1) ?_ ?_ hG2 ?_ er
        · rw [uS_ne (by decide)]; exact q2
        · exact hX2.e (fun i hi => by rw [uS_ne (k' := 27) (by decide), uS_ne (k' := 28) (by decide)]; exact ⟨rfl, rfl⟩)
        · exact hE02.trans (PEq.u (by simp)).l (Nat.le_refl _) (Nat.le_refl _)
  refine key 70 [] 0 _ (by simp) (by simp) (by omega) ?_ ?_ ?_ ?_ ?_ rfl
  · refine ⟨?_, ?_, ?_, ?_, fun i hi => by simp [flat] at hi, by omega, by simp [flat]⟩
    · rw [uS_ne (by decide), uS_ne (by decide), uS_ne (by decide), uS_ne (by decide), uS_at]; rfl
    · rw [uS_ne (by decide), uS_ne (by decide), uS_ne (by decide), uS_at]
    · rw [uS_ne (by decide), uS_ne (by decide), uS_at]; rfl
    · rw [uS_ne (by decide), uS_at]; rfl
  · rw [c1, uS_at]; rfl
  · intro i hi; simp at hi
  · intro q hq; cases hq
  · refine (PEq.l (m := 0) (k := 0) (((PEq.u (k := 20) (by simp)).trans (PEq.u (k := 21) (by simp)) (Nat.le_refl _)).trans ((PEq.u (k := 22) (by simp)).trans (PEq.u (k := 23) (by simp)) (Nat.le_refl _)) (Nat.le_refl _))).trans LEq.u26 (Nat.le_refl _) (Nat.le_refl _)
end

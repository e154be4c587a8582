/-! LAYER 3.14: the model reads a text -/
set_option maxRecDepth 100000
def tpN (S : MS) : Nat := (S.1 19 0).toNatClampNeg
def lkF (S : MS) (p : Nat) : Int32 := if p < tpN S then S.1 18 p else -1
def Tap (S : MS) : Prop := tpN S ≤ 120 ∧ S.1 19 0 = I (tpN S)
theorem lk_end {S : MS} : ∀ i, tpN S ≤ i → lkF S i = -1 := fun i h => if_neg (by omega)
def NewAt (t : MS) (P : List Stq) : Prop := ∀ i (h : i < P.length), t.1 24 (130 + i) = P[i].1 ∧ t.1 25 (130 + i) = P[i].2
/-- reading goes on: at p, o opened, the steps P laid -/
def PSt (S t : MS) (p o : Nat) (P : List Stq) : Prop := t.1 20 0 = I p ∧ t.1 21 0 = -1 ∧ t.1 22 0 = I o ∧ t.1 23 0 = I P.length ∧ NewAt t P ∧ p ≤ tpN S ∧ P.length ≤ p
/-- nothing has changed but what is being read, behind m steps -/
def PEq (m : Nat) (t t' : MS) : Prop := t'.2 = t.2 ∧ (∀ k, k ∉ [20, 21, 22, 23, 24, 25] → t'.1 k = t.1 k) ∧ ∀ i, i < 130 + m → t'.1 24 i = t.1 24 i ∧ t'.1 25 i = t.1 25 i
def PEr (S t : MS) (e l m : Nat) : Prop := t.1 20 0 = I e ∧ t.1 21 0 = I e ∧ t.1 23 0 = I l ∧ e ≤ tpN S ∧ m ≤ l
def PPost (S t : MS) (p o : Nat) (P : List Stq) (r : PR) (t' : MS) : Prop := PEq P.length t t' ∧ match r with
  | .error e => ∃ l, PEr S t' e l P.length ∧ l ≤ P.length + (e - p) + 1 ∧ p ≤ e
  | .ok q => PSt S t' q.2 o (P ++ q.1)
theorem PEq.refl {m : Nat} {t : MS} : PEq m t t := ⟨rfl, fun _ _ => rfl, fun _ _ => ⟨rfl, rfl⟩⟩
theorem PEq.trans {m m' : Nat} {t t1 t2 : MS} (a : PEq m t t1) (b : PEq m' t1 t2) (h : m ≤ m') : PEq m t t2 := ⟨b.1.trans a.1, fun k hk => (b.2.1 k hk).trans (a.2.1 k hk), fun i hi => ⟨(b.2.2 i (by omega)).1.trans (a.2.2 i hi).1, (b.2.2 i (by omega)).2.trans (a.2.2 i hi).2⟩⟩
theorem PEq.u {m k i : Nat} {t : MS} {v : Int32} (hk : k = 20 ∨ k = 21 ∨ k = 22 ∨ k = 23) : PEq m t (uS t k i v) := by
  refine ⟨rfl, fun k' hk' => uS_ne (by rintro rfl; rcases hk with rfl | rfl | rfl | rfl <;> exact hk' (by decide)), fun j _ => ?_⟩
  rw [uS_ne (k' := 24) (by rintro rfl; simp at hk), uS_ne (k' := 25) (by rintro rfl; simp at hk)]
  exact ⟨rfl, rfl⟩
section
variable {G : GG} {m : Nat} {S t sg : MS} {Q : Outcome → MS → Prop}
theorem M_look (hT : Tap S) {p : Nat} (hp : t.1 20 0 = I p) (hpn : p ≤ tpN S) (hQ : Q (.returned (some (.int (lkF S p)))) (ov S t)) : MR G mX5_look 1 0 [(0, .ref m)] [] m (ov S t) Q := by
  obtain ⟨h1, h2⟩ := hT
  apply sX5_look_0
  simp only [ov_0, ov_1, ov_2, ov_3, ov_4, ov_5, ov_6, ov_7, ov_8, ov_9, ov_10, ov_11, ov_12, ov_13, ov_14, ov_15, ov_16, ov_17, ov_18, ov_19, ov_20, ov_21, ov_22, ov_23, ov_24, ov_25, ov_26, ov_27, ov_28, ov_29, ov_30, ov_31, ov_32, ov_33, ov_34, ov_35, ov_36, ov_37, ov_38, ov_39, ov_40, ov_41, ov_42, ov_43, ov_44, ov_45, ov_46, ov_e, ov_s]
  rw [hp, h2, I_le (by omega) (by omega)]
  refine ⟨fun c => qi hQ (by unfold lkF; rw [if_neg (by omega)]), fun c => ⟨vp_I (by omega) (by omega), qi hQ ?_⟩⟩
  rw [I_nat (by omega)]; unfold lkF; rw [if_pos (by omega)]
theorem M_faulty {p : Nat} (hp : t.1 20 0 = I p) (hf : t.1 21 0 = -1) (hQ : Q (.returned none) (ov S (uS t 21 0 (I p)))) : MR G mX5_faulty 1 0 [(0, .ref m)] [] m (ov S t) Q := by
  apply sX5_faulty_0
  simp only [uo_0, uo_1, uo_2, uo_3, uo_4, uo_5, uo_6, uo_7, uo_8, uo_9, uo_10, uo_11, uo_12, uo_13, uo_14, uo_15, uo_16, uo_17, uo_18, uo_19, uo_20, uo_21, uo_22, uo_23, uo_24, uo_25, uo_26, uo_27, uo_28, uo_29, uo_30, uo_31, uo_32, uo_33, uo_34, uo_35, uo_36, uo_37, uo_38, uo_39, uo_40, uo_41, uo_42, uo_43, uo_44, uo_45, uE_ov, ov_0, ov_1, ov_2, ov_3, ov_4, ov_5, ov_6, ov_7, ov_8, ov_9, ov_10, ov_11, ov_12, ov_13, ov_14, ov_15, ov_16, ov_17, ov_18, ov_19, ov_20, ov_21, ov_22, ov_23, ov_24, ov_25, ov_26, ov_27, ov_28, ov_29, ov_30, ov_31, ov_32, ov_33, ov_34, ov_35, ov_36, ov_37, ov_38, ov_39, ov_40, ov_41, ov_42, ov_43, ov_44, ov_45, ov_46, ov_e, ov_s]
  rw [hp, hf]
  exact ⟨fun c => absurd c (by decide), fun _ => hQ⟩
theorem M_addRaw {l : Nat} (h23 : t.1 23 0 = I l) (hl : l ≤ 125) {w v : Int32} (hQ : Q (.returned none) (ov S (uS (uS (uS t 24 (130 + l) w.toInt8.toInt32) 25 (130 + l) v) 23 0 (I (l + 1))))) : MR G mX5_addStep 1 0 [(0, .ref m), (1, .int w), (2, .int v)] [] m (ov S t) Q := by
  apply sX5_addStep_0
  simp only [uo_0, uo_1, uo_2, uo_3, uo_4, uo_5, uo_6, uo_7, uo_8, uo_9, uo_10, uo_11, uo_12, uo_13, uo_14, uo_15, uo_16, uo_17, uo_18, uo_19, uo_20, uo_21, uo_22, uo_23, uo_24, uo_25, uo_26, uo_27, uo_28, uo_29, uo_30, uo_31, uo_32, uo_33, uo_34, uo_35, uo_36, uo_37, uo_38, uo_39, uo_40, uo_41, uo_42, uo_43, uo_44, uo_45, uE_ov, ov_0, ov_1, ov_2, ov_3, ov_4, ov_5, ov_6, ov_7, ov_8, ov_9, ov_10, ov_11, ov_12, ov_13, ov_14, ov_15, ov_16, ov_17, ov_18, ov_19, ov_20, ov_21, ov_22, ov_23, ov_24, ov_25, ov_26, ov_27, ov_28, ov_29, ov_30, ov_31, ov_32, ov_33, ov_34, ov_35, ov_36, ov_37, ov_38, ov_39, ov_40, ov_41, ov_42, ov_43, ov_44, ov_45, ov_46, ov_e, ov_s]
  have e : (130 : Int32) + I l = I (130 + l) := I_add 130 l
  simp only [uS_ne (show ¬ 23 = 24 by decide), uS_ne (show ¬ 23 = 25 by decide)]
  rw [h23, e, I_nat (by omega), I_succ]
  have v2 : vp_in (I (130 + l)) 260 := vp_I (by omega) (by omega)
  exact ⟨v2, v2, hQ⟩
theorem M_add {p o : Nat} {P : List Stq} (h : PSt S t p o P) (hT : Tap S) {w v : Int32} (hw : w.toInt8.toInt32 = w) (hQ : ∀ t', PEq P.length t t' → t'.1 20 0 = I p → t'.1 21 0 = -1 → t'.1 22 0 = I o → t'.1 23 0 = I (P ++ [(w, v)]).length → NewAt t' (P ++ [(w, v)]) → Q (.returned none) (ov S t')) : MR G mX5_addStep 1 0 [(0, .ref m), (1, .int w), (2, .int v)] [] m (ov S t) Q := by
  obtain ⟨h20, h21, h22, h23, hN, hp, hP⟩ := h
  have := hT.1
  apply M_addRaw h23 (by omega)
  rw [hw]
  refine hQ _ ⟨rfl, fun k hk => ?_, fun i hi => ⟨?_, ?_⟩⟩ ?_ ?_ ?_ ?_ ?_
  · simp only [List.mem_cons, List.not_mem_nil, or_false, not_or] at hk
    rw [uS_ne hk.2.2.2.1, uS_ne hk.2.2.2.2.2, uS_ne hk.2.2.2.2.1]
  · rw [uS_ne (k' := 24) (by decide), uS_ne (k' := 24) (by decide), uS_nei (by omega)]
  · rw [uS_ne (k' := 25) (by decide), uS_nei (by omega), uS_ne (k' := 25) (by decide)]
  · rw [uS_ne (k' := 20) (by decide), uS_ne (k' := 20) (by decide), uS_ne (k' := 20) (by decide)]; exact h20
  · rw [uS_ne (k' := 21) (by decide), uS_ne (k' := 21) (by decide), uS_ne (k' := 21) (by decide)]; exact h21
  · rw [uS_ne (k' := 22) (by decide), uS_ne (k' := 22) (by decide), uS_ne (k' := 22) (by decide)]; exact h22
  · rw [uS_at]; simp
  · intro i hi
    simp only [List.length_append, List.length_singleton] at hi
    rw [uS_ne (k' := 24) (by decide), uS_ne (k' := 24) (by decide), uS_ne (k' := 25) (by decide)]
    by_cases e : i = P.length
    · subst e
      rw [uS_at, uS_at]; simp
    · rw [uS_nei (by omega), uS_nei (by omega), uS_ne (k' := 25) (by decide), List.getElem_append_left (by omega)]
      exact hN i (by omega)
theorem M_addE {e l k : Nat} (h : PEr S t e l k) (hl : l ≤ 125) {w v : Int32} (hQ : ∀ t', PEq k t t' → PEr S t' e (l + 1) k → Q (.returned none) (ov S t')) : MR G mX5_addStep 1 0 [(0, .ref m), (1, .int w), (2, .int v)] [] m (ov S t) Q := by
  obtain ⟨h20, h21, h23, he, hk⟩ := h
  apply M_addRaw h23 hl
  refine hQ _ ⟨rfl, fun k hk => ?_, fun i hi => ⟨?_, ?_⟩⟩ ⟨?_, ?_, ?_, he, by omega⟩
  · simp only [List.mem_cons, List.not_mem_nil, or_false, not_or] at hk
    rw [uS_ne hk.2.2.2.1, uS_ne hk.2.2.2.2.2, uS_ne hk.2.2.2.2.1]
  · rw [uS_ne (k' := 24) (by decide), uS_ne (k' := 24) (by decide), uS_nei (by omega)]
  · rw [uS_ne (k' := 25) (by decide), uS_nei (by omega), uS_ne (k' := 25) (by decide)]
  · rw [uS_ne (k' := 20) (by decide), uS_ne (k' := 20) (by decide), uS_ne (k' := 20) (by decide)]; exact h20
  · rw [uS_ne (k' := 21) (by decide), uS_ne (k' := 21) (by decide), uS_ne (k' := 21) (by decide)]; exact h21
  · rw [uS_at]
theorem M_nameOf {v : Int32} (hQ : Q (.returned (some (.int (nmO v)))) sg) : MR G mX5_nameOf 1 0 [(0, .int v)] [] m sg Q := by
  unfold nmO at hQ
  apply sX5_nameOf_0
  refine ⟨fun c => ?_, fun c0 => ⟨fun c => ?_, fun c1 => ⟨fun c => ?_, fun c2 => ⟨fun c => ?_, fun c3 => ⟨fun c => ?_, fun c4 => ⟨fun c => ?_, fun c5 => ?_⟩⟩⟩⟩⟩⟩
  · rw [if_pos c] at hQ; exact hQ
  · rw [if_neg c0, if_pos c] at hQ; exact hQ
  · rw [if_neg c0, if_neg c1, if_pos c] at hQ; exact hQ
  · rw [if_neg c0, if_neg c1, if_neg c2, if_pos c] at hQ; exact hQ
  · rw [if_neg c0, if_neg c1, if_neg c2, if_neg c3, if_pos c] at hQ; exact hQ
  · rw [if_neg c0, if_neg c1, if_neg c2, if_neg c3, if_neg c4, if_pos c] at hQ; exact hQ
  · rw [if_neg c0, if_neg c1, if_neg c2, if_neg c3, if_neg c4, if_neg c5] at hQ; exact hQ
/-- the letter at p has been gone over -/
theorem PSt.next {p o : Nat} {P : List Stq} (h : PSt S t p o P) (hp : p < tpN S) : PSt S (uS t 20 0 (t.1 20 0 + 1)) (p + 1) o P := by
  obtain ⟨h20, h21, h22, h23, hN, h1, hP⟩ := h
  refine ⟨by rw [uS_at, h20, I_succ], ?_, ?_, ?_, fun i hi => ?_, by omega, by omega⟩
  · rw [uS_ne (by decide)]; exact h21
  · rw [uS_ne (by decide)]; exact h22
  · rw [uS_ne (by decide)]; exact h23
  · rw [uS_ne (k' := 24) (by decide), uS_ne (k' := 25) (by decide)]; exact hN i hi
theorem PSt.fault {p o : Nat} {P : List Stq} (h : PSt S t p o P) : PEr S (uS t 21 0 (I p)) p P.length P.length := by
  obtain ⟨h20, h21, h22, h23, hN, h1, hP⟩ := h
  exact ⟨by rw [uS_ne (by decide)]; exact h20, uS_at, by rw [uS_ne (by decide)]; exact h23, h1, Nat.le_refl _⟩
theorem M_figure (hT : Tap S) {p o : Nat} {P : List Stq} (h : PSt S t p o P) (hQ : ∀ t', PPost S t p o P (pFig (lkF S) p) t' → Q (.returned none) (ov S t')) : MR G mX5_figure 2 0 [(0, .ref m)] [] m (ov S t) Q := by
  have hn := hT.1
  apply sX5_figure_0
  unfold pFig at hQ
  have err : ∀ (p' : Nat) t1 (a1 : Int32), p ≤ p' → PEq P.length t t1 → PSt S t1 p' o P → (∀ t', PPost S t p o P (.error p') t' → Q (.returned none) (ov S t')) → MR G mX5_faulty 1 0 [(0, .ref m)] [] m (ov S t1) (fun o sg1 => o = .returned none ∧ (MR G mX5_addStep 1 0 [(0, .ref m), (1, .int 1), (2, .int a1)] [] m sg1 (fun o sg2 => o = .returned none ∧ (Q (.returned none) sg2)))) := by
    intro p' t1 a1 hpp hE hP hq
    apply M_faulty hP.1 hP.2.1
    refine ⟨rfl, ?_⟩
    have := hP.fault
    have hl := hP.2.2.2.2.2.2
    have hl2 := hP.2.2.2.2.2.1
    apply M_addE this (by omega)
    intro t2 h2 e2
    refine ⟨rfl, hq t2 ⟨(hE.trans (PEq.u (by simp)) (Nat.le_refl _)).trans h2 (Nat.le_refl _), _, e2, by omega, hpp⟩⟩
  have key : ∀ f, f ≤ 4 → ∀ (v : Int32) (p' : Nat) t1, p ≤ p' → PEq P.length t t1 → PSt S t1 p' o P → fgF (lkF S) f v p' = fgF (lkF S) 4 0 p → (f = 4 → p' = p ∧ v = 0) → (f < 4 → isD (lkF S p) = true ∧ p < p') → MR G mX5_figure 2 4 [(0, .ref m), (1, .int v), (2, .int (I (4 - f)))] [] m (ov S t1) Q := by
    intro f
    induction f with
    | zero =>
      intro _ v p' t1 hpp hE hP hf h4 hlt
      have hd := hlt (by omega)
      refine sX5_figure_4 ⟨fun _ => ?_, fun c => absurd (by decide) c⟩
      apply sX5_figure_52
      refine ⟨fun c => absurd c (by decide), fun _ => ?_⟩
      apply M_look hT hP.1 hP.2.2.2.2.2.1
      refine ⟨_, rfl, ?_⟩
      apply M_in
      have e : fgF (lkF S) 4 0 p = (v, p') := hf.symm
      rw [if_neg (by rw [hd.1]; decide), e] at hQ
      refine ⟨_, rfl, fun c => ?_, fun c => ?_⟩
      · have c : isD (lkF S p') = false := c
        rw [if_neg (by rw [c]; decide)] at hQ
        apply M_add hP hT (by decide)
        intro t2 h2 e20 e21 e22 e23 eN
        refine ⟨rfl, hQ t2 ⟨hE.trans h2 (Nat.le_refl _), e20, e21, e22, e23, eN, hP.2.2.2.2.2.1, ?_⟩⟩
        have := hP.2.2.2.2.2.2
        have hPp := h.2.2.2.2.2.2
        simp; omega
      · have c : isD (lkF S p') = true := c
        rw [if_pos c] at hQ
        exact err p' t1 v hpp hE hP hQ
    | succ f ih =>
      intro hf4 v p' t1 hpp hE hP hf h4 hlt
      apply sX5_figure_4
      refine ⟨fun c => ?_, fun _ => ?_⟩
      · have := (I_le (a := 4) (b := 4 - (f + 1)) (by omega) (by omega)).1 c
        omega
      apply M_look hT hP.1 hP.2.2.2.2.2.1
      refine ⟨_, rfl, ?_⟩
      apply M_in
      refine ⟨_, rfl, fun c => ?_, fun c => ?_⟩
      · have c : isD (lkF S p') = false := c
        apply sX5_figure_52
        refine ⟨fun c2 => ?_, fun c2 => ?_⟩
        · have e4 : f + 1 = 4 := by
            have := (I_inj (a := 4 - (f + 1)) (b := 0) (by omega) (by omega)).1 c2
            omega
          obtain ⟨rfl, rfl⟩ := h4 e4
          rw [if_pos c] at hQ
          exact err p' t1 0 hpp hE hP hQ
        · have hlt4 : f + 1 < 4 := by
            apply Nat.lt_of_le_of_ne hf4
            intro e; apply c2; rw [e]; rfl
          have hd := hlt hlt4
          apply M_look hT hP.1 hP.2.2.2.2.2.1
          refine ⟨_, rfl, ?_⟩
          apply M_in
          have e : fgF (lkF S) 4 0 p = (v, p') := by
            rw [← hf]
            show (if isD (lkF S p') = true then _ else _) = _
            rw [if_neg (by rw [c]; decide)]
          rw [if_neg (by rw [hd.1]; decide), e, if_neg (by simp only; rw [c]; decide)] at hQ
          refine ⟨_, rfl, fun c => ?_, fun c' => ?_⟩
          · apply M_add hP hT (by decide)
            intro t2 h2 e20 e21 e22 e23 eN
            refine ⟨rfl, hQ t2 ⟨hE.trans h2 (Nat.le_refl _), e20, e21, e22, e23, eN, hP.2.2.2.2.2.1, ?_⟩⟩
            have hPp := h.2.2.2.2.2.2
            simp; omega
          · have c' : isD (lkF S p') = true := c'
            rw [c] at c'; cases c'
      · have c : isD (lkF S p') = true := c
        have hpn : p' < tpN S := c_in lk_end (isD_n1 c)
        apply M_look hT hP.1 hP.2.2.2.2.2.1
        refine ⟨_, rfl, ?_⟩
        rw [I_succ, show 4 - (f + 1) + 1 = 4 - f by omega, uo_20, ov_20]
        refine ih (by omega) _ (p' + 1) _ (by omega) (hE.trans (PEq.u (by simp)) (Nat.le_refl _)) (hP.next hpn) ?_ (fun e => by omega) (fun _ => ⟨?_, by omega⟩)
        · rw [← hf]
          show _ = (if isD (lkF S p') = true then _ else _)
          rw [if_pos c]
        · by_cases e4 : f + 1 = 4
          · rw [(h4 e4).1] at c; exact c
          · exact (hlt (by omega)).1
  exact key 4 (Nat.le_refl _) 0 p t (Nat.le_refl _) PEq.refl h rfl (fun _ => ⟨rfl, rfl⟩) (fun h => by omega)
def MMeth (G : GG) (m : Nat) (S : MS) (mth : MD) (D : Nat) (spec : Nat → PR) (o : Nat) : Prop := ∀ d, D ≤ d → ∀ (t : MS) (p : Nat) (P : List Stq) (Q : Outcome → MS → Prop), PSt S t p o P → (∀ t', PPost S t p o P (spec p) t' → Q (.returned none) (ov S t')) → MR G mth d 0 [(0, .ref m)] [] m (ov S t) Q
theorem PPost.sub {p o p1 : Nat} {P : List Stq} {r : PR} {t' : MS} (h : PPost S t p o P r t') : PEq P.length t t' := h.1
theorem M_two {mth : MD} {D d' o : Nat} {one : Nat → PR} (hone : MMeth G m S mth D one o) (hT : Tap S) (hD : D ≤ d') (hR : ∀ p, p ≤ tpN S → RG (tpN S) p (one p)) {p1 : Nat} {P1 : List Stq} {w : Int32} {C : MS → Prop} (h : PSt S t p1 o P1) (hlt : P1.length < p1) (hw : w.toInt8.toInt32 = w)
    (kE : ∀ e, one p1 = .error e → ∀ t' l, PEq P1.length t t' → PEr S t' e l P1.length → l ≤ P1.length + (e - p1) + 2 → p1 ≤ e → C (ov S t'))
    (kO : ∀ q, one p1 = .ok q → ∀ t', PEq P1.length t t' → PSt S t' q.2 o (P1 ++ q.1 ++ [(w, 0)]) → C (ov S t')) :
    MR G mth d' 0 [(0, .ref m)] [] m (ov S t) (fun o sg3 => o = .returned none ∧ (MR G mX5_addStep 1 0 [(0, .ref m), (1, .int w), (2, .int 0)] [] m sg3 (fun o sg4 => o = .returned none ∧ C sg4))) := by
  have hn := hT.1
  have hpn := h.2.2.2.2.2.1
  have rg := hR p1 hpn
  refine hone d' hD t p1 P1 _ h (fun t1 h1 => ⟨rfl, ?_⟩)
  obtain ⟨hE, h1⟩ := h1
  cases e : one p1 with
  | error x =>
    rw [e] at h1 rg
    obtain ⟨l, g1, g2, g3⟩ := h1
    have rg : p1 ≤ x ∧ x ≤ tpN S := rg
    apply M_addE g1 (by omega)
    intro t2 h2 g4
    exact ⟨rfl, kE x e t2 (l + 1) (hE.trans h2 (Nat.le_refl _)) g4 (by omega) g3⟩
  | ok q =>
    rw [e] at h1 rg
    obtain ⟨r1, r2, r3, r4, r5⟩ := rg
    apply M_add h1 hT hw
    intro t2 h2 e20 e21 e22 e23 eN
    refine ⟨rfl, kO q e t2 (hE.trans h2 (by simp)) ⟨e20, e21, e22, e23, eN, r4, ?_⟩⟩
    simp only [List.length_append, List.length_singleton]; omega
theorem fz {t : MS} {e : Nat} (he : e ≤ 1000) (h : t.1 21 0 = I e) : 0 ≤ (ov S t).1 21 0 := by
  rw [ov_21, h]; exact nlt_I.1 (I_nonneg (by omega))
theorem fn {t : MS} (h : t.1 21 0 = -1) : ¬ 0 ≤ (ov S t).1 21 0 := by
  rw [ov_21, h]; decide
/-- an error behind a sign is an error of the whole -/
theorem chE {c : Nat → Int32} {one : Nat → PR} {sg : Int32 → Bool} {f : Nat} {pr : List Stq} {p e : Nat} (h : sg (c p) = true) (h1 : one (p + 1) = .error e) : chn c one sg (f + 1) pr p = .error e := by
  unfold chn; rw [if_pos h, h1]
theorem chO {c : Nat → Int32} {one : Nat → PR} {sg : Int32 → Bool} {f : Nat} {pr : List Stq} {p : Nat} {q : List Stq × Nat} (h : sg (c p) = true) (h1 : one (p + 1) = .ok q) : chn c one sg (f + 1) pr p = chn c one sg f (pr ++ q.1 ++ [(c p, 0)]) q.2 := by
  conv => lhs; unfold chn
  rw [if_pos h, h1]
theorem chN {c : Nat → Int32} {one : Nat → PR} {sg : Int32 → Bool} {f : Nat} {pr : List Stq} {p : Nat} (h : sg (c p) = false) : chn c one sg (f + 1) pr p = .ok (pr, p) := by
  unfold chn; rw [if_neg (by rw [h]; decide)]
section
variable {D o : Nat} {one : Nat → PR}
/-- a chain: the loop's step is given -/
theorem M_chain {mth : MD} {mo : MD} {sg : Int32 → Bool} (h9 : 9 ≤ D) (hT : Tap S) (hs : SgOK sg) (hone : MMeth G m S mo D one o) (hR : ∀ p, p ≤ tpN S → RG (tpN S) p (one p))
    (start : ∀ d, D + 1 ≤ d → ∀ (t : MS) (Q : Outcome → MS → Prop), MR G mo (d - 1) 0 [(0, .ref m)] [] m (ov S t) (fun o sg1 => o = .returned none ∧ (MR G mth d 4 [(0, .ref m)] [] m sg1 Q)) → MR G mth d 0 [(0, .ref m)] [] m (ov S t) Q)
    (stop : ∀ d, D + 1 ≤ d → ∀ (t : MS) (Q : Outcome → MS → Prop) (e : Nat), e ≤ 120 → t.1 21 0 = I e → Q (.returned none) (ov S t) → MR G mth d 4 [(0, .ref m)] [] m (ov S t) Q)
    (step : ∀ d, D + 1 ≤ d → ∀ (t : MS) (p : Nat) (P : List Stq) (Q : Outcome → MS → Prop), PSt S t p o P → (sg (lkF S p) = false → Q (.returned none) (ov S t)) → (sg (lkF S p) = true → MR G mo (d - 1) 0 [(0, .ref m)] [] m (ov S (uS t 20 0 (t.1 20 0 + 1))) (fun o sg3 => o = .returned none ∧ (MR G mX5_addStep 1 0 [(0, .ref m), (1, .int (lkF S p)), (2, .int 0)] [] m sg3 (fun o sg4 => o = .returned none ∧ (MR G mth d 4 [(0, .ref m)] [] m sg4 Q))))) → MR G mth d 4 [(0, .ref m)] [] m (ov S t) Q) :
    MMeth G m S mth (D + 1) (pCh (lkF S) one sg) o := by
  intro d hd t p P Q h hQ
  have hn := hT.1
  have hpn := h.2.2.2.2.2.1
  have hPl := h.2.2.2.2.2.2
  have loop : ∀ f (pr : List Stq) (p1 : Nat) (t1 : MS), tpN S < p1 + f → p < p1 → pr.length ≤ p1 - p → PEq P.length t t1 → PSt S t1 p1 o (P ++ pr) → (∀ t', PPost S t p o P (chn (lkF S) one sg f pr p1) t' → Q (.returned none) (ov S t')) → MR G mth d 4 [(0, .ref m)] [] m (ov S t1) Q := by
    intro f
    induction f with
    | zero => intro pr p1 t1 h1 _ _ _ h2; have := h2.2.2.2.2.2.1; omega
    | succ f ih =>
      intro pr p1 t1 h1 hp1 hpr hE h2 hq
      apply step d hd t1 p1 (P ++ pr) Q h2
      · intro hsg
        rw [chN hsg] at hq
        exact hq t1 ⟨hE, h2⟩
      · intro hsg
        obtain ⟨s1, s2, s3, s4, s5, s6⟩ := hs _ hsg
        have hp1n := c_in lk_end s1
        have hnx := h2.next hp1n
        have hll := h2.2.2.2.2.2.2
        simp only [List.length_append] at hll
        refine M_two hone hT (by omega) hR hnx (by simp only [List.length_append]; omega) s6 (fun e he t' l hE' hr hl hle => ?_) (fun q he t' hE' hP' => ?_)
        · rw [chE hsg he] at hq
          have hr' := hr
          obtain ⟨r20, r21, r23, rn, rk⟩ := hr
          refine stop d hd t' Q e (by omega) r21 (hq t' ⟨?_, l, ⟨r20, r21, r23, rn, ?_⟩, ?_, by omega⟩)
          · exact hE.trans ((PEq.u (by simp)).trans hE' (Nat.le_refl _)) (by simp)
          · simp only [List.length_append] at rk; omega
          · simp only [List.length_append] at hl; omega
        · rw [chO hsg he] at hq
          have rg := hR (p1 + 1) (by omega)
          rw [he] at rg
          obtain ⟨r1, r2, r3, r4, r5⟩ := rg
          refine ih _ q.2 t' (by omega) (by omega) ?_ (hE.trans ((PEq.u (by simp)).trans hE' (Nat.le_refl _)) (by simp)) ?_ hq
          · simp only [List.length_append, List.length_singleton]; omega
          · simpa only [List.append_assoc] using hP'
  apply start d hd
  refine hone (d - 1) (by omega) t p P _ h (fun t1 h1 => ⟨rfl, ?_⟩)
  obtain ⟨hE, h1⟩ := h1
  have rg := hR p hpn
  unfold pCh at hQ
  cases e : one p with
  | error x =>
    rw [e] at h1 rg hQ
    have rg : p ≤ x ∧ x ≤ tpN S := rg
    obtain ⟨l, g1, g2, g3⟩ := h1
    exact stop d hd t1 Q x (by omega) g1.2.1 (hQ t1 ⟨hE, l, g1, g2, g3⟩)
  | ok q =>
    rw [e] at h1 rg hQ
    obtain ⟨r1, r2, r3, r4, r5⟩ := rg
    exact loop 130 q.1 q.2 t1 (by omega) r3 r5 hE h1 hQ
theorem M_product (h9 : 9 ≤ D) (hT : Tap S) (hone : MMeth G m S mX5_operand D one o) (hR : ∀ p, p ≤ tpN S → RG (tpN S) p (one p)) : MMeth G m S mX5_product (D + 1) (pT (lkF S) one) o := by
  refine M_chain h9 hT sgMul hone hR (fun d hd t Q w => sX5_product_0 (d' := d - 1) (by omega) (by omega) w) (fun d hd t Q e he h q => sX5_product_4 (d' := d - 1) (by omega) (by omega) ⟨fun _ => q, fun c => absurd (fz (by omega) h) c⟩) (fun d hd t p P Q h q1 q2 => ?_)
  have hl := h.2.2.2.2.2.1
  have go : isMul (lkF S p) = true → MR G mX5_product d 38 [(0, .ref m)] [] m (ov S t) Q := by
    intro hm
    apply sX5_product_38 (d' := d - 1) (by omega) (by omega)
    apply M_look hT h.1 hl
    refine ⟨_, rfl, ?_⟩
    rw [uo_20, ov_20]
    exact q2 hm
  apply sX5_product_4 (d' := d - 1) (by omega) (by omega)
  refine ⟨fun c => absurd c (fn h.2.1), fun _ => ?_⟩
  apply M_look hT h.1 hl
  refine ⟨_, rfl, fun c => go (by simp [isMul, c]), fun c => ?_⟩
  apply M_look hT h.1 hl
  refine ⟨_, rfl, fun c2 => go (by simp [isMul, c2]), fun c2 => ?_⟩
  apply M_look hT h.1 hl
  exact ⟨_, rfl, fun c3 => q1 (by simp [isMul, c, c2, c3]), fun c3 => go (by simp [isMul, c3])⟩
theorem M_sum (h9 : 9 ≤ D) (hT : Tap S) (hone : MMeth G m S mX5_product D one o) (hR : ∀ p, p ≤ tpN S → RG (tpN S) p (one p)) : MMeth G m S mX5_sum (D + 1) (pCh (lkF S) one isAdd) o := by
  refine M_chain h9 hT sgAdd hone hR (fun d hd t Q w => sX5_sum_0 (d' := d - 1) (by omega) (by omega) w) (fun d hd t Q e he h q => sX5_sum_4 (d' := d - 1) (by omega) (by omega) ⟨fun _ => q, fun c => absurd (fz (by omega) h) c⟩) (fun d hd t p P Q h q1 q2 => ?_)
  have hl := h.2.2.2.2.2.1
  have go : isAdd (lkF S p) = true → MR G mX5_sum d 29 [(0, .ref m)] [] m (ov S t) Q := by
    intro hm
    apply sX5_sum_29 (d' := d - 1) (by omega) (by omega)
    apply M_look hT h.1 hl
    refine ⟨_, rfl, ?_⟩
    rw [uo_20, ov_20]
    exact q2 hm
  apply sX5_sum_4 (d' := d - 1) (by omega) (by omega)
  refine ⟨fun c => absurd c (fn h.2.1), fun _ => ?_⟩
  apply M_look hT h.1 hl
  refine ⟨_, rfl, fun c => go (by simp [isAdd, c]), fun c => ?_⟩
  apply M_look hT h.1 hl
  exact ⟨_, rfl, fun c3 => q1 (by simp [isAdd, c, c3]), fun c3 => go (by simp [isAdd, c3])⟩
theorem M_compared (h9 : 9 ≤ D) (hT : Tap S) (hone : MMeth G m S mX5_sum D one o) (hR : ∀ p, p ≤ tpN S → RG (tpN S) p (one p)) : MMeth G m S mX5_compared (D + 1) (pLk (lkF S) one) o := by
  intro d hd t p P Q h hQ
  have hn := hT.1
  have hpn := h.2.2.2.2.2.1
  have hPl := h.2.2.2.2.2.2
  apply sX5_compared_0 (d' := d - 1) (by omega) (by omega)
  refine hone (d - 1) (by omega) t p P _ h (fun t1 h1 => ⟨rfl, ?_⟩)
  obtain ⟨hE, h1⟩ := h1
  have rg := hR p hpn
  unfold pLk at hQ
  cases e : one p with
  | error x =>
    rw [e] at h1 rg hQ
    have rg : p ≤ x ∧ x ≤ tpN S := rg
    obtain ⟨l, g1, g2, g3⟩ := h1
    apply M_look hT g1.1 g1.2.2.2.1
    exact ⟨_, rfl, fun _ => hQ t1 ⟨hE, l, g1, g2, g3⟩, fun c => absurd (fz (by omega) g1.2.1) c⟩
  | ok q =>
    rw [e] at h1 rg hQ
    simp only at hQ
    obtain ⟨r1, r2, r3, r4, r5⟩ := rg
    have h1 : PSt S t1 q.2 o (P ++ q.1) := h1
    apply M_look hT h1.1 r4
    have go : isCmp (lkF S q.2) = true → MR G mX5_sum (d - 1) 0 [(0, .ref m)] [] m (uS (ov S t1) 20 0 ((ov S t1).1 20 0 + 1)) (fun o sg4 => o = .returned none ∧ (MR G mX5_addStep 1 0 [(0, .ref m), (1, .int (lkF S q.2)), (2, .int 0)] [] m sg4 (fun o sg5 => o = .returned none ∧ (Q (.returned none) sg5)))) := by
      intro hm
      rw [uo_20, ov_20]
      obtain ⟨s1, s2, s3, s4, s5, s6⟩ := sgCmp _ hm
      have hp1n := c_in lk_end s1
      have hnx := h1.next hp1n
      rw [if_pos hm] at hQ
      refine M_two hone hT (by omega) hR hnx (by simp only [List.length_append]; omega) s6 (fun e he t' l hE' hr hl hle => ?_) (fun r he t' hE' hP' => ?_)
      · rw [he] at hQ
        obtain ⟨r20, r21, r23, rn, rk⟩ := hr
        refine hQ t' ⟨hE.trans ((PEq.u (by simp)).trans hE' (Nat.le_refl _)) (by simp), l, ⟨r20, r21, r23, rn, ?_⟩, ?_, by omega⟩
        · simp only [List.length_append] at rk; omega
        · simp only [List.length_append] at hl; omega
      · rw [he] at hQ
        refine hQ t' ⟨hE.trans ((PEq.u (by simp)).trans hE' (Nat.le_refl _)) (by simp), ?_⟩
        simpa only [List.append_assoc] using hP'
    refine ⟨_, rfl, fun c => absurd c (fn h1.2.1), fun _ => ⟨fun c => go (by simp [isCmp, c]), fun c => ⟨fun c2 => go (by simp [isCmp, c2]), fun c2 => ⟨fun c3 => go (by simp [isCmp, c3]), fun c3 => ?_⟩⟩⟩⟩
    rw [if_neg (by simp [isCmp, c, c2, c3])] at hQ
    exact hQ t1 ⟨hE, h1⟩
theorem M_both (h9 : 9 ≤ D) (hT : Tap S) (hone : MMeth G m S mX5_compared D one o) (hR : ∀ p, p ≤ tpN S → RG (tpN S) p (one p)) : MMeth G m S mX5_both (D + 1) (pCh (lkF S) one isAnd) o := by
  refine M_chain h9 hT sgAnd hone hR (fun d hd t Q w => sX5_both_0 (d' := d - 1) (by omega) (by omega) w) (fun d hd t Q e he h q => sX5_both_4 (d' := d - 1) (by omega) (by omega) ⟨fun _ => q, fun c => absurd (fz (by omega) h) c⟩) (fun d hd t p P Q h q1 q2 => ?_)
  apply sX5_both_4 (d' := d - 1) (by omega) (by omega)
  refine ⟨fun c => absurd c (fn h.2.1), fun _ => ?_⟩
  apply M_look hT h.1 h.2.2.2.2.2.1
  refine ⟨_, rfl, fun c => q1 (by simp [isAnd, c]), fun c => ?_⟩
  have := q2 (by simp [isAnd, c])
  rw [c] at this
  rw [uo_20, ov_20]; exact this
theorem M_either (h9 : 9 ≤ D) (hT : Tap S) (hone : MMeth G m S mX5_both D one o) (hR : ∀ p, p ≤ tpN S → RG (tpN S) p (one p)) : MMeth G m S mX5_either (D + 1) (pCh (lkF S) one isOr) o := by
  refine M_chain h9 hT sgOr hone hR (fun d hd t Q w => sX5_either_0 (d' := d - 1) (by omega) (by omega) w) (fun d hd t Q e he h q => sX5_either_4 (d' := d - 1) (by omega) (by omega) ⟨fun _ => q, fun c => absurd (fz (by omega) h) c⟩) (fun d hd t p P Q h q1 q2 => ?_)
  apply sX5_either_4 (d' := d - 1) (by omega) (by omega)
  refine ⟨fun c => absurd c (fn h.2.1), fun _ => ?_⟩
  apply M_look hT h.1 h.2.2.2.2.2.1
  refine ⟨_, rfl, fun c => q1 (by simp [isOr, c]), fun c => ?_⟩
  have := q2 (by simp [isOr, c])
  rw [c] at this
  rw [uo_20, ov_20]; exact this
theorem M_eitherAll (h9 : 9 ≤ D) (hT : Tap S) (hone : MMeth G m S mX5_operand D one o) (hR : ∀ p, p ≤ tpN S → RG (tpN S) p (one p)) : MMeth G m S mX5_either (D + 5) (pE (lkF S) one) o :=
  have h1 := rg_ch lk_end sgMul hR
  have h2 := rg_ch lk_end sgAdd h1
  have h3 := rg_lk lk_end h2
  have h4 := rg_ch lk_end sgAnd h3
  M_either (by omega) hT (M_both (by omega) hT (M_compared (by omega) hT (M_sum (by omega) hT (M_product h9 hT hone hR) h1) h2) h3) h4
end
theorem M_opens {p o : Nat} {P : List Stq} (h : PSt S t p o P) (ho : o ≤ 6) (hp : p < tpN S) (hQ : ¬ o = 6 → ∀ t', PEq P.length t t' → PSt S t' (p + 1) (o + 1) P → Q (.returned (some (.int (bi true)))) (ov S t')) (hE : o = 6 → ∀ t', PEq P.length t t' → PEr S t' p P.length P.length → Q (.returned (some (.int (bi false)))) (ov S t')) : MR G mX5_opens 2 0 [(0, .ref m)] [] m (ov S t) Q := by
  have h' := h
  obtain ⟨h20, h21, h22, h23, hN, h1, hP⟩ := h
  apply sX5_opens_0
  simp only [uo_0, uo_1, uo_2, uo_3, uo_4, uo_5, uo_6, uo_7, uo_8, uo_9, uo_10, uo_11, uo_12, uo_13, uo_14, uo_15, uo_16, uo_17, uo_18, uo_19, uo_20, uo_21, uo_22, uo_23, uo_24, uo_25, uo_26, uo_27, uo_28, uo_29, uo_30, uo_31, uo_32, uo_33, uo_34, uo_35, uo_36, uo_37, uo_38, uo_39, uo_40, uo_41, uo_42, uo_43, uo_44, uo_45, uE_ov, ov_0, ov_1, ov_2, ov_3, ov_4, ov_5, ov_6, ov_7, ov_8, ov_9, ov_10, ov_11, ov_12, ov_13, ov_14, ov_15, ov_16, ov_17, ov_18, ov_19, ov_20, ov_21, ov_22, ov_23, ov_24, ov_25, ov_26, ov_27, ov_28, ov_29, ov_30, ov_31, ov_32, ov_33, ov_34, ov_35, ov_36, ov_37, ov_38, ov_39, ov_40, ov_41, ov_42, ov_43, ov_44, ov_45, ov_46, ov_e, ov_s]
  rw [uS_ne (k' := 20) (by decide), h22, h20, I_succ, I_succ]
  refine ⟨fun c => ?_, fun c => ?_⟩
  · refine hQ (fun e => c (by rw [e]; rfl)) _ ((PEq.u (by simp)).trans (PEq.u (by simp)) (Nat.le_refl _)) ⟨uS_at, ?_, ?_, ?_, fun i hi => ?_, by omega, by omega⟩
    · rw [uS_ne (by decide), uS_ne (by decide)]; exact h21
    · rw [uS_ne (by decide), uS_at]
    · rw [uS_ne (by decide), uS_ne (by decide)]; exact h23
    · rw [uS_ne (k' := 24) (by decide), uS_ne (k' := 24) (by decide), uS_ne (k' := 25) (by decide), uS_ne (k' := 25) (by decide)]; exact hN i hi
  · have e6 : o = 6 := (I_inj (b := 6) (by omega) (by omega)).1 c
    apply M_faulty h20 h21
    exact ⟨rfl, hE e6 _ (PEq.u (by simp)) h'.fault⟩
theorem PSt.shut {p o : Nat} {P : List Stq} (h : PSt S t p (o + 1) P) (ho : o ≤ 6) : PSt S (uS t 22 0 (t.1 22 0 - 1)) p o P := by
  obtain ⟨h20, h21, h22, h23, hN, h1, hP⟩ := h
  refine ⟨?_, ?_, ?_, ?_, fun i hi => ?_, h1, hP⟩
  · rw [uS_ne (by decide)]; exact h20
  · rw [uS_ne (by decide)]; exact h21
  · rw [uS_at, h22, I_pred (by omega)]; rfl
  · rw [uS_ne (by decide)]; exact h23
  · rw [uS_ne (k' := 24) (by decide), uS_ne (k' := 25) (by decide)]; exact hN i hi
theorem PEr.w {e l k k' : Nat} (h : PEr S t e l k) (hk : k' ≤ k) : PEr S t e l k' := ⟨h.1, h.2.1, h.2.2.1, h.2.2.2.1, by have := h.2.2.2.2; omega⟩
theorem PEr.u22 {e l k : Nat} {v : Int32} (h : PEr S t e l k) : PEr S (uS t 22 0 v) e l k := ⟨by rw [uS_ne (by decide)]; exact h.1, by rw [uS_ne (by decide)]; exact h.2.1, by rw [uS_ne (by decide)]; exact h.2.2.1, h.2.2.2.1, h.2.2.2.2⟩
theorem M_operand (hT : Tap S) : ∀ k, k ≤ 6 → MMeth G m S mX5_operand (10 + 6 * k) (pOne (lkF S) k) (6 - k) := by
  have hn := hT.1
  intro k
  induction k with
  | zero =>
    intro _ d hd t p P Q h hQ
    have hpn := h.2.2.2.2.2.1
    have hPl := h.2.2.2.2.2.2
    have er : ∀ v : Int32, lkF S p = v → ¬ v = -1 → pOne (lkF S) 0 p = .error p → ∀ t', PEq P.length t t' → PEr S t' p P.length P.length → Q (.returned none) (ov S t') := by
      intro v _ _ e t' hE hr
      rw [e] at hQ
      exact hQ t' ⟨hE, P.length, hr, by omega, Nat.le_refl _⟩
    have neg : lkF S p = 33 ∨ lkF S p = 45 → MR G mX5_operand d 46 [(0, .ref m), (1, .int (lkF S p))] [] m (ov S t) Q := by
      intro hc
      have hp1 : p < tpN S := c_in lk_end (by rcases hc with h | h <;> rw [h] <;> decide)
      apply sX5_operand_46 (d' := d - 1) (by omega) (by omega)
      apply M_opens h (by omega) hp1
      · intro h6; exact absurd rfl h6
      · intro _ t' hE hr
        refine ⟨_, rfl, fun c => absurd c (by decide), fun _ => er _ rfl (by rcases hc with h | h <;> rw [h] <;> decide) ?_ t' hE hr⟩
        unfold pOne
        rw [if_neg (by rcases hc with h | h <;> rw [h] <;> decide), if_pos hc]
    apply sX5_operand_0 (d' := d - 1) (by omega) (by omega)
    apply M_look hT h.1 hpn
    refine ⟨_, rfl, ?_⟩
    apply M_nameOf
    refine ⟨_, rfl, fun c => ⟨fun c1 => neg (Or.inl c1), fun c1 => ⟨fun c2 => ⟨fun c3 => ?_, fun c3 => ?_⟩, fun c2 => neg (Or.inr c2)⟩⟩, fun c => ?_⟩
    · apply M_figure hT h
      intro t' ht'
      refine ⟨rfl, hQ t' ?_⟩
      unfold pOne
      rw [if_neg (fun x => x c), if_neg (by simp [c1, c2]), if_neg c3]; exact ht'
    · have hp1 : p < tpN S := c_in lk_end (by rw [c3]; decide)
      apply M_opens h (by omega) hp1
      · intro h6; exact absurd rfl h6
      · intro _ t' hE hr
        refine ⟨_, rfl, fun c => absurd c (by decide), fun _ => er _ rfl (by rw [c3]; decide) ?_ t' hE hr⟩
        unfold pOne
        rw [if_neg (by rw [c3]; decide), if_neg (by simp [c1, c2]), if_pos c3]
    · have hp1 : p < tpN S := c_in lk_end (nmO_rg c).1
      apply M_nameOf
      refine ⟨_, rfl, ?_⟩
      apply M_add h hT (by decide)
      intro t1 hE e20 e21 e22 e23 eN
      refine ⟨rfl, ?_⟩
      rw [uo_20, ov_20, e20, I_succ]
      refine hQ _ ⟨hE.trans (PEq.u (by simp)) (Nat.le_refl _), ?_⟩
      unfold pOne
      rw [if_pos c]
      refine ⟨uS_at, ?_, ?_, ?_, fun i hi => ?_, by simp only; omega, by simp; omega⟩
      · rw [uS_ne (by decide)]; exact e21
      · rw [uS_ne (by decide)]; exact e22
      · rw [uS_ne (by decide)]; exact e23
      · rw [uS_ne (k' := 24) (by decide), uS_ne (k' := 25) (by decide)]; exact eN i hi
  | succ k ih =>
    intro hk6 d hd t p P Q h hQ
    have ih := ih (by omega)
    have ho : 6 - k = 6 - (k + 1) + 1 := by omega
    rw [ho] at ih
    have hpn := h.2.2.2.2.2.1
    have hPl := h.2.2.2.2.2.2
    have hR := rg_one (c := lkF S) (n := tpN S) lk_end k
    have neg : lkF S p = 33 ∨ lkF S p = 45 → MR G mX5_operand d 46 [(0, .ref m), (1, .int (lkF S p))] [] m (ov S t) Q := by
      intro hc
      have hp1 : p < tpN S := c_in lk_end (by rcases hc with h | h <;> rw [h] <;> decide)
      unfold pOne at hQ
      rw [if_neg (by rcases hc with h | h <;> rw [h] <;> decide), if_pos hc] at hQ
      apply sX5_operand_46 (d' := d - 1) (by omega) (by omega)
      apply M_opens h (by omega) hp1
      · intro _ t1 hE1 h1
        refine ⟨_, rfl, fun _ => ?_, fun c => absurd c (by decide)⟩
        have rg := hR (p + 1) (by omega)
        refine ih (d - 1) (by omega) t1 (p + 1) P _ h1 (fun t2 h2 => ⟨rfl, ?_⟩)
        obtain ⟨hE2, h2⟩ := h2
        have fin : ∀ w : Int32, w = (if lkF S p = 33 then 3 else 4) → MR G mX5_addStep 1 0 [(0, .ref m), (1, .int w), (2, .int 0)] [] m (uS (ov S t2) 22 0 ((ov S t2).1 22 0 - 1)) (fun o sg4 => o = .returned none ∧ (Q (.returned none) sg4)) := by
          intro w hw
          have w8 : w.toInt8.toInt32 = w := by rw [hw]; split <;> decide
          rw [uo_22, ov_22]
          cases e : pOne (lkF S) k (p + 1) with
          | error x =>
            rw [e] at h2 rg hQ
            have rg : p + 1 ≤ x ∧ x ≤ tpN S := rg
            obtain ⟨l, g1, g2, g3⟩ := h2
            apply M_addE g1.u22 (by omega)
            intro t3 h3 g4
            exact ⟨rfl, hQ t3 ⟨hE1.trans ((hE2.trans (PEq.u (by simp)) (Nat.le_refl _)).trans h3 (Nat.le_refl _)) (Nat.le_refl _), l + 1, g4, by omega, by omega⟩⟩
          | ok q =>
            rw [e] at h2 rg hQ
            obtain ⟨r1, r2, r3, r4, r5⟩ := rg
            have h2 : PSt S t2 q.2 (6 - (k + 1) + 1) (P ++ q.1) := h2
            apply M_add (h2.shut (by omega)) hT w8
            intro t3 hE3 e20 e21 e22 e23 eN
            refine ⟨rfl, hQ t3 ⟨hE1.trans ((hE2.trans (PEq.u (by simp)) (Nat.le_refl _)).trans hE3 (by simp)) (Nat.le_refl _), ?_⟩⟩
            simp only
            rw [← hw, ← List.append_assoc]
            refine ⟨e20, e21, e22, e23, eN, r4, ?_⟩
            simp only [List.length_append, List.length_singleton]; omega
        exact ⟨fun c => fin 4 (by rw [if_neg c]), fun c => fin 3 (by rw [if_pos c])⟩
      · intro h6; omega
    apply sX5_operand_0 (d' := d - 1) (by omega) (by omega)
    apply M_look hT h.1 hpn
    refine ⟨_, rfl, ?_⟩
    apply M_nameOf
    refine ⟨_, rfl, fun c => ⟨fun c1 => neg (Or.inl c1), fun c1 => ⟨fun c2 => ⟨fun c3 => ?_, fun c3 => ?_⟩, fun c2 => neg (Or.inr c2)⟩⟩, fun c => ?_⟩
    · apply M_figure hT h
      intro t' ht'
      refine ⟨rfl, hQ t' ?_⟩
      unfold pOne
      rw [if_neg (fun x => x c), if_neg (by simp [c1, c2]), if_neg c3]; exact ht'
    · have hp1 : p < tpN S := c_in lk_end (by rw [c3]; decide)
      unfold pOne at hQ
      rw [if_neg (fun x => x c), if_neg (by simp [c1, c2]), if_pos c3] at hQ
      apply M_opens h (by omega) hp1
      · intro _ t1 hE1 h1
        refine ⟨_, rfl, fun _ => ?_, fun c => absurd c (by decide)⟩
        have rg := rg_pE lk_end hR (p + 1) (by omega)
        refine M_eitherAll (by omega) hT ih hR (d - 1) (by omega) t1 (p + 1) P _ h1 (fun t2 h2 => ⟨rfl, ?_⟩)
        obtain ⟨hE2, h2⟩ := h2
        cases e : pE (lkF S) (pOne (lkF S) k) (p + 1) with
        | error x =>
          rw [e] at h2 rg hQ
          have rg : p + 1 ≤ x ∧ x ≤ tpN S := rg
          obtain ⟨l, g1, g2, g3⟩ := h2
          refine ⟨fun c => absurd (fz (S := S) (by omega) g1.2.1) (nle_I.2 c), fun _ => hQ t2 ⟨hE1.trans hE2 (Nat.le_refl _), l, g1, by omega, by omega⟩⟩
        | ok q =>
          rw [e] at h2 rg hQ
          obtain ⟨r1, r2, r3, r4, r5⟩ := rg
          have h2 : PSt S t2 q.2 (6 - (k + 1) + 1) (P ++ q.1) := h2
          simp only at hQ
          refine ⟨fun _ => ?_, fun c => absurd (nle_I.1 (fn (S := S) h2.2.1)) c⟩
          apply M_look hT h2.1 r4
          refine ⟨_, rfl, fun c4 => ?_, fun c4 => ?_⟩
          · rw [if_pos c4] at hQ
            have hq1 : q.2 < tpN S := c_in lk_end (by rw [c4]; decide)
            simp only [uo_0, uo_1, uo_2, uo_3, uo_4, uo_5, uo_6, uo_7, uo_8, uo_9, uo_10, uo_11, uo_12, uo_13, uo_14, uo_15, uo_16, uo_17, uo_18, uo_19, uo_20, uo_21, uo_22, uo_23, uo_24, uo_25, uo_26, uo_27, uo_28, uo_29, uo_30, uo_31, uo_32, uo_33, uo_34, uo_35, uo_36, uo_37, uo_38, uo_39, uo_40, uo_41, uo_42, uo_43, uo_44, uo_45, uE_ov, ov_0, ov_1, ov_2, ov_3, ov_4, ov_5, ov_6, ov_7, ov_8, ov_9, ov_10, ov_11, ov_12, ov_13, ov_14, ov_15, ov_16, ov_17, ov_18, ov_19, ov_20, ov_21, ov_22, ov_23, ov_24, ov_25, ov_26, ov_27, ov_28, ov_29, ov_30, ov_31, ov_32, ov_33, ov_34, ov_35, ov_36, ov_37, ov_38, ov_39, ov_40, ov_41, ov_42, ov_43, ov_44, ov_45, ov_46, ov_e, ov_s]
            have h3 := (h2.next hq1).shut (by omega)
            exact hQ _ ⟨hE1.trans ((hE2.trans (PEq.u (by simp)) (Nat.le_refl _)).trans (PEq.u (by simp)) (Nat.le_refl _)) (Nat.le_refl _), h3⟩
          · rw [if_neg c4] at hQ
            apply M_faulty h2.1 h2.2.1
            refine ⟨rfl, hQ _ ⟨hE1.trans (hE2.trans (PEq.u (by simp)) (Nat.le_refl _)) (Nat.le_refl _), (P ++ q.1).length, h2.fault.w (by simp), ?_, by omega⟩⟩
            simp only [List.length_append]; omega
      · intro h6; omega
    · have hp1 : p < tpN S := c_in lk_end (nmO_rg c).1
      apply M_nameOf
      refine ⟨_, rfl, ?_⟩
      apply M_add h hT (by decide)
      intro t1 hE e20 e21 e22 e23 eN
      refine ⟨rfl, ?_⟩
      rw [uo_20, ov_20, e20, I_succ]
      refine hQ _ ⟨hE.trans (PEq.u (by simp)) (Nat.le_refl _), ?_⟩
      unfold pOne
      rw [if_pos c]
      refine ⟨uS_at, ?_, ?_, ?_, fun i hi => ?_, by simp only; omega, by simp; omega⟩
      · rw [uS_ne (by decide)]; exact e21
      · rw [uS_ne (by decide)]; exact e22
      · rw [uS_ne (by decide)]; exact e23
      · rw [uS_ne (k' := 24) (by decide), uS_ne (k' := 25) (by decide)]; exact eN i hi
/-- the whole of an expression, nothing opened -/
theorem M_expr (hT : Tap S) {p : Nat} {P : List Stq} (h : PSt S t p 0 P) (hQ : ∀ t', PPost S t p 0 P (pE (lkF S) (pOne (lkF S) 6) p) t' → Q (.returned none) (ov S t')) : MR G mX5_either 400 0 [(0, .ref m)] [] m (ov S t) Q :=
  M_eitherAll (D := 10 + 6 * 6) (by omega) hT (M_operand hT 6 (by omega)) (rg_one lk_end 6) 400 (by omega) t p P Q h hQ
end

/-! LAYER 3.5: the model: lines of the law, who holds a name -/
set_option maxRecDepth 100000
def LinesAt (t : MS) : Nat → Nat → List (List Stq × List Stq) → Prop
  | _, _, [] => True
  | l, pos, q :: r => t.1 27 l = I (pos + q.1.length) ∧ t.1 28 l = I (pos + q.1.length + q.2.length) ∧ ProgAt t pos q.1 ∧ ProgAt t (pos + q.1.length) q.2 ∧ (q.1 = [] ∨ dep q.1 0 = some 1) ∧ dep q.2 0 = some 1 ∧ pos + q.1.length + q.2.length ≤ 130 ∧ LinesAt t (l + 1) (pos + q.1.length + q.2.length) r
def LawM (S : MS) (L : Lw) (t : MS) : Prop := match L with
  | none => S.1 31 0 = 0
  | some ls => ¬ S.1 31 0 = 0 ∧ ls.length ≤ 61 ∧ t.1 26 0 = I ls.length ∧ LinesAt t 0 0 ls
theorem ProgAt.e {t t' : MS} {pos : Nat} {P : List Stq} (h : ProgAt t pos P) (a : t'.1 24 = t.1 24) (b : t'.1 25 = t.1 25) : ProgAt t' pos P := fun i hi => by rw [a, b]; exact h i hi
theorem LinesAt.e {t t' : MS} {ls : List (List Stq × List Stq)} (a : t'.1 24 = t.1 24) (b : t'.1 25 = t.1 25) (c : t'.1 27 = t.1 27) (d : t'.1 28 = t.1 28) : ∀ {l pos : Nat}, LinesAt t l pos ls → LinesAt t' l pos ls := by
  induction ls with
  | nil => intros; trivial
  | cons q r ih =>
    intro l pos h
    obtain ⟨h1, h2, h3, h4, h5, h6, h7, h8⟩ := h
    exact ⟨by rw [c]; exact h1, by rw [d]; exact h2, h3.e a b, h4.e a b, h5, h6, h7, ih h8⟩
theorem LinesAt.u29 {t : MS} {l pos i : Nat} {v : Int32} {ls : List (List Stq × List Stq)} (h : LinesAt t l pos ls) : LinesAt (uS t 29 i v) l pos ls := LinesAt.e (uS_ne (by decide)) (uS_ne (by decide)) (uS_ne (by decide)) (uS_ne (by decide)) h
theorem LawM.e {S t t' : MS} {L : Lw} (h : LawM S L t) (q : EqE [20, 21, 22, 23, 29, 30, 32, 33, 34, 35] t t') : LawM S L t' := by
  cases L with
  | none => exact h
  | some ls =>
    refine ⟨h.1, h.2.1, ?_, ?_⟩
    · rw [q.2 26 (by decide)]; exact h.2.2.1
    · exact LinesAt.e (q.2 24 (by decide)) (q.2 25 (by decide)) (q.2 27 (by decide)) (q.2 28 (by decide)) h.2.2.2
theorem ev_congr {F F' : Nat → Int32} (hF : ∀ j, j < 6 → F j = F' j) : ∀ {P : List Stq} {s : List Int32} {n k : Nat}, dep P n = some k → ev F P s = ev F' P s := by
  intro P
  induction P with
  | nil => intros; rfl
  | cons q P ih =>
    intro s n k h
    show ev F P (ev1 F q.1 q.2 s) = ev F' P (ev1 F' q.1 q.2 s)
    have e1 : ev1 F q.1 q.2 s = ev1 F' q.1 q.2 s := by
      unfold ev1
      by_cases c1 : q.1 = 1
      · simp [c1]
      · by_cases c2 : q.1 = 2
        · have : dep.vp_inb q.2 = true := by
            simp [dep, c2] at h; exact h.1
          simp [dep.vp_inb] at this
          simp [c2, hF _ this.2]
        · simp [c1, c2]
    rw [e1]
    unfold dep at h
    split at h
    · exact ih h
    · split at h
      · split at h
        · exact ih h
        · cases h
      · split at h
        · split at h
          · exact ih h
          · cases h
        · split at h
          · exact ih h
          · cases h
theorem lwF_congr {F F' : Nat → Int32} (hF : ∀ j, j < 6 → F j = F' j) {t : MS} : ∀ {ls : List (List Stq × List Stq)} {l pos : Nat}, LinesAt t l pos ls → lwF F ls = lwF F' ls := by
  intro ls
  induction ls with
  | nil => intros; rfl
  | cons q r ih =>
    intro l pos h
    obtain ⟨h1, h2, h3, h4, h5, h6, h7, h8⟩ := h
    unfold lwF
    have a : pv F q.2 = pv F' q.2 := by unfold pv; rw [ev_congr hF h6]
    rw [a, ih h8]
    rcases h5 with h5 | h5
    · simp [h5]
    · have b : pv F q.1 = pv F' q.1 := by unfold pv; rw [ev_congr hF h5]
      rw [b]
section
variable {G : GG} {m : Nat} {S t sg : MS} {L : Lw} {Q : Outcome → MS → Prop}
theorem M_gives {ls : List (List Stq × List Stq)} (h26 : t.1 26 0 = I ls.length) (hl : ls.length ≤ 61) (hL : LinesAt t 0 0 ls) (hQ : ∀ t', EqE [30] t t' → Q (.returned (some (.int (lwF (t.1 29) ls)))) (ov S t')) : MR G mX5_gives 3 0 [(0, .ref m), (1, .int 0)] [] m (ov S t) Q := by
  apply sX5_gives_0
  have key : ∀ (r : List (List Stq × List Stq)) (l pos : Nat) (t1 : MS), EqE [30] t t1 → LinesAt t l pos r → l + r.length = ls.length → lwF (t.1 29) r = lwF (t.1 29) ls → pos ≤ 130 → MR G mX5_gives 3 7 [(0, .ref m), (1, .int 0), (2, .int (I pos)), (3, .int (I l))] [] m (ov S t1) Q := by
    intro r
    induction r with
    | nil =>
      intro l pos t1 ht _ hll he _
      simp only [List.length_nil, Nat.add_zero] at hll
      apply sX5_gives_7
      refine ⟨vp_I (i := 0) (by omega) (by omega), fun _ => ?_, fun c => ?_⟩
      · refine qi (hQ t1 ht) ?_
        rw [← he]; rfl
      · exfalso; apply c
        show (61 : Int32) * 0 + t1.1 26 0 ≤ I l
        rw [ht.2 26 (by decide), h26, hll, show (61 : Int32) * 0 = 0 from rfl, Int32.zero_add]; exact c_end (by omega)
    | cons q r ih =>
      intro l pos t1 ht hA hll he hpos
      obtain ⟨h1, h2, h3, h4, h5, h6, h7, h8⟩ := hA
      simp only [List.length_cons] at hll
      have gd : ¬ (61 : Int32) * 0 + (ov S t1).1 26 (0 : Int32).toNatClampNeg ≤ I l := by
        show ¬ (61 : Int32) * 0 + t1.1 26 0 ≤ I l
        rw [ht.2 26 (by decide), h26, show (61 : Int32) * 0 = 0 from rfl, Int32.zero_add]; exact c_lt (by omega) (by omega)
      have g1 : ∀ t2, EqE [30] t t2 → (ov S t2).1 27 l = I (pos + q.1.length) := fun t2 h => by rw [ov_27, h.2 27 (by decide)]; exact h1
      have g2 : ∀ t2, EqE [30] t t2 → (ov S t2).1 28 l = I (pos + q.1.length + q.2.length) := fun t2 h => by rw [ov_28, h.2 28 (by decide)]; exact h2
      have pa : ∀ t2, EqE [30] t t2 → ProgAt t2 pos q.1 := fun t2 h => h3.e (h.2 24 (by decide)) (h.2 25 (by decide))
      have pb : ∀ t2, EqE [30] t t2 → ProgAt t2 (pos + q.1.length) q.2 := fun t2 h => h4.e (h.2 24 (by decide)) (h.2 25 (by decide))
      have vl : vp_in (I l) 122 := vp_I (by omega) (by omega)
      apply sX5_gives_7
      rw [I_nat (by omega), g1 t1 ht, g2 t1 ht]
      refine ⟨vp_I (i := 0) (by omega) (by omega), fun c => absurd c gd, fun _ => ⟨vl, fun c => ⟨vl, vl, ?_⟩, fun c => ⟨vl, ?_⟩⟩⟩
      · have hq : q.1 = [] := by
          have := (I_inj (by omega) (by omega)).1 c
          exact List.length_eq_zero_iff.1 (by omega)
        apply M_worked (pb t1 ht) h6 h7
        intro t2 ht2
        refine ⟨_, rfl, ?_⟩
        refine qi (hQ t2 (ht.trans ht2)) ?_
        rw [← he, ht.2 29 (by decide)]
        simp [lwF, hq]
      · have hq : ¬ q.1 = [] := by
          intro e; apply c; rw [e]; rfl
        have h5' := h5.resolve_left hq
        apply M_worked (pa t1 ht) h5' (by omega)
        intro t2 ht2
        have htt := ht.trans ht2
        rw [g1 t2 htt, g2 t2 htt, ht.2 29 (by decide)]
        refine ⟨_, rfl, fun c2 => ⟨vl, ?_⟩, fun c2 => ⟨vl, vl, ?_⟩⟩
        · rw [I_succ]
          refine ih (l + 1) _ t2 htt h8 (by omega) ?_ h7
          rw [← he]
          simp [lwF, hq, c2]
        · apply M_worked (pb t2 htt) h6 h7
          intro t3 ht3
          refine ⟨_, rfl, ?_⟩
          refine qi (hQ t3 (htt.trans ht3)) ?_
          rw [← he, htt.2 29 (by decide)]
          simp [lwF, c2]
  exact key ls 0 0 t EqE.refl hL (by simp) rfl (by omega)
theorem M_holdsFor (hL : LawM S L t) {p b n y : Int32} (hp : vp_in p 12) (hb : vp_in b 12) (hn : vp_in n 12) (hQ : ∀ t', EqE [29, 30] t t' → Q (.returned (some (.int (bi (hfF S L p b n y))))) (ov S t')) : MR G mX5_holdsFor 4 0 [(0, .ref m), (1, .int p), (2, .int b), (3, .int n), (4, .int y)] [] m (ov S t) Q := by
  have v0 : vp_in 0 6 := vp_I (i := 0) (by omega) (by omega)
  have v1 : vp_in 1 6 := vp_I (i := 1) (by omega) (by omega)
  have v2 : vp_in 2 6 := vp_I (i := 2) (by omega) (by omega)
  have v3 : vp_in 3 6 := vp_I (i := 3) (by omega) (by omega)
  have v4 : vp_in 4 6 := vp_I (i := 4) (by omega) (by omega)
  have v5 : vp_in 5 6 := vp_I (i := 5) (by omega) (by omega)
  have key : ∀ o : Int32, o = (if p = b then 1 else 0) → MR G mX5_holdsFor 4 21 [(0, .ref m), (2, .int b), (3, .int n), (4, .int y), (5, .int (y - S.1 2 p.toNatClampNeg))] [.int o] m (ov S t) Q := by
    intro o ho
    apply sX5_holdsFor_21
    cases L with
    | none =>
      refine ⟨fun c => absurd hL c, fun _ => ⟨fun c => ?_, fun c => ⟨fun c2 => ?_, fun c2 => ?_⟩⟩⟩
      · exact qb (hQ t EqE.refl) (by simp [hfF, c])
      · refine qb (hQ t EqE.refl) ?_
        have : ¬ p = b := by intro e; apply c2; rw [ho, if_pos e]
        simp [hfF, c, this]
      · refine qb (hQ t EqE.refl) ?_
        have : p = b := by
          apply Decidable.byContradiction; intro e; rw [ho, if_neg e] at c2; exact absurd c2 (by decide)
        simp [hfF, c, this]
    | some ls =>
      obtain ⟨l1, l2, l3, l4⟩ := hL
      have fin : ∀ g : Int32, g = (if y ≤ S.1 3 b.toNatClampNeg then 0 else y - S.1 3 b.toNatClampNeg) → MR G mX5_holdsFor 4 86 [(0, .ref m), (3, .int n), (6, .int o)] [.int g, .int 1, .ref (m + 19)] m (uS (ov S t) 29 (0 : Int32).toNatClampNeg (y - S.1 2 p.toNatClampNeg)) Q := by
        intro g hg
        apply sX5_holdsFor_86
        refine ⟨v1, hn, v2, hn, v3, v4, v5, ?_⟩
        simp only [uS_ov (k := 29) rfl]
        refine M_gives (ls := ls) l3 l2 l4.u29.u29.u29.u29.u29.u29 ?_
        intro t' ht'
        have hE : EqE [29, 30] t t' := (((((EqE.refl.tu (by decide)).tu (by decide)).tu (by decide)).tu (by decide)).tu (by decide)).tu (by decide) |>.trans (ht'.mono (by decide))
        have hf : lwF ((uS (uS (uS (uS (uS (uS t 29 (0 : Int32).toNatClampNeg (y - S.1 2 p.toNatClampNeg)) 29 (1 : Int32).toNatClampNeg g) 29 (2 : Int32).toNatClampNeg (S.1 11 n.toNatClampNeg)) 29 (3 : Int32).toNatClampNeg (S.1 10 n.toNatClampNeg)) 29 (4 : Int32).toNatClampNeg o) 29 (5 : Int32).toNatClampNeg n).1 29) ls = lwF (ftF S p b n y) ls := by
          refine lwF_congr (t := t) (fun j hj => ?_) l4
          match j, hj with
          | 0, _ => rfl
          | 1, _ => exact hg
          | 2, _ => rfl
          | 3, _ => rfl
          | 4, _ => exact ho
          | 5, _ => rfl
        refine ⟨_, rfl, fun c => ?_, fun c => ?_⟩
        · refine qb (hQ t' hE) ?_
          have c := hf.symm.trans c
          simp [hfF, c]
        · refine qb (hQ t' hE) ?_
          have c : ¬ lwF (ftF S p b n y) ls = 0 := fun e => c (hf.trans e)
          simp [hfF, c]
      refine ⟨fun _ => ⟨v0, hb, fun c => fin 0 ?_, fun c => ⟨hb, fin _ ?_⟩⟩, fun c => absurd c l1⟩
      · have c : y ≤ S.1 3 b.toNatClampNeg := c
        simp [c]
      · have c : ¬ y ≤ S.1 3 b.toNatClampNeg := c
        rw [if_neg c]; rfl
  apply sX5_holdsFor_0
  exact ⟨hp, fun c => key 0 (by simp [c]), fun c => key 1 (by simp [c])⟩
theorem M_bears {p : Nat} {n y am : Int32} (hp : p < 12) (hn : ¬ n = -1) (hQ : Q (.returned (some (.int (bi (decide (amB am (t.1 34) p = n) && !(decide (y < S.1 2 p))))))) (ov S t)) : MR G mX5_bears 1 0 [(0, .ref m), (1, .int (I p)), (2, .int n), (3, .int y), (4, .int am)] [] m (ov S t) Q := by
  apply sX5_bears_0
  rw [I_nat (by omega), sh_bit (by omega)]
  have v := vp_I hp (by omega)
  have hn' : ¬ -1 = n := fun e => hn e.symm
  refine ⟨fun c => ?_, fun c => ⟨v, fun c2 => ?_, fun c2 => ⟨v, fun c3 => ?_, fun c3 => ?_⟩⟩⟩
  · exact qb hQ (by simp [amB, c, hn'])
  · have c2 : ¬ t.1 34 p = n := c2
    exact qb hQ (by simp [amB, c, c2])
  · have c3 : y < S.1 2 p := c3
    exact qb hQ (by simp [c3])
  · have c2 : t.1 34 p = n := c2
    have c3 : ¬ y < S.1 2 p := c3
    exact qb hQ (by simp [amB, c, c2, c3])
theorem M_doesHold (hS : Ppl S) (hL : LawM S L t) {p : Nat} {n y am : Int32} (hp : p < 12) (hn : vp_in n 12) (hQ : ∀ t', EqE [29, 30] t t' → Q (.returned (some (.int (bi (dhF S L (t.1 32) (amB am (t.1 34)) (I p) n y))))) (ov S t')) : MR G mX5_doesHold 5 0 [(0, .ref m), (1, .int (I p)), (2, .int n), (3, .int y), (4, .int am)] [] m (ov S t) Q := by
  have h12 := hS.n
  have vp := vp_I hp (by omega)
  have hn1 : ¬ n = -1 := by
    intro e; subst e; exact hn (Or.inl (by decide))
  apply sX5_doesHold_0
  apply M_lives vp
  refine ⟨_, rfl, fun c => ?_, fun c => ?_⟩
  · have key : ∀ i, i ≤ np S → (∀ j, j < i → (decide (amB am (t.1 34) j = n) && !(decide (y < S.1 2 j)) && tb (t.1 32 (I p).toNatClampNeg) j && hfF S L (I p) (I j) n y) = false) → ∀ t1, EqE [29, 30] t t1 → MR G mX5_doesHold 5 14 [(0, .ref m), (1, .int (I p)), (2, .int n), (3, .int y), (4, .int am), (5, .int (I i))] [] m (ov S t1) Q := by
      refine up_ind ?_ (fun i hi ih => ?_)
      · intro hf t1 ht
        refine sX5_doesHold_14 ⟨fun _ => ?_, fun c => absurd (pp_end hS) c⟩
        refine qb (hQ t1 ht) ?_
        unfold dhF; rw [anyB_f hf]; simp
      · intro hf t1 ht
        have st : ∀ t2, EqE [29, 30] t t2 → (decide (amB am (t.1 34) i = n) && !(decide (y < S.1 2 i)) && tb (t.1 32 (I p).toNatClampNeg) i && hfF S L (I p) (I i) n y) = false → MR G mX5_doesHold 5 14 [(0, .ref m), (1, .int (I p)), (2, .int n), (3, .int y), (4, .int am), (5, .int (I i + 1))] [] m (ov S t2) Q := by
          intro t2 ht2 e
          rw [I_succ]
          refine ih (fun j hj => ?_) t2 ht2
          by_cases e2 : j = i
          · subst e2; exact e
          · exact hf j (by omega)
        apply sX5_doesHold_14
        refine ⟨fun c => absurd c (pp_lt hS hi), fun _ => ?_⟩
        apply M_bears (by omega) hn1
        rw [ht.2 34 (by decide)]
        refine ⟨_, rfl, fun c1 => st t1 ht (by rw [c1]; simp), fun c1 => ⟨vp, ?_⟩⟩
        rw [ov_32, ht.2 32 (by decide), sh_bit (by omega)]
        refine ⟨fun c2 => st t1 ht (by simp [c2]), fun c2 => ?_⟩
        apply M_holdsFor (hL.e (ht.mono (by decide))) vp (vp_I (by omega) (by omega)) hn
        intro t2 ht2
        refine ⟨_, rfl, fun c3 => st t2 (ht.trans ht2) (by rw [c3]; simp), fun c3 => ?_⟩
        refine qb (hQ t2 (ht.trans ht2)) ?_
        unfold dhF
        rw [c, anyB_t hi (by rw [c1, c2, c3]; rfl)]; rfl
    exact key 0 (by omega) (fun j hj => by omega) t EqE.refl
  · refine qb (hQ t EqE.refl) ?_
    unfold dhF; rw [c]; rfl
theorem M_holders (hS : Ppl S) (hL : LawM S L t) {n y am : Int32} (hn : vp_in n 12) (hQ : ∀ t', EqE [29, 30] t t' → Q (.returned (some (.int (hoF S L (t.1 32) (amB am (t.1 34)) n y)))) (ov S t')) : MR G mX5_holders 6 0 [(0, .ref m), (1, .int n), (2, .int y), (3, .int am)] [] m (ov S t) Q := by
  have h12 := hS.n
  apply sX5_holders_0
  have key : ∀ i, i ≤ np S → ∀ t1, EqE [29, 30] t t1 → MR G mX5_holders 6 6 [(0, .ref m), (1, .int n), (2, .int y), (3, .int am), (4, .int (orB i (fun p => dhF S L (t.1 32) (amB am (t.1 34)) (I p) n y))), (5, .int (I i))] [] m (ov S t1) Q := by
    refine up_ind ?_ (fun i hi ih => ?_)
    · intro t1 ht
      exact sX5_holders_6 ⟨fun _ => hQ t1 ht, fun c => absurd (pp_end hS) c⟩
    · intro t1 ht
      apply sX5_holders_6
      refine ⟨fun c => absurd c (pp_lt hS hi), fun _ => ?_⟩
      apply M_doesHold hS (hL.e (ht.mono (by decide))) (by omega) hn
      intro t2 ht2
      rw [ht.2 32 (by decide), ht.2 34 (by decide), I_succ]
      refine ⟨_, rfl, fun c => ?_, fun c => ?_⟩
      · have := ih t2 (ht.trans ht2); rw [orB_f c] at this; exact this
      · have := ih t2 (ht.trans ht2); rw [orB_t c] at this; exact this
  exact key 0 (by omega) t EqE.refl
theorem M_isFamous (hS : Ppl S) {n y am : Int32} (hn : vp_in n 12) (hQ : Q (.returned (some (.int (bi (faF S (amB am (t.1 34)) n y))))) (ov S t)) : MR G mX5_isFamous 2 0 [(0, .ref m), (1, .int n), (2, .int y), (3, .int am)] [] m (ov S t) Q := by
  have h12 := hS.n
  have hn1 : ¬ n = -1 := by
    intro e; subst e; exact hn (Or.inl (by decide))
  apply sX5_isFamous_0
  have key : ∀ i, i ≤ np S → (∀ j, j < i → (decide (S.1 11 n.toNatClampNeg = 1) && (decide (amB am (t.1 34) j = n) && !(decide (y < S.1 2 j)))) = false) → MR G mX5_isFamous 2 3 [(0, .ref m), (1, .int n), (2, .int y), (3, .int am), (4, .int (I i))] [] m (ov S t) Q := by
    refine up_ind ?_ (fun i hi ih => ?_)
    · intro hf
      refine sX5_isFamous_3 ⟨fun _ => ?_, fun c => absurd (pp_end hS) c⟩
      refine qb hQ ?_
      unfold faF
      by_cases e : S.1 11 n.toNatClampNeg = 1
      · rw [anyB_f (fun j hj => by have := hf j hj; simpa [e] using this)]; simp
      · simp [e]
    · intro hf
      have st : (decide (S.1 11 n.toNatClampNeg = 1) && (decide (amB am (t.1 34) i = n) && !(decide (y < S.1 2 i)))) = false → MR G mX5_isFamous 2 3 [(0, .ref m), (1, .int n), (2, .int y), (3, .int am), (4, .int (I i + 1))] [] m (ov S t) Q := by
        intro e
        rw [I_succ]
        refine ih (fun j hj => ?_)
        by_cases e2 : j = i
        · subst e2; exact e
        · exact hf j (by omega)
      apply sX5_isFamous_3
      refine ⟨fun c => absurd c (pp_lt hS hi), fun _ => ⟨hn, fun c => ?_, fun c => ?_⟩⟩
      · have c : ¬ S.1 11 n.toNatClampNeg = 1 := c
        exact st (by simp [c])
      · have c : S.1 11 n.toNatClampNeg = 1 := c
        apply M_bears (by omega) hn1
        refine ⟨_, rfl, fun c1 => st (by rw [c1]; simp), fun c1 => ?_⟩
        refine qb hQ ?_
        unfold faF
        rw [anyB_t hi c1]; simp [c]
  exact key 0 (by omega) (fun j hj => by omega)
theorem M_isHeld (hS : Ppl S) (hL : LawM S L t) {n y am : Int32} (hn : vp_in n 12) (hQ : ∀ t', EqE [29, 30] t t' → Q (.returned (some (.int (bi (ihF S L (t.1 32) (amB am (t.1 34)) n y))))) (ov S t')) : MR G mX5_isHeld 7 0 [(0, .ref m), (1, .int n), (2, .int y), (3, .int am)] [] m (ov S t) Q := by
  apply sX5_isHeld_0
  apply M_isFamous hS hn
  refine ⟨_, rfl, fun c => ?_, fun c => ?_⟩
  · refine qb (hQ t EqE.refl) ?_
    unfold ihF; rw [c]; rfl
  · apply M_holders hS hL hn
    intro t' ht'
    refine ⟨_, rfl, fun c2 => ?_, fun c2 => ?_⟩ <;> (refine qb (hQ t' ht') ?_; unfold ihF; rw [c]; simp [c2])
end

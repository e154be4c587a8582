/-! LAYER 3.13: how a text is read -/
set_option maxRecDepth 100000
abbrev PR : Type := Except Nat (List Stq × Nat)
def isD (v : Int32) : Bool := inF v 48 57
def nmO (v : Int32) : Int32 := if v = 97 then 0 else if v = 100 then 1 else if v = 102 then 2 else if v = 105 then 4 else if v = 110 then 5 else if v = 119 then 3 else -1
def isMul (v : Int32) : Bool := decide (v = 42) || decide (v = 47) || decide (v = 37)
def isAdd (v : Int32) : Bool := decide (v = 43) || decide (v = 45)
def isCmp (v : Int32) : Bool := decide (v = 60) || decide (v = 61) || decide (v = 62)
def isAnd (v : Int32) : Bool := decide (v = 38)
def isOr (v : Int32) : Bool := decide (v = 124)
section
variable (c : Nat → Int32)
def fgF : Nat → Int32 → Nat → Int32 × Nat
  | 0, v, p => (v, p)
  | f + 1, v, p => if isD (c p) = true then fgF f (((10 * v) + c p) - 48) (p + 1) else (v, p)
def pFig (p : Nat) : PR := if isD (c p) = false then .error p else if isD (c (fgF c 4 0 p).2) = true then .error (fgF c 4 0 p).2 else .ok ([(1, (fgF c 4 0 p).1)], (fgF c 4 0 p).2)
def chn (one : Nat → PR) (sg : Int32 → Bool) : Nat → List Stq → Nat → PR
  | 0, pr, p => .ok (pr, p)
  | f + 1, pr, p => if sg (c p) = true then (match one (p + 1) with
    | .error e => .error e
    | .ok q => chn one sg f (pr ++ q.1 ++ [(c p, 0)]) q.2) else .ok (pr, p)
def pCh (one : Nat → PR) (sg : Int32 → Bool) (p : Nat) : PR := match one p with
  | .error e => .error e
  | .ok q => chn c one sg 130 q.1 q.2
def pLk (one : Nat → PR) (p : Nat) : PR := match one p with
  | .error e => .error e
  | .ok q => if isCmp (c q.2) = true then (match one (q.2 + 1) with
    | .error e => .error e
    | .ok r => .ok (q.1 ++ r.1 ++ [(c q.2, 0)], r.2)) else .ok q
def pT (one : Nat → PR) : Nat → PR := pCh c one isMul
def pP (one : Nat → PR) : Nat → PR := pCh c (pT c one) isAdd
def pL (one : Nat → PR) : Nat → PR := pLk c (pP c one)
def pA (one : Nat → PR) : Nat → PR := pCh c (pL c one) isAnd
def pE (one : Nat → PR) : Nat → PR := pCh c (pA c one) isOr
def pOne : Nat → Nat → PR
  | 0, p => if ¬ nmO (c p) < 0 then .ok ([(2, nmO (c p))], p + 1) else if c p = 33 ∨ c p = 45 then .error p else if c p = 40 then .error p else pFig c p
  | k + 1, p => if ¬ nmO (c p) < 0 then .ok ([(2, nmO (c p))], p + 1) else if c p = 33 ∨ c p = 45 then (match pOne k (p + 1) with
    | .error e => .error e
    | .ok q => .ok (q.1 ++ [(if c p = 33 then 3 else 4, 0)], q.2)) else if c p = 40 then (match pE c (pOne k) (p + 1) with
    | .error e => .error e
    | .ok q => if c q.2 = 41 then .ok (q.1, q.2 + 1) else .error q.2) else pFig c p
def pLine (p : Nat) : Except Nat ((List Stq × List Stq) × Nat) := match pE c (pOne c 6) p with
  | .error e => .error e
  | .ok q => if c q.2 = 63 then (match pE c (pOne c 6) (q.2 + 1) with
    | .error e => .error e
    | .ok r => .ok ((q.1, r.1), r.2)) else .ok (([], q.1), q.2)
def pLaw (n : Nat) : Nat → List (List Stq × List Stq) → Nat → Except Nat (List (List Stq × List Stq))
  | 0, acc, _ => .ok acc
  | f + 1, acc, p => match pLine c p with
    | .error e => .error e
    | .ok q => if c q.2 = 59 then pLaw n f (acc ++ [q.1]) (q.2 + 1) else if q.2 < n then .error q.2 else .ok (acc ++ [q.1])
end
def GoodP (q : List Stq) : Prop := (∀ d, dep q d = some (d + 1)) ∧ ∀ s ∈ q, s.1.toInt8.toInt32 = s.1
def RG (n p : Nat) (r : PR) : Prop := match r with
  | .error e => p ≤ e ∧ e ≤ n
  | .ok q => GoodP q.1 ∧ q.1 ≠ [] ∧ p < q.2 ∧ q.2 ≤ n ∧ q.1.length ≤ q.2 - p
theorem dep_app {p q : List Stq} : ∀ {n : Nat}, dep (p ++ q) n = (dep p n).bind (dep q) := by
  induction p with
  | nil => intro n; rfl
  | cons a p ih =>
    intro n
    simp only [List.cons_append, dep]
    split
    · exact ih
    · split
      · split
        · exact ih
        · rfl
      · split
        · split
          · exact ih
          · rfl
        · split
          · exact ih
          · rfl
theorem GoodP.two {p q : List Stq} {s : Int32} (hp : GoodP p) (hq : GoodP q) (h1 : ¬ s = 1) (h2 : ¬ s = 2) (h3 : ¬ s = 3) (h4 : ¬ s = 4) (h8 : s.toInt8.toInt32 = s) : GoodP (p ++ q ++ [(s, 0)]) := by
  refine ⟨fun d => ?_, fun x hx => ?_⟩
  · rw [dep_app, dep_app, hp.1, Option.bind_some, hq.1, Option.bind_some]
    simp [dep, h1, h2, h3, h4]
  · simp only [List.mem_append, List.mem_singleton] at hx
    rcases hx with (hx | hx) | rfl
    · exact hp.2 x hx
    · exact hq.2 x hx
    · exact h8
theorem GoodP.one {p : List Stq} {s : Int32} (hp : GoodP p) (h : s = 3 ∨ s = 4) : GoodP (p ++ [(s, 0)]) := by
  refine ⟨fun d => ?_, fun x hx => ?_⟩
  · rw [dep_app, hp.1, Option.bind_some]
    rcases h with rfl | rfl <;> simp [dep]
  · simp only [List.mem_append, List.mem_singleton] at hx
    rcases hx with hx | rfl
    · exact hp.2 x hx
    · rcases h with rfl | rfl <;> decide
def SgOK (sg : Int32 → Bool) : Prop := ∀ v, sg v = true → ¬ v = -1 ∧ ¬ v = 1 ∧ ¬ v = 2 ∧ ¬ v = 3 ∧ ¬ v = 4 ∧ v.toInt8.toInt32 = v
theorem sgMul : SgOK isMul := by
  intro v h; simp only [isMul, Bool.or_eq_true, decide_eq_true_eq] at h
  rcases h with (rfl | rfl) | rfl <;> decide
theorem sgAdd : SgOK isAdd := by
  intro v h; simp only [isAdd, Bool.or_eq_true, decide_eq_true_eq] at h
  rcases h with rfl | rfl <;> decide
theorem sgCmp : SgOK isCmp := by
  intro v h; simp only [isCmp, Bool.or_eq_true, decide_eq_true_eq] at h
  rcases h with (rfl | rfl) | rfl <;> decide
theorem sgAnd : SgOK isAnd := by
  intro v h; simp only [isAnd, decide_eq_true_eq] at h
  subst h; decide
theorem sgOr : SgOK isOr := by
  intro v h; simp only [isOr, decide_eq_true_eq] at h
  subst h; decide
section
variable {c : Nat → Int32} {n : Nat}
theorem c_in (hc : ∀ i, n ≤ i → c i = -1) {p : Nat} (h : ¬ c p = -1) : p < n := by
  apply Nat.lt_of_not_le; intro x; exact h (hc p x)
theorem rg_chn (hc : ∀ i, n ≤ i → c i = -1) {one : Nat → PR} {sg : Int32 → Bool} (hs : SgOK sg) (ho : ∀ p, p ≤ n → RG n p (one p)) : ∀ (f : Nat) (pr : List Stq) (p p0 : Nat), GoodP pr → pr ≠ [] → p0 < p → p ≤ n → pr.length ≤ p - p0 → RG n p0 (chn c one sg f pr p) := by
  intro f
  induction f with
  | zero => intro pr p p0 h1 h2 h3 h4 h5; exact ⟨h1, h2, h3, h4, h5⟩
  | succ f ih =>
    intro pr p p0 h1 h2 h3 h4 h5
    unfold chn
    split
    · rename_i hsg
      obtain ⟨s1, s2, s3, s4, s5, s6⟩ := hs _ hsg
      have hp := c_in hc s1
      have := ho (p + 1) (by omega)
      cases e : one (p + 1) with
      | error x => rw [e] at this; have this : p + 1 ≤ x ∧ x ≤ n := this; exact ⟨by omega, this.2⟩
      | ok q =>
        rw [e] at this
        obtain ⟨a1, a2, a3, a4, a5⟩ := this
        refine ih _ _ _ (h1.two a1 s2 s3 s4 s5 s6) (by simp) (by omega) a4 ?_
        simp only [List.length_append, List.length_singleton]; omega
    · exact ⟨h1, h2, h3, h4, h5⟩
theorem rg_ch (hc : ∀ i, n ≤ i → c i = -1) {one : Nat → PR} {sg : Int32 → Bool} (hs : SgOK sg) (ho : ∀ p, p ≤ n → RG n p (one p)) : ∀ p, p ≤ n → RG n p (pCh c one sg p) := by
  intro p hp
  have := ho p hp
  unfold pCh
  cases e : one p with
  | error x => rw [e] at this; exact this
  | ok q =>
    rw [e] at this
    obtain ⟨a1, a2, a3, a4, a5⟩ := this
    exact rg_chn hc hs ho 130 q.1 q.2 p a1 a2 a3 a4 a5
theorem rg_lk (hc : ∀ i, n ≤ i → c i = -1) {one : Nat → PR} (ho : ∀ p, p ≤ n → RG n p (one p)) : ∀ p, p ≤ n → RG n p (pLk c one p) := by
  intro p hp
  have := ho p hp
  unfold pLk
  cases e : one p with
  | error x => rw [e] at this; exact this
  | ok q =>
    rw [e] at this
    obtain ⟨a1, a2, a3, a4, a5⟩ := this
    simp only
    split
    · rename_i hsg
      obtain ⟨s1, s2, s3, s4, s5, s6⟩ := sgCmp _ hsg
      have hq := c_in hc s1
      have := ho (q.2 + 1) (by omega)
      cases e2 : one (q.2 + 1) with
      | error x => rw [e2] at this; have this : q.2 + 1 ≤ x ∧ x ≤ n := this; exact ⟨by omega, this.2⟩
      | ok r =>
        rw [e2] at this
        obtain ⟨b1, b2, b3, b4, b5⟩ := this
        refine ⟨a1.two b1 s2 s3 s4 s5 s6, by simp, by simp only; omega, b4, ?_⟩
        simp only [List.length_append, List.length_singleton]; omega
    · exact ⟨a1, a2, a3, a4, a5⟩
theorem rg_pE (hc : ∀ i, n ≤ i → c i = -1) {one : Nat → PR} (ho : ∀ p, p ≤ n → RG n p (one p)) : ∀ p, p ≤ n → RG n p (pE c one p) :=
  rg_ch hc sgOr (rg_ch hc sgAnd (rg_lk hc (rg_ch hc sgAdd (rg_ch hc sgMul ho))))
theorem isD_n1 {v : Int32} (h : isD v = true) : ¬ v = -1 := by
  rintro rfl; exact absurd h (by decide)
theorem fgF_rg (hc : ∀ i, n ≤ i → c i = -1) : ∀ (f : Nat) (v : Int32) (p : Nat), p ≤ n → p ≤ (fgF c f v p).2 ∧ (fgF c f v p).2 ≤ n := by
  intro f
  induction f with
  | zero => intro v p hp; exact ⟨Nat.le_refl _, hp⟩
  | succ f ih =>
    intro v p hp
    unfold fgF
    split
    · rename_i h
      have := c_in hc (isD_n1 h)
      have := ih (((10 * v) + c p) - 48) (p + 1) (by omega)
      exact ⟨by omega, this.2⟩
    · exact ⟨Nat.le_refl _, hp⟩
theorem rg_fig (hc : ∀ i, n ≤ i → c i = -1) : ∀ p, p ≤ n → RG n p (pFig c p) := by
  intro p hp
  unfold pFig
  split
  · exact ⟨Nat.le_refl _, hp⟩
  · rename_i h
    have h : isD (c p) = true := by simpa using h
    have hpn := c_in hc (isD_n1 h)
    have e : fgF c 4 0 p = fgF c 3 (((10 * 0) + c p) - 48) (p + 1) := by
      show (if isD (c p) = true then _ else _) = _
      rw [if_pos h]
    have := fgF_rg hc 3 (((10 * 0) + c p) - 48) (p + 1) (by omega)
    rw [← e] at this
    split
    · exact ⟨by omega, this.2⟩
    · refine ⟨⟨fun d => by simp [dep], fun s hs => ?_⟩, by simp, by omega, this.2, by simp; omega⟩
      simp only [List.mem_singleton] at hs
      subst hs; simp
theorem nmO_rg {v : Int32} (h : ¬ nmO v < 0) : ¬ v = -1 ∧ ∃ j, j < 6 ∧ nmO v = I j := by
  unfold nmO at *
  by_cases e1 : v = 97
  · subst e1; exact ⟨by decide, 0, by decide, rfl⟩
  · by_cases e2 : v = 100
    · subst e2; exact ⟨by decide, 1, by decide, rfl⟩
    · by_cases e3 : v = 102
      · subst e3; exact ⟨by decide, 2, by decide, rfl⟩
      · by_cases e4 : v = 105
        · subst e4; exact ⟨by decide, 4, by decide, rfl⟩
        · by_cases e5 : v = 110
          · subst e5; exact ⟨by decide, 5, by decide, rfl⟩
          · by_cases e6 : v = 119
            · subst e6; exact ⟨by decide, 3, by decide, rfl⟩
            · simp [e1, e2, e3, e4, e5, e6] at h
theorem rg_nm (hc : ∀ i, n ≤ i → c i = -1) {p : Nat} (h : ¬ nmO (c p) < 0) : RG n p (.ok ([(2, nmO (c p))], p + 1)) := by
  obtain ⟨h1, j, hj, e⟩ := nmO_rg h
  have := c_in hc h1
  refine ⟨⟨fun d => ?_, fun s hs => ?_⟩, by simp, by simp, by simp only; omega, by simp⟩
  · rw [e]
    have : dep.vp_inb (I j) = true := by
      have h6 : ∀ j : Fin 6, dep.vp_inb (I j.val) = true := by decide +kernel
      exact h6 ⟨j, hj⟩
    simp [dep, this]
  · simp only [List.mem_singleton] at hs
    subst hs; simp
theorem rg_one (hc : ∀ i, n ≤ i → c i = -1) : ∀ k p, p ≤ n → RG n p (pOne c k p) := by
  intro k
  induction k with
  | zero =>
    intro p hp
    unfold pOne
    split
    · rename_i h; exact rg_nm hc h
    · split
      · exact ⟨Nat.le_refl _, hp⟩
      · split
        · exact ⟨Nat.le_refl _, hp⟩
        · exact rg_fig hc p hp
  | succ k ih =>
    intro p hp
    unfold pOne
    split
    · rename_i h; exact rg_nm hc h
    · split
      · rename_i h
        have hpn : p < n := c_in hc (by rcases h with h | h <;> rw [h] <;> decide)
        have := ih (p + 1) (by omega)
        cases e : pOne c k (p + 1) with
        | error x => rw [e] at this; have this : p + 1 ≤ x ∧ x ≤ n := this; exact ⟨by omega, this.2⟩
        | ok q =>
          rw [e] at this
          obtain ⟨a1, a2, a3, a4, a5⟩ := this
          refine ⟨a1.one (by split <;> simp), by simp, by simp only; omega, a4, ?_⟩
          simp only [List.length_append, List.length_singleton]; omega
      · split
        · rename_i h
          have hpn : p < n := c_in hc (by rw [h]; decide)
          have := rg_pE hc ih (p + 1) (by omega)
          cases e : pE c (pOne c k) (p + 1) with
          | error x => rw [e] at this; have this : p + 1 ≤ x ∧ x ≤ n := this; exact ⟨by omega, this.2⟩
          | ok q =>
            rw [e] at this
            obtain ⟨a1, a2, a3, a4, a5⟩ := this
            simp only
            split
            · rename_i h2
              have hqn : q.2 < n := c_in hc (by rw [h2]; decide)
              exact ⟨a1, a2, by simp only; omega, by simp only; omega, by simp only; omega⟩
            · exact ⟨by omega, a4⟩
        · exact rg_fig hc p hp
end

/-! LAYER 3.6: the model: who knows whom -/
set_option maxRecDepth 100000
theorem knS_bit {S : MS} {K : Nat → Int32} {k n : Nat} (h : ∀ p, p < n → tb (K p) p = true) : ∀ p, p < n → tb (knS S K k p) p = true := by
  intro p hp
  unfold knS
  split
  · rename_i e; rw [tb_or, tb_or, ← e, h p hp]; rfl
  · split
    · rename_i e; rw [tb_or, tb_or, ← e, h p hp]; rfl
    · exact h p hp
theorem knS_congr {S : MS} {K K' : Nat → Int32} {k : Nat} (hM : ∃ a b, S.1 6 k = I a ∧ S.1 7 k = I b ∧ a < np S ∧ b < np S ∧ a ≠ b) (hn : np S ≤ 12) (h : ∀ p, p < np S → K p = K' p) : ∀ p, p < np S → knS S K k p = knS S K' k p := by
  obtain ⟨a, b, ha, hb, la, lb, -⟩ := hM
  intro p hp
  unfold knS
  rw [ha, hb, I_nat (by omega), I_nat (by omega), h a la, h b lb, h p hp]
theorem fold_congr {S : MS} (hM : Mtg S) (hn : np S ≤ 12) : ∀ {l : List Nat} {K K' : Nat → Int32}, (∀ k ∈ l, k < nm S) → (∀ p, p < np S → K p = K' p) → ∀ p, p < np S → l.foldl (knS S) K p = l.foldl (knS S) K' p := by
  intro l
  induction l with
  | nil => intro K K' _ h; exact h
  | cons a l ih =>
    intro K K' hl h
    exact ih (fun k hk => hl k (List.mem_cons_of_mem _ hk)) (knS_congr (hM.2.2 a (hl a (List.mem_cons_self ..))) hn h)
section
variable {G : GG} {m : Nat} {S t sg : MS} {L : Lw} {Q : Outcome → MS → Prop}
theorem M_fk3 (hS : Ppl S) (hM : Mtg S) {F : Nat → Int32} (hQ : ∀ t', EqE [32, 33] t t' → (∀ p, p < np S → t'.1 32 p = F p) → Q (.returned none) (ov S t')) :
    ∀ (rem : List Nat) (t1 : MS), EqE [32, 33] t t1 → rem.Pairwise (lx (S.1 8)) → (∀ k ∈ rem, k < nm S) → (∀ k, k < nm S → (t1.1 33 k = 0 ↔ k ∈ rem)) → (∀ p, p < np S → tb (t1.1 32 p) p = true) → (∀ p, p < np S → rem.foldl (knS S) (t1.1 32) p = F p) → MR G mX5_findKnown 3 81 [(0, .ref m), (3, .int 1)] [] m (ov S t1) Q := by
  have hn := hS.n
  have hm := hM.n
  intro rem
  induction rem with
  | nil =>
    intro t1 ht _ _ hd _ hF
    refine sX5_findKnown_81 ⟨fun c => absurd c (by decide), fun _ => ?_⟩
    have inner : ∀ i, i ≤ nm S → MR G mX5_findKnown 3 91 [(0, .ref m), (4, .int (-1)), (5, .int (I i))] [] m (ov S t1) Q := by
      refine up_ind ?_ (fun i hi ih => ?_)
      · apply sX5_findKnown_91
        refine ⟨fun _ => ⟨fun _ => ?_, fun c => absurd (by decide) c⟩, fun c => absurd (mt_end hM) c⟩
        apply sX5_findKnown_152
        refine ⟨fun c => absurd rfl c, fun _ => ?_⟩
        exact sX5_findKnown_81 ⟨fun _ => hQ t1 ht hF, fun c => absurd rfl c⟩
      · apply sX5_findKnown_91
        rw [I_nat (by omega)]
        refine ⟨fun c => absurd c (mt_lt hM hi), fun _ => ⟨vp_I (by omega) (by omega), fun c => by rw [I_succ]; exact ih, fun c => ?_⟩⟩
        exact absurd ((hd i hi).1 c) (by simp)
    exact inner 0 (by omega)
  | cons r0 rest ihr =>
    intro t1 ht hpw hlt hd hkb hF
    have hpw' := List.pairwise_cons.1 hpw
    have hr0 : r0 < nm S := hlt r0 (List.mem_cons_self ..)
    obtain ⟨a, b, ha, hb, la, lb, hab⟩ := hM.2.2 r0 hr0
    refine sX5_findKnown_81 ⟨fun c => absurd c (by decide), fun _ => ?_⟩
    -- the chosen one is worked in
    have work : MR G mX5_findKnown 3 152 [(0, .ref m), (4, .int (I r0))] [.int 1] m (ov S t1) Q := by
      apply sX5_findKnown_152
      have v16 : vp_in (I r0) 16 := vp_I (by omega) (by omega)
      have va : vp_in (I a) 12 := vp_I (by omega) (by omega)
      have vb : vp_in (I b) 12 := vp_I (by omega) (by omega)
      rw [uS_ov (k := 33) rfl, I_nat (by omega)]
      simp only [ov_0, ov_1, ov_2, ov_3, ov_4, ov_5, ov_6, ov_7, ov_8, ov_9, ov_10, ov_11, ov_12, ov_13, ov_14, ov_15, ov_16, ov_17, ov_18, ov_19, ov_20, ov_21, ov_22, ov_23, ov_24, ov_25, ov_26, ov_27, ov_28, ov_29, ov_30, ov_31, ov_32, ov_33, ov_34, ov_35, ov_36, ov_37, ov_38, ov_39, ov_40, ov_41, ov_42, ov_43, ov_44, ov_45, ov_46, ov_e, ov_s]
      rw [ha, hb, I_nat (by omega), I_nat (by omega), uS_ne (k' := 32) (by decide)]
      have fin : ∀ t2 : MS, EqE [32, 33] t1 t2 → t2.1 33 = (uS t1 33 r0 1).1 33 → (∀ p, p < np S → t2.1 32 p = knS S (t1.1 32) r0 p) → MR G mX5_findKnown 3 81 [(0, .ref m), (3, .int 1)] [] m (ov S t2) Q := by
        intro t2 h2 e33 e32
        refine ihr t2 (ht.trans h2) hpw'.2 (fun k hk => hlt k (List.mem_cons_of_mem _ hk)) (fun k hk => ?_) (fun p hp => ?_) (fun p hp => ?_)
        · rw [e33, uS_if]
          by_cases e : k = r0
          · subst e
            simp
            intro hk2
            exact lx_irr (hpw'.1 k hk2)
          · rw [if_neg e, hd k hk]; simp [e]
        · rw [e32 p hp]; exact knS_bit hkb p hp
        · rw [← hF p hp]
          exact fold_congr hM hn (fun k hk => hlt k (List.mem_cons_of_mem _ hk)) e32 p hp
      refine ⟨fun _ => ⟨v16, v16, v16, va, vb, va, fun c => ?_, fun c => ?_⟩, fun c => absurd c (by decide)⟩
      · apply sX5_findKnown_228
        rw [uS_ov (k := 32) rfl, I_nat (by omega), I_nat (by omega), uS_ov (k := 32) rfl, uS_ov (k := 32) rfl]
        refine ⟨va, vb, fun _ => ⟨vb, ?_⟩, fun c2 => absurd c2 c⟩
        refine fin _ (((EqE.refl.tu (by decide)).tu (by decide)).tu (by decide)) ?_ (fun p hp => ?_)
        · rw [uS_ne (by decide), uS_ne (by decide)]
        · unfold knS
          rw [ha, hb, I_nat (by omega), I_nat (by omega), if_neg c, if_neg c, or_zero, or_zero]
          simp only [ov_0, ov_1, ov_2, ov_3, ov_4, ov_5, ov_6, ov_7, ov_8, ov_9, ov_10, ov_11, ov_12, ov_13, ov_14, ov_15, ov_16, ov_17, ov_18, ov_19, ov_20, ov_21, ov_22, ov_23, ov_24, ov_25, ov_26, ov_27, ov_28, ov_29, ov_30, ov_31, ov_32, ov_33, ov_34, ov_35, ov_36, ov_37, ov_38, ov_39, ov_40, ov_41, ov_42, ov_43, ov_44, ov_45, ov_46, ov_e, ov_s]
          by_cases e1 : p = b
          · subst e1
            have : ¬ p = a := fun e => hab e.symm
            rw [uS_at, uS_nei this, uS_ne (k' := 32) (by decide)]; simp
          · rw [uS_nei e1, if_neg e1]
            by_cases e2 : p = a
            · subst e2; rw [uS_at]; simp
            · rw [uS_nei e2, uS_ne (by decide), if_neg e2]
      · apply sX5_findKnown_228
        rw [uS_ov (k := 32) rfl, I_nat (by omega), I_nat (by omega), uS_ov (k := 32) rfl, uS_ov (k := 32) rfl]
        refine ⟨va, vb, fun c2 => absurd c c2, fun _ => ⟨vb, ?_⟩⟩
        refine fin _ (((EqE.refl.tu (by decide)).tu (by decide)).tu (by decide)) ?_ (fun p hp => ?_)
        · rw [uS_ne (by decide), uS_ne (by decide)]
        · unfold knS
          rw [ha, hb, I_nat (by omega), I_nat (by omega), if_pos c, if_pos c]
          simp only [ov_0, ov_1, ov_2, ov_3, ov_4, ov_5, ov_6, ov_7, ov_8, ov_9, ov_10, ov_11, ov_12, ov_13, ov_14, ov_15, ov_16, ov_17, ov_18, ov_19, ov_20, ov_21, ov_22, ov_23, ov_24, ov_25, ov_26, ov_27, ov_28, ov_29, ov_30, ov_31, ov_32, ov_33, ov_34, ov_35, ov_36, ov_37, ov_38, ov_39, ov_40, ov_41, ov_42, ov_43, ov_44, ov_45, ov_46, ov_e, ov_s]
          have hka := hkb a la
          have hkb' := hkb b lb
          by_cases e1 : p = b
          · subst e1
            have : ¬ p = a := fun e => hab e.symm
            rw [uS_at, uS_nei this, uS_ne (k' := 32) (by decide)]; simp
            apply tb_ext; intro j hj
            simp only [tb_or]
            rw [show (1 : Int32) <<< (I a &&& 31) = bitI a from rfl, tb_bit (by omega) hj]
            by_cases e : a = j
            · subst e; simp [hka]
            · simp [e]; cases tb (t1.1 32 p) j <;> simp
          · rw [uS_nei e1, if_neg e1]
            by_cases e2 : p = a
            · subst e2; rw [uS_at]; simp
              apply tb_ext; intro j hj
              simp only [tb_or]
              rw [show (1 : Int32) <<< (I b &&& 31) = bitI b from rfl, tb_bit (by omega) hj]
              by_cases e : b = j
              · subst e; simp [hkb']
              · simp [e]
            · rw [uS_nei e2, uS_ne (by decide), if_neg e2]
    have inner : ∀ i, i ≤ nm S → ∀ z : Int32, ((z = -1 ∧ ∀ j, j < i → ¬ j ∈ r0 :: rest) ∨ (∃ k, z = I k ∧ k ∈ r0 :: rest ∧ k < i ∧ ∀ j, j < i → j ∈ r0 :: rest → j = k ∨ lx (S.1 8) k j)) → MR G mX5_findKnown 3 91 [(0, .ref m), (4, .int z), (5, .int (I i))] [] m (ov S t1) Q := by
      refine up_ind ?_ (fun i hi ih => ?_)
      · intro z hz
        apply sX5_findKnown_91
        refine ⟨fun _ => ?_, fun c => absurd (mt_end hM) c⟩
        rcases hz with ⟨-, hz⟩ | ⟨k, rfl, hk, -, hz⟩
        · exact absurd (List.mem_cons_self ..) (hz r0 hr0)
        · have hkn := hlt k hk
          have hk0 : k = r0 := by
            rcases hz r0 hr0 (List.mem_cons_self ..) with e | e
            · exact e.symm
            · rcases List.mem_cons.1 hk with e2 | e2
              · exact e2
              · exact absurd (lx_tr e (hpw'.1 k e2)) lx_irr
          subst hk0
          exact ⟨fun c => absurd c (I_nonneg (by omega)), fun _ => work⟩
      · intro z hz
        apply sX5_findKnown_91
        rw [I_nat (by omega), I_succ]
        have vi : vp_in (I i) 16 := vp_I (by omega) (by omega)
        refine ⟨fun c => absurd c (mt_lt hM hi), fun _ => ⟨vi, fun c => ih z ?_, fun c => ?_⟩⟩
        · have hni : ¬ i ∈ r0 :: rest := fun e => c ((hd i hi).2 e)
          rcases hz with ⟨e, hz⟩ | ⟨k, e, hk, hki, hz⟩
          · refine Or.inl ⟨e, fun j hj => ?_⟩
            by_cases e2 : j = i
            · subst e2; exact hni
            · exact hz j (by omega)
          · refine Or.inr ⟨k, e, hk, by omega, fun j hj hjm => ?_⟩
            by_cases e2 : j = i
            · subst e2; exact absurd hjm hni
            · exact hz j (by omega) hjm
        · have hin : i ∈ r0 :: rest := (hd i hi).1 c
          rcases hz with ⟨rfl, hz⟩ | ⟨k, rfl, hk, hki, hz⟩
          · refine ⟨fun _ => ih _ (Or.inr ⟨i, rfl, hin, by omega, fun j hj hjm => ?_⟩), fun c => absurd (by decide) c⟩
            by_cases e2 : j = i
            · exact Or.inl e2
            · exact absurd hjm (hz j (by omega))
          · have vk : vp_in (I k) 16 := vp_I (by omega) (by omega)
            refine ⟨fun c => absurd c (I_nonneg (by omega)), fun _ => ⟨vi, vk, ?_⟩⟩
            rw [I_nat (by omega)]
            simp only [ov_0, ov_1, ov_2, ov_3, ov_4, ov_5, ov_6, ov_7, ov_8, ov_9, ov_10, ov_11, ov_12, ov_13, ov_14, ov_15, ov_16, ov_17, ov_18, ov_19, ov_20, ov_21, ov_22, ov_23, ov_24, ov_25, ov_26, ov_27, ov_28, ov_29, ov_30, ov_31, ov_32, ov_33, ov_34, ov_35, ov_36, ov_37, ov_38, ov_39, ov_40, ov_41, ov_42, ov_43, ov_44, ov_45, ov_46, ov_e, ov_s]
            refine ⟨fun c2 => ih _ (Or.inr ⟨k, rfl, hk, by omega, fun j hj hjm => ?_⟩), fun c2 => ih _ (Or.inr ⟨i, rfl, hin, by omega, fun j hj hjm => ?_⟩)⟩
            · by_cases e2 : j = i
              · subst e2
                right
                unfold lx
                by_cases e3 : S.1 8 k < S.1 8 j
                · exact Or.inl e3
                · refine Or.inr ⟨?_, hki⟩
                  apply Int32.toInt_inj.1; rw [lt_I] at e3; rw [le_I] at c2; omega
              · exact hz j (by omega) hjm
            · have hik : lx (S.1 8) i k := Or.inl (nle_I.1 c2)
              by_cases e2 : j = i
              · exact Or.inl e2
              · rcases hz j (by omega) hjm with e3 | e3
                · subst e3; exact Or.inr hik
                · exact Or.inr (lx_tr hik e3)
    exact inner 0 (by omega) (-1) (Or.inl ⟨rfl, fun j hj => by omega⟩)
theorem M_findKnown (hS : Ppl S) (hM : Mtg S) {y wo : Int32} (hQ : ∀ t', EqE [32, 33] t t' → (∀ p, p < np S → t'.1 32 p = kuF S y wo p) → Q (.returned none) (ov S t')) : MR G mX5_findKnown 3 0 [(0, .ref m), (1, .int y), (2, .int wo)] [] m (ov S t) Q := by
  have hn := hS.n
  have hm := hM.n
  have ph2 : ∀ t0, EqE [32, 33] t t0 → (∀ p, p < np S → t0.1 32 p = bitI p) → ∀ i, i ≤ nm S → ∀ t1, EqE [33] t0 t1 → (∀ j, j < i → t1.1 33 j = if elg S y wo j = true then 0 else 1) → MR G mX5_findKnown 3 27 [(0, .ref m), (1, .int y), (2, .int wo), (3, .int (I i))] [] m (ov S t1) Q := by
    intro t0 ht0 hk0
    refine up_ind ?_ (fun i hi ih => ?_)
    · intro t1 ht1 hd
      refine sX5_findKnown_27 ⟨fun _ => ?_, fun c => absurd (mt_end hM) c⟩
      have h32 : t1.1 32 = t0.1 32 := ht1.2 32 (by decide)
      refine M_fk3 hS hM hQ ((srt (S.1 8) (nm S)).filter (elg S y wo)) t1 (ht0.trans (ht1.mono (by decide))) ((srt_pw _).filter _) (fun k hk => srt_mem.1 (List.mem_filter.1 hk).1) (fun k hk => ?_) (fun p hp => ?_) (fun p hp => ?_)
      · rw [hd k hk]
        have := srt_mem (f := S.1 8) (n := nm S) (a := k)
        cases e : elg S y wo k <;> simp [List.mem_filter, this, hk, e]
      · rw [h32, hk0 p hp, tb_bit (by omega) (by omega)]; simp
      · refine fold_congr hM hn (fun k hk => srt_mem.1 (List.mem_filter.1 hk).1) (fun q hq => ?_) p hp
        rw [h32]; exact hk0 q hq
    · intro t1 ht1 hd
      have vi : vp_in (I i) 16 := vp_I (by omega) (by omega)
      obtain ⟨a, b, ha, hb, la, lb, hab⟩ := hM.2.2 i hi
      have st : ∀ v : Int32, v = (if elg S y wo i = true then 0 else 1) → MR G mX5_findKnown 3 27 [(0, .ref m), (1, .int y), (2, .int wo), (3, .int (I i + 1))] [] m (uS (ov S t1) 33 (I i).toNatClampNeg v) Q := by
        intro v hv
        rw [I_succ, I_nat (by omega), uS_ov rfl]
        refine ih _ (ht1.tu (by decide)) (fun j hj => ?_)
        rw [uS_if]
        split
        · rename_i e; subst e; exact hv
        · exact hd j (by omega)
      apply sX5_findKnown_27
      refine ⟨fun c => absurd c (mt_lt hM hi), fun _ => ⟨vi, fun c => ⟨vi, st 1 ?_⟩, fun c => ⟨fun c2 => ⟨vi, st 1 ?_⟩, fun c2 => ?_⟩⟩⟩
      · have c : y < S.1 8 (I i).toNatClampNeg := c
        rw [I_nat (by omega)] at c
        simp [elg, c]
      · have c : ¬ y < S.1 8 (I i).toNatClampNeg := c
        rw [I_nat (by omega)] at c
        simp [elg, c2]
      · have c : ¬ y < S.1 8 (I i).toNatClampNeg := c
        rw [I_nat (by omega)] at c
        apply M_counts vi
        · rw [I_nat (by omega), ha]; exact vp_I (by omega) (by omega)
        · rw [I_nat (by omega), hb]; exact vp_I (by omega) (by omega)
        · refine ⟨_, rfl, fun c3 => ⟨vi, st 0 ?_⟩, fun c3 => ⟨vi, st 1 ?_⟩⟩ <;> simp [elg, c, c2, c3]
  have ph1 : ∀ i, i ≤ np S → ∀ t1, EqE [32, 33] t t1 → (∀ j, j < i → t1.1 32 j = bitI j) → MR G mX5_findKnown 3 2 [(0, .ref m), (1, .int y), (2, .int wo), (3, .int (I i))] [] m (ov S t1) Q := by
    refine up_ind ?_ (fun i hi ih => ?_)
    · intro t1 ht1 hk
      exact sX5_findKnown_2 ⟨fun _ => ph2 t1 ht1 hk 0 (by omega) t1 EqE.refl (fun j hj => by omega), fun c => absurd (pp_end hS) c⟩
    · intro t1 ht1 hk
      apply sX5_findKnown_2
      rw [I_nat (by omega), I_succ, uS_ov rfl]
      refine ⟨fun c => absurd c (pp_lt hS hi), fun _ => ⟨vp_I (by omega) (by omega), ih _ (ht1.tu (by decide)) (fun j hj => ?_)⟩⟩
      rw [uS_if]
      split
      · rename_i e; subst e; rfl
      · exact hk j (by omega)
  exact sX5_findKnown_0 (ph1 0 (by omega) t EqE.refl (fun j hj => by omega))
end

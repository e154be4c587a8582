/-! LAYER 1d: what fits where; casts and instanceof by kind (printed by gen36.py) -/
set_option maxRecDepth 100000
theorem fit_3 {G : GG} {h : AH} {v : Nat} (k : IsK G h v (3, 0)) : Fit G h "NameRests$Change" v := fit_self ok3 (by decide) k
theorem fit_6 {G : GG} {h : AH} {v : Nat} (k : IsK G h v (6, 0)) : Fit G h "NameRests$Person" v := fit_self ok6 (by decide) k
theorem fit_7 {G : GG} {h : AH} {v : Nat} (k : IsK G h v (7, 0)) : Fit G h "NameRests$Meeting" v := fit_self ok7 (by decide) k
theorem fit_body {G : GG} {h : AH} {v j : Nat} (hj : j < 8) (k : IsK G h v (14 + j, 0)) : Fit G h "NameRests$Body" v := by
  match j, hj, k with
  | 0, _, k => exact fit_self ok14 (by decide) k
  | 1, _, k => exact fit_cast ok15 (by decide) k q1838
  | 2, _, k => exact fit_cast ok16 (by decide) k q1840
  | 3, _, k => exact fit_cast ok17 (by decide) k q1842
  | 4, _, k => exact fit_cast ok18 (by decide) k q1837
  | 5, _, k => exact fit_cast ok19 (by decide) k q1836
  | 6, _, k => exact fit_cast ok20 (by decide) k q1841
  | 7, _, k => exact fit_cast ok21 (by decide) k q1839
  | j + 8, hj, _ => omega
theorem fit_bobj {G : GG} {h : AH} {v j : Nat} (hj : j < 8) (k : IsK G h v (14 + j, 0)) : Fit G h "java/lang/Object" v := by
  match j, hj, k with
  | 0, _, k => exact fit_cast ok14 (by decide) k q1863
  | 1, _, k => exact fit_cast ok15 (by decide) k q1856
  | 2, _, k => exact fit_cast ok16 (by decide) k q1857
  | 3, _, k => exact fit_cast ok17 (by decide) k q1858
  | 4, _, k => exact fit_cast ok18 (by decide) k q1859
  | 5, _, k => exact fit_cast ok19 (by decide) k q1860
  | 6, _, k => exact fit_cast ok20 (by decide) k q1861
  | 7, _, k => exact fit_cast ok21 (by decide) k q1862
  | j + 8, hj, _ => omega
theorem cast_body {G : GG} {h : AH} {v j : Nat} (hj : j < 8) (k : IsK G h v (14 + j, 0)) : CastOK G h v "NameRests$Body" := by
  match j, hj, k with
  | 0, _, k => exact Or.inl (Cls.obj ok14 (by decide) k)
  | 1, _, k => exact Or.inr ⟨_, q1838, Cls.obj ok15 (by decide) k⟩
  | 2, _, k => exact Or.inr ⟨_, q1840, Cls.obj ok16 (by decide) k⟩
  | 3, _, k => exact Or.inr ⟨_, q1842, Cls.obj ok17 (by decide) k⟩
  | 4, _, k => exact Or.inr ⟨_, q1837, Cls.obj ok18 (by decide) k⟩
  | 5, _, k => exact Or.inr ⟨_, q1836, Cls.obj ok19 (by decide) k⟩
  | 6, _, k => exact Or.inr ⟨_, q1841, Cls.obj ok20 (by decide) k⟩
  | 7, _, k => exact Or.inr ⟨_, q1839, Cls.obj ok21 (by decide) k⟩
  | j + 8, hj, _ => omega
theorem fit_row {G : GG} {h : AH} {v j n : Nat} (hj : j < 5) (k : IsK G h v (100 + j, n)) : Fit G h "java/lang/Object" v := by
  match j, hj, k with
  | 0, _, k => exact fit_arr (j := 0) (by decide) k q1866
  | 1, _, k => exact fit_arr (j := 1) (by decide) k q1874
  | 2, _, k => exact fit_arr (j := 2) (by decide) k q1872
  | 3, _, k => exact fit_arr (j := 3) (by decide) k q1873
  | 4, _, k => exact fit_arr (j := 4) (by decide) k q1875
  | j + 5, hj, _ => omega
def arN (j : Nat) : String := match j with
  | 0 => "[I"
  | 1 => "[J"
  | 2 => "[B"
  | 3 => "[S"
  | _ => "[Z"
theorem cls_row {G : GG} {h : AH} {v j n : Nat} (hj : j < 5) (k : IsK G h v (100 + j, n)) : Cls G h v (arN j) := by
  match j, hj, k with
  | 0, _, k => exact Cls.arr (j := 0) (by decide) k
  | 1, _, k => exact Cls.arr (j := 1) (by decide) k
  | 2, _, k => exact Cls.arr (j := 2) (by decide) k
  | 3, _, k => exact Cls.arr (j := 3) (by decide) k
  | 4, _, k => exact Cls.arr (j := 4) (by decide) k
  | j + 5, hj, _ => omega
theorem cast_row {G : GG} {h : AH} {v j n : Nat} (hj : j < 5) (k : IsK G h v (100 + j, n)) : CastOK G h v (arN j) := Or.inl (cls_row hj k)
theorem inst_none {G : GG} {h : AH} {nm : String} : InstQ G h none nm false := Or.inl ⟨rfl, rfl⟩
theorem inst_body {G : GG} {h : AH} {v j : Nat} (hj : j < 8) (k : IsK G h v (14 + j, 0)) : InstQ G h (some v) "NameRests$Body" true := Or.inr ⟨v, rfl, Or.inl ⟨rfl, cast_body hj k⟩⟩
theorem inst_row {G : GG} {h : AH} {v j n i : Nat} (hj : j < 5) (hi : i < 5) (k : IsK G h v (100 + j, n)) : InstQ G h (some v) (arN i) (decide (i = j)) := by
  by_cases e : i = j
  · subst e; rw [decide_eq_true rfl]; exact Or.inr ⟨v, rfl, Or.inl ⟨rfl, cast_row hi k⟩⟩
  · rw [decide_eq_false e]
    refine Or.inr ⟨v, rfl, Or.inr ⟨rfl, arN j, ?_, cls_row hj k⟩⟩
    match i, j, hi, hj, e with
    | 0, 0, _, _, e => exact absurd rfl e
    | 0, 1, _, _, _ => decide +kernel
    | 0, 2, _, _, _ => decide +kernel
    | 0, 3, _, _, _ => decide +kernel
    | 0, 4, _, _, _ => decide +kernel
    | 1, 0, _, _, _ => decide +kernel
    | 1, 1, _, _, e => exact absurd rfl e
    | 1, 2, _, _, _ => decide +kernel
    | 1, 3, _, _, _ => decide +kernel
    | 1, 4, _, _, _ => decide +kernel
    | 2, 0, _, _, _ => decide +kernel
    | 2, 1, _, _, _ => decide +kernel
    | 2, 2, _, _, e => exact absurd rfl e
    | 2, 3, _, _, _ => decide +kernel
    | 2, 4, _, _, _ => decide +kernel
    | 3, 0, _, _, _ => decide +kernel
    | 3, 1, _, _, _ => decide +kernel
    | 3, 2, _, _, _ => decide +kernel
    | 3, 3, _, _, e => exact absurd rfl e
    | 3, 4, _, _, _ => decide +kernel
    | 4, 0, _, _, _ => decide +kernel
    | 4, 1, _, _, _ => decide +kernel
    | 4, 2, _, _, _ => decide +kernel
    | 4, 3, _, _, _ => decide +kernel
    | 4, 4, _, _, e => exact absurd rfl e
    | i + 5, _, hi, _, _ => omega
    | _, j + 5, _, hj, _ => omega
theorem inst_rowb {G : GG} {h : AH} {v j n : Nat} (hj : j < 5) (k : IsK G h v (100 + j, n)) : InstQ G h (some v) "NameRests$Body" false := by
  refine Or.inr ⟨v, rfl, Or.inr ⟨rfl, arN j, ?_, cls_row hj k⟩⟩
  match j, hj with
  | 0, _ => decide +kernel
  | 1, _ => decide +kernel
  | 2, _ => decide +kernel
  | 3, _ => decide +kernel
  | 4, _ => decide +kernel
  | j + 5, hj => omega
theorem inst_bodyr {G : GG} {h : AH} {v j i : Nat} (hj : j < 8) (hi : i < 5) (k : IsK G h v (14 + j, 0)) : InstQ G h (some v) (arN i) false := by
  match j, hj, k with
  | 0, _, k =>
    refine Or.inr ⟨v, rfl, Or.inr ⟨rfl, "NameRests$Body", ?_, Cls.obj ok14 (by decide) k⟩⟩
    match i, hi with
    | 0, _ => decide +kernel
    | 1, _ => decide +kernel
    | 2, _ => decide +kernel
    | 3, _ => decide +kernel
    | 4, _ => decide +kernel
    | i + 5, hi => omega
  | 1, _, k =>
    refine Or.inr ⟨v, rfl, Or.inr ⟨rfl, "NameRests$First", ?_, Cls.obj ok15 (by decide) k⟩⟩
    match i, hi with
    | 0, _ => decide +kernel
    | 1, _ => decide +kernel
    | 2, _ => decide +kernel
    | 3, _ => decide +kernel
    | 4, _ => decide +kernel
    | i + 5, hi => omega
  | 2, _, k =>
    refine Or.inr ⟨v, rfl, Or.inr ⟨rfl, "NameRests$Soon", ?_, Cls.obj ok16 (by decide) k⟩⟩
    match i, hi with
    | 0, _ => decide +kernel
    | 1, _ => decide +kernel
    | 2, _ => decide +kernel
    | 3, _ => decide +kernel
    | 4, _ => decide +kernel
    | i + 5, hi => omega
  | 3, _, k =>
    refine Or.inr ⟨v, rfl, Or.inr ⟨rfl, "NameRests$Wish", ?_, Cls.obj ok17 (by decide) k⟩⟩
    match i, hi with
    | 0, _ => decide +kernel
    | 1, _ => decide +kernel
    | 2, _ => decide +kernel
    | 3, _ => decide +kernel
    | 4, _ => decide +kernel
    | i + 5, hi => omega
  | 4, _, k =>
    refine Or.inr ⟨v, rfl, Or.inr ⟨rfl, "NameRests$Blind", ?_, Cls.obj ok18 (by decide) k⟩⟩
    match i, hi with
    | 0, _ => decide +kernel
    | 1, _ => decide +kernel
    | 2, _ => decide +kernel
    | 3, _ => decide +kernel
    | 4, _ => decide +kernel
    | i + 5, hi => omega
  | 5, _, k =>
    refine Or.inr ⟨v, rfl, Or.inr ⟨rfl, "NameRests$Best", ?_, Cls.obj ok19 (by decide) k⟩⟩
    match i, hi with
    | 0, _ => decide +kernel
    | 1, _ => decide +kernel
    | 2, _ => decide +kernel
    | 3, _ => decide +kernel
    | 4, _ => decide +kernel
    | i + 5, hi => omega
  | 6, _, k =>
    refine Or.inr ⟨v, rfl, Or.inr ⟨rfl, "NameRests$Told", ?_, Cls.obj ok20 (by decide) k⟩⟩
    match i, hi with
    | 0, _ => decide +kernel
    | 1, _ => decide +kernel
    | 2, _ => decide +kernel
    | 3, _ => decide +kernel
    | 4, _ => decide +kernel
    | i + 5, hi => omega
  | 7, _, k =>
    refine Or.inr ⟨v, rfl, Or.inr ⟨rfl, "NameRests$Hermit", ?_, Cls.obj ok21 (by decide) k⟩⟩
    match i, hi with
    | 0, _ => decide +kernel
    | 1, _ => decide +kernel
    | 2, _ => decide +kernel
    | 3, _ => decide +kernel
    | 4, _ => decide +kernel
    | i + 5, hi => omega
  | j + 8, hj, _ => omega

/-! LAYER 1: old cells: two statics of Throwable, the script -/
section RO
variable {G : GG} {M : MD} {d pc : Nat} {lv : List (Nat × Value)} {st : List Value} {h : AH} {Q : Outcome → AH → Prop}
theorem R_gets0 {ix : Nat} (hd : decode M.2.1 pc = .ok (.getstatic ix, 3)) (hw : Cond.fieldLink M.1.cls ix "java/lang/Throwable" "UNASSIGNED_STACK" "[Ljava/lang/StackTraceElement;" ∈ lw_all) (kk : Run G M d (pc + 3) lv (va_rf (sv G 0) :: st) h Q) : Run G M d pc lv st h Q := by
  obtain ⟨o, h', q, h1, h2, r⟩ := kk
  refine ⟨o, h', q, h1, h2, fun p l e R s m args below meth c H locs cells slots ls C a1 a2 a3 a4 P S L => ?_⟩
  exact va_gets C.1 C.2.1 C.kk.2.2.2.2.2.2.2.1 S C.own (C.wd _ hw) (fun _ x => x) hd (r p l e R s m args below meth c H locs cells slots ls C a1 a2 a3 a4 P S L)
theorem R_gets1 {ix : Nat} (hd : decode M.2.1 pc = .ok (.getstatic ix, 3)) (hw : Cond.fieldLink M.1.cls ix "java/lang/Throwable" "SUPPRESSED_SENTINEL" "Ljava/util/List;" ∈ lw_all) (kk : Run G M d (pc + 3) lv (va_rf (sv G 1) :: st) h Q) : Run G M d pc lv st h Q := by
  obtain ⟨o, h', q, h1, h2, r⟩ := kk
  refine ⟨o, h', q, h1, h2, fun p l e R s m args below meth c H locs cells slots ls C a1 a2 a3 a4 P S L => ?_⟩
  exact va_gets C.1 C.2.1 C.kk.2.2.2.2.2.2.2.2.1 S C.own (C.wd _ hw) (fun _ x => x) hd (r p l e R s m args below meth c H locs cells slots ls C a1 a2 a3 a4 P S L)
theorem R_sld {i : Int32} (hd : decode M.2.1 pc = .ok (.iaload, 1)) (hi : vp_in i (scL G)) (kk : Run G M d (pc + 1) lv (.int (scX G i.toNatClampNeg) :: st) h Q) : Run G M d pc lv (.int i :: .ref (scB G) :: st) h Q := by
  obtain ⟨o, h', q, h1, h2, r⟩ := kk
  refine ⟨o, h', q, h1, h2, fun p l e R s m args below meth c H locs cells slots ls C a1 a2 a3 a4 P S L => ?_⟩
  have hX := C.kk.2.2.2.2.2.2.2.2.2.1
  have hbl : scB G < s.heap.size := by
    obtain ⟨scr, hs, -⟩ := hX
    exact (Array.getElem?_eq_some_iff.mp hs).1
  have hb := C.kk.2.2.2.2.2.2.2.2.2.2
  exact va_sld C.1 C.2.1 hX hbl (show ¬ G.1 ≤ scB G by omega) S hi hd (r p l e R s m args below meth c H locs cells slots ls C a1 a2 a3 a4 P S L)
theorem R_slen (hd : decode M.2.1 pc = .ok (.arraylength, 1)) (kk : Run G M d (pc + 1) lv (.int (nI (scL G)) :: st) h Q) : Run G M d pc lv (.ref (scB G) :: st) h Q := by
  obtain ⟨o, h', q, h1, h2, r⟩ := kk
  refine ⟨o, h', q, h1, h2, fun p l e R s m args below meth c H locs cells slots ls C a1 a2 a3 a4 P S L => ?_⟩
  have hX := C.kk.2.2.2.2.2.2.2.2.2.1
  have hbl : scB G < s.heap.size := by
    obtain ⟨scr, hs, -⟩ := hX
    exact (Array.getElem?_eq_some_iff.mp hs).1
  have hb := C.kk.2.2.2.2.2.2.2.2.2.2
  exact va_slen C.1 C.2.1 hX hbl (show ¬ G.1 ≤ scB G by omega) S hd (r p l e R s m args below meth c H locs cells slots ls C a1 a2 a3 a4 P S L)
end RO

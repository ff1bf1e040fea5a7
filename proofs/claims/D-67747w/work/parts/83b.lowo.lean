theorem pA9_len {i : Nat} {v : Int32} {cd : List Ps} : (pA9 i v cd).length = cd.length := by unfold pA9; simp
theorem pB9_len {i : Nat} {v : Int32} {cd : List Ps} : (pB9 i v cd).length = cd.length := by unfold pB9; simp
theorem pA9_ne {i k : Nat} {v : Int32} {cd : List Ps} (h : ¬ i = k) : (pA9 i v cd)[k]? = cd[k]? := by unfold pA9; simp [List.getElem?_modify, h]
theorem pB9_ne {i k : Nat} {v : Int32} {cd : List Ps} (h : ¬ i = k) : (pB9 i v cd)[k]? = cd[k]? := by unfold pB9; simp [List.getElem?_modify, h]
theorem pA9_at {i : Nat} {v : Int32} {cd : List Ps} {p : Ps} (h : cd[i]? = some p) : (pA9 i v cd)[i]? = some (p.1, v, p.2.2) := by unfold pA9; simp [List.getElem?_modify, h]
theorem pB9_at {i : Nat} {v : Int32} {cd : List Ps} {p : Ps} (h : cd[i]? = some p) : (pB9 i v cd)[i]? = some (p.1, p.2.1, v, p.2.2.2) := by unfold pB9; simp [List.getElem?_modify, h]
theorem pA9_tl {i : Nat} {v : Int32} {cd : List Ps} : (pA9 i v cd).countP tl9 = cd.countP tl9 := mod_count (fun _ _ => rfl)
theorem pB9_tl {i : Nat} {v : Int32} {cd : List Ps} : (pB9 i v cd).countP tl9 = cd.countP tl9 := mod_count (fun _ _ => rfl)
theorem G9.pA {L : L9} (h : G9 L) {i : Nat} {v : Int32} (hi : ∀ p, L.1[i]? = some p → p.1 = 16) : G9 (pA9 i v L.1, L.2) := by
  refine h.patch (fun p hp => ?_) (fun p r hp hg => ?_)
  · have := hi p hp
    obtain ⟨c, a, b, d, e, o⟩ := p
    simp only at this
    rw [fd9_big (by omega), fd9_big (by omega)]
  · have := hi p hp
    obtain ⟨g1, g2, g3, g4, g5, g6, g7⟩ := hg
    exact ⟨g1, fun z => absurd z (by simp only; omega), fun z => absurd z (by simp only; omega), fun z => absurd z (by simp only; omega), fun z => absurd z (by simp only; omega), fun z => absurd z (by simp only; omega), g7⟩
theorem G9.pB {L : L9} (h : G9 L) {i : Nat} {v : Int32} (hi : ∀ p, L.1[i]? = some p → p.1 = 17) : G9 (pB9 i v L.1, L.2) := by
  refine h.patch (fun p hp => ?_) (fun p r hp hg => ?_)
  · have := hi p hp
    obtain ⟨c, a, b, d, e, o⟩ := p
    simp only at this
    rw [fd9_big (by omega), fd9_big (by omega)]
  · have := hi p hp
    obtain ⟨g1, g2, g3, g4, g5, g6, g7⟩ := hg
    exact ⟨g1, g2, g3, fun z => absurd z (by simp only; omega), g5, g6, g7⟩

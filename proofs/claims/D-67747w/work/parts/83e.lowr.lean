theorem take_cnt {cd : List Ps} {i k : Nat} (h : i ≤ k) : (cd.take i).countP fd9 ≤ (cd.take k).countP fd9 := by
  have : cd.take i = (cd.take k).take i := by rw [List.take_take, Nat.min_eq_left h]
  rw [this]
  exact List.Sublist.countP_le (List.take_sublist _ _)
theorem CW.of {M : L9} {k : Nat} (h : LK k ([], 16) M) (hk : k ≤ 60) : CW M.1 M.2 := by
  obtain ⟨g, l1, l2, l3, l4, l5⟩ := h
  have hlo := g.lo
  have hhi := g.hi
  simp at l2 l5
  have hall : M.2 = 16 + M.1.countP fd9 := g.1
  have hT : ∀ i, (M.1.take i).countP fd9 ≤ M.1.countP fd9 := fun i => List.Sublist.countP_le (List.take_sublist _ _)
  refine ⟨by omega, hlo, by omega, fun i p hp => ?_, fun i j p q hp hq hc ha hn => ?_, ?_⟩
  · obtain ⟨a1, a2, a3, a4, a5, a6, a7⟩ := g.2.2 i p hp
    obtain ⟨j1, j2⟩ := l4 i p (by simp) hp
    have ht := hT i
    have lift : ∀ {v : Int32}, (∃ x, x < 16 + (M.1.take i).countP fd9 ∧ v = nI x) → ∃ x, x < M.2 ∧ v = nI x := fun ⟨x, x1, x2⟩ => ⟨x, by omega, x2⟩
    refine ⟨a1, fun z => ?_, j1, j2, fun z => lift (a4 z), fun z => lift (a5 z), fun z => lift (a6 z), a7⟩
    by_cases h14 : p.1 ≤ 14
    · obtain ⟨x, x1, x2⟩ := a2 h14
      rcases x1 with x1 | x1
      · exact ⟨x, by omega, x2⟩
      · refine ⟨x, ?_, x2⟩
        have hfd : fd9 p = true := by
          obtain ⟨c, a, b, d, e, o⟩ := p
          simp only at x2 h14
          rw [x2]
          exact fd9_new h14 (by omega) (by omega)
        have := hT (i + 1)
        rw [List.take_succ, hp] at this
        simp [List.countP_append, hfd] at this
        omega
    · exact lift (a3 (by omega))
  · obtain ⟨a1, a2, -⟩ := g.2.2 i p hp
    obtain ⟨x, x1, x2⟩ := a2 (by omega)
    rcases Nat.lt_or_ge i j with h | h
    · exact h
    · exfalso
      have hx : x = 16 + (M.1.take i).countP fd9 := by
        rcases x1 with x1 | x1
        · exact absurd (by rw [x2]; exact nI_lt (a := x) (b := 16) x1 (by decide)) ha
        · exact x1
      obtain ⟨b1, b2, b3, b4, b5, b6, b7⟩ := g.2.2 j q hq
      have hm := take_cnt (cd := M.1) h
      have hti := hT i
      have key : ∀ {v : Int32}, (∃ y, y < 16 + (M.1.take j).countP fd9 ∧ v = nI y) → v = p.2.1 → False := by
        rintro v ⟨y, y1, y2⟩ hv
        rw [y2, x2] at hv
        have := (nI_eq (by omega) (by omega)).mp hv
        omega
      rcases hn with ⟨n1, n2⟩ | ⟨n1, n2⟩ | ⟨n1, n2⟩ | ⟨n1, n2⟩
      · exact key (b3 n1) n2
      · exact key (b4 n1) n2
      · exact key (b5 n1) n2
      · exact key (b6 n1) n2
  · unfold tls
    simp only [List.drop_zero]
    have : M.1.countP (fun p => p.1 == 18) = M.1.countP tl9 := rfl
    omega

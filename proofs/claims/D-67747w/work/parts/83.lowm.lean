/-! the code that is made: where jumps go -/
def JO (lo : Nat) (L : L9) : Prop := ∀ (i : Nat) (p : Ps), lo ≤ i → L.1[i]? = some p → (p.1 = 16 → ∃ t, i < t ∧ t ≤ L.1.length ∧ p.2.1 = nI t) ∧ (p.1 = 17 → ∃ t, i < t ∧ t ≤ L.1.length ∧ p.2.2.1 = nI t)
def LK (k : Nat) (L M : L9) : Prop := G9 M ∧ L.1.length ≤ M.1.length ∧ M.1.length ≤ L.1.length + 39 * k ∧ (∀ i, i < L.1.length → M.1[i]? = L.1[i]?) ∧ JO L.1.length M ∧ M.1.countP tl9 ≤ L.1.countP tl9 + k
theorem LK.rf {L : L9} (h : G9 L) : LK 0 L L := ⟨h, Nat.le_refl _, by omega, fun _ _ => rfl, fun i p hi hp => by have := (List.getElem?_eq_some_iff.mp hp).1; omega, by omega⟩
theorem LK.tr {k l : Nat} {L M N : L9} (h : LK k L M) (g : LK l M N) : LK (k + l) L N := by
  obtain ⟨a1, a2, a3, a4, a5, a6⟩ := h
  obtain ⟨b1, b2, b3, b4, b5, b6⟩ := g
  refine ⟨b1, by omega, by omega, fun i hi => by rw [b4 i (by omega), a4 i hi], fun i p hi hp => ?_, by omega⟩
  by_cases hM : i < M.1.length
  · rw [b4 i hM] at hp
    obtain ⟨c1, c2⟩ := a5 i p hi hp
    exact ⟨fun z => by obtain ⟨t, t1, t2, t3⟩ := c1 z; exact ⟨t, t1, by omega, t3⟩, fun z => by obtain ⟨t, t1, t2, t3⟩ := c2 z; exact ⟨t, t1, by omega, t3⟩⟩
  · exact b5 i p (by omega) hp
theorem LK.ap {k k' : Nat} {L M : L9} (h : AP k L M) (hG : G9 M) (hl : M.1.length ≤ L.1.length + 39 * k') (hk : k ≤ k') : LK k' L M := by
  obtain ⟨seg, s1, s2, s3⟩ := h
  refine ⟨hG, by rw [s1]; simp, hl, fun i hi => by rw [s1, List.getElem?_append_left hi], fun i p hi hp => ?_, by rw [s1, List.countP_append]; omega⟩
  rw [s1, List.getElem?_append_right hi] at hp
  have := s2 p (List.mem_of_getElem? hp)
  exact ⟨fun z => absurd z this.1, fun z => absurd z this.2⟩

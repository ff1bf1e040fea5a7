/-! patches of a jump's target -/
theorem mod_count {q : Ps → Bool} {f : Ps → Ps} : ∀ {cd : List Ps} {i : Nat}, (∀ p, cd[i]? = some p → q (f p) = q p) → (cd.modify i f).countP q = cd.countP q := by
  intro cd
  induction cd with
  | nil => intro i _; simp
  | cons a cd ih =>
    intro i h
    cases i with
    | zero =>
      rw [List.modify_zero_cons, List.countP_cons, List.countP_cons, h a (by simp)]
    | succ i =>
      rw [List.modify_succ_cons, List.countP_cons, List.countP_cons, ih (fun p hp => h p (by simpa using hp))]
theorem mod_take {f : Ps → Ps} : ∀ {cd : List Ps} {i k : Nat}, (cd.modify i f).take k = (cd.take k).modify i f := by
  intro cd
  induction cd with
  | nil => intro i k; simp
  | cons a cd ih =>
    intro i k
    cases k with
    | zero => simp
    | succ k =>
      cases i with
      | zero => simp
      | succ i => simp [ih]
theorem G9.patch {L : L9} (h : G9 L) {i : Nat} {f : Ps → Ps} (h1 : ∀ p, L.1[i]? = some p → fd9 (f p) = fd9 p) (h2 : ∀ p r, L.1[i]? = some p → go9 r p → go9 r (f p)) : G9 (L.1.modify i f, L.2) := by
  obtain ⟨g1, g2, g3⟩ := h
  refine ⟨by rw [mod_count h1]; exact g1, by simpa using g2, fun k p hp => ?_⟩
  have ht : (((L.1.modify i f).take k).countP fd9) = (L.1.take k).countP fd9 := by
    rw [mod_take]
    refine mod_count (fun q hq => h1 q ?_)
    rw [List.getElem?_take] at hq
    split at hq
    · exact hq
    · cases hq
  simp only
  rw [ht]
  simp only [List.getElem?_modify] at hp
  by_cases e : i = k
  · subst e
    cases hq : L.1[i]? with
    | none => simp [hq] at hp
    | some q =>
      simp [hq] at hp
      subst hp
      exact h2 q _ hq (g3 i q hq)
  · have : L.1[k]? = some p := by simpa [e] using hp
    exact g3 k p this

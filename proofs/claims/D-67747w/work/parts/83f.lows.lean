/-! the class's lowerAll -/
theorem XL.pA {σ : Sg} {L : L9} (h : XL σ L) (i : Nat) (v : Int32) : XL (up σ 14 i v) (pA9 i v L.1, L.2) := by
  refine ⟨⟨by simp only [pA9_len]; rw [up_ne (by decide)]; exact h.1.1, fun k p hp => ?_⟩, by rw [up_ne (by decide)]; exact h.2⟩
  simp only at hp
  by_cases e : i = k
  · subst e
    cases hq : L.1[i]? with
    | none => unfold pA9 at hp; simp [List.getElem?_modify, hq] at hp
    | some q =>
      rw [pA9_at hq] at hp
      cases hp
      obtain ⟨g1, g2, g3, g4, g5, g6⟩ := h.1.2 i q hq
      simp [up_at]
      exact ⟨g1, g3, g4, g5, g6⟩
  · rw [pA9_ne e] at hp
    have := h.1.2 k p hp
    simp [up_at, Ne.symm e]
    exact this
theorem XL.pB {σ : Sg} {L : L9} (h : XL σ L) (i : Nat) (v : Int32) : XL (up σ 15 i v) (pB9 i v L.1, L.2) := by
  refine ⟨⟨by simp only [pB9_len]; rw [up_ne (by decide)]; exact h.1.1, fun k p hp => ?_⟩, by rw [up_ne (by decide)]; exact h.2⟩
  simp only at hp
  by_cases e : i = k
  · subst e
    cases hq : L.1[i]? with
    | none => unfold pB9 at hp; simp [List.getElem?_modify, hq] at hp
    | some q =>
      rw [pB9_at hq] at hp
      cases hp
      obtain ⟨g1, g2, g3, g4, g5, g6⟩ := h.1.2 i q hq
      simp [up_at]
      exact ⟨g1, g2, g4, g5, g6⟩
  · rw [pB9_ne e] at hp
    have := h.1.2 k p hp
    simp [up_at, Ne.symm e]
    exact this
theorem TX.up {σ : Sg} {n : Nat} {T : Nat → St9} (h : TX σ n T) {c j : Nat} {v : Int32} (hc : c < 36) : TX (up σ c j v) n T := fun s hs => (h s hs).fr (fun k h1 h2 => by rw [up_ne (by omega)])
/-- what the lowering knows: which asks are converted -/
def IX8 (σ : Sg) (n : Nat) (T : Nat → St9) (ic : Nat → Bool) : Prop := ∀ s, s < n → tso (T s) = 5 → σ 8 s = bI (ic s)
theorem IX8.sf {σ τ : Sg} {n free : Nat} {T : Nat → St9} {ic : Nat → Bool} (h : IX8 σ n T ic) (f : Fr (SF9 free) σ τ) : IX8 τ n T ic := fun s hs h5 => by rw [f 8 s (by unfold SF9 SW0; omega)]; exact h s hs h5
theorem Fr.sf0 {σ τ : Sg} {free : Nat} (h : Fr SW0 σ τ) : Fr (SF9 free) σ τ := h.mono (fun c j z => Or.inl z)

theorem tp9_len {s : Nat} {t : St9} {L : L9} : (tp9 s t L).1.length ≤ L.1.length + 3 := by
  have h1 := vl9_len (s := s) (v := tf t) (y := id9) (L := L)
  have h2 := vl9_len (s := s) (v := tg t) (y := id9) (L := (vl9 s (tf t) id9 L).2)
  unfold tp9
  split
  · cases tf t with
    | inl k => simp only [em9_len]; omega
    | inr x => simp only [em9_len]; omega
  · split
    · simp only [em9_len]; omega
    · split
      · simp only [em9_len]; omega
      · split <;> (simp only [em9_len]; omega)
theorem Bd.id {r : Nat} (h : 16 ≤ r) : Bd id9 r := fun v hv => by unfold id9; omega
theorem G9.tp {L : L9} (h : G9 L) {s : Nat} {t : St9} (hs : s < 60) (hl : L.1.length + 3 < 2990) (hok : okT t) (h4 : tso t ≤ 4) : G9 (tp9 s t L) := by
  have l1 := vl9_len (s := s) (v := tf t) (y := id9) (L := L)
  have l2 := vl9_len (s := s) (v := tg t) (y := id9) (L := (vl9 s (tf t) id9 L).2)
  have hlo := h.lo
  obtain ⟨a1, a2, a3⟩ := h.vl (s := s) (v := tf t) (y := id9) hs (by omega) (Bd.id hlo) hok.2.2.2.2.1
  obtain ⟨b1, b2, b3⟩ := a1.vl (s := s) (v := tg t) (y := id9) hs (by omega) (Bd.id (by omega)) hok.2.2.2.2.2.1
  unfold tp9
  split
  · rename_i h0
    have hv := hok.2.1 (by omega)
    have o5 := hok.2.2.2.2.1
    cases ht : tf t with
    | inl k =>
      rw [ht] at o5
      have hk : k < 16 := o5
      exact h.em (fd9_old hv) (by omega) ⟨by simp only; omega, fun _ => ⟨_, Or.inl hv, rfl⟩, fun z => absurd z (by simp only; omega), fun _ => ⟨k, by omega, rfl⟩, fun z => absurd z (by simp only; omega), fun z => absurd z (by simp only; omega), hs⟩
    | inr x => exact h.em (fd9_old hv) (by omega) ⟨by simp only; omega, fun _ => ⟨_, Or.inl hv, rfl⟩, fun z => absurd z (by simp only; omega), fun z => absurd z (by simp only; omega), fun z => absurd z (by simp only; omega), fun z => absurd z (by simp only; omega), hs⟩
  · split
    · rename_i h1
      have hv := hok.2.1 (by omega)
      have o3 := hok.2.2.1 h1
      exact b1.em (fd9_old hv) (by omega) ⟨by simp only; omega, fun _ => ⟨_, Or.inl hv, rfl⟩, fun z => absurd z (by simp only; omega), fun _ => ⟨_, by omega, rfl⟩, fun _ => ⟨_, b2, rfl⟩, fun z => absurd z (by simp only; omega), hs⟩
    · split
      · have hv := hok.2.1 (by omega)
        exact a1.em (fd9_old hv) (by omega) ⟨by simp only; omega, fun _ => ⟨_, Or.inl hv, rfl⟩, fun z => absurd z (by simp only; omega), fun _ => ⟨_, a2, rfl⟩, fun z => absurd z (by simp only; omega), fun z => absurd z (by simp only; omega), hs⟩
      · split
        · exact b1.em (fd9_big (by omega)) (by omega) ⟨by simp only; omega, fun z => absurd z (by simp only; omega), fun _ => ⟨_, by omega, rfl⟩, fun _ => ⟨_, b2, rfl⟩, fun z => absurd z (by simp only; omega), fun z => absurd z (by simp only; omega), hs⟩
        · exact a1.em (fd9_big (by omega)) (by omega) ⟨by simp only; omega, fun z => absurd z (by simp only; omega), fun _ => ⟨_, a2, rfl⟩, fun z => absurd z (by simp only; omega), fun z => absurd z (by simp only; omega), fun z => absurd z (by simp only; omega), hs⟩
theorem G9.mo {s : Nat} {Z : Nat → Nat} (hs : s < 60) : ∀ {m v : Nat} {L : L9}, v + m = 16 → G9 L → L.1.length + m < 2990 → Bd Z L.2 → G9 (mo9 s Z m v L) := by
  intro m
  induction m with
  | zero => intro v L _ h _ _; exact h
  | succ m ih =>
    intro v L hv h hl hZ
    rw [mo9]
    split
    · exact ih (by omega) h (by omega) hZ
    · exact ih (by omega) (h.em (s := s) (c := 1) (fd9_old (by omega)) (by omega) ⟨by simp only; omega, fun _ => ⟨v, Or.inl (by omega), rfl⟩, fun z => absurd z (by simp only; omega), fun _ => ⟨_, hZ v (by omega), rfl⟩, fun z => absurd z (by simp only; omega), fun z => absurd z (by simp only; omega), hs⟩) (by rw [em9_len]; omega) hZ

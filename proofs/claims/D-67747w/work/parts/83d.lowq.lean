theorem cm9_len {T : Nat → St9} {n : Nat} (hn : n ≤ 60) (hok : ∀ s, s < n → okT (T s)) {f d s : Nat} (hs : s < n) (h5 : tso (T s) = 5) (hA : Blk T f (d + 1) (s + 1) (tm (T s))) (hB : Blk T f (d + 1) (tm (T s)) (te (T s))) (hen : te (T s) ≤ n) (h4 : no4 T (s + 1) (te (T s))) {L : L9} (h : G9 L) (hl : L.1.length + 23 * (te (T s) - s) + 16 < 2990) : G9 (cm9 T f s L) ∧ (cm9 T f s L).1.length ≤ L.1.length + 23 * (te (T s) - s) + 16 := by
  have l4 := hA.le
  have l5 := hB.le
  have rA := G9.sd hn hok hA (by omega) (fun k k1 k2 => h4 k k1 (by omega))
  have rB := G9.sd hn hok hB (by omega) (fun k k1 k2 => h4 k (by omega) k2)
  obtain ⟨a1, a2, a3, a4, a5⟩ := h.cv (R := sd9 T f) (s := s) (t := T s) (u := none) (y := id9) (by omega) (hok s hs) h5 l4 l5 (by omega) (fun g' hg' => by cases hg') (Bd.id h.lo) rA rB
  have lm := mo9_len (s := s) (Z := (cv9 (sd9 T f) s (T s) none id9 L).1) (m := 16) (v := 0) (L := (cv9 (sd9 T f) s (T s) none id9 L).2)
  exact ⟨G9.mo (by omega) (by omega) a1 (by omega) a2, by show (mo9 s _ 16 0 _).1.length ≤ _; omega⟩
theorem LK.lw {T : Nat → St9} {ic : Nat → Bool} {n : Nat} (hn : n ≤ 60) (hok : ∀ s, s < n → okT (T s)) (hic : ∀ s, s < n → tso (T s) = 5 → ic s = true → no4 T (s + 1) (te (T s))) : ∀ {f d a b : Nat} {L : L9}, Blk T f d a b → b ≤ n → G9 L → L.1.length + 39 * (b - a) < 2990 → LK (b - a) L (lw9 T ic f a b L) := by
  intro f
  induction f with
  | zero => intro d a b L hB hb h hl; have : a = b := hB; subst this; rw [Nat.sub_self]; exact LK.rf h
  | succ f ih =>
    intro d a b L hB hb h hl
    rcases hB with e | ⟨h1, h2, h3⟩ | ⟨h1, h2, h3, h4, h5, h6⟩
    · subst e; rw [lw9, if_pos (Nat.le_refl _), Nat.sub_self]; exact LK.rf h
    · rw [lw9, if_neg (by omega), if_pos h2]
      have hok' := hok a (by omega)
      have lt := tp9_len (s := a) (t := T a) (L := L)
      have g1 := h.tp (s := a) (t := T a) (by omega) (by omega) hok' h2
      have k1 : LK 1 L (tp9 a (T a) L) := LK.ap (AP.tp hok') g1 (by omega) (Nat.le_refl _)
      have k2 := ih (L := tp9 a (T a) L) h3 hb g1 (by omega)
      have := k1.tr k2
      rw [show 1 + (b - (a + 1)) = b - a by omega] at this
      exact this
    · have l4 := h4.le
      have l5 := h5.le
      have l6 := h6.le
      cases hi : ic a with
      | true =>
        rw [lw9, if_neg (by omega), if_neg (by omega), hi, if_pos rfl]
        obtain ⟨g1, g2⟩ := cm9_len hn hok (by omega) h2 h4 h5 (by omega) (hic a (by omega) h2 hi) h (by omega)
        have k1 : LK (te (T a) - a) L (cm9 T f a L) := LK.ap (AP.cm hok (by omega) h2 h4 h5 (by omega)) g1 (by omega) (by omega)
        have k2 := ih (L := cm9 T f a L) h6 hb g1 (by omega)
        have := k1.tr k2
        rw [show te (T a) - a + (b - te (T a)) = b - a by omega] at this
        exact this
      | false =>
        rw [lw9_j h1 h2 hi]
        have k1 := LK.jm (ic := ic) (f := f) (L := L) (by omega) (hok a (by omega)) h2 l4 l5 (fun L hG hl => ih h4 (by omega) hG hl) (fun L hG hl => ih h5 (by omega) hG hl) h (by omega)
        have k2 := ih (L := jm9 T ic f a L) h6 hb k1.1 (by have := k1.2.2.1; omega)
        have := k1.tr k2
        rw [show te (T a) - a + (b - te (T a)) = b - a by omega] at this
        exact this

/-- an outer ask with jumps: its code -/
def jm9 (T : Nat → St9) (ic : Nat → Bool) (f a : Nat) (L : L9) : L9 :=
  let C := ts9 a (T a) id9 L
  let J := em9 a 17 (nI C.1) 0 0 0 C.2
  let A := lw9 T ic f (a + 1) (tm (T a)) J
  if tm (T a) < te (T a) then
    (let O := em9 a 16 0 0 0 0 A
     let B := lw9 T ic f (tm (T a)) (te (T a)) (pB9 C.2.1.length (nI O.1.length) O.1, O.2)
     (pA9 A.1.length (nI B.1.length) B.1, B.2))
  else (pB9 C.2.1.length (nI A.1.length) A.1, A.2)
theorem lw9_j {T : Nat → St9} {ic : Nat → Bool} {f a b : Nat} {L : L9} (h : a < b) (h5 : tso (T a) = 5) (hi : ic a = false) : lw9 T ic (f + 1) a b L = lw9 T ic f (te (T a)) b (jm9 T ic f a L) := by
  rw [lw9, if_neg (by omega), if_neg (by omega), hi]
  rfl
theorem LK.jm {T : Nat → St9} {ic : Nat → Bool} {f a : Nat} {L : L9} (hs : a < 60) (hok : okT (T a)) (h5 : tso (T a) = 5) (hm : a + 1 ≤ tm (T a)) (he : tm (T a) ≤ te (T a)) (hA : ∀ L, G9 L → L.1.length + 39 * (tm (T a) - (a + 1)) < 2990 → LK (tm (T a) - (a + 1)) L (lw9 T ic f (a + 1) (tm (T a)) L)) (hB : ∀ L, G9 L → L.1.length + 39 * (te (T a) - tm (T a)) < 2990 → LK (te (T a) - tm (T a)) L (lw9 T ic f (tm (T a)) (te (T a)) L)) (h : G9 L) (hl : L.1.length + 39 * (te (T a) - a) < 2990) : LK (te (T a) - a) L (jm9 T ic f a L) := by
  obtain ⟨a1, a2, a3⟩ := h.ts (s := a) (t := T a) (y := id9) hs (by omega) (Bd.id h.lo) hok h5
  have la := ts9_len (s := a) (t := T a) (y := id9) (L := L)
  have hap : LK 1 L (ts9 a (T a) id9 L).2 := LK.ap (AP.ts (hok.2.2.2.1 h5)) a1 (by omega) (by omega)
  unfold jm9
  simp only
  generalize ts9 a (T a) id9 L = C at *
  have j1 : G9 (em9 a 17 (nI C.1) 0 0 0 C.2) := a1.em (fd9_big (by omega)) (by omega) ⟨by simp only; omega, fun z => absurd z (by simp only; omega), fun _ => ⟨_, a2, rfl⟩, fun z => absurd z (by simp only; omega), fun z => absurd z (by simp only; omega), fun z => absurd z (by simp only; omega), hs⟩
  have jl := em9_len (s := a) (c := 17) (a := nI C.1) (b := 0) (d := 0) (e := 0) (L := C.2)
  have jat : (em9 a 17 (nI C.1) 0 0 0 C.2).1[C.2.1.length]? = some (17, nI C.1, 0, 0, 0, a) := by simp [em9]
  have jlt : ∀ i, i < C.2.1.length → (em9 a 17 (nI C.1) 0 0 0 C.2).1[i]? = C.2.1[i]? := fun i hi => by simp [em9, List.getElem?_append_left hi]
  have jtl : (em9 a 17 (nI C.1) 0 0 0 C.2).1.countP tl9 = C.2.1.countP tl9 := by
    have : tl9 (17, nI C.1, 0, 0, 0, a) = false := rfl
    simp [em9, this]
  generalize em9 a 17 (nI C.1) 0 0 0 C.2 = J at *
  obtain ⟨k1, k2, k3, k4, k5, k6⟩ := hA J j1 (by omega)
  generalize lw9 T ic f (a + 1) (tm (T a)) J = A at *
  obtain ⟨c1, c2, c3, c4, c5, c6⟩ := hap
  have aat : A.1[C.2.1.length]? = some (17, nI C.1, 0, 0, 0, a) := by rw [k4 _ (by omega)]; exact jat
  have alt : ∀ i, i < C.2.1.length → A.1[i]? = C.2.1[i]? := fun i hi => by rw [k4 i (by omega), jlt i hi]
  split
  · have o1 : G9 (em9 a 16 0 0 0 0 A) := k1.em (fd9_big (by omega)) (by omega) ⟨by simp only; omega, fun z => absurd z (by simp only; omega), fun z => absurd z (by simp only; omega), fun z => absurd z (by simp only; omega), fun z => absurd z (by simp only; omega), fun z => absurd z (by simp only; omega), hs⟩
    have ol := em9_len (s := a) (c := 16) (a := 0) (b := 0) (d := 0) (e := 0) (L := A)
    have oat : (em9 a 16 0 0 0 0 A).1[A.1.length]? = some (16, 0, 0, 0, 0, a) := by simp [em9]
    have olt : ∀ i, i < A.1.length → (em9 a 16 0 0 0 0 A).1[i]? = A.1[i]? := fun i hi => by simp [em9, List.getElem?_append_left hi]
    have otl : (em9 a 16 0 0 0 0 A).1.countP tl9 = A.1.countP tl9 := by
      have : tl9 (16, 0, 0, 0, 0, a) = false := rfl
      simp [em9, this]
    generalize em9 a 16 0 0 0 0 A = O at *
    have oc : O.1[C.2.1.length]? = some (17, nI C.1, 0, 0, 0, a) := by rw [olt _ (by omega)]; exact aat
    have p1 : G9 (pB9 C.2.1.length (nI O.1.length) O.1, O.2) := o1.pB (fun p hp => by rw [oc] at hp; cases hp; rfl)
    obtain ⟨l1, l2, l3, l4, l5, l6⟩ := hB _ p1 (by simp only [pB9_len]; omega)
    simp only [pB9_len, pB9_tl] at l2 l3 l4 l5 l6
    generalize lw9 T ic f (tm (T a)) (te (T a)) (pB9 C.2.1.length (nI O.1.length) O.1, O.2) = B at *
    have bat : B.1[A.1.length]? = some (16, 0, 0, 0, 0, a) := by rw [l4 _ (by omega), pB9_ne (by omega)]; exact oat
    refine ⟨l1.pA (fun p hp => by rw [bat] at hp; cases hp; rfl), by simp only [pA9_len]; omega, by simp only [pA9_len]; omega, fun i hi => ?_, fun i p hi hp => ?_, by simp only [pA9_tl]; omega⟩
    · simp only
      rw [pA9_ne (by omega), l4 i (by omega), pB9_ne (by omega), olt i (by omega), alt i (by omega), c4 i hi]
    · simp only at hp
      simp only [pA9_len]
      by_cases e1 : A.1.length = i
      · subst e1
        rw [pA9_at bat] at hp
        cases hp
        exact ⟨fun _ => ⟨B.1.length, by omega, Nat.le_refl _, rfl⟩, fun z => absurd z (by simp)⟩
      · rw [pA9_ne e1] at hp
        by_cases hO : i < O.1.length
        · rw [l4 i hO] at hp
          by_cases e : C.2.1.length = i
          · subst e
            rw [pB9_at oc] at hp
            cases hp
            exact ⟨fun z => absurd z (by simp), fun _ => ⟨O.1.length, by omega, by omega, rfl⟩⟩
          · rw [pB9_ne e, olt i (by omega)] at hp
            by_cases hlt : i < C.2.1.length
            · rw [alt i hlt] at hp
              obtain ⟨d1, d2⟩ := c5 i p hi hp
              exact ⟨fun z => by obtain ⟨t, t1, t2, t3⟩ := d1 z; exact ⟨t, t1, by omega, t3⟩, fun z => by obtain ⟨t, t1, t2, t3⟩ := d2 z; exact ⟨t, t1, by omega, t3⟩⟩
            · obtain ⟨d1, d2⟩ := k5 i p (by omega) hp
              exact ⟨fun z => by obtain ⟨t, t1, t2, t3⟩ := d1 z; exact ⟨t, t1, by omega, t3⟩, fun z => by obtain ⟨t, t1, t2, t3⟩ := d2 z; exact ⟨t, t1, by omega, t3⟩⟩
        · exact l5 i p (by omega) hp
  · refine ⟨k1.pB (fun p hp => by rw [aat] at hp; cases hp; rfl), by simp only [pB9_len]; omega, by simp only [pB9_len]; omega, fun i hi => ?_, fun i p hi hp => ?_, by simp only [pB9_tl]; omega⟩
    · simp only
      rw [pB9_ne (by omega), alt i (by omega), c4 i hi]
    · simp only at hp
      simp only [pB9_len]
      by_cases e : C.2.1.length = i
      · subst e
        rw [pB9_at aat] at hp
        cases hp
        exact ⟨fun z => absurd z (by simp), fun _ => ⟨A.1.length, by omega, Nat.le_refl _, rfl⟩⟩
      · rw [pB9_ne e] at hp
        by_cases hlt : i < C.2.1.length
        · rw [alt i hlt] at hp
          obtain ⟨d1, d2⟩ := c5 i p hi hp
          exact ⟨fun z => by obtain ⟨t, t1, t2, t3⟩ := d1 z; exact ⟨t, t1, by omega, t3⟩, fun z => by obtain ⟨t, t1, t2, t3⟩ := d2 z; exact ⟨t, t1, by omega, t3⟩⟩
        · exact k5 i p (by omega) hp

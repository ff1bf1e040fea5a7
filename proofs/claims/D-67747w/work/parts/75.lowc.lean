/-- what a side's function keeps -/
def RH (R : Nat → Nat → Nat → (Nat → Nat) → L9 → (Nat → Nat) × L9) (a b : Nat) : Prop := ∀ (g : Nat) (y : Nat → Nat) (L : L9), G9 L → L.1.length + 23 * (b - a) < 2990 → g < L.2 → Bd y L.2 → G9 (R a b g y L).2 ∧ Bd (R a b g y L).1 (R a b g y L).2.2 ∧ L.2 ≤ (R a b g y L).2.2 ∧ L.1.length ≤ (R a b g y L).2.1.length ∧ (R a b g y L).2.1.length ≤ L.1.length + 23 * (b - a)
/-- the first side -/
def sA9 (R : Nat → Nat → Nat → (Nat → Nat) → L9 → (Nat → Nat) × L9) (s : Nat) (t : St9) (u : Option Nat) (y : Nat → Nat) (c : Nat) (L : L9) : (Nat → Nat) × L9 := if s + 1 < tm t then R (s + 1) (tm t) (gu9 s u c L).1 y (gu9 s u c L).2 else (y, L)
/-- the second one's guard -/
def eB9 (s c : Nat) (L : L9) : Nat × L9 := ef9 s 10 (nI c) (nI L.2) 0 (ef9 s 0 0 0 0 L).2
def sB9 (R : Nat → Nat → Nat → (Nat → Nat) → L9 → (Nat → Nat) × L9) (s : Nat) (t : St9) (u : Option Nat) (y : Nat → Nat) (c : Nat) (L : L9) : (Nat → Nat) × L9 := if tm t < te t then R (tm t) (te t) (gu9 s u (eB9 s c L).1 (eB9 s c L).2).1 y (gu9 s u (eB9 s c L).1 (eB9 s c L).2).2 else (y, L)
theorem cv9_eq {R : Nat → Nat → Nat → (Nat → Nat) → L9 → (Nat → Nat) × L9} {s : Nat} {t : St9} {u : Option Nat} {y : Nat → Nat} {L : L9} : cv9 R s t u y L = mg9 s (ts9 s t y L).1 y (sA9 R s t u y (ts9 s t y L).1 (ts9 s t y L).2).1 (sB9 R s t u y (ts9 s t y L).1 (sA9 R s t u y (ts9 s t y L).1 (ts9 s t y L).2).2).1 16 0 (sA9 R s t u y (ts9 s t y L).1 (ts9 s t y L).2).1 (sB9 R s t u y (ts9 s t y L).1 (sA9 R s t u y (ts9 s t y L).1 (ts9 s t y L).2).2).2 := rfl
theorem G9.sA {R : Nat → Nat → Nat → (Nat → Nat) → L9 → (Nat → Nat) × L9} {s : Nat} {t : St9} {u : Option Nat} {y : Nat → Nat} {c : Nat} {L : L9} (h : G9 L) (hs : s < 60) (hm : s + 1 ≤ tm t) (hl : L.1.length + 1 + 23 * (tm t - (s + 1)) < 2990) (hu : ∀ g, u = some g → g < L.2) (hc : c < L.2) (hy : Bd y L.2) (hR : RH R (s + 1) (tm t)) : G9 (sA9 R s t u y c L).2 ∧ Bd (sA9 R s t u y c L).1 (sA9 R s t u y c L).2.2 ∧ L.2 ≤ (sA9 R s t u y c L).2.2 ∧ L.1.length ≤ (sA9 R s t u y c L).2.1.length ∧ (sA9 R s t u y c L).2.1.length ≤ L.1.length + 1 + 23 * (tm t - (s + 1)) := by
  unfold sA9
  split
  · obtain ⟨a1, a2, a3⟩ := h.gu (s := s) (u := u) (c := c) hs (by omega) hu hc
    have l := gu9_len (s := s) (u := u) (c := c) (L := L)
    obtain ⟨b1, b2, b3, b4, b5⟩ := hR (gu9 s u c L).1 y (gu9 s u c L).2 a1 (by omega) a2 (hy.mono a3)
    exact ⟨b1, b2, by omega, by omega, by omega⟩
  · exact ⟨h, hy, Nat.le_refl _, Nat.le_refl _, by show L.1.length ≤ _; omega⟩
theorem eB9_len {s c : Nat} {L : L9} : (eB9 s c L).2.1.length = L.1.length + 2 := by unfold eB9; rw [ef9_len, ef9_len]
theorem G9.eB {s c : Nat} {L : L9} (h : G9 L) (hs : s < 60) (hl : L.1.length + 2 < 2990) (hc : c < L.2) : G9 (eB9 s c L).2 ∧ (eB9 s c L).1 < (eB9 s c L).2.2 ∧ L.2 ≤ (eB9 s c L).2.2 := by
  have a1 := h.ef (s := s) (c := 0) (b := 0) (d := 0) (e := 0) (by omega) hs (by omega) (fun z => by omega) (fun z => by omega) (fun z => by omega)
  refine ⟨a1.ef (by omega) hs (by rw [ef9_len]; omega) (fun _ => ⟨c, Nat.lt_succ_of_lt hc, rfl⟩) (fun _ _ => ⟨L.2, Nat.lt_succ_self _, rfl⟩) (fun z => by omega), Nat.lt_succ_self _, ?_⟩
  show L.2 ≤ L.2 + 1 + 1
  omega
theorem G9.sB {R : Nat → Nat → Nat → (Nat → Nat) → L9 → (Nat → Nat) × L9} {s : Nat} {t : St9} {u : Option Nat} {y : Nat → Nat} {c : Nat} {L : L9} (h : G9 L) (hs : s < 60) (hm : tm t ≤ te t) (hl : L.1.length + 3 + 23 * (te t - tm t) < 2990) (hu : ∀ g, u = some g → g < L.2) (hc : c < L.2) (hy : Bd y L.2) (hR : RH R (tm t) (te t)) : G9 (sB9 R s t u y c L).2 ∧ Bd (sB9 R s t u y c L).1 (sB9 R s t u y c L).2.2 ∧ L.2 ≤ (sB9 R s t u y c L).2.2 ∧ L.1.length ≤ (sB9 R s t u y c L).2.1.length ∧ (sB9 R s t u y c L).2.1.length ≤ L.1.length + 3 + 23 * (te t - tm t) := by
  unfold sB9
  split
  · obtain ⟨e1, e2, e3⟩ := h.eB (s := s) (c := c) hs (by omega) hc
    have le := eB9_len (s := s) (c := c) (L := L)
    obtain ⟨a1, a2, a3⟩ := e1.gu (s := s) (u := u) (c := (eB9 s c L).1) hs (by omega) (fun g hg => Nat.lt_of_lt_of_le (hu g hg) e3) e2
    have l := gu9_len (s := s) (u := u) (c := (eB9 s c L).1) (L := (eB9 s c L).2)
    obtain ⟨b1, b2, b3, b4, b5⟩ := hR (gu9 s u (eB9 s c L).1 (eB9 s c L).2).1 y (gu9 s u (eB9 s c L).1 (eB9 s c L).2).2 a1 (by omega) a2 (hy.mono (by omega))
    exact ⟨b1, b2, by omega, by omega, by omega⟩
  · exact ⟨h, hy, Nat.le_refl _, Nat.le_refl _, by show L.1.length ≤ _; omega⟩
theorem G9.cv {R : Nat → Nat → Nat → (Nat → Nat) → L9 → (Nat → Nat) × L9} {s : Nat} {t : St9} {u : Option Nat} {y : Nat → Nat} {L : L9} (h : G9 L) (hs : s < 60) (hok : okT t) (h5 : tso t = 5) (hm : s + 1 ≤ tm t) (he : tm t ≤ te t) (hl : L.1.length + 23 * (te t - s) < 2990) (hu : ∀ g, u = some g → g < L.2) (hy : Bd y L.2) (hA : RH R (s + 1) (tm t)) (hB : RH R (tm t) (te t)) : G9 (cv9 R s t u y L).2 ∧ Bd (cv9 R s t u y L).1 (cv9 R s t u y L).2.2 ∧ L.2 ≤ (cv9 R s t u y L).2.2 ∧ L.1.length ≤ (cv9 R s t u y L).2.1.length ∧ (cv9 R s t u y L).2.1.length ≤ L.1.length + 23 * (te t - s) := by
  rw [cv9_eq]
  obtain ⟨a1, a2, a3⟩ := h.ts (s := s) (t := t) (y := y) hs (by omega) hy hok h5
  have la := ts9_len (s := s) (t := t) (y := y) (L := L)
  generalize ts9 s t y L = C at *
  obtain ⟨b1, b2, b3, b4, b5⟩ := a1.sA (s := s) (t := t) (u := u) (c := C.1) hs hm (by omega) (fun g hg => Nat.lt_of_lt_of_le (hu g hg) a3) a2 (hy.mono a3) hA
  generalize sA9 R s t u y C.1 C.2 = A at *
  obtain ⟨c1, c2, c3, c4, c5⟩ := b1.sB (s := s) (t := t) (u := u) (c := C.1) hs he (by omega) (fun g hg => Nat.lt_of_lt_of_le (hu g hg) (by omega)) (by omega) (hy.mono (by omega)) hB
  generalize sB9 R s t u y C.1 A.2 = B at *
  obtain ⟨d1, d2, d3⟩ := G9.mg (s := s) (c := C.1) (y := y) (A := A.1) (B := B.1) hs (m := 16) (v := 0) (Z := A.1) (L := B.2) (by omega) c1 (by omega) (by omega) (b2.mono c3) c2 (b2.mono c3)
  have lm := mg9_len (s := s) (c := C.1) (y := y) (A := A.1) (B := B.1) (m := 16) (v := 0) (Z := A.1) (L := B.2)
  exact ⟨d1, d2, by omega, by omega, by omega⟩
/-- no tell among these -/
def no4 (T : Nat → St9) (a b : Nat) : Prop := ∀ k, a ≤ k → k < b → ¬ tso (T k) = 4
theorem G9.sd {T : Nat → St9} {n : Nat} (hn : n ≤ 60) (hok : ∀ s, s < n → okT (T s)) : ∀ {f d a b : Nat}, Blk T f d a b → b ≤ n → no4 T a b → RH (sd9 T f) a b := by
  intro f
  induction f with
  | zero =>
    intro d a b hB hb h4 g y L h hl hg hy
    exact ⟨h, hy, Nat.le_refl _, Nat.le_refl _, by show L.1.length ≤ _; omega⟩
  | succ f ih =>
    intro d a b hB hb h4 g y L h hl hg hy
    rw [sd9]
    split
    · exact ⟨h, hy, Nat.le_refl _, Nat.le_refl _, by show L.1.length ≤ _; omega⟩
    · rename_i hab
      rcases hB with e | ⟨h1, h2, h3⟩ | ⟨h1, h2, h3, h4', h5, h6⟩
      · omega
      · rw [if_neg (by omega)]
        have hso : tso (T a) ≤ 3 := by have := h4 a (Nat.le_refl _) h1; omega
        obtain ⟨a1, a2, a3⟩ := h.gd (s := a) (t := T a) (g := g) (by omega) (by omega) hg hy (hok a (by omega)) hso
        have la := gd9_len (s := a) (t := T a) (g := g) (y := y) (L := L)
        obtain ⟨b1, b2, b3, b4, b5⟩ := ih h3 hb (fun k k1 k2 => h4 k (by omega) k2) g _ _ a1 (by omega) (by omega) a2
        exact ⟨b1, b2, by simp only; omega, by simp only; omega, by simp only; omega⟩
      · have l4 := h4'.le
        have l5 := h5.le
        have l6 := h6.le
        rw [if_pos h2]
        obtain ⟨a1, a2, a3, a4, a5⟩ := h.cv (R := sd9 T f) (s := a) (t := T a) (u := some g) (y := y) (by omega) (hok a (by omega)) h2 l4 l5 (by omega) (fun g' hg' => by cases hg'; exact hg) hy (ih h4' (by omega) (fun k k1 k2 => h4 k (by omega) (by omega))) (ih h5 (by omega) (fun k k1 k2 => h4 k (by omega) (by omega)))
        obtain ⟨b1, b2, b3, b4, b5⟩ := ih h6 hb (fun k k1 k2 => h4 k (by omega) k2) g _ _ a1 (by omega) (by omega) a2
        exact ⟨b1, b2, by simp only; omega, by simp only; omega, by simp only; omega⟩

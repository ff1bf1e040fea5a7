/-! ## what holds of the code under way -/
/-- a step that sets a new register -/
def fd9 (p : Ps) : Bool := decide (p.1 ≤ 14) && !decide (p.2.1 < 16)
/-- a step in order, where r is the next register -/
def go9 (r : Nat) (p : Ps) : Prop := p.1 ≤ 18 ∧ (p.1 ≤ 14 → ∃ x, (x < 16 ∨ x = r) ∧ p.2.1 = nI x) ∧ ((p.1 = 15 ∨ p.1 = 17 ∨ p.1 = 18) → ∃ x, x < r ∧ p.2.1 = nI x) ∧ ((1 ≤ p.1 ∧ p.1 ≤ 15) → ∃ x, x < r ∧ p.2.2.1 = nI x) ∧ ((2 ≤ p.1 ∧ p.1 ≤ 13) → ∃ x, x < r ∧ p.2.2.2.1 = nI x) ∧ (p.1 = 13 → ∃ x, x < r ∧ p.2.2.2.2.1 = nI x) ∧ p.2.2.2.2.2 < 60
/-- the code under way is in order -/
def G9 (L : L9) : Prop := L.2 = 16 + L.1.countP fd9 ∧ L.1.length ≤ 2990 ∧ ∀ (i : Nat) (p : Ps), L.1[i]? = some p → go9 (16 + (L.1.take i).countP fd9) p
def Bd (y : Nat → Nat) (r : Nat) : Prop := ∀ v, v < 16 → y v < r
theorem Bd.mono {y : Nat → Nat} {r q : Nat} (h : Bd y r) (hq : r ≤ q) : Bd y q := fun v hv => Nat.lt_of_lt_of_le (h v hv) hq
theorem Bd.un {y : Nat → Nat} {r k x : Nat} (h : Bd y r) (hx : x < r) : Bd (un9 y k x) r := by
  intro v hv
  unfold un9
  split
  · exact hx
  · exact h v hv
theorem G9.lo {L : L9} (h : G9 L) : 16 ≤ L.2 := by rw [h.1]; omega
theorem G9.hi {L : L9} (h : G9 L) : L.2 ≤ 16 + L.1.length := by
  rw [h.1]
  have := List.countP_le_length (p := fd9) (l := L.1)
  omega
theorem G9.push {L : L9} (h : G9 L) {p : Ps} (hp : go9 L.2 p) (hl : L.1.length < 2990) {r : Nat} (hr : r = L.2 + if fd9 p then 1 else 0) : G9 (L.1 ++ [p], r) := by
  obtain ⟨h1, h2, h3⟩ := h
  refine ⟨?_, by simp; omega, fun i q hq => ?_⟩
  · rw [hr, h1]
    simp only [List.countP_append, List.countP_singleton]
    split <;> omega
  · by_cases hi : i < L.1.length
    · rw [List.getElem?_append_left hi] at hq
      rw [List.take_append_of_le_length (by omega)]
      exact h3 i q hq
    · have hlt := (List.getElem?_eq_some_iff.mp hq).1
      simp at hlt
      obtain rfl : i = L.1.length := by omega
      simp at hq
      subst hq
      rw [List.take_append_of_le_length (Nat.le_refl _), List.take_length, ← h1]
      exact hp
theorem fd9_new {c : Nat} {r : Nat} {b d e : Int32} {o : Nat} (hc : c ≤ 14) (hr : 16 ≤ r) (hr2 : r < 2 ^ 31) : fd9 (c, nI r, b, d, e, o) = true := by
  unfold fd9
  simp only
  have h16 : ¬ nI r < (16 : Int32) := nI_nlt (a := r) (b := 16) hr hr2
  rw [decide_eq_true hc, decide_eq_false h16]
  rfl
theorem fd9_old {c : Nat} {r : Nat} {b d e : Int32} {o : Nat} (hr : r < 16) : fd9 (c, nI r, b, d, e, o) = false := by
  unfold fd9
  simp only
  have h16 : nI r < (16 : Int32) := nI_lt (a := r) (b := 16) hr (by decide)
  rw [decide_eq_true h16]
  simp
theorem fd9_big {c : Nat} {a b d e : Int32} {o : Nat} (hc : ¬ c ≤ 14) : fd9 (c, a, b, d, e, o) = false := by
  unfold fd9
  simp only
  rw [decide_eq_false hc]
  rfl
/-- a new register's step -/
theorem G9.ef {L : L9} (h : G9 L) {s c : Nat} {b d e : Int32} (hc : c ≤ 14) (hs : s < 60) (hl : L.1.length < 2990) (hb : 1 ≤ c → ∃ x, x < L.2 ∧ b = nI x) (hd : 2 ≤ c → c ≤ 13 → ∃ x, x < L.2 ∧ d = nI x) (he : c = 13 → ∃ x, x < L.2 ∧ e = nI x) : G9 (ef9 s c b d e L).2 := by
  have hlo := h.lo
  have hhi := h.hi
  refine h.push (p := (c, nI L.2, b, d, e, s)) ⟨by simp only; omega, fun _ => ⟨L.2, Or.inr rfl, rfl⟩, fun z => absurd z (by simp only; omega), fun z => hb z.1, fun z => hd z.1 z.2, he, hs⟩ hl ?_
  rw [fd9_new hc hlo (by omega)]
  rfl
/-- a step that sets no new one -/
theorem G9.em {L : L9} (h : G9 L) {s c : Nat} {a b d e : Int32} (hf : fd9 (c, a, b, d, e, s) = false) (hl : L.1.length < 2990) (hg : go9 L.2 (c, a, b, d, e, s)) : G9 (em9 s c a b d e L) := h.push (p := (c, a, b, d, e, s)) hg hl (by rw [hf]; rfl)
theorem G9.vl {L : L9} (h : G9 L) {s : Nat} {v : Vl} {y : Nat → Nat} (hs : s < 60) (hl : L.1.length < 2990) (hy : Bd y L.2) (hv : okV v) : G9 (vl9 s v y L).2 ∧ (vl9 s v y L).1 < (vl9 s v y L).2.2 ∧ L.2 ≤ (vl9 s v y L).2.2 := by
  cases v with
  | inl k => exact ⟨h, hy k hv, Nat.le_refl _⟩
  | inr x => exact ⟨h.ef (by omega) hs hl (fun z => by omega) (fun z => by omega) (fun z => by omega), Nat.lt_succ_self _, Nat.le_succ _⟩
theorem G9.ts {L : L9} (h : G9 L) {s : Nat} {t : St9} {y : Nat → Nat} (hs : s < 60) (hl : L.1.length + 3 < 2990) (hy : Bd y L.2) (hok : okT t) (h5 : tso t = 5) : G9 (ts9 s t y L).2 ∧ (ts9 s t y L).1 < (ts9 s t y L).2.2 ∧ L.2 ≤ (ts9 s t y L).2.2 := by
  have l1 := vl9_len (s := s) (v := tf t) (y := y) (L := L)
  have l2 := vl9_len (s := s) (v := tg t) (y := y) (L := (vl9 s (tf t) y L).2)
  have o4 := hok.2.2.2.1 h5
  obtain ⟨a1, a2, a3⟩ := h.vl (v := tf t) hs (by omega) hy hok.2.2.2.2.1
  obtain ⟨b1, b2, b3⟩ := a1.vl (s := s) (v := tg t) hs (by omega) (hy.mono a3) hok.2.2.2.2.2.1
  refine ⟨b1.ef (by omega) hs (by omega) (fun _ => ⟨_, Nat.lt_of_lt_of_le a2 b3, rfl⟩) (fun _ _ => ⟨_, b2, rfl⟩) (fun z => by omega), Nat.lt_succ_self _, ?_⟩
  show L.2 ≤ (vl9 s (tg t) y (vl9 s (tf t) y L).2).2.2 + 1
  omega
theorem G9.hm {L : L9} (h : G9 L) {s g r : Nat} {x : Int32} (hs : s < 60) (hl : L.1.length + 2 < 2990) (hg : g < L.2) (hr : r < L.2) : G9 (hm9 s g r x L).2 ∧ (hm9 s g r x L).1 < (hm9 s g r x L).2.2 ∧ L.2 ≤ (hm9 s g r x L).2.2 := by
  have a1 := h.ef (s := s) (c := 0) (b := x) (d := 0) (e := 0) (by omega) hs (by omega) (fun z => by omega) (fun z => by omega) (fun z => by omega)
  refine ⟨a1.ef (by omega) hs (by rw [ef9_len]; omega) (fun _ => ⟨g, Nat.lt_succ_of_lt hg, rfl⟩) (fun _ _ => ⟨r, Nat.lt_succ_of_lt hr, rfl⟩) (fun _ => ⟨L.2, Nat.lt_succ_self _, rfl⟩), Nat.lt_succ_self _, ?_⟩
  show L.2 ≤ L.2 + 1 + 1
  omega
theorem G9.ix {L : L9} (h : G9 L) {s : Nat} {t : St9} {g r : Nat} (hs : s < 60) (hl : L.1.length + 2 < 2990) (hg : g < L.2) (hr : r < L.2) : G9 (ix9 s t g r L).2 ∧ (ix9 s t g r L).1 < (ix9 s t g r L).2.2 ∧ L.2 ≤ (ix9 s t g r L).2.2 := by
  unfold ix9
  split
  · exact ⟨h, hr, Nat.le_refl _⟩
  · exact h.hm hs hl hg hr
theorem G9.gu {L : L9} (h : G9 L) {s : Nat} {u : Option Nat} {c : Nat} (hs : s < 60) (hl : L.1.length < 2990) (hu : ∀ g, u = some g → g < L.2) (hc : c < L.2) : G9 (gu9 s u c L).2 ∧ (gu9 s u c L).1 < (gu9 s u c L).2.2 ∧ L.2 ≤ (gu9 s u c L).2.2 := by
  cases u with
  | none => exact ⟨h, hc, Nat.le_refl _⟩
  | some g => exact ⟨h.ef (by omega) hs hl (fun _ => ⟨g, hu g rfl, rfl⟩) (fun _ _ => ⟨c, hc, rfl⟩) (fun z => by omega), Nat.lt_succ_self _, Nat.le_succ _⟩

theorem G9.gd {L : L9} (h : G9 L) {s : Nat} {t : St9} {g : Nat} {y : Nat → Nat} (hs : s < 60) (hl : L.1.length + 7 < 2990) (hg : g < L.2) (hy : Bd y L.2) (hok : okT t) (h3 : tso t ≤ 3) : G9 (gd9 s t g y L).2 ∧ Bd (gd9 s t g y L).1 (gd9 s t g y L).2.2 ∧ L.2 ≤ (gd9 s t g y L).2.2 := by
  have l1 := vl9_len (s := s) (v := tf t) (y := y) (L := L)
  have l2 := vl9_len (s := s) (v := tg t) (y := y) (L := (vl9 s (tf t) y L).2)
  obtain ⟨a1, a2, a3⟩ := h.vl (v := tf t) hs (by omega) hy hok.2.2.2.2.1
  obtain ⟨b1, b2, b3⟩ := a1.vl (s := s) (v := tg t) hs (by omega) (hy.mono a3) hok.2.2.2.2.2.1
  unfold gd9
  split
  · exact ⟨a1, (hy.mono a3).un a2, a3⟩
  · split
    · rename_i h1
      have o3 := hok.2.2.1 h1
      simp only
      have key : ∀ H : Nat × L9, G9 H.2 → H.1 < H.2.2 → (vl9 s (tg t) y (vl9 s (tf t) y L).2).2.2 ≤ H.2.2 → H.2.1.length ≤ (vl9 s (tg t) y (vl9 s (tf t) y L).2).2.1.length + 2 → G9 (ef9 s (top t + 2) (nI (vl9 s (tf t) y L).1) (nI H.1) 0 H.2).2 ∧ Bd (un9 y (tva t) (ef9 s (top t + 2) (nI (vl9 s (tf t) y L).1) (nI H.1) 0 H.2).1) (ef9 s (top t + 2) (nI (vl9 s (tf t) y L).1) (nI H.1) 0 H.2).2.2 ∧ L.2 ≤ (ef9 s (top t + 2) (nI (vl9 s (tf t) y L).1) (nI H.1) 0 H.2).2.2 := by
        intro H k1 k2 k3 k4
        refine ⟨k1.ef (by omega) hs (by omega) (fun _ => ⟨_, by omega, rfl⟩) (fun _ _ => ⟨_, k2, rfl⟩) (fun z => by omega), ?_, ?_⟩
        · refine Bd.un (hy.mono ?_) (Nat.lt_succ_self _)
          show L.2 ≤ H.2.2 + 1
          omega
        · show L.2 ≤ H.2.2 + 1
          omega
      split
      · obtain ⟨c1, c2, c3⟩ := b1.hm (s := s) (g := g) (x := 1) hs (by omega) (by omega) b2
        exact key _ c1 c2 c3 (by rw [hm9_len]; omega)
      · exact key _ b1 b2 (Nat.le_refl _) (by omega)
    · split
      · simp only
        obtain ⟨c1, c2, c3⟩ := a1.ix (s := s) (t := t) (g := g) hs (by omega) (by omega) a2
        have l3 := ix9_len (s := s) (t := t) (g := g) (r := (vl9 s (tf t) y L).1) (L := (vl9 s (tf t) y L).2)
        refine ⟨c1.ef (by omega) hs (by omega) (fun _ => ⟨_, c2, rfl⟩) (fun _ z => by omega) (fun z => by omega), ?_, ?_⟩
        · refine Bd.un (hy.mono ?_) (Nat.lt_succ_self _)
          show L.2 ≤ (ix9 s t g _ _).2.2 + 1
          omega
        · show L.2 ≤ (ix9 s t g _ _).2.2 + 1
          omega
      · simp only
        obtain ⟨c1, c2, c3⟩ := b1.ix (s := s) (t := t) (g := g) (r := (vl9 s (tf t) y L).1) hs (by omega) (by omega) (by omega)
        have l3 := ix9_len (s := s) (t := t) (g := g) (r := (vl9 s (tf t) y L).1) (L := (vl9 s (tg t) y (vl9 s (tf t) y L).2).2)
        generalize ix9 s t g (vl9 s (tf t) y L).1 (vl9 s (tg t) y (vl9 s (tf t) y L).2).2 = I at *
        have d1 := c1.ef (s := s) (c := 14) (b := nI I.1) (d := 0) (e := 0) (by omega) hs (by omega) (fun _ => ⟨_, c2, rfl⟩) (fun _ z => by omega) (fun z => by omega)
        have l4 := ef9_len (s := s) (c := 14) (b := nI I.1) (d := 0) (e := 0) (L := I.2)
        have e1 := d1.ef (s := s) (c := 13) (b := nI g) (d := nI (vl9 s (tg t) y (vl9 s (tf t) y L).2).1) (e := nI (ef9 s 14 (nI I.1) 0 0 I.2).1) (by omega) hs (by omega) (fun _ => ⟨g, by show g < I.2.2 + 1; omega, rfl⟩) (fun _ _ => ⟨_, by show _ < I.2.2 + 1; omega, rfl⟩) (fun _ => ⟨I.2.2, Nat.lt_succ_self _, rfl⟩)
        have l5 := ef9_len (s := s) (c := 13) (b := nI g) (d := nI (vl9 s (tg t) y (vl9 s (tf t) y L).2).1) (e := nI (ef9 s 14 (nI I.1) 0 0 I.2).1) (L := (ef9 s 14 (nI I.1) 0 0 I.2).2)
        refine ⟨e1.em (fd9_big (by omega)) (by omega) ⟨by simp only; omega, fun z => absurd z (by simp only; omega), fun _ => ⟨I.1, by show I.1 < I.2.2 + 1 + 1; omega, rfl⟩, fun _ => ⟨I.2.2 + 1, Nat.lt_succ_self _, rfl⟩, fun z => absurd z (by simp only; omega), fun z => absurd z (by simp only; omega), hs⟩, hy.mono ?_, ?_⟩
        · show L.2 ≤ I.2.2 + 1 + 1
          omega
        · show L.2 ≤ I.2.2 + 1 + 1
          omega
theorem G9.mg {s c : Nat} {y A B : Nat → Nat} (hs : s < 60) : ∀ {m v : Nat} {Z : Nat → Nat} {L : L9}, v + m = 16 → G9 L → L.1.length + m < 2990 → c < L.2 → Bd A L.2 → Bd B L.2 → Bd Z L.2 → G9 (mg9 s c y A B m v Z L).2 ∧ Bd (mg9 s c y A B m v Z L).1 (mg9 s c y A B m v Z L).2.2 ∧ L.2 ≤ (mg9 s c y A B m v Z L).2.2 := by
  intro m
  induction m with
  | zero => intro v Z L _ h _ _ _ _ hZ; exact ⟨h, hZ, Nat.le_refl _⟩
  | succ m ih =>
    intro v Z L hv h hl hc hA hB hZ
    rw [mg9]
    split
    · exact ih (by omega) h (by omega) hc hA hB (hZ.un (hA v (by omega)))
    · have e1 := h.ef (s := s) (c := 13) (b := nI c) (d := nI (A v)) (e := nI (B v)) (by omega) hs (by omega) (fun _ => ⟨c, hc, rfl⟩) (fun _ _ => ⟨_, hA v (by omega), rfl⟩) (fun _ => ⟨_, hB v (by omega), rfl⟩)
      obtain ⟨f1, f2, f3⟩ := ih (v := v + 1) (Z := un9 Z v L.2) (by omega) e1 (by rw [ef9_len]; omega) (Nat.lt_succ_of_lt hc) (hA.mono (Nat.le_succ _)) (hB.mono (Nat.le_succ _)) ((hZ.mono (Nat.le_succ _)).un (Nat.lt_succ_self _))
      exact ⟨f1, f2, Nat.le_trans (Nat.le_succ _) f3⟩

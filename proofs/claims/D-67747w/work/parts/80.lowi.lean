/-! ## only steps that do not jump are put behind; k of them tell at most -/
def tl9 (p : Ps) : Bool := p.1 == 18
def AP (k : Nat) (L M : L9) : Prop := ∃ seg : List Ps, M.1 = L.1 ++ seg ∧ (∀ p ∈ seg, ¬ p.1 = 16 ∧ ¬ p.1 = 17) ∧ seg.countP tl9 ≤ k
theorem AP.rf {L : L9} : AP 0 L L := ⟨[], by simp, by simp, by simp⟩
theorem AP.tr {k l : Nat} {L M N : L9} (h : AP k L M) (g : AP l M N) : AP (k + l) L N := by
  obtain ⟨s1, a1, a2, a3⟩ := h
  obtain ⟨s2, b1, b2, b3⟩ := g
  refine ⟨s1 ++ s2, by rw [b1, a1, List.append_assoc], fun p hp => ?_, by rw [List.countP_append]; omega⟩
  rcases List.mem_append.mp hp with h | h
  · exact a2 p h
  · exact b2 p h
theorem AP.mono {k l : Nat} {L M : L9} (h : AP k L M) (hk : k ≤ l) : AP l L M := by
  obtain ⟨s1, a1, a2, a3⟩ := h
  exact ⟨s1, a1, a2, by omega⟩
theorem AP.tr0 {L M N : L9} (h : AP 0 L M) (g : AP 0 M N) : AP 0 L N := h.tr g
theorem AP.ef {s c : Nat} {b d e : Int32} {L : L9} (hc : c ≤ 15) : AP 0 L (ef9 s c b d e L).2 := by
  refine ⟨[_], rfl, fun p hp => ?_, ?_⟩
  · rw [List.mem_singleton] at hp; subst hp; simp only; omega
  · have h : tl9 (c, nI L.2, b, d, e, s) = false := by unfold tl9; simp only; exact beq_false_of_ne (by omega)
    simp [h]
theorem AP.em {s c : Nat} {a b d e : Int32} {L : L9} (hc : c ≤ 15) : AP 0 L (em9 s c a b d e L) := by
  refine ⟨[_], rfl, fun p hp => ?_, ?_⟩
  · rw [List.mem_singleton] at hp; subst hp; simp only; omega
  · have h : tl9 (c, a, b, d, e, s) = false := by unfold tl9; simp only; exact beq_false_of_ne (by omega)
    simp [h]
theorem AP.em18 {s : Nat} {a b d e : Int32} {L : L9} : AP 1 L (em9 s 18 a b d e L) := by
  refine ⟨[_], rfl, fun p hp => ?_, ?_⟩
  · rw [List.mem_singleton] at hp; subst hp; simp only; omega
  · exact Nat.le_trans List.countP_le_length (by simp)
theorem AP.vl {s : Nat} {v : Vl} {y : Nat → Nat} {L : L9} : AP 0 L (vl9 s v y L).2 := by
  cases v with
  | inl k => exact AP.rf
  | inr x => exact AP.ef (by omega)
theorem AP.ts {s : Nat} {t : St9} {y : Nat → Nat} {L : L9} (h : top t ≤ 2) : AP 0 L (ts9 s t y L).2 := (AP.vl.tr0 AP.vl).tr0 (AP.ef (by omega))
theorem AP.hm {s g r : Nat} {x : Int32} {L : L9} : AP 0 L (hm9 s g r x L).2 := (AP.ef (c := 0) (by omega)).tr0 (AP.ef (by omega))
theorem AP.ix {s : Nat} {t : St9} {g r : Nat} {L : L9} : AP 0 L (ix9 s t g r L).2 := by
  unfold ix9
  split
  · exact AP.rf
  · exact AP.hm
theorem AP.gu {s : Nat} {u : Option Nat} {c : Nat} {L : L9} : AP 0 L (gu9 s u c L).2 := by
  cases u with
  | none => exact AP.rf
  | some g => exact AP.ef (by omega)
theorem AP.gd {s : Nat} {t : St9} {g : Nat} {y : Nat → Nat} {L : L9} (hok : okT t) : AP 0 L (gd9 s t g y L).2 := by
  unfold gd9
  split
  · exact AP.vl
  · split
    · rename_i h1
      have o3 := hok.2.2.1 h1
      simp only
      split
      · exact ((AP.vl.tr0 AP.vl).tr0 AP.hm).tr0 (AP.ef (by omega))
      · exact (AP.vl.tr0 AP.vl).tr0 (AP.ef (by omega))
    · split
      · exact (AP.vl.tr0 AP.ix).tr0 (AP.ef (by omega))
      · exact ((((AP.vl.tr0 AP.vl).tr0 AP.ix).tr0 (AP.ef (by omega))).tr0 (AP.ef (by omega))).tr0 (AP.em (by omega))
theorem AP.mg {s c : Nat} {y A B : Nat → Nat} : ∀ {m v : Nat} {Z : Nat → Nat} {L : L9}, AP 0 L (mg9 s c y A B m v Z L).2 := by
  intro m
  induction m with
  | zero => intro v Z L; exact AP.rf
  | succ m ih =>
    intro v Z L
    rw [mg9]
    split
    · exact ih
    · exact (AP.ef (c := 13) (by omega)).tr0 ih
theorem AP.mo {s : Nat} {Z : Nat → Nat} : ∀ {m v : Nat} {L : L9}, AP 0 L (mo9 s Z m v L) := by
  intro m
  induction m with
  | zero => intro v L; exact AP.rf
  | succ m ih =>
    intro v L
    rw [mo9]
    split
    · exact ih
    · exact (AP.em (c := 1) (by omega)).tr0 ih

theorem AP.sA {R : Nat → Nat → Nat → (Nat → Nat) → L9 → (Nat → Nat) × L9} {s : Nat} {t : St9} {u : Option Nat} {y : Nat → Nat} {c : Nat} {L : L9} (hR : ∀ g y L, AP 0 L (R (s + 1) (tm t) g y L).2) : AP 0 L (sA9 R s t u y c L).2 := by
  unfold sA9
  split
  · exact AP.gu.tr0 (hR _ _ _)
  · exact AP.rf
theorem AP.sB {R : Nat → Nat → Nat → (Nat → Nat) → L9 → (Nat → Nat) × L9} {s : Nat} {t : St9} {u : Option Nat} {y : Nat → Nat} {c : Nat} {L : L9} (hR : ∀ g y L, AP 0 L (R (tm t) (te t) g y L).2) : AP 0 L (sB9 R s t u y c L).2 := by
  unfold sB9
  split
  · exact (((AP.ef (c := 0) (by omega)).tr0 (AP.ef (by omega))).tr0 AP.gu).tr0 (hR _ _ _)
  · exact AP.rf
theorem AP.cv {R : Nat → Nat → Nat → (Nat → Nat) → L9 → (Nat → Nat) × L9} {s : Nat} {t : St9} {u : Option Nat} {y : Nat → Nat} {L : L9} (h : top t ≤ 2) (hA : ∀ g y L, AP 0 L (R (s + 1) (tm t) g y L).2) (hB : ∀ g y L, AP 0 L (R (tm t) (te t) g y L).2) : AP 0 L (cv9 R s t u y L).2 := by
  rw [cv9_eq]
  exact (((AP.ts h).tr0 (AP.sA hA)).tr0 (AP.sB hB)).tr0 AP.mg
theorem AP.sd {T : Nat → St9} {n : Nat} (hok : ∀ s, s < n → okT (T s)) : ∀ {f d a b : Nat}, Blk T f d a b → b ≤ n → ∀ (g : Nat) (y : Nat → Nat) (L : L9), AP 0 L (sd9 T f a b g y L).2 := by
  intro f
  induction f with
  | zero => intro d a b _ _ g y L; exact AP.rf
  | succ f ih =>
    intro d a b hB hb g y L
    rw [sd9]
    split
    · exact AP.rf
    · rename_i hab
      rcases hB with e | ⟨h1, h2, h3⟩ | ⟨h1, h2, h3, h4, h5, h6⟩
      · omega
      · rw [if_neg (by omega)]
        exact (AP.gd (hok a (by omega))).tr0 (ih h3 hb _ _ _)
      · have l4 := h4.le
        have l5 := h5.le
        have l6 := h6.le
        rw [if_pos h2]
        exact (AP.cv ((hok a (by omega)).2.2.2.1 h2) (ih h4 (by omega)) (ih h5 (by omega))).tr0 (ih h6 hb _ _ _)
theorem AP.tp {s : Nat} {t : St9} {L : L9} (hok : okT t) : AP 1 L (tp9 s t L) := by
  unfold tp9
  split
  · cases tf t with
    | inl k => exact (AP.em (by omega)).mono (by omega)
    | inr x => exact (AP.em (by omega)).mono (by omega)
  · split
    · rename_i h1
      have o3 := hok.2.2.1 h1
      exact ((AP.vl.tr0 AP.vl).tr0 (AP.em (by omega))).mono (by omega)
    · split
      · exact (AP.vl.tr0 (AP.em (by omega))).mono (by omega)
      · split
        · exact ((AP.vl.tr0 AP.vl).tr0 (AP.em (by omega))).mono (by omega)
        · exact (AP.vl.tr AP.em18).mono (by omega)
theorem AP.cm {T : Nat → St9} {n : Nat} (hok : ∀ s, s < n → okT (T s)) {f d s : Nat} (hs : s < n) (h5 : tso (T s) = 5) (hA : Blk T f (d + 1) (s + 1) (tm (T s))) (hB : Blk T f (d + 1) (tm (T s)) (te (T s))) (hen : te (T s) ≤ n) {L : L9} : AP 0 L (cm9 T f s L) := by
  have l5 := hB.le
  exact (AP.cv ((hok s hs).2.2.2.1 h5) (AP.sd hok hA (by omega)) (AP.sd hok hB hen)).tr0 AP.mo

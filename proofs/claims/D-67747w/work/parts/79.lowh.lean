/-- an outer ask without jumps, in the class -/
theorem s_cm {T : Nat → St9} {n : Nat} (hn : n ≤ 60) (hok : ∀ s, s < n → okT (T s)) {f d s : Nat} (hs : s < n) (h5 : tso (T s) = 5) (hd : d < 6) (hA : Blk T f (d + 1) (s + 1) (tm (T s))) (hB : Blk T f (d + 1) (tm (T s)) (te (T s))) (hen : te (T s) ≤ n) (h4 : no4 T (s + 1) (te (T s))) {L : L9} {σ : Sg} (hT : TX σ n T) (hX : XL σ L) (hG : G9 L) (hy : RX σ 0 id9) (hl : L.1.length + 23 * (te (T s) - s) + 16 < 2990) {Q : Sg → Prop} (hQ : ∀ τ, Fr (SF9 1) σ τ → XL τ (cm9 T f s L) → Q τ) : w_x_convert 8 (nI s) (-1) 0 1 σ Q := by
  have l4 := hA.le
  have l5 := hB.le
  have n4A : no4 T (s + 1) (tm (T s)) := fun k k1 k2 => h4 k k1 (by omega)
  have n4B : no4 T (tm (T s)) (te (T s)) := fun k k1 k2 => h4 k (by omega) k2
  have rA := G9.sd hn hok hA (by omega) n4A
  have rB := G9.sd hn hok hB (by omega) n4B
  have hlo := hG.lo
  have hyb : Bd id9 L.2 := fun v hv => by unfold id9; omega
  obtain ⟨a1, a2, a3, a4, a5⟩ := hG.cv (R := sd9 T f) (s := s) (t := T s) (u := none) (y := id9) (by omega) (hok s hs) h5 l4 l5 (by omega) (fun g' hg' => by cases hg') hyb rA rB
  have hhi := a1.hi
  show w_x_convert_s (w_x_convert 7) (nI s) (gI9 none) (nI 0) (nI 1) σ Q
  refine s_convert (R := sd9 T f) (M := 1 + 2 * (d + 1)) hn hs (by omega) (by omega) (by omega) (hok s hs) h5 l4 l5 hen rA rB (s_side hn hok f (d + 1) (s + 1) (tm (T s)) hA (by omega) n4A (by omega) 7 (by omega)) (s_side hn hok f (d + 1) (tm (T s)) (te (T s)) hB (by omega) n4B (by omega) 7 (by omega)) hT hX hG hy hyb (fun g' hg' => by cases hg') (by omega) (fun τ hF hX' hr' => ?_)
  exact ⟨17, s_moves (s := s) (free := 1) (by omega) (fun v hv => by have := a2 v hv; omega) 16 0 _ τ (by omega) hX' (by omega) hr' (fun υ hυ hXυ => hQ υ (hF.tr (hυ.mono (fun c j z => Or.inl z))) hXυ)⟩
/-- a plain statement outside, in the class -/
theorem s_tp4 {RA : Int32 → Int32 → Sg → (Sg → Prop) → Prop} {σ : Sg} {L : L9} (h : XL σ L) (hl : L.1.length + 3 < 2990) {s : Nat} (hs : s < 60) (hy : RX σ 0 id9) {t : St9} (hx : XS 36 σ s t) (hok : okT t) (h4 : tso t ≤ 4) {Q : Sg → Prop} (hQ : ∀ τ, Fr SW0 σ τ → XL τ (tp9 s t L) → Q τ) : w_x_lowerOne RA (nI s) σ Q := by
  have l1 := vl9_len (s := s) (v := tf t) (y := id9) (L := L)
  have l2 := vl9_len (s := s) (v := tg t) (y := id9) (L := (vl9 s (tf t) id9 L).2)
  obtain ⟨o1, o2, o3, o4, o5, o6, o7⟩ := hok
  have v : vp_in (nI s) 60 := vp_in_nI hs (by omega)
  have cv : ∀ k, k < 100 → (nI (tso t) = nI k ↔ tso t = k) := fun k hk => nI_eq (by omega) (by omega)
  unfold w_x_lowerOne w_x_lowerOne_265
  rw [nI_clamp (show s < 2 ^ 31 by omega), hx.1]
  refine ⟨v, ?_⟩
  intro x1 e1
  have hva : tso t ≤ 2 → x1 = nI (tva t) := fun hh => e1.trans (hx.2.2.1 hh)
  have e4 : σ 40 s = xv (tf t) := hx.2.2.2.2.1
  have e5 : σ 41 s = xw (tf t) := hx.2.2.2.2.2.1
  rw [e4, e5]
  refine ⟨v, fun z => ⟨v, ?_⟩, fun z0 => ⟨fun z => ?_, fun z1 => ⟨fun z => ?_, fun z2 => ⟨fun z => ?_, fun z3 => ⟨fun z => ?_, fun z4 => ?_⟩⟩⟩⟩⟩
  · have hh := (cv 0 (by omega)).mp z
    have hx1 := hva (by omega)
    subst hx1
    unfold tp9 at hQ
    rw [if_pos hh] at hQ
    cases ht : tf t with
    | inl k =>
      rw [ht] at hQ o5
      have hk : k < 16 := o5
      exact ⟨fun _ => ⟨v, s_put (c := 1) h (by omega) (fun τ f1 x => hQ τ f1 x)⟩, fun w => absurd w (nI_m1 (by omega))⟩
    | inr x =>
      rw [ht] at hQ
      exact ⟨fun w => absurd rfl w, fun _ => ⟨v, s_put (c := 0) h (by omega) (fun τ f1 x => hQ τ f1 x)⟩⟩
  · have hh := (cv 1 (by omega)).mp z
    have hx1 := hva (by omega)
    subst hx1
    have o3 := o3 hh
    unfold tp9 at hQ
    rw [if_neg (by omega), if_pos hh] at hQ
    refine s_firstL (row := 0) h (by omega) hs (by omega) hy hx o5 (fun τ f1 x1' => s_secondL (row := 0) x1' (by omega) hs (by omega) (hy.sw0 f1) (hx.sw0 f1) o6 (fun υ f2 x2' => ⟨v, ?_⟩))
    have e3 : υ 39 s = nI (top t) := ((hx.sw0 f1).sw0 f2).2.2.2.1 (Or.inl hh)
    rw [e3, show (2 : Int32) + nI (top t) = nI (top t + 2) by rw [Nat.add_comm, ← nI_add]; rfl]
    exact s_put x2' (by omega) (fun ω f3 x3 => hQ ω ((f1.tr f2).tr f3) x3)
  · have hh := (cv 2 (by omega)).mp z
    have hx1 := hva (by omega)
    subst hx1
    unfold tp9 at hQ
    rw [if_neg (by omega), if_neg (by omega), if_pos hh] at hQ
    exact s_firstL (row := 0) h (by omega) hs (by omega) hy hx o5 (fun τ f1 x1' => s_put (c := 14) x1' (by omega) (fun ω f3 x3 => hQ ω (f1.tr f3) x3))
  · have hh := (cv 3 (by omega)).mp z
    unfold tp9 at hQ
    rw [if_neg (by omega), if_neg (by omega), if_neg (by omega), if_pos hh] at hQ
    exact s_firstL (row := 0) h (by omega) hs (by omega) hy hx o5 (fun τ f1 x1' => s_secondL (row := 0) x1' (by omega) hs (by omega) (hy.sw0 f1) (hx.sw0 f1) o6 (fun υ f2 x2' => s_put (c := 15) x2' (by omega) (fun ω f3 x3 => hQ ω ((f1.tr f2).tr f3) x3)))
  · have hh := (cv 4 (by omega)).mp z
    unfold tp9 at hQ
    rw [if_neg (by omega), if_neg (by omega), if_neg (by omega), if_neg (by omega)] at hQ
    exact s_firstL (row := 0) h (by omega) hs (by omega) hy hx o5 (fun τ f1 x1' => s_put (c := 18) x1' (by omega) (fun ω f3 x3 => hQ ω (f1.tr f3) x3))
  · have n0 : ¬ tso t = 0 := fun q => z0 ((cv 0 (by omega)).mpr q)
    have n1 : ¬ tso t = 1 := fun q => z1 ((cv 1 (by omega)).mpr q)
    have n2 : ¬ tso t = 2 := fun q => z2 ((cv 2 (by omega)).mpr q)
    have n3 : ¬ tso t = 3 := fun q => z3 ((cv 3 (by omega)).mpr q)
    have n4 : ¬ tso t = 4 := fun q => z4 ((cv 4 (by omega)).mpr q)
    omega

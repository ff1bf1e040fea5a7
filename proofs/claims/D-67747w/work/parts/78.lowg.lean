theorem s_side {T : Nat → St9} {n : Nat} (hn : n ≤ 60) (hok : ∀ s, s < n → okT (T s)) : ∀ (f d a b : Nat), Blk T f d a b → b ≤ n → no4 T a b → d ≤ 6 → ∀ (D : Nat), 6 ≤ D + d → CS (w_x_convert D) (sd9 T f) T n a b (1 + 2 * d) := by
  have main : ∀ (f d a b : Nat), Blk T f d a b → b ≤ n → no4 T a b → d ≤ 6 → ∀ (D : Nat), 6 ≤ D + d → ∀ (row free g : Nat) (y : Nat → Nat) (L : L9) (σ : Sg) (Q : Sg → Prop), 0 < row → row < free → free ≤ 1 + 2 * d → TX σ n T → XL σ L → G9 L → RX σ row y → Bd y L.2 → g < L.2 → L.1.length + 23 * (b - a) < 2990 → (∀ τ, Fr (SR row free) σ τ → XL τ (sd9 T f a b g y L).2 → RX τ row (sd9 T f a b g y L).1 → Q τ) → ∀ q, b - a < q → w_x_side_3 (w_x_convert D) Q q (nI b) (nI g) (nI row) (nI free) (nI a) σ := by
    intro f
    induction f with
    | zero =>
      intro d a b hB hb h4 hd D hD row free g y L σ Q hr0 hrf hfM hT hX hG hy hyb hg hl hQ q hq
      obtain rfl : a = b := hB
      cases q with
      | zero => omega
      | succ q =>
        unfold w_x_side_3
        exact ⟨fun _ => hQ σ Fr.rf hX hy, fun z => absurd (nI_le (Nat.le_refl _) (by omega)) z⟩
    | succ f ih =>
      intro d a b hB hb h4 hd D hD row free g y L σ Q hr0 hrf hfM hT hX hG hy hyb hg hl hQ q hq
      cases q with
      | zero => omega
      | succ q =>
        have hle := hB.le
        unfold w_x_side_3
        rw [sd9] at hQ
        rcases hB with h | ⟨h1, h2, h3⟩ | ⟨h1, h2, h3, h4', h5, h6⟩
        · subst h
          rw [if_pos (Nat.le_refl _)] at hQ
          exact ⟨fun _ => hQ σ Fr.rf hX hy, fun z => absurd (nI_le (Nat.le_refl _) (by omega)) z⟩
        · rw [if_neg (by omega), if_neg (by omega)] at hQ
          have hso : tso (T a) ≤ 3 := by have := h4 a (Nat.le_refl _) h1; omega
          refine ⟨fun z => absurd z (nI_ge h1 (by omega)), fun _ => ?_⟩
          obtain ⟨a1, a2, a3⟩ := hG.gd (s := a) (t := T a) (g := g) (by omega) (by omega) hg hyb (hok a (by omega)) hso
          have la := gd9_len (s := a) (t := T a) (g := g) (y := y) (L := L)
          refine s_guard3 (free := free) hX (by omega) (by omega) (by omega) hy (hT a (by omega)) (hok a (by omega)) hso (fun τ hF hX' hy' => ?_)
          have hT' := hT.sr (by omega) hF
          refine s_next (by omega) (hT' a (by omega)) (by omega) ?_
          rw [if_neg (by omega)]
          exact ih d (a + 1) b h3 hb (fun k k1 k2 => h4 k (by omega) k2) hd D hD row free g _ _ τ Q hr0 hrf hfM hT' hX' a1 hy' a2 (by omega) (by omega) (fun υ hυ => hQ υ (hF.tr hυ)) q (by omega)
        · have l4 := h4'.le
          have l5 := h5.le
          have l6 := h6.le
          rw [if_neg (by omega), if_pos h2] at hQ
          refine ⟨fun z => absurd z (nI_ge h1 (by omega)), fun _ => ?_⟩
          have n4A : no4 T (a + 1) (tm (T a)) := fun k k1 k2 => h4 k (by omega) (by omega)
          have n4B : no4 T (tm (T a)) (te (T a)) := fun k k1 k2 => h4 k (by omega) (by omega)
          have rA := G9.sd hn hok h4' (by omega) n4A
          have rB := G9.sd hn hok h5 (by omega) n4B
          obtain ⟨a1, a2, a3, a4, a5⟩ := hG.cv (R := sd9 T f) (s := a) (t := T a) (u := some g) (y := y) (by omega) (hok a (by omega)) h2 l4 l5 (by omega) (fun g' hg' => by cases hg'; exact hg) hyb rA rB
          obtain ⟨D', rfl⟩ : ∃ D', D = D' + 1 := ⟨D - 1, by omega⟩
          have v : vp_in (nI a) 60 := vp_in_nI (by omega) (by omega)
          have e0 : σ 36 a = nI 5 := by rw [← h2]; exact (hT a (by omega)).1
          unfold w_x_guarded w_x_guarded_323
          rw [nI_clamp (show a < 2 ^ 31 by omega), e0]
          refine ⟨vp_in_nI (by omega) (by omega), v, ?_⟩
          intro x1 e1
          refine ⟨v, fun z => absurd z (by decide), fun _ => ⟨fun z => absurd z (by decide), fun _ => ⟨fun z => absurd z (by decide), fun _ => ⟨fun z => absurd z (by decide), fun _ => ?_⟩⟩⟩⟩
          show w_x_convert_s (w_x_convert D') (nI a) (gI9 (some g)) (nI row) (nI free) σ _
          refine s_convert (R := sd9 T f) (M := 1 + 2 * (d + 1)) hn (by omega) hrf (by omega) (by omega) (hok a (by omega)) h2 l4 l5 (by omega) rA rB (fun row free g y L σ Q p1 p2 p3 p4 p5 p6 p7 p8 p9 p10 p11 => ⟨tm (T a) - (a + 1) + 1, ih (d + 1) (a + 1) (tm (T a)) h4' (by omega) n4A (by omega) D' (by omega) row free g y L σ Q p1 p2 p3 p4 p5 p6 p7 p8 p9 p10 p11 _ (by omega)⟩) (fun row free g y L σ Q p1 p2 p3 p4 p5 p6 p7 p8 p9 p10 p11 => ⟨te (T a) - tm (T a) + 1, ih (d + 1) (tm (T a)) (te (T a)) h5 (by omega) n4B (by omega) D' (by omega) row free g y L σ Q p1 p2 p3 p4 p5 p6 p7 p8 p9 p10 p11 _ (by omega)⟩) hT hX hG hy hyb (fun g' hg' => by cases hg'; exact hg) (by omega) (fun τ hF hX' hr' => ?_)
          refine ⟨17, s_back hr0 hrf (by omega) 16 0 τ (by omega) hr' (fun k hk => by omega) (fun υ hυ hy' => ?_)⟩
          have hF' : Fr (SR row free) σ υ := (hF.mono (fun c j z => z.elim Or.inl (fun z => Or.inr (Or.inr z)))).tr (hυ.mono (fun c j z => Or.inr (Or.inl z)))
          have hT' := hT.sr (by omega) hF'
          refine s_next (by omega) (hT' a (by omega)) (by omega) ?_
          rw [if_pos h2]
          exact ih d (te (T a)) b h6 hb (fun k k1 k2 => h4 k (by omega) k2) hd (D' + 1) hD row free g _ _ υ Q hr0 hrf hfM hT' (hX'.fr hυ (fun c j z => by unfold SW0 at z; omega)) a1 hy' a2 (by omega) (by omega) (fun ω hω => hQ ω (hF'.tr hω)) q (by omega)
  intro f d a b hB hb h4 hd D hD row free g y L σ Q p1 p2 p3 p4 p5 p6 p7 p8 p9 p10 p11
  exact ⟨b - a + 1, main f d a b hB hb h4 hd D hD row free g y L σ Q p1 p2 p3 p4 p5 p6 p7 p8 p9 p10 p11 _ (by omega)⟩

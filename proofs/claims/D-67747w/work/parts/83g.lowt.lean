theorem s_lowerAll {T : Nat → St9} {ic : Nat → Bool} {n : Nat} (hn : n ≤ 60) (hok : ∀ s, s < n → okT (T s)) (hic : ∀ s, s < n → tso (T s) = 5 → ic s = true → no4 T (s + 1) (te (T s))) : ∀ (f d a b : Nat), Blk T f d a b → b ≤ n → ∀ (D : Nat), 7 ≤ D + d → ∀ (L : L9) (σ : Sg) (Q : Sg → Prop), TX σ n T → IX8 σ n T ic → XL σ L → G9 L → RX σ 0 id9 → L.1.length + 39 * (b - a) < 2990 → (∀ τ, Fr (SF9 1) σ τ → XL τ (lw9 T ic f a b L) → Q τ) → ∀ q, b - a < q → w_x_lowerAll_2 (w_x_lowerAll (D - 1)) Q q (nI b) (nI a) σ := by
  intro f
  induction f with
  | zero =>
    intro d a b hB hb D hD L σ Q hT h8 hX hG hy hl hQ q hq
    obtain rfl : a = b := hB
    cases q with
    | zero => omega
    | succ q =>
      unfold w_x_lowerAll_2
      exact ⟨fun _ => hQ σ Fr.rf hX, fun z => absurd (nI_le (Nat.le_refl _) (by omega)) z⟩
  | succ f ih =>
    intro d a b hB hb D hD L σ Q hT h8 hX hG hy hl hQ q hq
    cases q with
    | zero => omega
    | succ q =>
      have hle := hB.le
      unfold w_x_lowerAll_2
      rcases hB with h | ⟨h1, h2, h3⟩ | ⟨h1, h2, h3, h4, h5, h6⟩
      · subst h
        rw [lw9, if_pos (Nat.le_refl _)] at hQ
        exact ⟨fun _ => hQ σ Fr.rf hX, fun z => absurd (nI_le (Nat.le_refl _) (by omega)) z⟩
      · rw [lw9, if_neg (by omega), if_pos h2] at hQ
        refine ⟨fun z => absurd z (nI_ge h1 (by omega)), fun _ => ?_⟩
        have lt := tp9_len (s := a) (t := T a) (L := L)
        have g1 := hG.tp (s := a) (t := T a) (by omega) (by omega) (hok a (by omega)) h2
        refine s_tp4 hX (by omega) (by omega) hy (hT a (by omega)) (hok a (by omega)) h2 (fun τ f1 x1 => ?_)
        have hT' := hT.sf (free := 1) f1.sf0
        refine s_next (by omega) (hT' a (by omega)) (by omega) ?_
        rw [if_neg (by omega)]
        exact ih d (a + 1) b h3 hb D hD _ τ Q hT' (h8.sf (free := 1) f1.sf0) x1 g1 (hy.sw0 f1) (by omega) (fun υ hυ => hQ υ (f1.sf0.tr hυ)) q (by omega)
      · have l4 := h4.le
        have l5 := h5.le
        have l6 := h6.le
        have v : vp_in (nI a) 60 := vp_in_nI (by omega) (by omega)
        have e0 : σ 36 a = nI 5 := by rw [← h2]; exact (hT a (by omega)).1
        refine ⟨fun z => absurd z (nI_ge h1 (by omega)), fun _ => ?_⟩
        obtain ⟨D', rfl⟩ : ∃ D', D = D' + 1 := ⟨D - 1, by omega⟩
        obtain ⟨D'', rfl⟩ : ∃ D'', D' = D'' + 1 := ⟨D' - 1, by omega⟩
        rw [Nat.add_sub_cancel]
        -- behind the ask
        have hrest : ∀ (M : L9) (τ : Sg), lw9 T ic (f + 1) a b L = lw9 T ic f (te (T a)) b M → G9 M → M.1.length ≤ L.1.length + 39 * (te (T a) - a) → Fr (SF9 1) σ τ → XL τ M → w_t_next (nI a) τ (fun x2 σ3 => w_x_lowerAll_2 (w_x_lowerAll (D'' + 1)) Q q (nI b) x2 σ3) := by
          intro M τ hM gM lM hF xM
          have hT' := hT.sf hF
          refine s_next (by omega) (hT' a (by omega)) (by omega) ?_
          rw [if_pos h2]
          rw [hM] at hQ
          exact ih d (te (T a)) b h6 hb (D'' + 1 + 1) hD M τ Q hT' (h8.sf hF) xM gM (hy.sf hF (by omega) (by omega)) (by omega) (fun υ hυ => hQ υ (hF.tr hυ)) q (by omega)
        unfold w_x_lowerOne w_x_lowerOne_265
        rw [nI_clamp (show a < 2 ^ 31 by omega), e0, h8 a (by omega) h2]
        refine ⟨v, ?_⟩
        intro x1 e1
        refine ⟨v, fun z => absurd z (by decide), fun _ => ⟨fun z => absurd z (by decide), fun _ => ⟨fun z => absurd z (by decide), fun _ => ⟨fun z => absurd z (by decide), fun _ => ⟨fun z => absurd z (by decide), fun _ => ⟨v, fun z => ?_, fun z => ?_⟩⟩⟩⟩⟩⟩
        · have hi : ic a = false := bI_0.mp z
          have hoka := hok a (by omega)
          obtain ⟨a1, a2, a3⟩ := hG.ts (s := a) (t := T a) (y := id9) (by omega) (by omega) (Bd.id hG.lo) hoka h2
          have la := ts9_len (s := a) (t := T a) (y := id9) (L := L)
          have kjm := LK.jm (ic := ic) (f := f) (L := L) (by omega) hoka h2 l4 l5 (fun L hG hl => LK.lw hn hok hic h4 (by omega) hG hl) (fun L hG hl => LK.lw hn hok hic h5 (by omega) hG hl) hG (by omega)
          have hrest' := fun τ => hrest (jm9 T ic f a L) τ (lw9_j h1 h2 hi) kjm.1 kjm.2.2.1
          unfold jm9 at hrest'
          unfold w_x_lowerAsk w_x_lowerAsk_146
          refine s_testL (row := 0) hX (by omega) (by omega) (by omega) hy (hT a (by omega)) hoka h2 (fun σ2 f2 x2 => ?_)
          generalize ts9 a (T a) id9 L = C at *
          intro x3 e3
          rw [x2.1.1] at e3
          subst e3
          refine s_put (c := 17) x2 (by omega) (fun σ5 f5 x5 => ?_)
          have j1 : G9 (em9 a 17 (nI C.1) 0 0 0 C.2) := a1.em (fd9_big (by omega)) (by omega) ⟨by simp only; omega, fun z => absurd z (by simp only; omega), fun _ => ⟨_, a2, rfl⟩, fun z => absurd z (by simp only; omega), fun z => absurd z (by simp only; omega), fun z => absurd z (by simp only; omega), (by show a < 60; omega)⟩
          have jl := em9_len (s := a) (c := 17) (a := nI C.1) (b := 0) (d := 0) (e := 0) (L := C.2)
          have jat : (em9 a 17 (nI C.1) 0 0 0 C.2).1[C.2.1.length]? = some (17, nI C.1, 0, 0, 0, a) := by simp [em9]
          simp only at hrest'
          generalize em9 a 17 (nI C.1) 0 0 0 C.2 = J at *
          have F5 : Fr (SF9 1) σ σ5 := (f2.tr f5).sf0
          have hT5 := hT.sf F5
          have em : σ5 44 a = nI (tm (T a)) := ((hT5 a (by omega)).2.2.2.2.2.2.2.2 h2).1
          have eca : (nI a).toNatClampNeg = a := nI_clamp (by omega)
          rw [eca, em, nI_1]
          refine ⟨v, ?_⟩
          show w_x_lowerAll_s (w_x_lowerAll D'') _ _ _ _
          have kA := LK.lw (ic := ic) (L := J) hn hok hic h4 (by omega) j1 (by omega)
          refine ⟨tm (T a) - (a + 1) + 1, ih (d + 1) (a + 1) (tm (T a)) h4 (by omega) (D'' + 1) (by omega) J σ5 _ hT5 (h8.sf F5) x5 j1 (hy.sf F5 (by omega) (by omega)) (by omega) (fun σ6 hF6 x6 => ?_) _ (by omega)⟩
          generalize lw9 T ic f (a + 1) (tm (T a)) J = A at *
          obtain ⟨k1, k2, k3, k4, k5, k6⟩ := kA
          have F6 : Fr (SF9 1) σ σ6 := F5.tr hF6
          have hT6 := hT.sf F6
          have em6 : σ6 44 a = nI (tm (T a)) := ((hT6 a (by omega)).2.2.2.2.2.2.2.2 h2).1
          have ee6 : σ6 45 a = nI (te (T a)) := ((hT6 a (by omega)).2.2.2.2.2.2.2.2 h2).2
          rw [em6, ee6]
          have vC : vp_in (nI C.2.1.length) 3000 := vp_in_nI (by omega) (by omega)
          have ecC : (nI C.2.1.length).toNatClampNeg = C.2.1.length := nI_clamp (by omega)
          rw [ecC]
          refine ⟨v, v, fun z => ⟨vC, ?_⟩, fun z => ?_⟩
          · have hle2 := (nI_leI (by omega) (by omega)).mp z
            rw [x6.1.1]
            have hr := hrest' (up σ6 15 C.2.1.length (nI A.1.length)) (F6.up (Or.inl (by unfold SW0; omega)))
            rw [if_neg (by omega)] at hr
            exact hr (x6.pB _ _)
          · have hlt : tm (T a) < te (T a) := by
              have := mt (nI_leI (a := te (T a)) (b := tm (T a)) (by omega) (by omega)).mpr z
              omega
            rw [if_pos hlt] at hrest'
            intro x7 e7
            rw [x6.1.1] at e7
            subst e7
            refine s_put (c := 16) x6 (by omega) (fun σ9 f9 x9 => ?_)
            have o1 : G9 (em9 a 16 0 0 0 0 A) := k1.em (fd9_big (by omega)) (by omega) ⟨by simp only; omega, fun z => absurd z (by simp only; omega), fun z => absurd z (by simp only; omega), fun z => absurd z (by simp only; omega), fun z => absurd z (by simp only; omega), fun z => absurd z (by simp only; omega), (by show a < 60; omega)⟩
            have ol := em9_len (s := a) (c := 16) (a := 0) (b := 0) (d := 0) (e := 0) (L := A)
            have oc : (em9 a 16 0 0 0 0 A).1[C.2.1.length]? = some (17, nI C.1, 0, 0, 0, a) := by
              have : (em9 a 16 0 0 0 0 A).1[C.2.1.length]? = A.1[C.2.1.length]? := by simp [em9, List.getElem?_append_left (show C.2.1.length < A.1.length by omega)]
              rw [this, k4 _ (by omega)]; exact jat
            generalize em9 a 16 0 0 0 0 A = O at *
            have p1 : G9 (pB9 C.2.1.length (nI O.1.length) O.1, O.2) := o1.pB (fun p hp => by rw [oc] at hp; cases hp; rfl)
            have F9 : Fr (SF9 1) σ (up σ9 15 C.2.1.length (nI O.1.length)) := (F6.tr f9.sf0).up (Or.inl (by unfold SW0; omega))
            have hT9 := hT.sf (F6.tr f9.sf0)
            have em9' : σ9 44 a = nI (tm (T a)) := ((hT9 a (by omega)).2.2.2.2.2.2.2.2 h2).1
            have ee9' : σ9 45 a = nI (te (T a)) := ((hT9 a (by omega)).2.2.2.2.2.2.2.2 h2).2
            rw [em9', ee9', x9.1.1]
            refine ⟨vC, v, v, ?_⟩
            show w_x_lowerAll_s (w_x_lowerAll D'') _ _ _ _
            refine ⟨te (T a) - tm (T a) + 1, ih (d + 1) (tm (T a)) (te (T a)) h5 (by omega) (D'' + 1) (by omega) (pB9 C.2.1.length (nI O.1.length) O.1, O.2) _ _ (hT.sf F9) (h8.sf F9) (x9.pB _ _) p1 (hy.sf F9 (by omega) (by omega)) (by simp only [pB9_len]; omega) (fun σ10 hF10 x10 => ?_) _ (by omega)⟩
            refine ⟨vp_in_nI (by omega) (by omega), ?_⟩
            rw [nI_clamp (show A.1.length < 2 ^ 31 by omega), x10.1.1]
            exact hrest' _ ((F9.tr hF10).up (Or.inl (by unfold SW0; omega))) (x10.pA _ _)
        · have hi : ic a = true := by
            cases hh : ic a with
            | false => rw [hh] at z; exact absurd rfl z
            | true => rfl
          have h4' := hic a (by omega) h2 hi
          obtain ⟨g1, g2⟩ := cm9_len hn hok (by omega) h2 h4 h5 (by omega) h4' hG (by omega)
          refine s_cm hn hok (by omega) h2 h3 h4 h5 (by omega) h4' hT hX hG hy (by omega) (fun τ hF xM => hrest (cm9 T f a L) τ ?_ g1 (by omega) hF xM)
          rw [lw9, if_neg (by omega), if_neg (by omega), hi, if_pos rfl]

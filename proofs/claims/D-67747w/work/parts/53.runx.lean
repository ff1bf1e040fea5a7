/-- the class's run -/
theorem s_runAll {cd : List Ps} {rg : Nat} (hlen : cd.length ≤ 3000) (hrg : rg ≤ 3016) (hok : ∀ i p, cd[i]? = some p → okS cd.length rg i p) {Q : Sg → Prop} {E : Nat → Sg → Prop} : ∀ (f i : Nat) (S : RS) (σ : Sg), XC σ cd → XR σ S → i ≤ cd.length → cd.length - i < f → S.2.2.2.1 + tls cd i ≤ 60 →
    (∀ τ, Fr SX σ τ → XR τ (runF cd f i S).1 → (runF cd f i S).2.1 = 0 → Q τ) → (∀ τ, Fr SX σ τ → XR τ (runF cd f i S).1 → ¬ (runF cd f i S).2.1 = 0 → τ 4 5 = nI (runF cd f i S).2.1 → τ 4 6 = nI (runF cd f i S).2.2 → E 1 τ) → w_x_runAll_2 Q E f (nI i) σ := by
  intro f
  induction f with
  | zero => intro i S σ _ _ _ h; omega
  | succ f ih =>
    intro i S σ hC hR hi hf ht hQ hE
    by_cases hlt : i < cd.length
    · have hp : cd[i]? = some cd[i] := List.getElem?_eq_getElem hlt
      generalize cd[i] = p at hp
      obtain ⟨c, a, b, d, e, o⟩ := p
      have ok := hok i _ hp
      obtain ⟨g6, g14, g15, g16, g17, g7⟩ := hC.2 i _ hp
      have g12 := hC.1
      simp only at g6 g14 g15 g16 g17 g7
      have ec : (nI i).toNatClampNeg = i := nI_clamp (by omega)
      have hR1 := hR.dn
      have hF1 : Fr SX σ (up σ 0 25 (σ 0 25 + 1)) := Fr.rf.up (by unfold SX; omega)
      have hrun : runF cd (f + 1) i S = if (st1 (c, a, b, d, e, o) i (dnR S)).2.1 = 0 then runF cd f (st1 (c, a, b, d, e, o) i (dnR S)).2.2 (st1 (c, a, b, d, e, o) i (dnR S)).1 else ((st1 (c, a, b, d, e, o) i (dnR S)).1, (st1 (c, a, b, d, e, o) i (dnR S)).2.1, o) := by
        rw [runF]; simp only [hp]
      rw [hrun] at hQ hE
      have hnext : ∀ (j : Nat) (S' : RS) (τ : Sg), st1 (c, a, b, d, e, o) i (dnR S) = (S', 0, j) → Fr SX σ τ → XR τ S' → i < j → j ≤ cd.length → S'.2.2.2.1 + tls cd j ≤ 60 → w_x_runAll_2 Q E f (nI j) τ := by
        intro j S' τ hs hF hR' h1 h2 h3
        rw [hs] at hQ hE
        simp only [if_true] at hQ hE
        exact ih j S' τ (hC.sx hF) hR' h2 (by omega) h3 (fun υ hυ => hQ υ (hF.tr hυ)) (fun υ hυ => hE υ (hF.tr hυ))
      have hstop : ∀ (h : Nat) (τ : Sg), st1 (c, a, b, d, e, o) i (dnR S) = (dnR S, h + 1, 0) → Fr SX σ τ → XR τ (dnR S) → τ 4 5 = nI (h + 1) → τ 4 6 = nI o → E 1 τ := by
        intro h τ hs hF hR' h1 h2
        rw [hs] at hE
        rw [if_neg (by simp)] at hE
        exact hE τ hF hR' (by simp) h1 h2
      have ht1 : tls cd (i + 1) ≤ tls cd i := tls_le cd (by omega)
      obtain ⟨k0, k1, k2, k3, k4, k5, k6, k7⟩ := ok
      simp only at k0 k1 k2 k3 k4 k5 k6 k7
      unfold w_x_runAll_2
      simp only [ec, g6, g14, g15, g16, g17, g7, g12, forall_eq, nI_1]
      refine ⟨fun z => absurd z (nI_ge hlt (by omega)), fun _ => ?_⟩
      have hv : vp_in (nI i) 3000 := vp_in_nI (by omega) (by omega)
      refine ⟨hv, hv, hv, hv, ?_⟩
      have cv : ∀ k, k < 100 → (nI c = nI k ↔ c = k) := fun k hk => nI_eq (by omega) (by omega)
      have hreg : ∀ q, q < rg → σ 11 (nI q).toNatClampNeg = (dnR S).1 (nI q).toNatClampNeg := fun q hq => by rw [nI_clamp (by omega)]; exact hR.1 q (by omega)
      have hreg1 : ∀ q, q < rg → (up σ 0 25 (σ 0 25 + 1)) 11 (nI q).toNatClampNeg = (dnR S).1 (nI q).toNatClampNeg := fun q hq => by rw [nI_clamp (by omega)]; exact hR1.1 q (by omega)
      have s11 : ∀ q v, Fr SX σ (up (up σ 0 25 (σ 0 25 + 1)) 11 q v) := fun q v => hF1.up (by unfold SX; omega)
      refine ⟨fun z => ?_, fun z0 => ⟨fun z => ?_, fun z1 => ⟨fun z => ?_, fun z13 => ⟨fun z => ?_, fun z14 => ⟨fun z => ?_, fun z15 => ⟨fun z => ?_, fun z16 => ⟨fun z => ?_, fun z17 => ⟨fun z => ?_, fun z18 => ?_⟩⟩⟩⟩⟩⟩⟩⟩
      · obtain rfl : c = 0 := (cv 0 (by omega)).mp z
        obtain ⟨r, hr, rfl⟩ := k1 (by omega)
        exact ⟨vp_in_nI (by omega) (by omega), hnext (i + 1) _ _ (by simp [st1]) (s11 _ _) (hR1.set _ _) (by omega) (by omega) (by show S.2.2.2.1 + _ ≤ 60; omega)⟩
      · obtain rfl : c = 1 := (cv 1 (by omega)).mp z
        obtain ⟨r, hr, rfl⟩ := k1 (by omega)
        obtain ⟨q, hq, rfl⟩ := k4 (by omega)
        rw [hreg q hq]
        exact ⟨vp_in_nI (by omega) (by omega), vp_in_nI (by omega) (by omega), hnext (i + 1) _ _ (by simp [st1]) (s11 _ _) (hR1.set _ _) (by omega) (by omega) (by show S.2.2.2.1 + _ ≤ 60; omega)⟩
      · obtain rfl : c = 13 := (cv 13 (by omega)).mp z
        obtain ⟨r, hr, rfl⟩ := k1 (by omega)
        obtain ⟨q, hq, rfl⟩ := k4 (by omega)
        obtain ⟨u, hu, rfl⟩ := k5 (by omega)
        obtain ⟨v, hv2, rfl⟩ := k6 rfl
        refine ⟨vp_in_nI (by omega) (by omega), fun y => ?_, fun y => ?_⟩
        · rw [hreg q hq] at y
          rw [hreg v hv2]
          exact ⟨hv, vp_in_nI (by omega) (by omega), vp_in_nI (by omega) (by omega), hnext (i + 1) _ _ (by simp [st1, y]) (s11 _ _) (hR1.set _ _) (by omega) (by omega) (by show S.2.2.2.1 + _ ≤ 60; omega)⟩
        · rw [hreg q hq] at y
          rw [hreg u hu]
          exact ⟨vp_in_nI (by omega) (by omega), vp_in_nI (by omega) (by omega), hnext (i + 1) _ _ (by simp [st1, y]) (s11 _ _) (hR1.set _ _) (by omega) (by omega) (by show S.2.2.2.1 + _ ≤ 60; omega)⟩
      · obtain rfl : c = 14 := (cv 14 (by omega)).mp z
        obtain ⟨r, hr, rfl⟩ := k1 (by omega)
        obtain ⟨q, hq, rfl⟩ := k4 (by omega)
        refine ⟨vp_in_nI (by omega) (by omega), hv, ?_⟩
        rw [hreg q hq]
        refine s_place (fun y => ⟨vp_wd y, vp_in_nI (by omega) (by omega), ?_⟩) (fun y => ?_)
        · obtain ⟨w, hw, ew⟩ := vp_in_of (vp_wd y) (by omega)
          rw [hR1.2.1 _ (by rw [ew, nI_clamp (by omega)]; exact hw)]
          exact hnext (i + 1) _ _ (by simp only [st1]; rw [if_neg (by omega), if_neg (by omega), if_neg (by omega), if_pos trivial, if_pos y]) (s11 _ _) (hR1.set _ _) (by omega) (by omega) (by show S.2.2.2.1 + _ ≤ 60; omega)
        · exact hstop 1 _ (by simp only [st1]; rw [if_neg (by omega), if_neg (by omega), if_neg (by omega), if_pos trivial, if_neg y]) ((hF1.up (by unfold SX; omega)).up (by unfold SX; omega)) ((hR1.e4 _ _).e4 _ _) (by simp [up_at]; rfl) (by simp [up_at])
      · obtain rfl : c = 15 := (cv 15 (by omega)).mp z
        obtain ⟨r, hr, rfl⟩ := k1 (by omega)
        obtain ⟨q, hq, rfl⟩ := k4 (by omega)
        refine ⟨vp_in_nI (by omega) (by omega), hv, ?_⟩
        rw [hreg r hr]
        refine s_place (fun y => ⟨vp_in_nI (by omega) (by omega), vp_wd y, ?_⟩) (fun y => ?_)
        · rw [hreg1 q hq]
          exact hnext (i + 1) _ _ (by simp only [st1]; rw [if_neg (by omega), if_neg (by omega), if_neg (by omega), if_neg (by omega), if_pos trivial, if_pos y]) (hF1.up (by unfold SX; omega)) (hR1.kp _ _) (by omega) (by omega) (by show S.2.2.2.1 + _ ≤ 60; omega)
        · exact hstop 1 _ (by simp only [st1]; rw [if_neg (by omega), if_neg (by omega), if_neg (by omega), if_neg (by omega), if_pos trivial, if_neg y]) ((hF1.up (by unfold SX; omega)).up (by unfold SX; omega)) ((hR1.e4 _ _).e4 _ _) (by simp [up_at]; rfl) (by simp [up_at])
      · obtain rfl : c = 16 := (cv 16 (by omega)).mp z
        obtain ⟨t, h1, h2, rfl⟩ := k2 rfl
        have := tls_le cd (i := i) (j := t) (by omega)
        exact hnext t _ _ (by simp [st1]; rw [nI_clamp (by omega)]) hF1 hR1 (by omega) (by omega) (by show S.2.2.2.1 + _ ≤ 60; omega)
      · obtain rfl : c = 17 := (cv 17 (by omega)).mp z
        obtain ⟨r, hr, rfl⟩ := k1 (by omega)
        obtain ⟨t, h1, h2, rfl⟩ := k3 rfl
        have := tls_le cd (i := i) (j := t) (by omega)
        refine ⟨vp_in_nI (by omega) (by omega), fun y => ?_, fun y => ?_⟩
        · rw [hreg r hr] at y
          exact hnext (i + 1) _ _ (by simp [st1, y]) hF1 hR1 (by omega) (by omega) (by show S.2.2.2.1 + _ ≤ 60; omega)
        · rw [hreg r hr] at y
          exact hnext t _ _ (by simp [st1, y]; rw [nI_clamp (by omega)]) hF1 hR1 (by omega) (by omega) (by show S.2.2.2.1 + _ ≤ 60; omega)
      · obtain rfl : c = 18 := (cv 18 (by omega)).mp z
        obtain ⟨r, hr, rfl⟩ := k1 (by omega)
        have ht2 := tls_at hp rfl
        have e23 : (up σ 0 25 (σ 0 25 + 1)) 0 23 = nI S.2.2.2.1 := hR1.2.2.2.1
        refine ⟨vp_in_nI (by omega) (by omega), ?_⟩
        unfold w_x_tell_I
        refine ⟨by rw [e23]; exact vp_in_nI (by omega) (by omega), ?_⟩
        rw [hreg r hr]
        exact hnext (i + 1) _ _ (by simp [st1]) ((hF1.up (by unfold SX; omega)).up (by unfold SX; omega)) (hR1.tel _ (by show S.2.2.2.1 < 60; omega)) (by omega) (by omega) (by show S.2.2.2.1 + 1 + _ ≤ 60; omega)
      · have n0 : ¬ c = 0 := fun y => z0 ((cv 0 (by omega)).mpr y)
        have n1 : ¬ c = 1 := fun y => z1 ((cv 1 (by omega)).mpr y)
        have n13 : ¬ c = 13 := fun y => z13 ((cv 13 (by omega)).mpr y)
        have n14 : ¬ c = 14 := fun y => z14 ((cv 14 (by omega)).mpr y)
        have n15 : ¬ c = 15 := fun y => z15 ((cv 15 (by omega)).mpr y)
        have n16 : ¬ c = 16 := fun y => z16 ((cv 16 (by omega)).mpr y)
        have n17 : ¬ c = 17 := fun y => z17 ((cv 17 (by omega)).mpr y)
        have n18 : ¬ c = 18 := fun y => z18 ((cv 18 (by omega)).mpr y)
        have hc2 : 2 ≤ c ∧ c ≤ 12 := by clear k1 k2 k3 k4 k5 k6; omega
        obtain ⟨r, hr, rfl⟩ := k1 n16
        obtain ⟨q, hq, rfl⟩ := k4 ⟨Nat.le_trans (by decide) hc2.1, Nat.le_trans hc2.2 (by decide)⟩
        obtain ⟨u, hu, rfl⟩ := k5 ⟨hc2.1, Nat.le_trans hc2.2 (by decide)⟩
        clear k1 k2 k3 k4 k5 k6
        refine ⟨hv, vp_in_nI (by omega) (by omega), vp_in_nI (by omega) (by omega), hv, ?_⟩
        rw [hreg q hq, hreg u hu]
        refine s_reckon hc2 (fun y => ?_) (fun y => ⟨vp_in_nI (by omega) (by omega), ?_⟩)
        · unfold dv at y
          exact hstop 0 _ (by simp only [st1]; rw [if_neg n0, if_neg n1, if_neg n13, if_neg n14, if_neg n15, if_neg n16, if_neg n17, if_neg n18, if_pos y]) ((hF1.up (by unfold SX; omega)).up (by unfold SX; omega)) ((hR1.e4 _ _).e4 _ _) (by simp [up_at]; rfl) (by simp [up_at])
        · unfold dv at y
          exact hnext (i + 1) _ _ (by simp only [st1]; rw [if_neg n0, if_neg n1, if_neg n13, if_neg n14, if_neg n15, if_neg n16, if_neg n17, if_neg n18, if_neg y]) (s11 _ _) (hR1.set _ _) (by omega) (by omega) (by show S.2.2.2.1 + _ ≤ 60; omega)
    · have hn : cd[i]? = none := List.getElem?_eq_none (by omega)
      have hrun : runF cd (f + 1) i S = (S, 0, 0) := by rw [runF]; simp only [hn]
      rw [hrun] at hQ
      unfold w_x_runAll_2
      refine ⟨fun _ => hQ σ Fr.rf hR rfl, fun z => absurd (by rw [hC.1]; exact nI_le (by omega) (by omega)) z⟩

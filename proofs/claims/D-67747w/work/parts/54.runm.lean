/-! the model's run -/
theorem MR.dn {σ : Sg} {S : RS} (h : MR σ S) : MR (up σ 58 41 (σ 58 41 + 1)) (dnR S) := by
  obtain ⟨h1, h2, h3, h4, h5⟩ := h
  refine ⟨fun r hr => ?_, fun r hr => ?_, fun r hr => ?_, ?_, ?_⟩ <;> simp [up_at, dnR, *]
theorem MR.set {σ : Sg} {S : RS} (h : MR σ S) (r : Nat) (v : Int32) : MR (up σ 85 r v) (setR S r v) := by
  obtain ⟨h1, h2, h3, h4, h5⟩ := h
  refine ⟨fun q hq => ?_, fun r hr => ?_, fun r hr => ?_, ?_, ?_⟩ <;> simp [up_at, setR, *]
  simp only [upd]
theorem MR.kp {σ : Sg} {S : RS} (h : MR σ S) (r : Nat) (v : Int32) : MR (up σ 83 r v) (setK S r v) := by
  obtain ⟨h1, h2, h3, h4, h5⟩ := h
  refine ⟨fun q hq => ?_, fun r hr => ?_, fun r hr => ?_, ?_, ?_⟩ <;> simp [up_at, setK, *]
  simp only [upd]
theorem MR.tel {σ : Sg} {S : RS} (h : MR σ S) (v : Int32) (hm : S.2.2.2.1 < 60) : MR (up (up σ 84 (σ 58 39).toNatClampNeg v) 58 39 (σ 58 39 + 1)) (telR S v) := by
  obtain ⟨h1, h2, h3, h4, h5⟩ := h
  refine ⟨fun q hq => ?_, fun r hr => ?_, fun r hr => ?_, ?_, ?_⟩ <;> simp [up_at, telR, *]
  · rw [nI_clamp (by omega)]
    simp only [upd]
  · rw [nI_1]
theorem MR.e58 {σ : Sg} {S : RS} (h : MR σ S) {j : Nat} (hj : j = 40 ∨ j = 42) (v : Int32) : MR (up σ 58 j v) S := by
  obtain ⟨h1, h2, h3, h4, h5⟩ := h
  rcases hj with rfl | rfl <;> refine ⟨fun q hq => ?_, fun r hr => ?_, fun r hr => ?_, ?_, ?_⟩ <;> simp [up_at, *]
def SM (c j : Nat) : Prop := c = 83 ∨ c = 84 ∨ c = 85 ∨ (c = 58 ∧ (j = 39 ∨ j = 40 ∨ j = 41 ∨ j = 42))
def SM0 (c j : Nat) : Prop := c = 83 ∨ c = 84 ∨ c = 85 ∨ (c = 58 ∧ (j = 39 ∨ j = 41))
theorem Fr.sm0 {σ τ : Sg} (h : Fr SM0 σ τ) : Fr SM σ τ := h.mono (fun c j => by unfold SM0 SM; omega)
theorem MC.fr {S : Nat → Nat → Prop} {σ τ : Sg} {cd : List Ps} (h : MC σ cd) (f : Fr S σ τ) (hs : ¬ S 58 20 ∧ (∀ i, ¬ S 70 i)) : MC τ cd := by
  refine ⟨by rw [f 58 20 hs.1]; exact h.1, fun i p hp => ?_⟩
  rw [f 70 _ (hs.2 _), f 70 _ (hs.2 _), f 70 _ (hs.2 _), f 70 _ (hs.2 _), f 70 _ (hs.2 _), f 70 _ (hs.2 _)]
  exact h.2 i p hp
theorem MC.sm {σ τ : Sg} {cd : List Ps} (h : MC σ cd) (f : Fr SM σ τ) : MC τ cd := h.fr f (by unfold SM; exact ⟨by omega, fun i => by omega⟩)
theorem s_isWord {x s : Int32} {σ : Sg} {Q : Int32 → Sg → Prop} (h1 : 0 ≤ x.toInt ∧ x.toInt ≤ 31 → Q 1 σ) (h2 : ¬ (0 ≤ x.toInt ∧ x.toInt ≤ 31) → Q 0 (up (up σ 58 42 2) 58 40 s)) : w_m_isWord x s σ Q := by
  unfold w_m_isWord w_m_isWord_20 w_m_stop
  refine s_isIn ?_
  rw [in_wd]
  by_cases h : 0 ≤ x.toInt ∧ x.toInt ≤ 31
  · rw [decide_eq_true h]; exact ⟨fun _ => ⟨bz_1, h1 h⟩, fun z => absurd z (by decide)⟩
  · rw [decide_eq_false h]; exact ⟨fun z => absurd rfl z, fun _ => ⟨bz_0, h2 h⟩⟩
theorem pk_6 (i k : Nat) : 6 * nI i + nI k = nI (6 * i + k) := by
  rw [show (6 : Int32) = nI 6 from rfl, pk_mul, nI_add]
theorem pk_60 (i : Nat) : 6 * nI i = nI (6 * i) := by
  rw [show (6 : Int32) = nI 6 from rfl, pk_mul]
/-- where a step goes on -/
theorem st1_next {len rg i : Nat} {p : Ps} {S S' : RS} {j : Nat} (ok : okS len rg i p) (hs : st1 p i S = (S', 0, j)) (hlt : i < len) (hlen : len ≤ 3000) : i < j ∧ j ≤ len ∧ (S'.2.2.2.1 = S.2.2.2.1 ∨ (p.1 = 18 ∧ j = i + 1 ∧ S'.2.2.2.1 = S.2.2.2.1 + 1)) := by
  obtain ⟨c, a, b, d, e, o⟩ := p
  obtain ⟨k0, k1, k2, k3, k4, k5, k6, k7⟩ := ok
  simp only at k0 k2 k3
  clear k1 k4 k5 k6 k7
  simp only [st1] at hs
  split at hs
  · cases hs; exact ⟨by omega, by omega, Or.inl rfl⟩
  split at hs
  · cases hs; exact ⟨by omega, by omega, Or.inl rfl⟩
  split at hs
  · cases hs; exact ⟨by omega, by omega, Or.inl rfl⟩
  split at hs
  · split at hs
    · cases hs; exact ⟨by omega, by omega, Or.inl rfl⟩
    · cases hs
  split at hs
  · split at hs
    · cases hs; exact ⟨by omega, by omega, Or.inl rfl⟩
    · cases hs
  split at hs
  · next h => obtain ⟨t, h1, h2, rfl⟩ := k2 h; cases hs; rw [nI_clamp (by omega)]; exact ⟨h1, h2, Or.inl rfl⟩
  split at hs
  · next h =>
      obtain ⟨t, h1, h2, rfl⟩ := k3 h
      cases hs
      refine ⟨?_, ?_, Or.inl rfl⟩ <;> split <;> (try rw [nI_clamp (by omega)]) <;> omega
  split at hs
  · next h => cases hs; exact ⟨by omega, by omega, Or.inr ⟨h, rfl, rfl⟩⟩
  split at hs
  · cases hs
  · cases hs; exact ⟨by omega, by omega, Or.inl rfl⟩
theorem s_doStep {cd : List Ps} {rg : Nat} (hlen : cd.length ≤ 3000) (hrg : rg ≤ 3016) {i : Nat} {c : Nat} {a b d e : Int32} {o : Nat} (hp : cd[i]? = some (c, a, b, d, e, o)) (ok : okS cd.length rg i (c, a, b, d, e, o)) {S : RS} {σ : Sg} (hC : MC σ cd) (hR : MR σ S) (h42 : σ 58 42 = 0) (hom : c = 18 → S.2.2.2.1 < 60) {Q : Int32 → Sg → Prop}
    (hnext : ∀ (j : Nat) (S' : RS) (τ : Sg), st1 (c, a, b, d, e, o) i S = (S', 0, j) → Fr SM0 σ τ → MR τ S' → τ 58 42 = 0 → Q (nI j) τ) (hstop : ∀ (h : Nat) (τ : Sg) (x : Int32), st1 (c, a, b, d, e, o) i S = (S, h + 1, 0) → Fr SM σ τ → MR τ S → τ 58 42 = nI (h + 1) → τ 58 40 = nI o → Q x τ) : w_m_doStep (nI i) σ Q := by
  obtain ⟨g0, g1, g2, g3, g4, g5⟩ := hC.2 i _ hp
  simp only at g0 g1 g2 g3 g4 g5
  have hlt : i < cd.length := (List.getElem?_eq_some_iff.mp hp).1
  obtain ⟨k0, k1, k2, k3, k4, k5, k6, k7⟩ := ok
  simp only at k0 k1 k2 k3 k4 k5 k6 k7
  have q0 : ∀ k, k < 6 → (nI (6 * i + k)).toNatClampNeg = 6 * i + k := fun k hk => nI_clamp (by omega)
  have q1 : ∀ k, k < 6 → vp_in (nI (6 * i + k)) 24000 := fun k hk => vp_in_nI (by omega) (by omega)
  have v0 : vp_in (nI (6 * i)) 24000 := q1 0 (by omega)
  have e0 : (nI (6 * i)).toNatClampNeg = 6 * i := q0 0 (by omega)
  have l1 : (1 : Int32) = nI 1 := rfl
  have l2 : (2 : Int32) = nI 2 := rfl
  have l3 : (3 : Int32) = nI 3 := rfl
  have l4 : (4 : Int32) = nI 4 := rfl
  have l5 : (5 : Int32) = nI 5 := rfl
  unfold w_m_doStep w_m_doStep_209 w_m_doStep_329 w_m_doStep_421 w_m_doStep_422
  simp only [forall_eq, pk_60]
  have cv : ∀ k, k < 100 → (nI c = nI k ↔ c = k) := fun k hk => nI_eq (by omega) (by omega)
  have hreg : ∀ q, q < rg → σ 85 (nI q).toNatClampNeg = S.1 (nI q).toNatClampNeg := fun q hq => by rw [nI_clamp (by omega)]; exact hR.1 q (by omega)
  have s85 : ∀ q v, Fr SM0 σ (up σ 85 q v) := fun q v => Fr.rf.up (by unfold SM0; omega)
  have a1 : nI (6 * i) + 1 = nI (6 * i + 1) := nI_add _ 1
  have a2 : nI (6 * i) + 2 = nI (6 * i + 2) := nI_add _ 2
  have a3 : nI (6 * i) + 3 = nI (6 * i + 3) := nI_add _ 3
  have a4 : nI (6 * i) + 4 = nI (6 * i + 4) := nI_add _ 4
  have a5 : nI (6 * i) + 5 = nI (6 * i + 5) := nI_add _ 5
  simp only [a1, a2, a3, a4, a5, q0 1 (by omega), q0 2 (by omega), q0 3 (by omega), q0 4 (by omega), q0 5 (by omega), e0, g0, g1, g2, g3, g4, g5, nI_1]
  refine ⟨q1 1 (by omega), q1 5 (by omega), v0, ?_⟩
  refine ⟨fun z => ?_, fun z0 => ⟨fun z => ?_, fun z1 => ⟨fun z => ?_, fun z13 => ⟨fun z => ?_, fun z14 => ⟨fun z => ?_, fun z15 => ⟨fun z => ?_, fun z16 => ⟨fun z => ?_, fun z17 => ⟨fun z => ?_, fun z18 => ?_⟩⟩⟩⟩⟩⟩⟩⟩
  · obtain rfl : c = 0 := (cv 0 (by omega)).mp z
    obtain ⟨r, hr, rfl⟩ := k1 (by omega)
    exact ⟨q1 2 (by omega), vp_in_nI (by omega) (by omega), hnext (i + 1) _ _ (by simp [st1]) (s85 _ _) (hR.set _ _) (by simp [up_at, h42])⟩
  · obtain rfl : c = 1 := (cv 1 (by omega)).mp z
    obtain ⟨r, hr, rfl⟩ := k1 (by omega)
    obtain ⟨q, hq, rfl⟩ := k4 (by omega)
    rw [hreg q hq]
    exact ⟨q1 2 (by omega), vp_in_nI (by omega) (by omega), vp_in_nI (by omega) (by omega), hnext (i + 1) _ _ (by simp [st1]) (s85 _ _) (hR.set _ _) (by simp [up_at, h42])⟩
  · obtain rfl : c = 13 := (cv 13 (by omega)).mp z
    obtain ⟨r, hr, rfl⟩ := k1 (by omega)
    obtain ⟨q, hq, rfl⟩ := k4 (by omega)
    obtain ⟨u, hu, rfl⟩ := k5 (by omega)
    obtain ⟨v, hv2, rfl⟩ := k6 rfl
    refine ⟨q1 2 (by omega), vp_in_nI (by omega) (by omega), fun y => ?_, fun y => ?_⟩
    · rw [hreg q hq] at y
      rw [hreg v hv2]
      exact ⟨q1 4 (by omega), vp_in_nI (by omega) (by omega), vp_in_nI (by omega) (by omega), hnext (i + 1) _ _ (by simp [st1, y]) (s85 _ _) (hR.set _ _) (by simp [up_at, h42])⟩
    · rw [hreg q hq] at y
      rw [hreg u hu]
      exact ⟨q1 3 (by omega), vp_in_nI (by omega) (by omega), vp_in_nI (by omega) (by omega), hnext (i + 1) _ _ (by simp [st1, y]) (s85 _ _) (hR.set _ _) (by simp [up_at, h42])⟩
  · obtain rfl : c = 14 := (cv 14 (by omega)).mp z
    obtain ⟨r, hr, rfl⟩ := k1 (by omega)
    obtain ⟨q, hq, rfl⟩ := k4 (by omega)
    refine ⟨q1 2 (by omega), vp_in_nI (by omega) (by omega), ?_⟩
    rw [hreg q hq]
    refine s_isWord (fun y => ⟨fun z => absurd z (by decide), fun _ => ?_⟩) (fun y => ⟨fun _ => ?_, fun z => absurd rfl z⟩)
    · simp only [g2]
      obtain ⟨w, hw, ew⟩ := vp_in_of (vp_wd y) (by omega)
      rw [hreg q hq, hR.2.1 _ (by rw [ew, nI_clamp (by omega)]; exact hw)]
      exact ⟨q1 2 (by omega), vp_in_nI (by omega) (by omega), vp_wd y, vp_in_nI (by omega) (by omega), hnext (i + 1) _ _ (by simp only [st1]; rw [if_neg (by omega), if_neg (by omega), if_neg (by omega), if_pos trivial, if_pos y]) (s85 _ _) (hR.set _ _) (by simp [up_at, h42])⟩
    · exact hstop 1 _ _ (by simp only [st1]; rw [if_neg (by omega), if_neg (by omega), if_neg (by omega), if_pos trivial, if_neg y]) ((Fr.rf.up (by unfold SM; omega)).up (by unfold SM; omega)) ((hR.e58 (by omega) _).e58 (by omega) _) (by simp [up_at]; rfl) (by simp [up_at])
  · obtain rfl : c = 15 := (cv 15 (by omega)).mp z
    obtain ⟨r, hr, rfl⟩ := k1 (by omega)
    obtain ⟨q, hq, rfl⟩ := k4 (by omega)
    refine ⟨vp_in_nI (by omega) (by omega), ?_⟩
    rw [hreg r hr]
    refine s_isWord (fun y => ⟨fun z => absurd z (by decide), fun _ => ?_⟩) (fun y => ⟨fun _ => ?_, fun z => absurd rfl z⟩)
    · simp only [g2]
      rw [hreg q hq, hreg r hr]
      exact ⟨vp_in_nI (by omega) (by omega), q1 2 (by omega), vp_in_nI (by omega) (by omega), vp_wd y, hnext (i + 1) _ _ (by simp only [st1]; rw [if_neg (by omega), if_neg (by omega), if_neg (by omega), if_neg (by omega), if_pos trivial, if_pos y]) (Fr.rf.up (by unfold SM0; omega)) (hR.kp _ _) (by simp [up_at, h42])⟩
    · exact hstop 1 _ _ (by simp only [st1]; rw [if_neg (by omega), if_neg (by omega), if_neg (by omega), if_neg (by omega), if_pos trivial, if_neg y]) ((Fr.rf.up (by unfold SM; omega)).up (by unfold SM; omega)) ((hR.e58 (by omega) _).e58 (by omega) _) (by simp [up_at]; rfl) (by simp [up_at])
  · obtain rfl : c = 16 := (cv 16 (by omega)).mp z
    obtain ⟨t, h1, h2, rfl⟩ := k2 rfl
    exact hnext t _ _ (by simp [st1]; rw [nI_clamp (by omega)]) Fr.rf hR h42
  · obtain rfl : c = 17 := (cv 17 (by omega)).mp z
    obtain ⟨r, hr, rfl⟩ := k1 (by omega)
    obtain ⟨t, h1, h2, rfl⟩ := k3 rfl
    refine ⟨vp_in_nI (by omega) (by omega), fun y => ?_, fun y => ?_⟩
    · rw [hreg r hr] at y
      exact hnext (i + 1) _ _ (by simp [st1, y]) Fr.rf hR h42
    · rw [hreg r hr] at y
      exact ⟨q1 2 (by omega), hnext t _ _ (by simp [st1, y]; rw [nI_clamp (by omega)]) Fr.rf hR h42⟩
  · obtain rfl : c = 18 := (cv 18 (by omega)).mp z
    obtain ⟨r, hr, rfl⟩ := k1 (by omega)
    have hm := hom rfl
    rw [hreg r hr]
    refine ⟨vp_in_nI (by omega) (by omega), by rw [hR.2.2.2.1]; exact vp_in_nI (by omega) (by omega), ?_⟩
    exact hnext (i + 1) _ _ (by simp [st1]) ((Fr.rf.up (by unfold SM0; omega)).up (by unfold SM0; omega)) (hR.tel _ hm) (by simp [up_at, h42])
  · have n0 : ¬ c = 0 := fun y => z0 ((cv 0 (by omega)).mpr y)
    have n1 : ¬ c = 1 := fun y => z1 ((cv 1 (by omega)).mpr y)
    have n13 : ¬ c = 13 := fun y => z13 ((cv 13 (by omega)).mpr y)
    have n14 : ¬ c = 14 := fun y => z14 ((cv 14 (by omega)).mpr y)
    have n15 : ¬ c = 15 := fun y => z15 ((cv 15 (by omega)).mpr y)
    have n16 : ¬ c = 16 := fun y => z16 ((cv 16 (by omega)).mpr y)
    have n17 : ¬ c = 17 := fun y => z17 ((cv 17 (by omega)).mpr y)
    have n18 : ¬ c = 18 := fun y => z18 ((cv 18 (by omega)).mpr y)
    have hc2 : 2 ≤ c ∧ c ≤ 12 := by clear k1 k2 k3 k4 k5 k6; omega
    obtain ⟨r, hr, rfl⟩ := k1 n16
    obtain ⟨q, hq, rfl⟩ := k4 ⟨Nat.le_trans (by decide) hc2.1, Nat.le_trans hc2.2 (by decide)⟩
    obtain ⟨u, hu, rfl⟩ := k5 ⟨hc2.1, Nat.le_trans hc2.2 (by decide)⟩
    clear k1 k2 k3 k4 k5 k6
    refine ⟨v0, q1 2 (by omega), vp_in_nI (by omega) (by omega), q1 3 (by omega), vp_in_nI (by omega) (by omega), ?_⟩
    rw [hreg q hq, hreg u hu]
    refine s_reach hc2 (fun y => ⟨fun _ => ⟨vp_in_nI (by omega) (by omega), ?_⟩, fun z => absurd z (by simp [up_at])⟩) (fun y => ⟨fun z => absurd h42 z, fun _ => ⟨vp_in_nI (by omega) (by omega), ?_⟩⟩)
    · unfold dv at y
      refine ⟨vp_in_nI (by omega) (by omega), ?_⟩
      have hv : up (up σ 58 42 1) 58 40 (nI o) 85 (nI r).toNatClampNeg = S.1 (nI r).toNatClampNeg := by simp [up_at]; exact hreg r hr
      rw [hv]
      refine hstop 0 _ _ (by simp only [st1]; rw [if_neg n0, if_neg n1, if_neg n13, if_neg n14, if_neg n15, if_neg n16, if_neg n17, if_neg n18, if_pos y]) ((((Fr.rf (S := SM)).up (by unfold SM; omega)).up (by unfold SM; omega)).up (by unfold SM; omega)) ?_ (by simp [up_at]; rfl) (by simp [up_at])
      have h2 := ((hR.e58 (j := 42) (by omega) 1).e58 (j := 40) (by omega) (nI o)).set (nI r).toNatClampNeg (S.1 (nI r).toNatClampNeg)
      have h3 : setR S (nI r).toNatClampNeg (S.1 (nI r).toNatClampNeg) = S := by
        unfold setR
        have : upd S.1 (nI r).toNatClampNeg (S.1 (nI r).toNatClampNeg) = S.1 := by
          funext j; unfold upd; split
          · next h => rw [h]
          · rfl
        rw [this]
      rw [h3] at h2
      exact h2
    · unfold dv at y
      exact hnext (i + 1) _ _ (by simp only [st1]; rw [if_neg n0, if_neg n1, if_neg n13, if_neg n14, if_neg n15, if_neg n16, if_neg n17, if_neg n18, if_neg y]) (s85 _ _) (hR.set _ _) (by simp [up_at, h42])
theorem st1_how {p : Ps} {i h : Nat} {S S' : RS} {j : Nat} (hs : st1 p i S = (S', h + 1, j)) : h + 1 = 1 ∨ h + 1 = 2 := by
  simp only [st1] at hs
  repeat' split at hs
  all_goals (cases hs)
  all_goals omega
/-- the model's run -/
theorem s_runM {cd : List Ps} {rg : Nat} (hlen : cd.length ≤ 3000) (hrg : rg ≤ 3016) (hok : ∀ i p, cd[i]? = some p → okS cd.length rg i p) {Q : Int32 → Sg → Prop} : ∀ (f i : Nat) (S : RS) (σ : Sg), MC σ cd → MR σ S → σ 58 42 = 0 → i ≤ cd.length → cd.length - i < f → S.2.2.2.1 + tls cd i ≤ 60 →
    (∀ τ, Fr SM σ τ → MR τ (runF cd f i S).1 → τ 58 42 = nI (runF cd f i S).2.1 → ((runF cd f i S).2.1 = 0 → τ 58 40 = σ 58 40) → (¬ (runF cd f i S).2.1 = 0 → τ 58 40 = nI (runF cd f i S).2.2) → w_m_run_54 Q τ) → w_m_run_20 Q (f + 1) (nI i) σ := by
  intro f
  induction f with
  | zero => intro i S σ _ _ _ _ h; omega
  | succ f ih =>
    intro i S σ hC hR h42 hi hf ht hQ
    by_cases hlt : i < cd.length
    · have hp : cd[i]? = some cd[i] := List.getElem?_eq_getElem hlt
      generalize cd[i] = p at hp
      obtain ⟨c, a, b, d, e, o⟩ := p
      have ok := hok i _ hp
      have hrun : runF cd (f + 1) i S = if (st1 (c, a, b, d, e, o) i (dnR S)).2.1 = 0 then runF cd f (st1 (c, a, b, d, e, o) i (dnR S)).2.2 (st1 (c, a, b, d, e, o) i (dnR S)).1 else ((st1 (c, a, b, d, e, o) i (dnR S)).1, (st1 (c, a, b, d, e, o) i (dnR S)).2.1, o) := by
        rw [runF]; simp only [hp]
      rw [hrun] at hQ
      unfold w_m_run_20
      refine ⟨fun z => absurd z (by rw [hC.1]; exact nI_ge hlt (by omega)), fun _ => ⟨fun z => absurd h42 z, fun _ => ?_⟩⟩
      have hF1 : Fr SM σ (up σ 58 41 (σ 58 41 + 1)) := Fr.rf.up (by unfold SM; omega)
      refine s_doStep hlen hrg hp ok (hC.sm hF1) hR.dn (by simp [up_at, h42]) (fun hc => ?_) (fun j S' τ hs hF hR' h0 => ?_) (fun h τ x hs hF hR' h1 h2 => ?_)
      · have := tls_at hp hc
        show S.2.2.2.1 < 60
        omega
      · rw [hs] at hQ
        simp only [if_true] at hQ
        obtain ⟨hj1, hj2, hj3⟩ := st1_next ok hs hlt hlen
        have h40 : τ 58 40 = σ 58 40 := (hF 58 40 (by unfold SM0; omega)).trans (by simp [up_at])
        have htl := tls_le cd (i := i) (j := j) (by omega)
        refine ih j S' τ ((hC.sm hF1).sm hF.sm0) hR' h0 (by omega) (by omega) ?_ (fun υ hυ r1 r2 r3 r4 => hQ υ ((hF1.tr hF.sm0).tr hυ) r1 r2 (fun z => (r3 z).trans h40) r4)
        rcases hj3 with hj3 | ⟨hc, rfl, hj3⟩
        · rw [hj3]; show S.2.2.2.1 + _ ≤ 60; omega
        · have := tls_at hp hc
          rw [hj3]; show S.2.2.2.1 + 1 + _ ≤ 60; omega
      · rw [hs] at hQ
        rw [if_neg (by simp)] at hQ
        have hz := hQ τ (hF1.tr hF) hR' h1 (fun z => absurd z (by simp)) (fun _ => h2)
        unfold w_m_run_20
        exact ⟨fun _ => hz, fun _ => ⟨fun _ => hz, fun z => absurd z (by rw [h1]; intro q; rcases st1_how hs with e | e <;> rw [e] at q <;> exact absurd q (by decide))⟩⟩
    · have hn : cd[i]? = none := List.getElem?_eq_none (by omega)
      have hrun : runF cd (f + 1) i S = (S, 0, 0) := by rw [runF]; simp only [hn]
      rw [hrun] at hQ
      unfold w_m_run_20
      refine ⟨fun _ => hQ σ Fr.rf hR h42 (fun _ => rfl) (fun z => absurd rfl z), fun z => absurd (by rw [hC.1]; exact nI_le (by omega) (by omega)) z⟩

/-! ## feed -/
def bx9 (v : Int64) (k : Nat) : Int32 := (((v >>> ((8 * nI k).toInt64 &&& 63)).toInt32).toInt8.toInt32).toInt8.toInt32
def mx9 (v : Int64) (k : Nat) : Int32 := ((v >>> ((8 * nI k).toInt64 &&& 63)) &&& 255).toInt32
theorem by_all (y : Int64) : by9 ((y.toInt32).toInt8.toInt32).toInt8.toInt32 ((y &&& 255).toInt32) := by
  refine ⟨y.toBitVec.toNat % 256, Nat.mod_lt _ (by decide), ?_, ?_⟩
  · apply Int32.toInt_inj.mp
    have hk : y.toBitVec.toNat % 256 < 256 := Nat.mod_lt _ (by decide)
    rw [nI_toInt (by omega), Int64.toInt_toInt32]
    have e : (y &&& 255).toInt = ((y.toBitVec.toNat % 256 : Nat) : Int) := by
      show (y &&& 255).toBitVec.toInt = _
      rw [Int64.toBitVec_and, BitVec.toInt_eq_toNat_cond, BitVec.toNat_and]
      have e2 : (255 : Int64).toBitVec.toNat = 2 ^ 8 - 1 := by decide
      rw [e2, Nat.and_two_pow_sub_one_eq_mod]
      rw [if_pos (by omega)]
    rw [e]
    rw [Int.bmod_eq_of_le] <;> omega
  · have hk : y.toBitVec.toNat % 256 < 256 := Nat.mod_lt _ (by decide)
    have e0 : y.toInt % 256 = ((y.toBitVec.toNat % 256 : Nat) : Int) := by
      show y.toBitVec.toInt % 256 = _
      rw [BitVec.toInt_eq_toNat_cond]
      split <;> omega
    apply Int32.toInt_inj.mp
    rw [Int8.toInt_toInt32, Int32.toInt_toInt8, Int8.toInt_toInt32, Int32.toInt_toInt8, Int64.toInt_toInt32]
    rw [Int.bmod_bmod_of_dvd (by decide), Int.bmod_bmod_of_dvd (by decide)]
    rw [Int.bmod_def]
    split
    · rename_i h
      have h' : y.toBitVec.toNat % 256 < 128 := by omega
      rw [if_pos h', nI_toInt (by omega)]
      omega
    · rename_i h
      have h' : ¬ y.toBitVec.toNat % 256 < 128 := by omega
      rw [if_neg h', show (256 : Int32) = nI 256 from rfl, pk_sub_toInt (by omega) (by omega)]
      omega
def SFx (c j : Nat) : Prop := c = 5 ∨ (c = 0 ∧ j = 4)
def SFm (c j : Nat) : Prop := c = 61 ∨ (c = 58 ∧ j = 4)
theorem s_feedX {v : Int64} {Q : Int32 → Sg → Prop} {E : Nat → Sg → Prop} : ∀ (k z : Nat) (σ : Sg), σ 0 4 = nI z → z + k ≤ 600 → (∀ τ, Fr SFx σ τ → τ 0 4 = nI (z + k) → (∀ i, i < z → τ 5 i = σ 5 i) → (∀ i, i < k → τ 5 (z + i) = bx9 v (k - 1 - i)) → Q (nI (z + k)) τ) → w_x_feed_37 Q E (k + 1) v (nI k - 1) σ := by
  intro k
  induction k with
  | zero =>
    intro z σ hz hk hQ
    unfold w_x_feed_37
    refine ⟨fun _ => by rw [hz]; exact hQ σ Fr.rf hz (fun _ _ => rfl) (fun i hi => by omega), fun q => absurd (by decide) q⟩
  | succ k ih =>
    intro z σ hz hk hQ
    unfold w_x_feed_37
    rw [nI_pred, hz, nI_clamp (by omega), nI_1]
    refine ⟨fun q => absurd q (nI_pos (by omega)), fun _ => ⟨vp_in_nI (by omega) (by omega), ?_⟩⟩
    intro x1 e1
    have e1' : x1 = nI k - 1 := by rw [e1, Int32.sub_eq_add_neg]
    subst e1'
    refine ih (z + 1) _ (by simp [up_at]) (by omega) (fun τ hF h4 h5 h6 => ?_)
    have hF1 : Fr SFx σ (up (up σ 0 4 (nI (z + 1))) 5 z (bx9 v k)) := (Fr.rf.up (by unfold SFx; omega)).up (by unfold SFx; omega)
    rw [show z + 1 + k = z + (k + 1) by omega]
    rw [show z + 1 + k = z + (k + 1) by omega] at h4
    refine hQ τ (hF1.tr hF) h4 (fun i hi => ?_) (fun i hi => ?_)
    · rw [h5 i (by omega)]; simp [up_at]; omega
    · cases i with
      | zero => rw [Nat.add_zero, h5 z (by omega), up_at, if_pos rfl, if_pos rfl]; rfl
      | succ i => rw [show z + (i + 1) = z + 1 + i by omega, h6 i (by omega)]; congr 1; omega
theorem s_feedM {v : Int64} {Q : Int32 → Sg → Prop} : ∀ (k z : Nat) (σ : Sg), σ 58 4 = nI z → z + k ≤ 600 → (∀ τ, Fr SFm σ τ → τ 58 4 = nI (z + k) → (∀ i, i < z → τ 61 i = σ 61 i) → (∀ i, i < k → τ 61 (z + i) = mx9 v (k - 1 - i)) → Q (nI (z + k)) τ) → w_m_feed_40 Q (k + 1) v (nI k - 1) σ := by
  intro k
  induction k with
  | zero =>
    intro z σ hz hk hQ
    unfold w_m_feed_40
    refine ⟨fun _ => by rw [hz]; exact hQ σ Fr.rf hz (fun _ _ => rfl) (fun i hi => by omega), fun q => absurd (by decide) q⟩
  | succ k ih =>
    intro z σ hz hk hQ
    unfold w_m_feed_40
    rw [nI_pred, hz, nI_clamp (by omega), nI_1]
    refine ⟨fun q => absurd q (nI_pos (by omega)), fun _ => ⟨vp_in_nI (by omega) (by omega), ?_⟩⟩
    intro x1 e1
    have e1' : x1 = nI k - 1 := by rw [e1, Int32.sub_eq_add_neg]
    subst e1'
    refine ih (z + 1) _ (by simp [up_at]) (by omega) (fun τ hF h4 h5 h6 => ?_)
    have hF1 : Fr SFm σ (up (up σ 61 z (mx9 v k)) 58 4 (nI (z + 1))) := (Fr.rf.up (by unfold SFm; omega)).up (by unfold SFm; omega)
    rw [show z + 1 + k = z + (k + 1) by omega]
    rw [show z + 1 + k = z + (k + 1) by omega] at h4
    refine hQ τ (hF1.tr hF) h4 (fun i hi => ?_) (fun i hi => ?_)
    · rw [h5 i (by omega)]; simp [up_at]; omega
    · cases i with
      | zero => rw [Nat.add_zero, h5 z (by omega), up_at, if_neg (by decide), up_at, if_pos rfl, if_pos rfl]; rfl
      | succ i => rw [show z + (i + 1) = z + 1 + i by omega, h6 i (by omega)]; congr 1; omega
theorem win_8 (x : Int32) : (∃ j, 1 ≤ j ∧ j ≤ 8 ∧ x = nI j ∧ decide ((1 : Int64) ≤ x.toInt64 ∧ x.toInt64 ≤ 8) = true) ∨ decide ((1 : Int64) ≤ x.toInt64 ∧ x.toInt64 ≤ 8) = false := by
  by_cases h : (1 : Int64) ≤ x.toInt64 ∧ x.toInt64 ≤ 8
  · have h' := (win_iff (a := 1) (b := 8) (by decide) (by decide)).mp h
    obtain ⟨j, hj, rfl⟩ := nI_of (x := x) (by rw [Int32.lt_iff_toInt_lt]; simp; omega)
    rw [nI_toInt hj] at h'
    exact Or.inl ⟨j, by omega, by omega, rfl, decide_eq_true h⟩
  · exact Or.inr (decide_eq_false h)
theorem o_feed {v : Int64} {a : Int32} {σ : Sg} (h : Inv σ) {K : Int32 → Sg → Prop} (hK : ∀ (k : Int32) (σ2 : Sg), (∀ K2 : Int32 → Sg → Prop, (∀ b τ, An k b τ → K2 b τ) → w_m_feed v a σ2 K2) → K k σ2) : w_l_feed v a σ K := by
  have hI := h
  obtain ⟨h1, ⟨z, h2⟩, h3, ⟨n, T, h4, cd, hc, rg, ic, h5⟩, S, h6⟩ := h
  obtain ⟨t1, t2, t3, t4⟩ := h2
  unfold w_l_feed w_x_feed
  refine s_within ?_
  rcases win_8 a with ⟨j, hj1, hj8, rfl, hd⟩ | hd
  · rw [hd]
    refine ⟨fun _ => ?_, fun q => absurd q (by decide)⟩
    dsimp only
    rw [t1, nI_add, show (600 : Int32) = nI 600 from rfl, nI_ltI (by omega) (by omega)]
    unfold w_x_feed_29 w_x_wantState
    refine ⟨fun hb => ⟨fun q => absurd rfl q, fun _ => Or.inr ⟨rfl, fun _ => hK 2 σ (fun K2 hk2 => ?_)⟩⟩, fun hb => ⟨fun _ => ?_, fun q => absurd q (by decide)⟩⟩
    · unfold w_m_feed w_m_feed_27
      refine s_isIn ?_
      rw [hd, t2, nI_add, show (600 : Int32) = nI 600 from rfl, nI_ltI (by omega) (by omega)]
      refine ⟨fun _ => ?_, fun q => absurd hb q⟩
      exact s_may (fun q => absurd q (by decide)) (fun _ _ => ⟨fun q => absurd rfl q, fun _ => hk2 _ _ ⟨hI.thr 2, by simp [up_at], fun q => absurd q (by decide)⟩⟩) (fun _ q => absurd rfl q)
    · intro x2 e2
      subst e2
      refine ⟨j + 1, s_feedX j z σ t1 (by omega) (fun τ hF h4' h5' h6' => hK 0 _ (fun K2 hk2 => ?_))⟩
      have m4 : (up τ 87 0 (nI (z + j))) 58 4 = nI z := by
        simp [up_at]
        rw [hF 58 4 (by unfold SFx; omega)]; exact t2
      unfold w_m_feed w_m_feed_27
      refine s_isIn ?_
      rw [hd, m4, nI_add, show (600 : Int32) = nI 600 from rfl, nI_ltI (by omega) (by omega)]
      refine ⟨fun q => absurd q hb, fun _ => ?_⟩
      refine s_may (fun q => absurd q (by decide)) (fun _ q => absurd q (by decide)) (fun _ _ => ⟨fun _ => ?_, fun q => absurd q (by decide)⟩)
      intro x3 e3
      subst e3
      refine ⟨j + 1, s_feedM j z _ (by simp [up_at]; rw [hF 58 4 (by unfold SFx; omega)]; exact t2) (by omega) (fun υ hG g4 g5 g6 => hk2 _ _ ?_)⟩
      have q : ∀ c i, ¬ (c = 5 ∨ c = 61 ∨ c = 87 ∨ (c = 0 ∧ i = 4) ∨ (c = 58 ∧ (i = 4 ∨ i = 0))) → υ c i = σ c i := by
        intro c i hn
        rw [hG c i (by unfold SFm; omega)]
        have e : up (up τ 87 0 (nI (z + j))) 58 0 0 c i = τ c i := (ou_same τ _ 0 c i).resolve_left (by omega)
        rw [e, hF c i (by unfold SFx; omega)]
      have q5 : ∀ i, υ 5 i = τ 5 i := fun i => by rw [hG 5 i (by unfold SFm; omega)]; exact (ou_same τ _ 0 5 i).resolve_left (by omega)
      have q04 : υ 0 4 = nI (z + j) := by rw [hG 0 4 (by unfold SFm; omega)]; exact ((ou_same τ _ 0 0 4).resolve_left (by omega)).trans h4'
      have q61 : ∀ i, i < z → υ 61 i = σ 61 i := fun i hi => by
        rw [g5 i hi, (ou_same τ _ 0 61 i).resolve_left (by omega), hF 61 i (by unfold SFx; omega)]
      refine ⟨⟨h1.fr (fun c j w => q c j (by unfold fIP at w; omega)), ⟨z + j, q04, g4, by omega, fun i hi => ?_⟩, by rw [q 58 6 (by omega), q 0 6 (by omega)]; exact h3, ⟨n, T, h4.fr (fun c j w => q c j (by unfold fIX at w; omega)), cd, hc, rg, ic, h5.fr (fun c j w => q c j (by unfold fIC at w; omega))⟩, S, h6.fr (fun c j w => q c j (by unfold fIR at w; omega))⟩, ?_, fun _ => ?_⟩
      · rw [q5]
        by_cases hz : i < z
        · rw [h5' i hz, q61 i hz]; exact t4 i hz
        · obtain ⟨r, rfl⟩ := Nat.exists_eq_add_of_le (Nat.le_of_not_lt hz)
          rw [h6' r (by omega), g6 r (by omega)]
          exact by_all _
      · rw [hG 58 0 (by unfold SFm; omega)]; simp [up_at]
      · rw [hG 87 0 (by unfold SFm; omega)]; simp [up_at]
  · rw [hd]
    refine ⟨fun q => absurd rfl q, fun _ => Or.inl ⟨rfl, fun _ => hK 1 σ (fun K2 hk2 => ?_)⟩⟩
    unfold w_m_feed w_m_feed_27
    refine s_isIn ?_
    rw [hd]
    exact ⟨fun _ => s_may (fun _ => ⟨fun q => absurd rfl q, fun _ => hk2 _ _ ⟨hI.thr 1, by simp [up_at], fun q => absurd q (by decide)⟩⟩) (fun q => absurd rfl q) (fun q => absurd rfl q), fun _ => s_may (fun _ => ⟨fun q => absurd rfl q, fun _ => hk2 _ _ ⟨hI.thr 1, by simp [up_at], fun q => absurd q (by decide)⟩⟩) (fun q => absurd rfl q) (fun q => absurd rfl q)⟩

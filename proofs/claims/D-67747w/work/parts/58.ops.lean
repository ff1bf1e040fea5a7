theorem dec_t {p : Prop} (d : Decidable p) (h : decide p = true) : p := of_decide_eq_true h
theorem o_step {a w : Int32} {σ : Sg} (h : Inv σ) {K : Int32 → Sg → Prop} (hK : ∀ (k : Int32) (σ2 : Sg), (∀ K2 : Int32 → Sg → Prop, (∀ b τ, An k b τ → K2 b τ) → w_m_step a w σ2 K2) → K k σ2) : w_l_step a w σ K := by
  have hI := h
  obtain ⟨-, -, -, ⟨n, T, h4, cd, hc, rg, ic, h5⟩, -⟩ := h
  obtain ⟨c1, c2, c3, -⟩ := h5
  have hl := c3.1
  unfold w_l_step w_x_step
  refine s_within ?_
  rw [c1.1]
  have hm : ∀ v : Int32, (up σ 87 0 v) 58 20 = nI cd.length := fun v => by simp [up_at]; exact c2.1
  rcases win_n (x := a) (n := cd.length) (by omega) (pre_toInt (by omega)) with ⟨j, hj, rfl, hd⟩ | hd
  · rw [hd]
    refine ⟨fun _ => ?_, fun z => absurd z (by decide)⟩
    refine s_within ?_
    rcases win_n (x := w) (n := 6) (by omega) i5 with ⟨q, hq, rfl, hd2⟩ | hd2
    · rw [hd2]
      refine ⟨fun _ => ?_, fun z => absurd z (by decide)⟩
      obtain ⟨p, hp⟩ := cd_at hj
      have e1 := c1.2 j p hp
      have e2 := c2.2 j p hp
      have key : ∀ v : Int32, v = σ 70 (6 * j + q) → K 0 (up σ 87 0 v) := by
        intro v hv
        refine hK 0 _ (fun K2 h2 => ?_)
        unfold w_m_step
        refine s_isIn ?_
        rw [hm, hd]
        refine s_isIn ?_
        rw [hd2]
        refine s_may (fun z => absurd z (by decide)) (fun _ z => absurd z (by decide)) (fun _ _ => ⟨fun _ => ?_, fun z => absurd z (by decide)⟩)
        rw [pk_6]
        refine ⟨vp_in_nI (by omega) (by omega), h2 _ _ ⟨(hI.out _).thr 0, by simp [up_at], fun _ => ?_⟩⟩
        rw [nI_clamp (by omega)]
        simp [up_at, hv]
      have hv : vp_in (nI j) 3000 := vp_in_nI (by omega) (by omega)
      have ec : (nI j).toNatClampNeg = j := nI_clamp (by omega)
      rw [ec]
      refine ⟨fun z0 => ⟨fun z5 => ?_, fun z5 => ⟨hv, ?_⟩⟩, fun z0 => ⟨hv, ?_⟩⟩
      · have q0 : ¬ q = 0 := fun z => z0 (by rw [z]; rfl)
        have q5 : ¬ q = 5 := fun z => z5 (by rw [z]; rfl)
        obtain ⟨q, rfl⟩ := Nat.exists_eq_succ_of_ne_zero q0
        rw [show Nat.succ q = q + 1 from rfl, nI_pred, nI_clamp (by omega)]
        refine ⟨vp_in_nI (by omega) (by omega), ⟨by omega, by omega⟩, hv, key _ ?_⟩
        rcases (show q = 0 ∨ q = 1 ∨ q = 2 ∨ q = 3 by omega) with rfl | rfl | rfl | rfl
        · exact e1.2.1.trans e2.2.1.symm
        · exact e1.2.2.1.trans e2.2.2.1.symm
        · exact e1.2.2.2.1.trans e2.2.2.2.1.symm
        · exact e1.2.2.2.2.1.trans e2.2.2.2.2.1.symm
      · obtain rfl : q = 5 := (nI_eq (by omega) (by omega)).mp z5
        exact key _ (e1.2.2.2.2.2.trans e2.2.2.2.2.2.symm)
      · obtain rfl : q = 0 := (nI_eq (by omega) (by omega)).mp z0
        exact key _ (e1.1.trans e2.1.symm)
    · rw [hd2]
      refine ⟨fun z => absurd rfl z, fun _ => Or.inr ⟨rfl, fun _ => hK 2 σ (fun K2 h2 => ?_)⟩⟩
      unfold w_m_step
      refine s_isIn ?_
      rw [c2.1, hd]
      refine s_isIn ?_
      rw [hd2]
      exact s_may (fun z => absurd z (by decide)) (fun _ _ => ⟨fun z => absurd rfl z, fun _ => h2 _ _ ⟨hI.thr 2, by simp [up_at], fun z => absurd z (by decide)⟩⟩) (fun _ z => absurd rfl z)
  · rw [hd]
    refine ⟨fun z => absurd rfl z, fun _ => Or.inl ⟨rfl, fun _ => hK 1 σ (fun K2 h2 => ?_)⟩⟩
    unfold w_m_step
    refine s_isIn ?_
    rw [c2.1, hd]
    refine s_isIn ?_
    exact s_may (fun _ => ⟨fun z => absurd rfl z, fun _ => h2 _ _ ⟨hI.thr 1, by simp [up_at], fun z => absurd z (by decide)⟩⟩) (fun z => absurd rfl z) (fun z => absurd rfl z)
theorem pk_9 (i k : Nat) : 9 * nI i + nI k = nI (9 * i + k) := by
  rw [show (9 : Int32) = nI 9 from rfl, pk_mul, nI_add]
theorem s_of {s k : Nat} (hs : s < 60) (hk : k < 9) {σ : Sg} {Q : Int32 → Sg → Prop} (h : Q (σ 63 (9 * s + k)) σ) : w_m_of (nI s) (nI k) σ Q := by
  unfold w_m_of
  rw [pk_9, nI_clamp (by omega)]
  exact ⟨vp_in_nI (by omega) (by omega), h⟩
theorem IX.same {σ τ : Sg} {n : Nat} {T : Nat → St9} (h : IX σ n T) (e : ∀ c j, (c = 87 ∨ (c = 58 ∧ j = 0)) ∨ τ c j = σ c j) : IX τ n T := h.fr (fun c j w => (e c j).resolve_left (by unfold fIX at w; omega))
theorem IC.same {σ τ : Sg} {n : Nat} {T : Nat → St9} {cd : List Ps} {hc : Bool} {rg : Nat} {ic : Nat → Bool} (h : IC σ n T cd hc rg ic) (e : ∀ c j, (c = 87 ∨ (c = 58 ∧ j = 0)) ∨ τ c j = σ c j) : IC τ n T cd hc rg ic := h.fr (fun c j w => (e c j).resolve_left (by unfold fIC at w; omega))
theorem ou_same (σ : Sg) (v w : Int32) : ∀ c j, (c = 87 ∨ (c = 58 ∧ j = 0)) ∨ up (up σ 87 0 v) 58 0 w c j = σ c j := by
  intro c j
  by_cases h : c = 87 ∨ (c = 58 ∧ j = 0)
  · exact Or.inl h
  · refine Or.inr ?_
    simp only [up_at]
    repeat' split
    all_goals (first | rfl | omega)
theorem o_statement {a w : Int32} {σ : Sg} (h : Inv σ) {K : Int32 → Sg → Prop} (hK : ∀ (k : Int32) (σ2 : Sg), (∀ K2 : Int32 → Sg → Prop, (∀ b τ, An k b τ → K2 b τ) → w_m_statement a w σ2 K2) → K k σ2) : w_l_statement a w σ K := by
  have hI := h
  obtain ⟨-, -, -, ⟨n, T, h4, cd, hc, rg, ic, h5⟩, -⟩ := h
  have hX := h4
  have hC := h5
  obtain ⟨x1, x2, x3, x4, x5⟩ := h4
  obtain ⟨c1, c2, c3, c4, c5, c6, c7, c8, c9⟩ := h5
  have hl := c3.1
  unfold w_l_statement w_x_statement
  refine s_within ?_
  rw [x1]
  have hm : ∀ v : Int32, (up σ 87 0 v) 58 9 = nI n := fun v => by simp [up_at]; exact x2
  rcases win_n (x := a) (n := n) (by omega) (pre_toInt (by omega)) with ⟨j, hj, rfl, hd⟩ | hd
  · rw [hd]
    refine ⟨fun _ => ?_, fun z => absurd z (by decide)⟩
    refine s_within ?_
    rcases win_n (x := w) (n := 4) (by omega) i3 with ⟨q, hq, rfl, hd2⟩ | hd2
    · rw [hd2]
      refine ⟨fun _ => ?_, fun z => absurd z (by decide)⟩
      have e1 := (x5 j hj).1
      have e2 := (x5 j hj).2.1
      have e3 := c9 j hj
      have hso := (x5 j hj).2.2.1
      have cv : ∀ k, k < 10 → (nI q = nI k ↔ q = k) := fun k hk => nI_eq (by omega) (by omega)
      have key : ∀ v : Int32, ((q = 0 → v = nI (tso (T j))) ∧ (q = 1 → v = nI (tde (T j))) ∧ (q = 2 → v = bI (ic j)) ∧ (q = 3 → v = sm9 (gOf cd (nI j)) cd.length 0 0)) → K 0 (up σ 87 0 v) := by
        intro v hv
        refine hK 0 _ (fun K2 h2 => ?_)
        unfold w_m_statement w_m_statement_74
        refine s_isIn ?_
        rw [hm, hd]
        refine s_isIn ?_
        rw [hd2]
        have hX' := hX.same (ou_same σ v 0)
        have hC' := hC.same (ou_same σ v 0)
        have hA : ∀ b, v = b → An 0 b (up (up σ 87 0 v) 58 0 0) := fun b hb => ⟨(hI.out _).thr 0, by simp [up_at], fun _ => by simp [up_at, hb]⟩
        have hs60 : j < 60 := by omega
        have m2 := (hX'.2.2.2.2 j hj).2.1
        refine s_may (fun z => absurd z (by decide)) (fun _ z => absurd z (by decide)) (fun _ _ => ⟨fun _ => ⟨fun z0 => ⟨fun z1 => ⟨fun z2 => ?_, fun z2 => ⟨vp_in_nI (by omega) (by omega), ?_⟩⟩, fun z1 => ?_⟩, fun z0 => ?_⟩, fun z => absurd z (by decide)⟩)
        · refine ⟨cd.length + 1, s_stepsOfM hC'.2.1 (by omega) cd.length 0 0 (by omega) (h2 _ _ (hA _ (hv.2.2.2 ?_)))⟩
          have n0 : ¬ q = 0 := fun z => z0 ((cv 0 (by omega)).mpr z)
          have n1 : ¬ q = 1 := fun z => z1 ((cv 1 (by omega)).mpr z)
          have n2 : ¬ q = 2 := fun z => z2 ((cv 2 (by omega)).mpr z)
          omega
        · have hv2 := hv.2.2.1 ((cv 2 (by omega)).mp z2)
          rw [nI_clamp (by omega), (hC'.2.2.2.2.2.2.2.2 j hj).1]
          refine ⟨fun z => h2 _ _ (hA _ (hv2.trans z)), fun z => h2 _ _ (hA _ (hv2.trans (bI_1.mpr ?_)))⟩
          cases hi : ic j with
          | false => rw [hi] at z; exact absurd rfl z
          | true => rfl
        · refine s_of (k := 7) hs60 (by omega) (h2 _ _ (hA _ ?_))
          rw [m2.2.1]
          exact hv.2.1 ((cv 1 (by omega)).mp z1)
        · refine s_of (k := 0) hs60 (by omega) (h2 _ _ (hA _ ?_))
          exact (hv.1 ((cv 0 (by omega)).mp z0)).trans m2.1.symm
      have hv : vp_in (nI j) 60 := vp_in_nI (by omega) (by omega)
      have ec : (nI j).toNatClampNeg = j := nI_clamp (by omega)
      rw [ec]
      unfold w_x_statement_117 w_x_statement_126
      have k2 : q = 2 → ∀ v : Int32, v = bI (ic j) → K 0 (up σ 87 0 v) := fun hq2 v hv => key v ⟨fun z => absurd z (by omega), fun z => absurd z (by omega), fun _ => hv, fun z => absurd z (by omega)⟩
      refine ⟨fun z0 => ⟨hv, ?_⟩, fun z0 => ⟨fun z1 => ⟨hv, ?_⟩, fun z1 => ⟨fun z2 => ⟨fun y => ?_, fun y => ⟨hv, fun u => ?_, fun u => ⟨hv, fun t => ?_, fun t => ?_⟩⟩⟩, fun z2 => ?_⟩⟩⟩
      · have hq0 := (cv 0 (by omega)).mp z0
        exact key _ ⟨fun _ => e1.1, fun z => absurd z (by omega), fun z => absurd z (by omega), fun z => absurd z (by omega)⟩
      · have hq1 := (cv 1 (by omega)).mp z1
        exact key _ ⟨fun z => absurd z (by omega), fun _ => e1.2.1, fun z => absurd z (by omega), fun z => absurd z (by omega)⟩
      · have hq2 := (cv 2 (by omega)).mp z2
        refine k2 hq2 0 (bI_0.mpr ?_).symm
        cases hi : ic j with
        | false => rfl
        | true => rw [c4, (e3.2.2 hi).1] at y; exact absurd y (by decide)
      · have hq2 := (cv 2 (by omega)).mp z2
        refine k2 hq2 0 (bI_0.mpr ?_).symm
        cases hi : ic j with
        | false => rfl
        | true => rw [e1.1, (e3.2.2 hi).2] at u; exact absurd rfl u
      · have hq2 := (cv 2 (by omega)).mp z2
        have hct : hc = true := by
          rw [c4] at y
          cases hc with
          | false => exact absurd rfl y
          | true => rfl
        rw [e3.2.1 hct ((nI_eq (by omega) (by omega)).mp (e1.1.symm.trans u))] at t
        exact k2 hq2 0 t.symm
      · have hq2 := (cv 2 (by omega)).mp z2
        have hct : hc = true := by
          rw [c4] at y
          cases hc with
          | false => exact absurd rfl y
          | true => rfl
        rw [e3.2.1 hct ((nI_eq (by omega) (by omega)).mp (e1.1.symm.trans u))] at t
        refine k2 hq2 1 (bI_1.mpr ?_).symm
        cases hi : ic j with
        | false => rw [hi] at t; exact absurd rfl t
        | true => rfl
      · have n0 : ¬ q = 0 := fun z => z0 ((cv 0 (by omega)).mpr z)
        have n1 : ¬ q = 1 := fun z => z1 ((cv 1 (by omega)).mpr z)
        have n2 : ¬ q = 2 := fun z => z2 ((cv 2 (by omega)).mpr z)
        unfold w_x_stepsOf
        exact ⟨cd.length + 1, s_stepsOf_4 c1 (by omega) cd.length 0 0 (by omega) (key _ ⟨fun z => absurd z n0, fun z => absurd z n1, fun z => absurd z n2, fun _ => rfl⟩)⟩
    · rw [hd2]
      refine ⟨fun z => absurd rfl z, fun _ => Or.inr ⟨rfl, fun _ => hK 2 σ (fun K2 h2 => ?_)⟩⟩
      unfold w_m_statement
      refine s_isIn ?_
      rw [x2, hd]
      refine s_isIn ?_
      rw [hd2]
      exact s_may (fun z => absurd z (by decide)) (fun _ _ => ⟨fun z => absurd rfl z, fun _ => h2 _ _ ⟨hI.thr 2, by simp [up_at], fun z => absurd z (by decide)⟩⟩) (fun _ z => absurd rfl z)
  · rw [hd]
    refine ⟨fun z => absurd rfl z, fun _ => Or.inl ⟨rfl, fun _ => hK 1 σ (fun K2 h2 => ?_)⟩⟩
    unfold w_m_statement
    refine s_isIn ?_
    rw [x2, hd]
    refine s_isIn ?_
    exact s_may (fun _ => ⟨fun z => absurd rfl z, fun _ => h2 _ _ ⟨hI.thr 1, by simp [up_at], fun z => absurd z (by decide)⟩⟩) (fun z => absurd rfl z) (fun z => absurd rfl z)
theorem o_count {w : Int32} {σ : Sg} (h : Inv σ) {K : Int32 → Sg → Prop} (hK : ∀ (k : Int32) (σ2 : Sg), (∀ K2 : Int32 → Sg → Prop, (∀ b τ, An k b τ → K2 b τ) → w_m_count w σ2 K2) → K k σ2) : w_l_count w σ K := by
  have hI := h
  obtain ⟨-, ⟨z9, h2t⟩, -, ⟨n, T, h4, cd, hc, rg, ic, h5⟩, S, h6⟩ := h
  have hX := h4
  have hC := h5
  obtain ⟨x1, x2, x3, x4, x5⟩ := h4
  obtain ⟨c1, c2, c3, c4, c5, c6, c7, c8, c9⟩ := h5
  have hl := c3.1
  have hk18 : ∀ (i : Nat) (p : Ps), cd[i]? = some p → p.1 ≤ 18 := fun i p hp => (c3.2.2.2.1 i p hp).1
  unfold w_l_count w_x_count
  refine s_within ?_
  rcases win_n (x := w) (n := 9) (by omega) i8 with ⟨q, hq, rfl, hd⟩ | hd
  · rw [hd]
    refine ⟨fun _ => ?_, fun z => absurd z (by decide)⟩
    have cv : ∀ k, k < 10 → (nI q = nI k ↔ q = k) := fun k hk => nI_eq (by omega) (by omega)
    have key : ∀ v : Int32, ((q = 0 → v = nI n) ∧ (q = 1 → v = nI cd.length) ∧ (q = 2 → v = nI rg) ∧ (q = 3 → v = sm9 (gJm cd) cd.length 0 0) ∧ (q = 4 → v = sm9 (fun s => bI (ic s)) n 0 0) ∧ (q = 5 → v = nI S.2.2.2.1) ∧ (q = 6 → v = nI z9) ∧ (q = 7 → v = σ 0 24) ∧ (q = 8 → v = S.2.2.2.2)) → K 0 (up σ 87 0 v) := by
      intro v hv
      refine hK 0 _ (fun K2 h2 => ?_)
      unfold w_m_count
      refine s_isIn ?_
      rw [hd]
      have hX' := hX.same (ou_same σ v 0)
      have hC' := hC.same (ou_same σ v 0)
      have hA : ∀ b, v = b → An 0 b (up (up σ 87 0 v) 58 0 0) := fun b hb => ⟨(hI.out _).thr 0, by simp [up_at], fun _ => by simp [up_at, hb]⟩
      have hsame := ou_same σ v 0
      have f58 : ∀ j, ¬ j = 0 → up (up σ 87 0 v) 58 0 0 58 j = σ 58 j := fun j hj => (hsame 58 j).resolve_left (by omega)
      refine s_may (fun z => absurd z (by decide)) (fun _ z => absurd z (by decide)) (fun _ _ => ⟨fun _ => ⟨fun z0 => ?_, fun z0 => ⟨fun z1 => ?_, fun z1 => ⟨fun z2 => ?_, fun z2 => ⟨fun z3 => ?_, fun z3 => ⟨fun z4 => ?_, fun z4 => ⟨fun z5 => ?_, fun z5 => ⟨fun z6 => ?_, fun z6 => ⟨fun z7 => ?_, fun z7 => ?_⟩⟩⟩⟩⟩⟩⟩⟩, fun z => absurd z (by decide)⟩)
      · exact h2 _ _ (hA _ (by rw [f58 9 (by omega), x2]; exact hv.1 ((cv 0 (by omega)).mp z0)))
      · exact h2 _ _ (hA _ (by rw [f58 20 (by omega), c2.1]; exact hv.2.1 ((cv 1 (by omega)).mp z1)))
      · exact h2 _ _ (hA _ (by rw [f58 21 (by omega), c7]; exact hv.2.2.1 ((cv 2 (by omega)).mp z2)))
      · exact ⟨cd.length + 1, s_jumpsM hC'.2.1 (by omega) hk18 cd.length 0 0 (by omega) (h2 _ _ (hA _ (hv.2.2.2.1 ((cv 3 (by omega)).mp z3))))⟩
      · exact ⟨n + 1, s_convM hX' hC' n 0 0 (by omega) (h2 _ _ (hA _ (hv.2.2.2.2.1 ((cv 4 (by omega)).mp z4))))⟩
      · exact h2 _ _ (hA _ (by rw [f58 39 (by omega), h6.2.1.2.2.2.1]; exact hv.2.2.2.2.2.1 ((cv 5 (by omega)).mp z5)))
      · exact h2 _ _ (hA _ (by rw [f58 4 (by omega), h2t.2.1]; exact hv.2.2.2.2.2.2.1 ((cv 6 (by omega)).mp z6)))
      · exact h2 _ _ (hA _ (by rw [f58 40 (by omega), h6.2.2.2.2]; exact hv.2.2.2.2.2.2.2.1 ((cv 7 (by omega)).mp z7)))
      · have n0 : ¬ q = 0 := fun z => z0 ((cv 0 (by omega)).mpr z)
        have n1 : ¬ q = 1 := fun z => z1 ((cv 1 (by omega)).mpr z)
        have n2 : ¬ q = 2 := fun z => z2 ((cv 2 (by omega)).mpr z)
        have n3 : ¬ q = 3 := fun z => z3 ((cv 3 (by omega)).mpr z)
        have n4 : ¬ q = 4 := fun z => z4 ((cv 4 (by omega)).mpr z)
        have n5 : ¬ q = 5 := fun z => z5 ((cv 5 (by omega)).mpr z)
        have n6 : ¬ q = 6 := fun z => z6 ((cv 6 (by omega)).mpr z)
        have n7 : ¬ q = 7 := fun z => z7 ((cv 7 (by omega)).mpr z)
        exact h2 _ _ (hA _ (by rw [f58 41 (by omega), h6.2.1.2.2.2.2]; exact hv.2.2.2.2.2.2.2.2 (by omega)))
    have kk : ∀ (r : Nat) (v : Int32), q = r → ((r = 0 → v = nI n) ∧ (r = 1 → v = nI cd.length) ∧ (r = 2 → v = nI rg) ∧ (r = 3 → v = sm9 (gJm cd) cd.length 0 0) ∧ (r = 4 → v = sm9 (fun s => bI (ic s)) n 0 0) ∧ (r = 5 → v = nI S.2.2.2.1) ∧ (r = 6 → v = nI z9) ∧ (r = 7 → v = σ 0 24) ∧ (r = 8 → v = S.2.2.2.2)) → K 0 (up σ 87 0 v) := fun r v hr hv => by subst hr; exact key v hv
    unfold w_x_count_135
    refine ⟨fun z0 => kk 0 _ ((cv 0 (by omega)).mp z0) ?_, fun z0 => ⟨fun z1 => kk 1 _ ((cv 1 (by omega)).mp z1) ?_, fun z1 => ⟨fun z2 => ⟨fun y => kk 2 _ ((cv 2 (by omega)).mp z2) ?_, fun y => kk 2 _ ((cv 2 (by omega)).mp z2) ?_⟩, fun z2 => ⟨fun z3 => ⟨cd.length + 1, s_jumps_4 c1 (by omega) hk18 cd.length 0 0 (by omega) (kk 3 _ ((cv 3 (by omega)).mp z3) ?_)⟩, fun z3 => ⟨fun z4 => ⟨n + 1, s_conv_4 hX hC n 0 0 (by omega) (kk 4 _ ((cv 4 (by omega)).mp z4) ?_)⟩, fun z4 => ⟨fun z5 => kk 5 _ ((cv 5 (by omega)).mp z5) ?_, fun z5 => ⟨fun z6 => kk 6 _ ((cv 6 (by omega)).mp z6) ?_, fun z6 => ⟨fun z7 => kk 7 _ ((cv 7 (by omega)).mp z7) ?_, fun z7 => kk 8 _ ?_ ?_⟩⟩⟩⟩⟩⟩⟩⟩
    · simp [x1]
    · simp [c1.1]
    · have hct : hc = false := by rw [c4] at y; exact bI_0.mp y
      simp [(c8 hct).1]; rfl
    · have hct : hc = true := by
        rw [c4] at y
        cases hc with
        | false => exact absurd rfl y
        | true => rfl
      simp [c6 hct]
    · simp
    · simp
    · simp [h6.1.2.2.2.1]
    · simp [h2t.1]
    · simp
    · have n0 : ¬ q = 0 := fun z => z0 ((cv 0 (by omega)).mpr z)
      have n1 : ¬ q = 1 := fun z => z1 ((cv 1 (by omega)).mpr z)
      have n2 : ¬ q = 2 := fun z => z2 ((cv 2 (by omega)).mpr z)
      have n3 : ¬ q = 3 := fun z => z3 ((cv 3 (by omega)).mpr z)
      have n4 : ¬ q = 4 := fun z => z4 ((cv 4 (by omega)).mpr z)
      have n5 : ¬ q = 5 := fun z => z5 ((cv 5 (by omega)).mpr z)
      have n6 : ¬ q = 6 := fun z => z6 ((cv 6 (by omega)).mpr z)
      have n7 : ¬ q = 7 := fun z => z7 ((cv 7 (by omega)).mpr z)
      omega
    · simp [h6.1.2.2.2.2]
  · rw [hd]
    refine ⟨fun z => absurd rfl z, fun _ => ⟨rfl, fun _ => hK 1 σ (fun K2 h2 => ?_)⟩⟩
    unfold w_m_count
    refine s_isIn ?_
    rw [hd]
    exact s_may (fun _ => ⟨fun z => absurd rfl z, fun _ => h2 _ _ ⟨hI.thr 1, by simp [up_at], fun z => absurd z (by decide)⟩⟩) (fun z => absurd rfl z) (fun z => absurd rfl z)

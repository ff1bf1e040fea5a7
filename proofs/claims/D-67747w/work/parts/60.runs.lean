/-! ## a run's begin and its end -/
/-- the state at a run's begin: registers by R, variables and words put in -/
def bg0 (σ : Sg) (R : Nat → Int32) (O : Nat → Int32) : RS := (fun r => if r < 16 then σ 9 r else R r, fun i => σ 10 i, O, 0, 0)
def SB1 (c j : Nat) : Prop := c = 11 ∨ c = 12 ∨ (c = 0 ∧ (j = 23 ∨ j = 24 ∨ j = 25))
theorem s_beginRun_28 {Q : Sg → Prop} : ∀ (m i : Nat) (σ : Sg), i + m = 32 → (∀ τ, Fr SB1 σ τ → (∀ r, τ 11 r = σ 11 r) → (∀ k, k < i → τ 12 k = σ 12 k) → (∀ k, i ≤ k → k < 32 → τ 12 k = σ 10 k) → τ 0 23 = 0 → τ 0 24 = -1 → τ 0 25 = 0 → Q τ) → w_x_beginRun_28 Q (m + 1) (nI i) σ := by
  intro m
  induction m with
  | zero =>
    intro i σ hi hQ
    unfold w_x_beginRun_28
    obtain rfl : i = 32 := by omega
    refine ⟨fun _ => hQ _ (((Fr.rf.up (by unfold SB1; omega)).up (by unfold SB1; omega)).up (by unfold SB1; omega)) (fun r => by simp [up_at]) (fun k hk => by simp [up_at]) (fun k h1 h2 => by omega) (by simp [up_at]) (by simp [up_at]) (by simp [up_at]), fun z => absurd (by decide) z⟩
  | succ m ih =>
    intro i σ hi hQ
    unfold w_x_beginRun_28
    rw [nI_clamp (by omega), nI_1]
    refine ⟨fun z => absurd z (nI_ge (show i < 32 by omega) (by decide)), fun _ => ⟨vp_in_nI (by omega) (by omega), vp_in_nI (by omega) (by omega), ?_⟩⟩
    intro x1 e1
    subst e1
    refine ih (i + 1) _ (by omega) (fun τ hF h11 h12 h13 a1 a2 a3 => hQ τ ((Fr.rf.up (by unfold SB1; omega)).tr hF) (fun r => by rw [h11]; simp [up_at]) (fun k hk => ?_) (fun k h1 h2 => ?_) a1 a2 a3)
    · rw [h12 k (by omega), up_at, if_pos rfl, if_neg (by omega)]
    · by_cases hk : k = i
      · subst hk; rw [h12 k (by omega), up_at, if_pos rfl, if_pos rfl]
      · rw [h13 k (by omega) h2]; simp [up_at]
theorem s_beginRun_2 {Q : Sg → Prop} : ∀ (m i : Nat) (σ : Sg), i + m = 16 → (∀ τ, Fr SB1 σ τ → (∀ r, (r < i ∨ 16 ≤ r) → τ 11 r = σ 11 r) → (∀ r, i ≤ r → r < 16 → τ 11 r = σ 9 r) → (∀ k, k < 32 → τ 12 k = σ 10 k) → τ 0 23 = 0 → τ 0 24 = -1 → τ 0 25 = 0 → Q τ) → w_x_beginRun_2 Q (m + 1) (nI i) σ := by
  intro m
  induction m with
  | zero =>
    intro i σ hi hQ
    unfold w_x_beginRun_2
    obtain rfl : i = 16 := by omega
    refine ⟨fun _ => ⟨33, s_beginRun_28 32 0 σ (by omega) (fun τ hF h11 h12 h13 a1 a2 a3 => hQ τ hF (fun r _ => h11 r) (fun r h1 h2 => by omega) (fun k hk => h13 k (by omega) hk) a1 a2 a3)⟩, fun z => absurd (by decide) z⟩
  | succ m ih =>
    intro i σ hi hQ
    unfold w_x_beginRun_2
    rw [nI_clamp (by omega), nI_1]
    refine ⟨fun z => absurd z (nI_ge (show i < 16 by omega) (by decide)), fun _ => ⟨vp_in_nI (by omega) (by omega), vp_in_nI (by omega) (by omega), ?_⟩⟩
    intro x1 e1
    subst e1
    refine ih (i + 1) _ (by omega) (fun τ hF h11 h12 h13 a1 a2 a3 => hQ τ ((Fr.rf.up (by unfold SB1; omega)).tr hF) (fun r hr => ?_) (fun r h1 h2 => ?_) (fun k hk => by rw [h13 k hk]; simp [up_at]) a1 a2 a3)
    · rw [h11 r (by omega), up_at, if_pos rfl, if_neg (by omega)]
    · by_cases hk : r = i
      · subst hk; rw [h11 r (by omega), up_at, if_pos rfl, if_pos rfl]
      · rw [h12 r (by omega) h2]; simp [up_at]
theorem s_beginRun {σ : Sg} {R O : Nat → Int32} (hR : ∀ r, r < 3016 → σ 11 r = R r) (hO : ∀ i, i < 60 → σ 13 i = O i) {Q : Sg → Prop} (hQ : ∀ τ, Fr SB1 σ τ → XR τ (bg0 σ R O) → τ 0 24 = -1 → Q τ) : w_x_beginRun σ Q := by
  unfold w_x_beginRun
  refine ⟨17, s_beginRun_2 16 0 σ (by omega) (fun τ hF h11 h12 h13 a1 a2 a3 => hQ τ hF ⟨fun r hr => ?_, fun k hk => h13 k hk, fun k hk => ?_, a1, a3⟩ a2)⟩
  · show τ 11 r = if r < 16 then σ 9 r else R r
    split
    · exact h12 r (by omega) (by assumption)
    · rw [h11 r (by omega)]; exact hR r hr
  · rw [hF 13 k (by unfold SB1; omega)]; exact hO k hk
def SB2 (c j : Nat) : Prop := c = 85 ∨ c = 83 ∨ (c = 58 ∧ (j = 39 ∨ j = 40 ∨ j = 41 ∨ j = 42))
theorem s_beginM_28 {Q : Sg → Prop} : ∀ (m i : Nat) (σ : Sg), i + m = 32 → (∀ τ, Fr SB2 σ τ → (∀ r, τ 85 r = σ 85 r) → (∀ k, k < i → τ 83 k = σ 83 k) → (∀ k, i ≤ k → k < 32 → τ 83 k = σ 60 k) → τ 58 39 = 0 → τ 58 40 = -1 → τ 58 41 = 0 → τ 58 42 = 0 → Q τ) → w_m_begin_28 Q (m + 1) (nI i) σ := by
  intro m
  induction m with
  | zero =>
    intro i σ hi hQ
    unfold w_m_begin_28
    obtain rfl : i = 32 := by omega
    refine ⟨fun _ => hQ _ ((((Fr.rf.up (by unfold SB2; omega)).up (by unfold SB2; omega)).up (by unfold SB2; omega)).up (by unfold SB2; omega)) (fun r => by simp [up_at]) (fun k hk => by simp [up_at]) (fun k h1 h2 => by omega) (by simp [up_at]) (by simp [up_at]) (by simp [up_at]) (by simp [up_at]), fun z => absurd (by decide) z⟩
  | succ m ih =>
    intro i σ hi hQ
    unfold w_m_begin_28
    rw [nI_clamp (by omega), nI_1]
    refine ⟨fun z => absurd z (nI_ge (show i < 32 by omega) (by decide)), fun _ => ⟨vp_in_nI (by omega) (by omega), vp_in_nI (by omega) (by omega), ?_⟩⟩
    intro x1 e1
    subst e1
    refine ih (i + 1) _ (by omega) (fun τ hF h11 h12 h13 a1 a2 a3 a4 => hQ τ ((Fr.rf.up (by unfold SB2; omega)).tr hF) (fun r => by rw [h11]; simp [up_at]) (fun k hk => ?_) (fun k h1 h2 => ?_) a1 a2 a3 a4)
    · rw [h12 k (by omega), up_at, if_pos rfl, if_neg (by omega)]
    · by_cases hk : k = i
      · subst hk; rw [h12 k (by omega), up_at, if_pos rfl, if_pos rfl]
      · rw [h13 k (by omega) h2]; simp [up_at]
theorem s_beginM_2 {Q : Sg → Prop} : ∀ (m i : Nat) (σ : Sg), i + m = 16 → (∀ τ, Fr SB2 σ τ → (∀ r, (r < i ∨ 16 ≤ r) → τ 85 r = σ 85 r) → (∀ r, i ≤ r → r < 16 → τ 85 r = σ 59 r) → (∀ k, k < 32 → τ 83 k = σ 60 k) → τ 58 39 = 0 → τ 58 40 = -1 → τ 58 41 = 0 → τ 58 42 = 0 → Q τ) → w_m_begin_2 Q (m + 1) (nI i) σ := by
  intro m
  induction m with
  | zero =>
    intro i σ hi hQ
    unfold w_m_begin_2
    obtain rfl : i = 16 := by omega
    refine ⟨fun _ => ⟨33, s_beginM_28 32 0 σ (by omega) (fun τ hF h11 h12 h13 a1 a2 a3 a4 => hQ τ hF (fun r _ => h11 r) (fun r h1 h2 => by omega) (fun k hk => h13 k (by omega) hk) a1 a2 a3 a4)⟩, fun z => absurd (by decide) z⟩
  | succ m ih =>
    intro i σ hi hQ
    unfold w_m_begin_2
    rw [nI_clamp (by omega), nI_1]
    refine ⟨fun z => absurd z (nI_ge (show i < 16 by omega) (by decide)), fun _ => ⟨vp_in_nI (by omega) (by omega), vp_in_nI (by omega) (by omega), ?_⟩⟩
    intro x1 e1
    subst e1
    refine ih (i + 1) _ (by omega) (fun τ hF h11 h12 h13 a1 a2 a3 a4 => hQ τ ((Fr.rf.up (by unfold SB2; omega)).tr hF) (fun r hr => ?_) (fun r h1 h2 => ?_) (fun k hk => by rw [h13 k hk]; simp [up_at]) a1 a2 a3 a4)
    · rw [h11 r (by omega), up_at, if_pos rfl, if_neg (by omega)]
    · by_cases hk : r = i
      · subst hk; rw [h11 r (by omega), up_at, if_pos rfl, if_pos rfl]
      · rw [h12 r (by omega) h2]; simp [up_at]
theorem s_beginM {σ ρ : Sg} {R O : Nat → Int32} (hR : ∀ r, r < 3016 → σ 85 r = R r) (hO : ∀ i, i < 60 → σ 84 i = O i) (hp : (∀ v, v < 16 → σ 59 v = ρ 9 v) ∧ ∀ i, i < 32 → σ 60 i = ρ 10 i) {Q : Sg → Prop} (hQ : ∀ τ, Fr SB2 σ τ → MR τ (bg0 ρ R O) → τ 58 40 = -1 → τ 58 42 = 0 → Q τ) : w_m_begin σ Q := by
  unfold w_m_begin
  refine ⟨17, s_beginM_2 16 0 σ (by omega) (fun τ hF h11 h12 h13 a1 a2 a3 a4 => hQ τ hF ⟨fun r hr => ?_, fun k hk => (h13 k hk).trans (hp.2 k hk), fun k hk => ?_, a1, a3⟩ a2 a4)⟩
  · show τ 85 r = if r < 16 then ρ 9 r else R r
    split
    · rename_i h; rw [h12 r (by omega) h]; exact hp.1 r h
    · rw [h11 r (by omega)]; exact hR r hr
  · rw [hF 84 k (by unfold SB2; omega)]; exact hO k hk
theorem s_leave_2 {Q : Sg → Prop} : ∀ (m i : Nat) (σ : Sg), i + m = 16 → (∀ τ, Fr (fun c _ => c = 82) σ τ → (∀ r, r < i → τ 82 r = σ 82 r) → (∀ r, i ≤ r → r < 16 → τ 82 r = σ 85 r) → Q τ) → w_m_leave_2 Q (m + 1) (nI i) σ := by
  intro m
  induction m with
  | zero =>
    intro i σ hi hQ
    unfold w_m_leave_2
    obtain rfl : i = 16 := by omega
    exact ⟨fun _ => hQ σ Fr.rf (fun _ _ => rfl) (fun r h1 h2 => by omega), fun z => absurd (by decide) z⟩
  | succ m ih =>
    intro i σ hi hQ
    unfold w_m_leave_2
    rw [nI_clamp (by omega), nI_1]
    refine ⟨fun z => absurd z (nI_ge (show i < 16 by omega) (by decide)), fun _ => ⟨vp_in_nI (by omega) (by omega), vp_in_nI (by omega) (by omega), ?_⟩⟩
    intro x1 e1
    subst e1
    refine ih (i + 1) _ (by omega) (fun τ hF h1 h2 => hQ τ (((Fr.rf (S := fun c _ => c = 82)).up rfl).tr hF) (fun r hr => ?_) (fun r h3 h4 => ?_))
    · rw [h1 r (by omega), up_at, if_pos rfl, if_neg (by omega)]
    · by_cases hk : r = i
      · subst hk; rw [h1 r (by omega), up_at, if_pos rfl, if_pos rfl]
      · rw [h2 r (by omega) h4]; simp [up_at]
theorem s_leave {σ : Sg} {Q : Sg → Prop} (hQ : ∀ τ, Fr (fun c _ => c = 82) σ τ → (∀ r, r < 16 → τ 82 r = σ 85 r) → Q τ) : w_m_leave σ Q :=
  ⟨17, s_leave_2 16 0 σ (by omega) (fun τ hF _ h => hQ τ hF (fun r hr => h r (by omega) hr))⟩
theorem runF_how {cd : List Ps} : ∀ (f i : Nat) (S : RS), (runF cd f i S).2.1 = 0 ∨ (runF cd f i S).2.1 = 1 ∨ (runF cd f i S).2.1 = 2 := by
  intro f
  induction f with
  | zero => intro i S; exact Or.inl rfl
  | succ f ih =>
    intro i S
    rw [runF]
    split
    · exact Or.inl rfl
    · rename_i p _
      split
      · exact ih _ _
      · rename_i h
        have hs : st1 p i (dnR S) = ((st1 p i (dnR S)).1, (st1 p i (dnR S)).2.1 - 1 + 1, (st1 p i (dnR S)).2.2) := by
          have : (st1 p i (dnR S)).2.1 - 1 + 1 = (st1 p i (dnR S)).2.1 := by omega
          rw [this]
        have := st1_how hs
        show _ ∨ (st1 p i (dnR S)).2.1 = 1 ∨ (st1 p i (dnR S)).2.1 = 2
        omega
theorem runF_om {cd : List Ps} {rg : Nat} (hlen : cd.length ≤ 3000) (hok : ∀ i p, cd[i]? = some p → okS cd.length rg i p) : ∀ (f i : Nat) (S : RS), S.2.2.2.1 + tls cd i ≤ 60 → (runF cd f i S).1.2.2.2.1 ≤ 60 := by
  intro f
  induction f with
  | zero => intro i S h; show S.2.2.2.1 ≤ 60; omega
  | succ f ih =>
    intro i S h
    rw [runF]
    split
    · show S.2.2.2.1 ≤ 60; omega
    · rename_i p hp
      have hlt : i < cd.length := (List.getElem?_eq_some_iff.mp hp).1
      split
      · rename_i h0
        have hs : st1 p i (dnR S) = ((st1 p i (dnR S)).1, 0, (st1 p i (dnR S)).2.2) := by rw [← h0]
        obtain ⟨j1, j2, j3⟩ := st1_next (hok i p hp) hs hlt hlen
        refine ih _ _ ?_
        have htl := tls_le cd (i := i) (j := (st1 p i (dnR S)).2.2) (by omega)
        rcases j3 with j3 | ⟨hc, hj, j3⟩
        · rw [j3]; show S.2.2.2.1 + _ ≤ 60; omega
        · have := tls_at hp hc
          rw [j3, hj]; show S.2.2.2.1 + 1 + _ ≤ 60; omega
      · rename_i h0
        have hs : (st1 p i (dnR S)).1 = dnR S := by
          revert h0
          simp only [st1]
          repeat' split
          all_goals (intro h0; first | rfl | exact absurd rfl h0)
        show (st1 p i (dnR S)).1.2.2.2.1 ≤ 60
        rw [hs]
        show S.2.2.2.1 ≤ 60
        omega
theorem o_run {σ : Sg} (h : Inv σ) {K : Int32 → Sg → Prop} (hK : ∀ (k : Int32) (σ2 : Sg), (∀ K2 : Int32 → Sg → Prop, (∀ b τ, An k b τ → K2 b τ) → w_m_run σ2 K2) → K k σ2) : w_l_run σ K := by
  have hI := h
  obtain ⟨h1, ⟨z, h2⟩, h3, ⟨n, T, h4, cd, hc, rg, ic, h5⟩, S, h6⟩ := h
  have hC := h5
  obtain ⟨c1, c2, c3, c4, c5, c6, c7, c8, c9⟩ := h5
  obtain ⟨w1, w2, w3, w4, w5, w6⟩ := c3
  obtain ⟨r1, r2, r3, r4, r5⟩ := h6
  unfold w_l_run w_x_run w_x_wantState
  rw [c4]
  cases hc with
  | false =>
    refine ⟨fun q => absurd rfl q, fun _ => ⟨rfl, fun _ => hK 1 σ (fun K2 hk2 => ?_)⟩⟩
    unfold w_m_run
    rw [c5]
    exact s_may (fun _ => ⟨fun q => absurd rfl q, fun _ => hk2 _ _ ⟨hI.thr 1, by simp [up_at], fun q => absurd q (by decide)⟩⟩) (fun q => absurd rfl q) (fun q => absurd rfl q)
  | true =>
    refine ⟨fun _ => ?_, fun q => absurd q (by decide)⟩
    refine s_beginRun r1.1 r1.2.2.1 (fun τ hF hR0 h24 => ?_)
    have hb : (bg0 σ S.1 S.2.2.1).2.2.2.1 + tls cd 0 ≤ 60 := by show 0 + _ ≤ 60; omega
    have how := runF_how (cd := cd) (cd.length + 1) 0 (bg0 σ S.1 S.2.2.1)
    have hom := runF_om (rg := rg) (by omega) w4 (cd.length + 1) 0 (bg0 σ S.1 S.2.2.1) hb
    generalize hres : runF cd (cd.length + 1) 0 (bg0 σ S.1 S.2.2.1) = res at how hom
    have hXC : XC τ cd := c1.fr hF (by unfold SB1; refine ⟨by omega, ?_, ?_, ?_, ?_, ?_, ?_⟩ <;> intro i <;> omega)
    have key : ∀ υ, Fr SX τ υ → XR υ res.1 → ∀ (x1 : Int32) (ω : Sg), x1 = nI res.2.1 → (∀ c j, ¬ (c = 87 ∨ (c = 0 ∧ j = 24)) → ω c j = υ c j) → ω 0 24 = (if res.2.1 = 0 then -1 else nI res.2.2) → ω 87 0 = x1 → K 0 ω := by
      intro υ hG hXR x1 ω hx1 hω h24' h87
      refine hK 0 _ (fun K2 hk2 => ?_)
      have q : ∀ c j, ¬ (c = 11 ∨ c = 12 ∨ c = 13 ∨ c = 4 ∨ c = 87 ∨ (c = 0 ∧ (j = 23 ∨ j = 24 ∨ j = 25))) → ω c j = σ c j := by
        intro c j hn
        rw [hω c j (by omega), hG c j (by unfold SX; omega), hF c j (by unfold SB1; omega)]
      unfold w_m_run
      rw [q 58 22 (by omega), c5]
      refine s_may (fun q => absurd q (by decide)) (fun _ q => absurd q (by decide)) (fun _ _ => ⟨fun _ => ?_, fun q => absurd q (by decide)⟩)
      have q' : ∀ c j, ¬ (c = 58 ∧ j = 0) → up ω 58 0 0 c j = ω c j := by
        intro c j hn
        rw [up_at]
        repeat' split
        all_goals (first | rfl | omega)
      refine s_beginM (ρ := σ) (R := S.1) (O := S.2.2.1) (fun r hr => by rw [q' 85 r (by omega), q 85 r (by omega)]; exact r2.1 r hr) (fun r hr => by rw [q' 84 r (by omega), q 84 r (by omega)]; exact r2.2.2.1 r hr) ⟨fun v hv => by rw [q' 59 v (by omega), q 59 v (by omega)]; exact h1.1 v hv, fun v hv => by rw [q' 60 v (by omega), q 60 v (by omega)]; exact h1.2 v hv⟩ (fun α hA hMR a40 a42 => ?_)
      have hMC : MC α cd := ⟨by rw [hA 58 20 (by unfold SB2; omega), q' 58 20 (by omega), q 58 20 (by omega)]; exact c2.1, fun i p hp => by
        have e : ∀ k, α 70 k = σ 70 k := fun k => by rw [hA 70 k (by unfold SB2; omega), q' 70 k (by omega), q 70 k (by omega)]
        rw [e, e, e, e, e, e]
        exact c2.2 i p hp⟩
      refine ⟨cd.length + 2, s_runM (rg := rg) (by omega) w3 w4 (cd.length + 1) 0 _ α hMC hMR a42 (by omega) (by omega) hb (fun β hB hMR' b42 b40 b40' => ?_)⟩
      rw [hres] at hMR' b42 b40 b40'
      unfold w_m_run_54
      refine s_leave (fun γ hγ h82 => hk2 _ _ ?_)
      have g : ∀ c j, ¬ c = 82 → γ c j = β c j := fun c j hn => hγ c j hn
      have qq : ∀ c j, ¬ (c = 11 ∨ c = 12 ∨ c = 13 ∨ c = 4 ∨ c = 87 ∨ (82 ≤ c ∧ c ≤ 85) ∨ (c = 0 ∧ (j = 23 ∨ j = 24 ∨ j = 25)) ∨ (c = 58 ∧ (j = 0 ∨ j = 39 ∨ j = 40 ∨ j = 41 ∨ j = 42))) → γ c j = σ c j := by
        intro c j hn
        rw [g c j (by omega), hB c j (by unfold SM; omega), hA c j (by unfold SB2; omega), q' c j (by omega), q c j (by omega)]
      have gx : ∀ c j, (c < 58) → ¬ (c = 0 ∧ j = 24) → γ c j = υ c j := by
        intro c j hn hn2
        rw [g c j (by omega), hB c j (by unfold SM; omega), hA c j (by unfold SB2; omega), q' c j (by omega), hω c j (by omega)]
      have g24 : γ 0 24 = ω 0 24 := by rw [g 0 24 (by omega), hB 0 24 (by unfold SM; omega), hA 0 24 (by unfold SB2; omega), q' 0 24 (by omega)]
      refine ⟨⟨h1.fr (fun c j w => qq c j (by unfold fIP at w; omega)), ⟨z, h2.fr (fun c j w => qq c j (by unfold fIT at w; omega))⟩, by rw [qq 58 6 (by omega), qq 0 6 (by omega)]; exact h3, ⟨n, T, h4.fr (fun c j w => qq c j (by unfold fIX at w; omega)), cd, true, rg, ic, hC.fr (fun c j w => qq c j (by unfold fIC at w; omega))⟩, res.1, ⟨?_, ?_, hom, ?_, ?_⟩⟩, ?_, fun _ => ?_⟩
      · obtain ⟨u1, u2, u3, u4, u5⟩ := hXR
        exact ⟨fun r hr => by rw [gx 11 r (by omega) (by omega)]; exact u1 r hr, fun r hr => by rw [gx 12 r (by omega) (by omega)]; exact u2 r hr, fun r hr => by rw [gx 13 r (by omega) (by omega)]; exact u3 r hr, by rw [gx 0 23 (by omega) (by omega)]; exact u4, by rw [gx 0 25 (by omega) (by omega)]; exact u5⟩
      · obtain ⟨u1, u2, u3, u4, u5⟩ := hMR'
        exact ⟨fun r hr => by rw [g 85 r (by omega)]; exact u1 r hr, fun r hr => by rw [g 83 r (by omega)]; exact u2 r hr, fun r hr => by rw [g 84 r (by omega)]; exact u3 r hr, by rw [g 58 39 (by omega)]; exact u4, by rw [g 58 41 (by omega)]; exact u5⟩
      · intro v hv
        rw [h82 v hv]
        exact hMR'.1 v (by omega)
      · rw [g 58 40 (by omega), g24, h24']
        split
        · rename_i h0; rw [b40 h0, a40]
        · rename_i h0; rw [b40' h0]
      · rw [g 58 0 (by omega), hB 58 0 (by unfold SM; omega), hA 58 0 (by unfold SB2; omega)]; simp [up_at]
      · rw [g 87 0 (by omega), hB 87 0 (by unfold SM; omega), hA 87 0 (by unfold SB2; omega), q' 87 0 (by omega), h87, hx1, g 58 42 (by omega), b42]
    unfold w_x_runAll w_x_run_17
    refine ⟨cd.length + 1, s_runAll (rg := rg) (by omega) w3 w4 (cd.length + 1) 0 _ τ hXC hR0 (by omega) (by omega) hb (fun υ hG hXR h0 => ?_) (fun υ hG hXR h0 e1 e2 => ?_)⟩
    · rw [hres] at hXR h0
      refine key υ hG hXR 0 _ (by rw [h0]; rfl) (fun c j hn => by rw [up_ne (by omega)]) ?_ (by simp [up_at])
      rw [if_pos h0, up_ne (by omega), hG 0 24 (by unfold SX; omega), h24]
    · rw [hres] at hXR h0 e1 e2
      refine ⟨rfl, key υ hG hXR (υ 4 5) _ e1 (fun c j hn => ?_) ?_ (by simp [up_at])⟩
      · simp only [up_at]
        repeat' split
        all_goals (first | rfl | omega)
      · rw [if_neg h0]; simp [up_at, e2]

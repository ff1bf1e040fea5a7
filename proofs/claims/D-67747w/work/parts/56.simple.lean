/-! ## the plain operations -/
theorem Inv.fr {σ τ : Sg} (h : Inv σ) (e : ∀ c j, (c = 87 ∨ (c = 58 ∧ j = 0)) ∨ τ c j = σ c j) : Inv τ := by
  obtain ⟨h1, ⟨z, h2⟩, h3, ⟨n, T, h4, cd, hc, rg, ic, h5⟩, S, h6⟩ := h
  have q : ∀ c j, ¬ (c = 87 ∨ (c = 58 ∧ j = 0)) → τ c j = σ c j := fun c j z => (e c j).resolve_left z
  refine ⟨h1.fr (fun c j w => q c j (by unfold fIP at w; omega)), ⟨z, h2.fr (fun c j w => q c j (by unfold fIT at w; omega))⟩, by rw [q 58 6 (by omega), q 0 6 (by omega)]; exact h3, ⟨n, T, h4.fr (fun c j w => q c j (by unfold fIX at w; omega)), cd, hc, rg, ic, h5.fr (fun c j w => q c j (by unfold fIC at w; omega))⟩, S, h6.fr (fun c j w => q c j (by unfold fIR at w; omega))⟩
theorem Inv.out {σ : Sg} (h : Inv σ) (v : Int32) : Inv (up σ 87 0 v) := h.fr (fun c j => by
  by_cases hc : c = 87
  · exact Or.inl (Or.inl hc)
  · exact Or.inr (by rw [up_ne hc]))
theorem Inv.thr {σ : Sg} (h : Inv σ) (v : Int32) : Inv (up σ 58 0 v) := h.fr (fun c j => by
  by_cases hc : c = 58 ∧ j = 0
  · exact Or.inl (Or.inr hc)
  · exact Or.inr (by rw [up_at]; split <;> (try split) <;> (try rfl); omega))
theorem i15 : (15 : Int64).toInt = ((16 : Nat) : Int) - 1 := by decide
theorem i31 : (31 : Int64).toInt = ((32 : Nat) : Int) - 1 := by decide
theorem i8 : (8 : Int64).toInt = ((9 : Nat) : Int) - 1 := by decide
theorem i5 : (5 : Int64).toInt = ((6 : Nat) : Int) - 1 := by decide
theorem i3 : (3 : Int64).toInt = ((4 : Nat) : Int) - 1 := by decide
theorem o_variable {a b : Int32} {σ : Sg} (h : Inv σ) {K : Int32 → Sg → Prop} (hK : ∀ (k : Int32) (σ2 : Sg), (∀ K2 : Sg → Prop, (∀ τ, Inv τ → τ 58 0 = k → K2 τ) → w_m_variable a b σ2 K2) → K k σ2) : w_l_variable a b σ K := by
  unfold w_l_variable w_x_variable
  refine s_within ?_
  rcases win_n (x := a) (n := 16) (by omega) i15 with ⟨j, hj, rfl, hd⟩ | hd
  · rw [hd]
    refine ⟨fun _ => ⟨vp_in_nI hj (by omega), hK 0 _ (fun K2 h2 => ?_)⟩, fun z => absurd z (by decide)⟩
    unfold w_m_variable
    refine s_isIn ?_
    rw [hd]
    refine s_may (fun z => absurd z (by decide)) (fun _ z => absurd z (by decide)) (fun _ _ => ⟨fun z => absurd z (by decide), fun _ => ⟨vp_in_nI hj (by omega), ?_⟩⟩)
    unfold w_m_variable_24
    rw [nI_clamp (by omega)]
    refine h2 _ ?_ (by simp [up_at])
    obtain ⟨h1, ⟨z, h2⟩, h3, ⟨n, T, h4, cd, hc, rg, ic, h5⟩, S, h6⟩ := h
    have q : ∀ c i, ¬ (c = 9 ∨ c = 59 ∨ (c = 58 ∧ i = 0)) → up (up (up σ 9 j b) 58 0 0) 59 j b c i = σ c i := by
      intro c i z
      have c1 : ¬ c = 59 := by omega
      have c2 : ¬ c = 9 := by omega
      simp only [up_at, c1, c2, if_false]
      split
      · split
        · omega
        · rfl
      · rfl
    refine ⟨⟨fun v hv => ?_, fun v hv => ?_⟩, ⟨z, h2.fr (fun c j w => q c j (by unfold fIT at w; omega))⟩, by rw [q 58 6 (by omega), q 0 6 (by omega)]; exact h3, ⟨n, T, h4.fr (fun c j w => q c j (by unfold fIX at w; omega)), cd, hc, rg, ic, h5.fr (fun c j w => q c j (by unfold fIC at w; omega))⟩, S, h6.fr (fun c j w => q c j (by unfold fIR at w; omega))⟩
    · simp [up_at, h1.1 v hv]
    · simp [up_at, h1.2 v hv]
  · rw [hd]
    refine ⟨fun z => absurd rfl z, fun _ => ⟨rfl, fun _ => hK 1 σ (fun K2 h2 => ?_)⟩⟩
    unfold w_m_variable
    refine s_isIn ?_
    rw [hd]
    exact s_may (fun _ => ⟨fun _ => h2 _ (h.thr 1) (by simp [up_at]), fun z => absurd rfl z⟩) (fun z => absurd rfl z) (fun z => absurd rfl z)
theorem o_word {a b : Int32} {σ : Sg} (h : Inv σ) {K : Int32 → Sg → Prop} (hK : ∀ (k : Int32) (σ2 : Sg), (∀ K2 : Sg → Prop, (∀ τ, Inv τ → τ 58 0 = k → K2 τ) → w_m_word a b σ2 K2) → K k σ2) : w_l_word a b σ K := by
  unfold w_l_word w_x_word
  refine s_within ?_
  rcases win_n (x := a) (n := 32) (by omega) i31 with ⟨j, hj, rfl, hd⟩ | hd
  · rw [hd]
    refine ⟨fun _ => ⟨vp_in_nI hj (by omega), hK 0 _ (fun K2 h2 => ?_)⟩, fun z => absurd z (by decide)⟩
    unfold w_m_word
    refine s_isIn ?_
    rw [hd]
    refine s_may (fun z => absurd z (by decide)) (fun _ z => absurd z (by decide)) (fun _ _ => ⟨fun z => absurd z (by decide), fun _ => ⟨vp_in_nI hj (by omega), ?_⟩⟩)
    unfold w_m_word_24
    rw [nI_clamp (by omega)]
    refine h2 _ ?_ (by simp [up_at])
    obtain ⟨h1, ⟨z, h2⟩, h3, ⟨n, T, h4, cd, hc, rg, ic, h5⟩, S, h6⟩ := h
    have q : ∀ c i, ¬ (c = 10 ∨ c = 60 ∨ (c = 58 ∧ i = 0)) → up (up (up σ 10 j b) 58 0 0) 60 j b c i = σ c i := by
      intro c i z
      have c1 : ¬ c = 60 := by omega
      have c2 : ¬ c = 10 := by omega
      simp only [up_at, c1, c2, if_false]
      split
      · split
        · omega
        · rfl
      · rfl
    refine ⟨⟨fun v hv => ?_, fun v hv => ?_⟩, ⟨z, h2.fr (fun c j w => q c j (by unfold fIT at w; omega))⟩, by rw [q 58 6 (by omega), q 0 6 (by omega)]; exact h3, ⟨n, T, h4.fr (fun c j w => q c j (by unfold fIX at w; omega)), cd, hc, rg, ic, h5.fr (fun c j w => q c j (by unfold fIC at w; omega))⟩, S, h6.fr (fun c j w => q c j (by unfold fIR at w; omega))⟩
    · simp [up_at, h1.1 v hv]
    · simp [up_at, h1.2 v hv]
  · rw [hd]
    refine ⟨fun z => absurd rfl z, fun _ => ⟨rfl, fun _ => hK 1 σ (fun K2 h2 => ?_)⟩⟩
    unfold w_m_word
    refine s_isIn ?_
    rw [hd]
    exact s_may (fun _ => ⟨fun _ => h2 _ (h.thr 1) (by simp [up_at]), fun z => absurd rfl z⟩) (fun z => absurd rfl z) (fun z => absurd rfl z)
theorem o_fault {σ : Sg} (h : Inv σ) {K : Int32 → Sg → Prop} (hK : ∀ (k : Int32) (σ2 : Sg), (∀ K2 : Int32 → Sg → Prop, (∀ τ, Inv τ → K2 k τ) → w_m_fault σ2 K2) → K k σ2) : w_x_fault σ K := by
  unfold w_x_fault
  refine hK _ _ (fun K2 h2 => ?_)
  unfold w_m_fault
  rw [h.2.2.1]
  exact h2 _ (h.thr 0)
/-- an answer's form: what the class laid into out, and the model's answer -/
def An (k b : Int32) (τ : Sg) : Prop := Inv τ ∧ τ 58 0 = k ∧ (k = 0 → (τ 87 0).toInt64 = b.toInt64)
theorem o_left {a : Int32} {σ : Sg} (h : Inv σ) {K : Int32 → Sg → Prop} (hK : ∀ (k : Int32) (σ2 : Sg), (∀ K2 : Int32 → Sg → Prop, (∀ b τ, An k b τ → K2 b τ) → w_m_left a σ2 K2) → K k σ2) : w_l_left a σ K := by
  unfold w_l_left w_x_left
  refine s_within ?_
  have hI := h
  obtain ⟨-, -, -, -, S, h6⟩ := h
  rcases win_n (x := a) (n := 16) (by omega) i15 with ⟨j, hj, rfl, hd⟩ | hd
  · rw [hd]
    refine ⟨fun _ => ⟨vp_in_nI (by omega) (by omega), hK 0 _ (fun K2 h2 => ?_)⟩, fun z => absurd z (by decide)⟩
    unfold w_m_left
    refine s_isIn ?_
    rw [hd]
    refine s_may (fun z => absurd z (by decide)) (fun _ z => absurd z (by decide)) (fun _ _ => ⟨fun z => absurd z (by decide), fun _ => ⟨vp_in_nI hj (by omega), ?_⟩⟩)
    refine h2 _ _ ⟨(hI.out _).thr 0, by simp [up_at], fun _ => ?_⟩
    simp only [up_at, nI_clamp (show j < 2 ^ 31 by omega)]
    simp [h6.1.1 j (by omega), h6.2.2.2.1 j hj]
  · rw [hd]
    refine ⟨fun z => absurd rfl z, fun _ => ⟨rfl, fun _ => hK 1 σ (fun K2 h2 => ?_)⟩⟩
    unfold w_m_left
    refine s_isIn ?_
    rw [hd]
    exact s_may (fun _ => ⟨fun _ => h2 _ _ ⟨hI.thr 1, by simp [up_at], fun z => absurd z (by decide)⟩, fun z => absurd rfl z⟩) (fun z => absurd rfl z) (fun z => absurd rfl z)
theorem o_kept {a : Int32} {σ : Sg} (h : Inv σ) {K : Int32 → Sg → Prop} (hK : ∀ (k : Int32) (σ2 : Sg), (∀ K2 : Int32 → Sg → Prop, (∀ b τ, An k b τ → K2 b τ) → w_m_kept a σ2 K2) → K k σ2) : w_l_kept a σ K := by
  unfold w_l_kept w_x_kept
  refine s_within ?_
  have hI := h
  obtain ⟨-, -, -, -, S, h6⟩ := h
  rcases win_n (x := a) (n := 32) (by omega) i31 with ⟨j, hj, rfl, hd⟩ | hd
  · rw [hd]
    refine ⟨fun _ => ⟨vp_in_nI (by omega) (by omega), hK 0 _ (fun K2 h2 => ?_)⟩, fun z => absurd z (by decide)⟩
    unfold w_m_kept
    refine s_isIn ?_
    rw [hd]
    refine s_may (fun z => absurd z (by decide)) (fun _ z => absurd z (by decide)) (fun _ _ => ⟨fun z => absurd z (by decide), fun _ => ⟨vp_in_nI hj (by omega), ?_⟩⟩)
    refine h2 _ _ ⟨(hI.out _).thr 0, by simp [up_at], fun _ => ?_⟩
    simp only [up_at, nI_clamp (show j < 2 ^ 31 by omega)]
    simp [h6.1.2.1 j (by omega), h6.2.1.2.1 j hj]
  · rw [hd]
    refine ⟨fun z => absurd rfl z, fun _ => ⟨rfl, fun _ => hK 1 σ (fun K2 h2 => ?_)⟩⟩
    unfold w_m_kept
    refine s_isIn ?_
    rw [hd]
    exact s_may (fun _ => ⟨fun _ => h2 _ _ ⟨hI.thr 1, by simp [up_at], fun z => absurd z (by decide)⟩, fun z => absurd rfl z⟩) (fun z => absurd rfl z) (fun z => absurd rfl z)
theorem o_output {a : Int32} {σ : Sg} (h : Inv σ) {K : Int32 → Sg → Prop} (hK : ∀ (k : Int32) (σ2 : Sg), (∀ K2 : Int32 → Sg → Prop, (∀ b τ, An k b τ → K2 b τ) → w_m_output a σ2 K2) → K k σ2) : w_l_output a σ K := by
  unfold w_l_output w_x_output
  refine s_within ?_
  have hI := h
  obtain ⟨-, -, -, -, S, h6⟩ := h
  rw [h6.1.2.2.2.1]
  rcases win_n (x := a) (n := S.2.2.2.1) (by have := h6.2.2.1; omega) (pre_toInt (by have := h6.2.2.1; omega)) with ⟨j, hj, rfl, hd⟩ | hd
  · have hom := h6.2.2.1
    rw [hd]
    refine ⟨fun _ => ⟨vp_in_nI (by omega) (by omega), hK 0 _ (fun K2 h2 => ?_)⟩, fun z => absurd z (by decide)⟩
    unfold w_m_output
    refine s_isIn ?_
    rw [show (up σ 87 0 (σ 13 (nI j).toNatClampNeg)) 58 39 = nI S.2.2.2.1 by simp [up_at]; exact h6.2.1.2.2.2.1, hd]
    refine s_may (fun z => absurd z (by decide)) (fun _ z => absurd z (by decide)) (fun _ _ => ⟨fun z => absurd z (by decide), fun _ => ⟨vp_in_nI (by omega) (by omega), ?_⟩⟩)
    refine h2 _ _ ⟨(hI.out _).thr 0, by simp [up_at], fun _ => ?_⟩
    simp only [up_at, nI_clamp (show j < 2 ^ 31 by omega)]
    simp [h6.1.2.2.1 j (by omega), h6.2.1.2.2.1 j (by omega)]
  · rw [hd]
    refine ⟨fun z => absurd rfl z, fun _ => ⟨rfl, fun _ => hK 1 σ (fun K2 h2 => ?_)⟩⟩
    unfold w_m_output
    refine s_isIn ?_
    rw [h6.2.1.2.2.2.1, hd]
    exact s_may (fun _ => ⟨fun _ => h2 _ _ ⟨hI.thr 1, by simp [up_at], fun z => absurd z (by decide)⟩, fun z => absurd rfl z⟩) (fun z => absurd rfl z) (fun z => absurd rfl z)

/-! ## step, statement, count -/
/-- a sum of m numbers from i on -/
def sm9 (g : Nat → Int32) : Nat → Nat → Int32 → Int32
  | 0, _, acc => acc
  | m + 1, i, acc => sm9 g m (i + 1) (acc + g i)
def gOf (cd : List Ps) (v : Int32) (i : Nat) : Int32 := match cd[i]? with
  | some p => if nI p.2.2.2.2.2 = v then 1 else 0
  | none => 0
def gJm (cd : List Ps) (i : Nat) : Int32 := match cd[i]? with
  | some p => if p.1 = 16 ∨ p.1 = 17 then 1 else 0
  | none => 0
theorem cd_at {cd : List Ps} {i : Nat} (h : i < cd.length) : ∃ p, cd[i]? = some p := ⟨_, List.getElem?_eq_getElem h⟩
theorem s_stepsOf_4 {cd : List Ps} {v : Int32} {σ : Sg} (hC : XC σ cd) (hl : cd.length ≤ 3000) {Q : Int32 → Sg → Prop} : ∀ (m i : Nat) (acc : Int32), i + m = cd.length → Q (sm9 (gOf cd v) m i acc) σ → w_x_stepsOf_4 Q (m + 1) v acc (nI i) σ := by
  intro m
  induction m with
  | zero =>
    intro i acc hi hQ
    unfold w_x_stepsOf_4
    exact ⟨fun _ => hQ, fun z => absurd (by rw [hC.1]; exact nI_le (by omega) (by omega)) z⟩
  | succ m ih =>
    intro i acc hi hQ
    unfold w_x_stepsOf_4 w_x_stepsOf_28
    obtain ⟨p, hp⟩ := cd_at (cd := cd) (i := i) (by omega)
    have h7 := (hC.2 i p hp).2.2.2.2.2
    have hg : gOf cd v i = if nI p.2.2.2.2.2 = v then 1 else 0 := by unfold gOf; rw [hp]
    rw [sm9, hg] at hQ
    refine ⟨fun z => absurd z (by rw [hC.1]; exact nI_ge (by omega) (by omega)), fun _ => ⟨vp_in_nI (by omega) (by omega), fun z => ?_, fun z => ?_⟩⟩
    · rw [nI_clamp (by omega), h7] at z
      rw [if_neg z] at hQ
      intro x1 e1 x2 e2
      subst e1 e2
      rw [nI_1]
      exact ih (i + 1) _ (by omega) hQ
    · rw [nI_clamp (by omega), h7] at z
      rw [if_pos z] at hQ
      intro x1 e1 x2 e2
      subst e1 e2
      rw [nI_1]
      exact ih (i + 1) _ (by omega) hQ
theorem s_stepsOfM {cd : List Ps} {v : Int32} {σ : Sg} (hC : MC σ cd) (hl : cd.length ≤ 3000) {Q : Int32 → Sg → Prop} : ∀ (m i : Nat) (acc : Int32), i + m = cd.length → Q (sm9 (gOf cd v) m i acc) σ → w_m_statement_80 Q (m + 1) v acc (nI i) σ := by
  intro m
  induction m with
  | zero =>
    intro i acc hi hQ
    unfold w_m_statement_80
    exact ⟨fun _ => hQ, fun z => absurd (by rw [hC.1]; exact nI_le (by omega) (by omega)) z⟩
  | succ m ih =>
    intro i acc hi hQ
    unfold w_m_statement_80 w_m_statement_111
    obtain ⟨p, hp⟩ := cd_at (cd := cd) (i := i) (by omega)
    have h7 := (hC.2 i p hp).2.2.2.2.2
    have hg : gOf cd v i = if nI p.2.2.2.2.2 = v then 1 else 0 := by unfold gOf; rw [hp]
    rw [sm9, hg] at hQ
    rw [show (6 * nI i + 5 : Int32) = nI (6 * i + 5) from pk_6 i 5, nI_clamp (by omega), h7]
    refine ⟨fun z => absurd z (by rw [hC.1]; exact nI_ge (by omega) (by omega)), fun _ => ⟨vp_in_nI (by omega) (by omega), fun z => ?_, fun z => ?_⟩⟩
    · rw [if_neg z] at hQ
      intro x1 e1 x2 e2
      subst e1 e2
      rw [nI_1]
      exact ih (i + 1) _ (by omega) hQ
    · rw [if_pos z] at hQ
      intro x1 e1 x2 e2
      subst e1 e2
      rw [nI_1]
      exact ih (i + 1) _ (by omega) hQ
theorem s_jumps_4 {cd : List Ps} {σ : Sg} (hC : XC σ cd) (hl : cd.length ≤ 3000) (hk : ∀ (i : Nat) (p : Ps), cd[i]? = some p → p.1 ≤ 18) {Q : Int32 → Sg → Prop} : ∀ (m i : Nat) (acc : Int32), i + m = cd.length → Q (sm9 (gJm cd) m i acc) σ → w_x_jumps_4 Q (m + 1) acc (nI i) σ := by
  intro m
  induction m with
  | zero =>
    intro i acc hi hQ
    unfold w_x_jumps_4
    exact ⟨fun _ => hQ, fun z => absurd (by rw [hC.1]; exact nI_le (by omega) (by omega)) z⟩
  | succ m ih =>
    intro i acc hi hQ
    unfold w_x_jumps_4 w_x_jumps_35 w_x_jumps_40
    obtain ⟨p, hp⟩ := cd_at (cd := cd) (i := i) (by omega)
    have h6 := (hC.2 i p hp).1
    have hk' := hk i p hp
    have hg : gJm cd i = if p.1 = 16 ∨ p.1 = 17 then 1 else 0 := by unfold gJm; rw [hp]
    have cv : ∀ k, k < 100 → (nI p.1 = nI k ↔ p.1 = k) := fun k hk => nI_eq (by omega) (by omega)
    rw [sm9, hg] at hQ
    rw [nI_clamp (by omega), h6]
    refine ⟨fun z => absurd z (by rw [hC.1]; exact nI_ge (by omega) (by omega)), fun _ => ⟨vp_in_nI (by omega) (by omega), fun z => ?_, fun y => ⟨vp_in_nI (by omega) (by omega), fun z => ?_, fun z => ?_⟩⟩⟩
    · rw [if_pos (Or.inl ((cv 16 (by omega)).mp z))] at hQ
      intro x1 e1 x2 e2
      subst e1 e2
      rw [nI_1]
      exact ih (i + 1) _ (by omega) hQ
    · rw [if_neg (fun q => q.elim (fun q => y ((cv 16 (by omega)).mpr q)) (fun q => z ((cv 17 (by omega)).mpr q)))] at hQ
      intro x1 e1 x2 e2
      subst e1 e2
      rw [nI_1]
      exact ih (i + 1) _ (by omega) hQ
    · rw [if_pos (Or.inr ((cv 17 (by omega)).mp z))] at hQ
      intro x1 e1 x2 e2
      subst e1 e2
      rw [nI_1]
      exact ih (i + 1) _ (by omega) hQ
theorem s_jumpsM {cd : List Ps} {σ : Sg} (hC : MC σ cd) (hl : cd.length ≤ 3000) (hk : ∀ (i : Nat) (p : Ps), cd[i]? = some p → p.1 ≤ 18) {Q : Int32 → Sg → Prop} : ∀ (m i : Nat) (acc : Int32), i + m = cd.length → Q (sm9 (gJm cd) m i acc) σ → w_m_countJumps_4 Q (m + 1) acc (nI i) σ := by
  intro m
  induction m with
  | zero =>
    intro i acc hi hQ
    unfold w_m_countJumps_4
    exact ⟨fun _ => hQ, fun z => absurd (by rw [hC.1]; exact nI_le (by omega) (by omega)) z⟩
  | succ m ih =>
    intro i acc hi hQ
    unfold w_m_countJumps_4 w_m_countJumps_41 w_m_countJumps_46
    obtain ⟨p, hp⟩ := cd_at (cd := cd) (i := i) (by omega)
    have h6 := (hC.2 i p hp).1
    have hk' := hk i p hp
    have hg : gJm cd i = if p.1 = 16 ∨ p.1 = 17 then 1 else 0 := by unfold gJm; rw [hp]
    have cv : ∀ k, k < 100 → (nI p.1 = nI k ↔ p.1 = k) := fun k hk => nI_eq (by omega) (by omega)
    rw [sm9, hg] at hQ
    rw [pk_60, nI_clamp (by omega), h6]
    refine ⟨fun z => absurd z (by rw [hC.1]; exact nI_ge (by omega) (by omega)), fun _ => ⟨vp_in_nI (by omega) (by omega), fun z => ?_, fun y => ⟨vp_in_nI (by omega) (by omega), fun z => ?_, fun z => ?_⟩⟩⟩
    · rw [if_pos (Or.inl ((cv 16 (by omega)).mp z))] at hQ
      intro x1 e1 x2 e2
      subst e1 e2
      rw [nI_1]
      exact ih (i + 1) _ (by omega) hQ
    · rw [if_neg (fun q => q.elim (fun q => y ((cv 16 (by omega)).mpr q)) (fun q => z ((cv 17 (by omega)).mpr q)))] at hQ
      intro x1 e1 x2 e2
      subst e1 e2
      rw [nI_1]
      exact ih (i + 1) _ (by omega) hQ
    · rw [if_pos (Or.inr ((cv 17 (by omega)).mp z))] at hQ
      intro x1 e1 x2 e2
      subst e1 e2
      rw [nI_1]
      exact ih (i + 1) _ (by omega) hQ
theorem s_conv_4 {n : Nat} {T : Nat → St9} {cd : List Ps} {hc : Bool} {rg : Nat} {ic : Nat → Bool} {σ : Sg} (hX : IX σ n T) (hC : IC σ n T cd hc rg ic) {Q : Int32 → Sg → Prop} : ∀ (m i : Nat) (acc : Int32), i + m = n → Q (sm9 (fun s => bI (ic s)) m i acc) σ → w_x_converted_4 Q (m + 1) acc (nI i) σ := by
  obtain ⟨x1, x2, x3, x4, x5⟩ := hX
  obtain ⟨c1, c2, c3, c4, c5, c6, c7, c8, c9⟩ := hC
  intro m
  induction m with
  | zero =>
    intro i acc hi hQ
    unfold w_x_converted_4
    exact ⟨fun _ => hQ, fun z => absurd (by rw [x1]; exact nI_le (by omega) (by omega)) z⟩
  | succ m ih =>
    intro i acc hi hQ
    unfold w_x_converted_4 w_x_converted_49 w_x_converted_50
    have h9 := c9 i (by omega)
    have h36 := (x5 i (by omega)).1.1
    have hso := (x5 i (by omega)).2.2.1
    have hgo : ∀ v : Int32, bI (ic i) = v → ∀ x1 : Int32, x1 = acc + v → ∀ x2 : Int32, x2 = nI i + 1 → w_x_converted_4 Q (m + 1) x1 x2 σ := by
      intro v hv x1 e1 x2 e2
      subst e1 e2 hv
      rw [nI_1]
      rw [sm9] at hQ
      exact ih (i + 1) _ (by omega) hQ
    rw [nI_clamp (by omega), h36, c4]
    refine ⟨fun z => absurd z (by rw [x1]; exact nI_ge (by omega) (by omega)), fun _ => ⟨fun z => ?_, fun y => ⟨vp_in_nI (by omega) (by omega), fun z => ?_, fun z => ⟨vp_in_nI (by omega) (by omega), fun w => ?_, fun w => ?_⟩⟩⟩⟩
    · refine hgo 0 (bI_0.mpr ?_)
      cases hi : ic i with
      | false => rfl
      | true => have := (h9.2.2 hi).1; rw [bI_0] at z; rw [this] at z; cases z
    · refine hgo 0 (bI_0.mpr ?_)
      cases hi : ic i with
      | false => rfl
      | true => exact absurd (by rw [(h9.2.2 hi).2]; rfl) z
    · have hct : hc = true := by cases hc with
        | false => exact absurd rfl y
        | true => rfl
      rw [h9.2.1 hct ((nI_eq (by omega) (by omega)).mp z)] at w
      exact hgo 0 w
    · have hct : hc = true := by cases hc with
        | false => exact absurd rfl y
        | true => rfl
      rw [h9.2.1 hct ((nI_eq (by omega) (by omega)).mp z)] at w
      refine hgo 1 (bI_1.mpr ?_)
      cases hi : ic i with
      | false => rw [hi] at w; exact absurd rfl w
      | true => rfl
theorem s_convM {n : Nat} {T : Nat → St9} {cd : List Ps} {hc : Bool} {rg : Nat} {ic : Nat → Bool} {σ : Sg} (hX : IX σ n T) (hC : IC σ n T cd hc rg ic) {Q : Int32 → Sg → Prop} : ∀ (m i : Nat) (acc : Int32), i + m = n → Q (sm9 (fun s => bI (ic s)) m i acc) σ → w_m_countConverted_4 Q (m + 1) acc (nI i) σ := by
  obtain ⟨x1, x2, x3, x4, x5⟩ := hX
  obtain ⟨c1, c2, c3, c4, c5, c6, c7, c8, c9⟩ := hC
  intro m
  induction m with
  | zero =>
    intro i acc hi hQ
    unfold w_m_countConverted_4
    exact ⟨fun _ => hQ, fun z => absurd (by rw [x2]; exact nI_le (by omega) (by omega)) z⟩
  | succ m ih =>
    intro i acc hi hQ
    unfold w_m_countConverted_4 w_m_countConverted_27
    have h9 := c9 i (by omega)
    have hgo : ∀ v : Int32, bI (ic i) = v → ∀ x1 : Int32, x1 = acc + v → ∀ x2 : Int32, x2 = nI i + 1 → w_m_countConverted_4 Q (m + 1) x1 x2 σ := by
      intro v hv x1 e1 x2 e2
      subst e1 e2 hv
      rw [nI_1]
      rw [sm9] at hQ
      exact ih (i + 1) _ (by omega) hQ
    rw [nI_clamp (by omega), h9.1]
    refine ⟨fun z => absurd z (by rw [x2]; exact nI_ge (by omega) (by omega)), fun _ => ⟨vp_in_nI (by omega) (by omega), fun z => hgo 0 z, fun z => hgo 1 (bI_1.mpr ?_)⟩⟩
    cases hi : ic i with
    | false => rw [hi] at z; exact absurd rfl z
    | true => rfl

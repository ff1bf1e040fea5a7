/-! the model's trim -/
theorem s_names {cd : List Ps} {σ : Sg} (hC : MC σ cd) (hl : cd.length ≤ 3000) {i : Nat} {p : Ps} (hp : cd[i]? = some p) (hc : p.1 ≤ 18) {r : Int32} {Q : Int32 → Sg → Prop} (hQ : ∀ b : Bool, (b = true ↔ nm9 p r) → Q (bI b) σ) : w_m_names (nI i) r σ Q := by
  obtain ⟨c, a, b, d, e, o⟩ := p
  obtain ⟨g0, g1, g2, g3, g4, g5⟩ := hC.2 i _ hp
  simp only at g0 g1 g2 g3 g4 g5 hc
  have hlt : i < cd.length := (List.getElem?_eq_some_iff.mp hp).1
  unfold w_m_names w_m_names_208 w_m_names_148 w_m_names_238 w_m_names_123 w_m_names_153 w_m_names_171 w_m_names_213 w_m_names_243
  have q0 : ∀ k, k < 6 → (nI (6 * i + k)).toNatClampNeg = 6 * i + k := fun k hk => nI_clamp (by omega)
  have q1 : ∀ k, k < 6 → vp_in (nI (6 * i + k)) 24000 := fun k hk => vp_in_nI (by omega) (by omega)
  have v0 : vp_in (nI (6 * i)) 24000 := q1 0 (by omega)
  have e0 : (nI (6 * i)).toNatClampNeg = 6 * i := q0 0 (by omega)
  have a1 : nI (6 * i) + 1 = nI (6 * i + 1) := nI_add _ 1
  have a2 : nI (6 * i) + 2 = nI (6 * i + 2) := nI_add _ 2
  have a3 : nI (6 * i) + 3 = nI (6 * i + 3) := nI_add _ 3
  have a4 : nI (6 * i) + 4 = nI (6 * i + 4) := nI_add _ 4
  intro x1 e1
  rw [pk_60] at e1
  subst e1
  rw [e0, a1, a2, a3, a4, q0 1 (by omega), q0 2 (by omega), q0 3 (by omega), q0 4 (by omega), g0, g1, g2, g3, g4]
  refine ⟨v0, ?_⟩
  intro x2 e2
  subst e2
  have cv : ∀ k, k < 100 → (nI c = nI k ↔ c = k) := fun k hk => nI_eq (by omega) (by omega)
  have hn : nm9 (c, a, b, d, e, o) r ↔ ((c = 15 ∨ c = 17 ∨ c = 18) ∧ a = r) ∨ ((1 ≤ c ∧ c ≤ 15) ∧ b = r) ∨ ((2 ≤ c ∧ c ≤ 13) ∧ d = r) ∨ (c = 13 ∧ e = r) := Iff.rfl
  have yes : nm9 (c, a, b, d, e, o) r → bz 1 ∧ Q 1 σ := fun h => ⟨bz_1, hQ true ⟨fun _ => h, fun _ => rfl⟩⟩
  have no : ¬ nm9 (c, a, b, d, e, o) r → bz 0 ∧ Q 0 σ := fun h => ⟨bz_0, hQ false ⟨fun z => (by cases z), fun z => absurd z h⟩⟩
  rw [hn] at yes no
  refine ⟨fun z => (no (by have := (cv 0 (by omega)).mp z; omega)).2, fun z0 => ⟨fun z => ⟨q1 2 (by omega), fun y => no ?_, fun y => yes ?_⟩, fun z1 => ⟨fun z => ⟨q1 2 (by omega), fun y => yes ?_, fun y => ⟨q1 3 (by omega), fun y2 => yes ?_, fun y2 => ⟨q1 4 (by omega), fun y3 => no ?_, fun y3 => yes ?_⟩⟩⟩, fun z13 => ⟨fun z => ⟨q1 2 (by omega), fun y => no ?_, fun y => yes ?_⟩, fun z14 => ⟨fun z => ⟨q1 1 (by omega), fun y => yes ?_, fun y => ⟨q1 2 (by omega), fun y2 => no ?_, fun y2 => yes ?_⟩⟩, fun z15 => ⟨fun z => (no ?_).2, fun z16 => ⟨fun z => ⟨q1 1 (by omega), fun y => no ?_, fun y => yes ?_⟩, fun z17 => ⟨fun z => ⟨q1 1 (by omega), fun y => no ?_, fun y => yes ?_⟩, fun z18 => ⟨q1 2 (by omega), fun y => yes ?_, fun y => ⟨q1 3 (by omega), fun y2 => no ?_, fun y2 => yes ?_⟩⟩⟩⟩⟩⟩⟩⟩⟩⟩
  · have := (cv 1 (by omega)).mp z; rintro (h | h | h | h) <;> first | omega | exact y h.2
  · have := (cv 1 (by omega)).mp z; exact Or.inr (Or.inl ⟨by omega, y⟩)
  · have := (cv 13 (by omega)).mp z; exact Or.inr (Or.inl ⟨by omega, y⟩)
  · have := (cv 13 (by omega)).mp z; exact Or.inr (Or.inr (Or.inl ⟨by omega, y2⟩))
  · have := (cv 13 (by omega)).mp z; rintro (h | h | h | h) <;> first | omega | exact y h.2 | exact y2 h.2 | exact y3 h.2
  · have := (cv 13 (by omega)).mp z; exact Or.inr (Or.inr (Or.inr ⟨by omega, y3⟩))
  · have := (cv 14 (by omega)).mp z; rintro (h | h | h | h) <;> first | omega | exact y h.2
  · have := (cv 14 (by omega)).mp z; exact Or.inr (Or.inl ⟨by omega, y⟩)
  · have := (cv 15 (by omega)).mp z; exact Or.inl ⟨by omega, y⟩
  · have := (cv 15 (by omega)).mp z; rintro (h | h | h | h) <;> first | omega | exact y h.2 | exact y2 h.2
  · have := (cv 15 (by omega)).mp z; exact Or.inr (Or.inl ⟨by omega, y2⟩)
  · have := (cv 16 (by omega)).mp z; rintro (h | h | h | h) <;> omega
  · have := (cv 17 (by omega)).mp z; rintro (h | h | h | h) <;> first | omega | exact y h.2
  · have := (cv 17 (by omega)).mp z; exact Or.inl ⟨by omega, y⟩
  · have := (cv 18 (by omega)).mp z; rintro (h | h | h | h) <;> first | omega | exact y h.2
  · have := (cv 18 (by omega)).mp z; exact Or.inl ⟨by omega, y⟩
  all_goals (have n0 : ¬ c = 0 := fun q => z0 ((cv 0 (by omega)).mpr q))
  all_goals (have n1 : ¬ c = 1 := fun q => z1 ((cv 1 (by omega)).mpr q))
  all_goals (have n13 : ¬ c = 13 := fun q => z13 ((cv 13 (by omega)).mpr q))
  all_goals (have n14 : ¬ c = 14 := fun q => z14 ((cv 14 (by omega)).mpr q))
  all_goals (have n15 : ¬ c = 15 := fun q => z15 ((cv 15 (by omega)).mpr q))
  all_goals (have n16 : ¬ c = 16 := fun q => z16 ((cv 16 (by omega)).mpr q))
  all_goals (have n17 : ¬ c = 17 := fun q => z17 ((cv 17 (by omega)).mpr q))
  all_goals (have n18 : ¬ c = 18 := fun q => z18 ((cv 18 (by omega)).mpr q))
  · exact Or.inr (Or.inl ⟨by omega, y⟩)
  · rintro (h | h | h | h) <;> first | omega | exact y h.2 | exact y2 h.2
  · exact Or.inr (Or.inr (Or.inl ⟨by omega, y2⟩))
/-- which are marked -/
def MG (σ : Sg) (len : Nat) (G : Nat → Bool) : Prop := ∀ i, i < len → σ 81 i = bI (G i)
theorem s_isUselessM_95 {cd : List Ps} {σ : Sg} (hC : MC σ cd) (hl : cd.length ≤ 3000) (hc : ∀ (i : Nat) (p : Ps), cd[i]? = some p → p.1 ≤ 18) {G : Nat → Bool} (hG : MG σ cd.length G) {i : Nat} (hi : i < cd.length) {r : Int32} {Q : Int32 → Sg → Prop} (hQ : ∀ b : Bool, (b = true ↔ ∀ (k : Nat) (q : Ps), ¬ k = i → G k = false → cd[k]? = some q → ¬ nm9 q r) → Q (bI b) σ) : ∀ (m j : Nat), j + m = cd.length → (∀ (k : Nat) (q : Ps), k < j → ¬ k = i → G k = false → cd[k]? = some q → ¬ nm9 q r) → w_m_isUseless_95 Q (m + 1) (nI i) r (nI j) σ := by
  intro m
  induction m with
  | zero =>
    intro j hj h
    unfold w_m_isUseless_95
    refine ⟨fun _ => hQ true ⟨fun _ k q h1 h2 h3 => h k q ?_ h1 h2 h3, fun _ => rfl⟩, fun z => absurd (by rw [hC.1]; exact nI_le (by omega) (by omega)) z⟩
    have := (List.getElem?_eq_some_iff.mp h3).1
    omega
  | succ m ih =>
    intro j hj h
    obtain ⟨p, hp⟩ := cd_at (cd := cd) (i := j) (by omega)
    unfold w_m_isUseless_95 w_m_isUseless_132
    rw [nI_1, nI_clamp (by omega), hG j (by omega)]
    have hgo : (¬ j = i → G j = false → ¬ nm9 p r) → ∀ x1 : Int32, x1 = nI (j + 1) → w_m_isUseless_95 Q (m + 1) (nI i) r x1 σ := by
      intro hj2 x1 e1
      subst e1
      refine ih (j + 1) (by omega) (fun k q h1 h2 h3 h4 => ?_)
      by_cases e : k = j
      · subst e
        cases hp.symm.trans h4
        exact hj2 h2 h3
      · exact h k q (by omega) h2 h3 h4
    refine ⟨fun z => absurd z (by rw [hC.1]; exact nI_ge (by omega) (by omega)), fun _ => ⟨fun z => hgo (fun y => absurd ((nI_eq (by omega) (by omega)).mp z) y), fun z => ⟨vp_in_nI (by omega) (by omega), fun y => hgo (fun _ q => absurd (bI_0.mpr q) y), fun y => ?_⟩⟩⟩
    refine s_names hC hl hp (hc j p hp) (fun b hb => ⟨fun w => hgo (fun _ _ q => ?_), fun w => ?_⟩)
    · rw [hb.mpr q] at w; exact absurd w (by decide)
    · refine hQ false ⟨fun q => (by cases q), fun q => ?_⟩
      have hbt : b = true := by
        cases b with
        | false => exact absurd rfl w
        | true => rfl
      exact absurd (hb.mp hbt) (q j p (fun e => z (by rw [e])) (bI_0.mp y) hp)
/-- useless: it may go, is not marked, and none that is not marked takes its register -/
theorem s_isUselessM {cd : List Ps} {σ : Sg} (hC : MC σ cd) (hl : cd.length ≤ 3000) (hc : ∀ (i : Nat) (p : Ps), cd[i]? = some p → p.1 ≤ 18) {G : Nat → Bool} (hG : MG σ cd.length G) {i : Nat} {p : Ps} (hp : cd[i]? = some p) {Q : Int32 → Sg → Prop} (hQ : ∀ b : Bool, (b = true ↔ G i = false ∧ rem9 p ∧ ∀ (k : Nat) (q : Ps), ¬ k = i → G k = false → cd[k]? = some q → ¬ nm9 q p.2.1) → Q (bI b) σ) : w_m_isUseless (nI i) σ Q := by
  have hi : i < cd.length := (List.getElem?_eq_some_iff.mp hp).1
  have h18 := hc i p hp
  obtain ⟨g0, g1, g2, g3, g4, g5⟩ := hC.2 i _ hp
  have cv : ∀ k, k < 100 → (nI p.1 = nI k ↔ p.1 = k) := fun k hk => nI_eq (by omega) (by omega)
  have a1 : 6 * nI i + 1 = nI (6 * i + 1) := pk_6 i 1
  unfold w_m_isUseless w_m_isUseless_63 w_m_isUseless_68 w_m_isUseless_90
  rw [a1, pk_60, nI_clamp (show 6 * i < 2 ^ 31 by omega), nI_clamp (show 6 * i + 1 < 2 ^ 31 by omega), nI_clamp (show i < 2 ^ 31 by omega), g0, g1, hG i hi]
  refine ⟨vp_in_nI (by omega) (by omega), ?_⟩
  intro x1 e1
  subst e1
  refine ⟨vp_in_nI (by omega) (by omega), ?_⟩
  intro x2 e2
  subst e2
  have no : ¬ (G i = false ∧ rem9 p) → Q 0 σ := fun h => hQ false ⟨fun z => (by cases z), fun z => absurd ⟨z.1, z.2.1⟩ h⟩
  have hv : vp_in (nI i) 4000 := vp_in_nI (by omega) (by omega)
  have hst : ¬ rem9 p → vp_in (nI i) 4000 ∧ ((¬ bI (G i) = 0 → Q 0 σ) ∧ (bI (G i) = 0 → ((¬ (1 : Int32) = 0 → Q 0 σ) ∧ ((1 : Int32) = 0 → ((16 ≤ p.2.1 → ∃ q95, w_m_isUseless_95 Q q95 (nI i) p.2.1 0 σ) ∧ (¬ 16 ≤ p.2.1 → Q 0 σ)))))) := fun h => ⟨hv, fun _ => no (fun q => h q.2), fun _ => ⟨fun _ => no (fun q => h q.2), fun z => absurd z (by decide)⟩⟩
  refine ⟨fun z => hst (fun q => absurd q.1 (by have := (cv 15 (by omega)).mp z; omega)), fun z15 => ⟨fun z => hst (fun q => absurd q.1 (by have := (cv 16 (by omega)).mp z; omega)), fun z16 => ⟨fun z => hst (fun q => absurd q.1 (by have := (cv 17 (by omega)).mp z; omega)), fun z17 => ⟨fun z => hst (fun q => absurd q.1 (by have := (cv 18 (by omega)).mp z; omega)), fun z18 => ⟨fun z => hst (fun q => q.2.1 ((cv 5 (by omega)).mp z)), fun z5 => ⟨fun z => hst (fun q => q.2.2.1 ((cv 6 (by omega)).mp z)), fun z6 => ⟨fun z14 => ⟨hv, fun y => no (fun q => y (bI_0.mpr q.1)), fun y => ⟨fun z => absurd rfl z, fun _ => ⟨fun w => ?_, fun w => ?_⟩⟩⟩, fun z => hst (fun q => absurd q.1 (by have := (cv 14 (by omega)).mp z; omega))⟩⟩⟩⟩⟩⟩⟩
  · have n5 : ¬ p.1 = 5 := fun q => z5 ((cv 5 (by omega)).mpr q)
    have n6 : ¬ p.1 = 6 := fun q => z6 ((cv 6 (by omega)).mpr q)
    have n14 : ¬ p.1 = 14 := fun q => z14 ((cv 14 (by omega)).mpr q)
    have n15 : ¬ p.1 = 15 := fun q => z15 ((cv 15 (by omega)).mpr q)
    have n16 : ¬ p.1 = 16 := fun q => z16 ((cv 16 (by omega)).mpr q)
    have n17 : ¬ p.1 = 17 := fun q => z17 ((cv 17 (by omega)).mpr q)
    have n18 : ¬ p.1 = 18 := fun q => z18 ((cv 18 (by omega)).mpr q)
    have hrem : rem9 p := ⟨by omega, n5, n6, Int32.not_lt.mpr w⟩
    have hGi : G i = false := bI_0.mp y
    refine ⟨cd.length + 1, s_isUselessM_95 hC hl hc hG hi (fun b hb => hQ b ?_) cd.length 0 (by omega) (fun k q h => by omega)⟩
    rw [hb]
    exact ⟨fun h => ⟨hGi, hrem, h⟩, fun h => h.2.2⟩
  · exact no (fun q => q.2.2.2.2 (Int32.not_le.mp w))

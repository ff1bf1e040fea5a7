/-! ## trim: which steps go -/
/-- how many of the first k stay -/
def rn (g : Nat → Bool) : Nat → Nat
  | 0 => 0
  | k + 1 => rn g k + (if g k then 0 else 1)
theorem rn_le (g : Nat → Bool) (k : Nat) : rn g k ≤ k := by
  induction k with
  | zero => exact Nat.le_refl _
  | succ k ih => rw [rn]; split <;> omega
theorem rn_mono (g : Nat → Bool) {a b : Nat} (h : a ≤ b) : rn g a ≤ rn g b := by
  induction h with
  | refl => exact Nat.le_refl _
  | step _ ih => rw [rn]; omega
theorem rn_lt (g : Nat → Bool) {a b : Nat} (h : a < b) (ha : g a = false) : rn g a < rn g b := by
  have := rn_mono g (show a + 1 ≤ b from h)
  rw [rn, ha] at this
  simp at this
  omega
theorem rn_gap (g : Nat → Bool) {a b : Nat} (h : a ≤ b) : rn g b ≤ rn g a + (b - a) := by
  induction h with
  | refl => omega
  | @step m h ih =>
    have h : a ≤ m := h
    rw [rn]; split <;> omega
/-- the target behind the loss of those that go -/
def adjP (g : Nat → Bool) (p : Ps) : Ps := if p.1 = 16 then (p.1, nI (rn g p.2.1.toNatClampNeg), p.2.2) else if p.1 = 17 then (p.1, p.2.1, nI (rn g p.2.2.1.toNatClampNeg), p.2.2.2) else p
def mfk (g : Nat → Bool) (cd : List Ps) : Nat → List Ps
  | 0 => []
  | k + 1 => mfk g cd k ++ (if g k then [] else match cd[k]? with
    | some p => [adjP g p]
    | none => [])
theorem mfk_len {g : Nat → Bool} {cd : List Ps} : ∀ {k : Nat}, k ≤ cd.length → (mfk g cd k).length = rn g k := by
  intro k
  induction k with
  | zero => intro _; rfl
  | succ k ih =>
    intro h
    rw [mfk, List.length_append, ih (by omega), rn]
    obtain ⟨p, hp⟩ := cd_at (cd := cd) (i := k) (by omega)
    rw [hp]
    split <;> rfl
theorem mfk_at {g : Nat → Bool} {cd : List Ps} : ∀ {m k : Nat} {p : Ps}, m ≤ cd.length → k < m → g k = false → cd[k]? = some p → (mfk g cd m)[rn g k]? = some (adjP g p) := by
  intro m
  induction m with
  | zero => intro k p _ h; omega
  | succ m ih =>
    intro k p hm hk hg hp
    rw [mfk]
    by_cases e : k = m
    · subst e
      rw [hp, hg, List.getElem?_append_right (by rw [mfk_len (by omega)]; exact Nat.le_refl _), mfk_len (by omega)]
      simp
    · have h1 := rn_lt g (show k < m by omega) hg
      rw [List.getElem?_append_left (by rw [mfk_len (by omega)]; exact h1)]
      exact ih (by omega) (by omega) hg hp
/-- each place is some step's -/
theorem rn_on {g : Nat → Bool} : ∀ {m j : Nat}, j < rn g m → ∃ k, k < m ∧ g k = false ∧ rn g k = j := by
  intro m
  induction m with
  | zero => intro j h; exact absurd h (Nat.not_lt_zero _)
  | succ m ih =>
    intro j h
    rw [rn] at h
    by_cases hj : j < rn g m
    · obtain ⟨k, h1, h2, h3⟩ := ih hj
      exact ⟨k, by omega, h2, h3⟩
    · cases hg : g m with
      | true => rw [hg] at h; simp at h; omega
      | false => rw [hg] at h; simp at h; exact ⟨m, by omega, hg, by omega⟩
theorem mfk_inv {g : Nat → Bool} {cd : List Ps} {j : Nat} {q : Ps} (h : (mfk g cd cd.length)[j]? = some q) : ∃ k p, k < cd.length ∧ g k = false ∧ rn g k = j ∧ cd[k]? = some p ∧ q = adjP g p := by
  have hj : j < rn g cd.length := by
    rw [← mfk_len (Nat.le_refl _)]
    exact (List.getElem?_eq_some_iff.mp h).1
  obtain ⟨k, h1, h2, h3⟩ := rn_on hj
  obtain ⟨p, hp⟩ := cd_at h1
  have := mfk_at (Nat.le_refl _) h1 h2 hp
  rw [h3, h] at this
  exact ⟨k, p, h1, h2, h3, hp, Option.some.inj this⟩
/-- a step that may go -/
def rem9 (p : Ps) : Prop := p.1 ≤ 13 ∧ ¬ p.1 = 5 ∧ ¬ p.1 = 6 ∧ ¬ p.2.1 < 16
/-- g tells those that go: what none that stays behind takes -/
def Gn (cd : List Ps) (g : Nat → Bool) : Prop := ∀ (i : Nat) (p : Ps), cd[i]? = some p → (g i = true ↔ rem9 p ∧ ∀ (k : Nat) (q : Ps), i < k → cd[k]? = some q → g k = false → ¬ nm9 q p.2.1)
theorem Gn.ex (cd : List Ps) : ∃ g, Gn cd g := by
  have key : ∀ m, m ≤ cd.length → ∃ g : Nat → Bool, ∀ (i : Nat) (p : Ps), cd.length - m ≤ i → cd[i]? = some p → (g i = true ↔ rem9 p ∧ ∀ (k : Nat) (q : Ps), i < k → cd[k]? = some q → g k = false → ¬ nm9 q p.2.1) := by
    intro m
    induction m with
    | zero =>
      intro _
      refine ⟨fun _ => false, fun i p h hp => ?_⟩
      have := (List.getElem?_eq_some_iff.mp hp).1
      omega
    | succ m ih =>
      intro hm
      obtain ⟨g, hg⟩ := ih (by omega)
      obtain ⟨p0, hp0⟩ := cd_at (cd := cd) (i := cd.length - (m + 1)) (by omega)
      have : ∃ b : Bool, b = true ↔ (rem9 p0 ∧ ∀ (k : Nat) (q : Ps), cd.length - (m + 1) < k → cd[k]? = some q → g k = false → ¬ nm9 q p0.2.1) := by
        by_cases h : rem9 p0 ∧ ∀ (k : Nat) (q : Ps), cd.length - (m + 1) < k → cd[k]? = some q → g k = false → ¬ nm9 q p0.2.1
        · exact ⟨true, by simp only [true_iff]; exact h⟩
        · exact ⟨false, by simp only [Bool.false_eq_true, false_iff]; exact h⟩
      obtain ⟨b, hb⟩ := this
      refine ⟨fun j => if j = cd.length - (m + 1) then b else g j, fun i p hi hp => ?_⟩
      have hk : ∀ k, i < k → (if k = cd.length - (m + 1) then b else g k) = g k := fun k hk => if_neg (by omega)
      by_cases e : i = cd.length - (m + 1)
      · subst e
        cases hp0.symm.trans hp
        simp only [if_true]
        rw [hb]
        constructor
        · intro ⟨a1, a2⟩
          exact ⟨a1, fun k q h1 h2 h3 => a2 k q h1 h2 (by rw [hk k h1] at h3; exact h3)⟩
        · intro ⟨a1, a2⟩
          exact ⟨a1, fun k q h1 h2 h3 => a2 k q h1 h2 (by rw [hk k h1]; exact h3)⟩
      · simp only [if_neg e]
        rw [hg i p (by omega) hp]
        constructor
        · intro ⟨a1, a2⟩
          exact ⟨a1, fun k q h1 h2 h3 => a2 k q h1 h2 (by rw [hk k h1] at h3; exact h3)⟩
        · intro ⟨a1, a2⟩
          exact ⟨a1, fun k q h1 h2 h3 => a2 k q h1 h2 (by rw [hk k h1]; exact h3)⟩
  obtain ⟨g, hg⟩ := key cd.length (Nat.le_refl _)
  exact ⟨g, fun i p hp => hg i p (by omega) hp⟩
theorem Gn.ne16 {cd : List Ps} {g : Nat → Bool} (h : Gn cd g) {i : Nat} {p : Ps} (hp : cd[i]? = some p) (hg : g i = true) : p.1 ≤ 13 := ((h i p hp).mp hg).1.1
theorem nm9_adj {g : Nat → Bool} {p : Ps} {r : Int32} : nm9 (adjP g p) r ↔ nm9 p r := by
  obtain ⟨c, a, b, d, e, o⟩ := p
  unfold adjP nm9
  by_cases h16 : c = 16
  · subst h16; simp
  · by_cases h17 : c = 17
    · subst h17; simp
    · simp [h16, h17]
/-- the code behind trim is in order too -/
theorem CW.trim {cd : List Ps} {rg : Nat} {g : Nat → Bool} (h : CW cd rg) (hg : Gn cd g) : CW (mfk g cd cd.length) rg := by
  obtain ⟨h1, h2, h3, h4, h5, h6⟩ := h
  have hl : (mfk g cd cd.length).length = rn g cd.length := mfk_len (Nat.le_refl _)
  have hle := rn_le g cd.length
  refine ⟨by omega, h2, h3, fun j q hq => ?_, fun i k p q hp hq hc ha hn => ?_, ?_⟩
  · obtain ⟨k, p, e1, e2, e3, e4, rfl⟩ := mfk_inv hq
    obtain ⟨c, a, b, d, e, o⟩ := p
    obtain ⟨k0, k1, k2, k3, k4, k5, k6, k7⟩ := h4 k _ e4
    simp only at k0 k1 k2 k3 k4 k5 k6 k7
    rw [hl, ← e3]
    unfold adjP
    simp only
    by_cases h16 : c = 16
    · obtain ⟨t, t1, t2, rfl⟩ := k2 h16
      rw [if_pos h16]
      refine ⟨k0, fun z => absurd h16 z, fun _ => ⟨rn g t, rn_lt g t1 e2, rn_mono g t2, by simp only; rw [nI_clamp (by omega)]⟩, fun z => absurd z (by simp only; omega), fun z => absurd z (by simp only; omega), fun z => absurd z (by simp only; omega), fun z => absurd z (by simp only; omega), k7⟩
    · by_cases h17 : c = 17
      · obtain ⟨t, t1, t2, rfl⟩ := k3 h17
        rw [if_neg h16, if_pos h17]
        refine ⟨k0, k1, fun z => absurd z h16, fun _ => ⟨rn g t, rn_lt g t1 e2, rn_mono g t2, by simp only; rw [nI_clamp (by omega)]⟩, fun z => absurd z (by simp only; omega), fun z => absurd z (by simp only; omega), fun z => absurd z (by simp only; omega), k7⟩
      · rw [if_neg h16, if_neg h17]
        exact ⟨k0, k1, fun z => absurd z h16, fun z => absurd z h17, k4, k5, k6, k7⟩
  · obtain ⟨i', p', e1, e2, e3, e4, rfl⟩ := mfk_inv hp
    obtain ⟨k', q', f1, f2, f3, f4, rfl⟩ := mfk_inv hq
    rw [nm9_adj] at hn
    have ep : adjP g p' = p' := by
      unfold adjP at hc ⊢
      by_cases h16 : p'.1 = 16
      · rw [if_pos h16] at hc; simp only at hc; omega
      · rw [if_neg h16] at hc ⊢
        by_cases h17 : p'.1 = 17
        · rw [if_pos h17] at hc; simp only at hc; omega
        · rw [if_neg h17]
    rw [ep] at hc ha hn
    have := h5 i' k' p' q' e4 f4 hc ha hn
    rw [← e3, ← f3]
    exact rn_lt g this e2
  · have key : ∀ m, m ≤ cd.length → (mfk g cd m).countP (fun p => p.1 == 18) ≤ (cd.take m).countP (fun p => p.1 == 18) := by
      intro m
      induction m with
      | zero => intro _; exact Nat.le_refl _
      | succ m ih =>
        intro hm
        have ih := ih (by omega)
        obtain ⟨p, hp⟩ := cd_at (cd := cd) (i := m) (by omega)
        rw [mfk, List.countP_append, hp, List.take_succ, hp, List.countP_append]
        have e : ((adjP g p).1 == 18) = (p.1 == 18) := by
          unfold adjP
          split
          · rfl
          · split <;> rfl
        cases g m with
        | true => simp; omega
        | false => simp [List.countP_cons, e]; omega
    have := key cd.length (Nat.le_refl _)
    unfold tls at h6 ⊢
    simp only [List.take_length, List.drop_zero] at this h6 ⊢
    omega

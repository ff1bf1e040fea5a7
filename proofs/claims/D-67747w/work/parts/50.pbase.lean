/-! ## the pure part: the base -/
theorem i_lit (n : Nat) : (@OfNat.ofNat Int32 n Int32.instOfNat) = nI n := rfl
theorem up_at (σ : Sg) (k j : Nat) (v : Int32) (c i : Nat) : up σ k j v c i = if c = k then (if i = j then v else σ c i) else σ c i := by
  unfold up upc upd
  by_cases h : c = k
  · subst h; simp
  · simp [h]
theorem up_ne {σ : Sg} {k j : Nat} {v : Int32} {c : Nat} (h : c ≠ k) : up σ k j v c = σ c := by
  funext i; rw [up_at, if_neg h]
theorem up_eq (σ : Sg) (k j : Nat) (v : Int32) (i : Nat) : up σ k j v k i = if i = j then v else σ k i := by
  rw [up_at, if_pos rfl]
/-- nothing but these places is changed -/
def Fr (S : Nat → Nat → Prop) (σ τ : Sg) : Prop := ∀ c j, ¬ S c j → τ c j = σ c j
theorem Fr.rf {S : Nat → Nat → Prop} {σ : Sg} : Fr S σ σ := fun _ _ _ => rfl
theorem Fr.tr {S : Nat → Nat → Prop} {σ τ υ : Sg} (h : Fr S σ τ) (g : Fr S τ υ) : Fr S σ υ := fun c j n => (g c j n).trans (h c j n)
theorem Fr.up {S : Nat → Nat → Prop} {σ τ : Sg} (h : Fr S σ τ) {k j : Nat} {v : Int32} (hs : S k j) : Fr S σ (up τ k j v) := by
  intro c i n
  rw [up_at]
  by_cases hc : c = k
  · by_cases hi : i = j
    · subst hc hi; exact absurd hs n
    · rw [if_pos hc, if_neg hi]; exact h c i n
  · rw [if_neg hc]; exact h c i n
theorem Fr.mono {S S' : Nat → Nat → Prop} {σ τ : Sg} (h : Fr S σ τ) (hs : ∀ c j, S c j → S' c j) : Fr S' σ τ := fun c j n => h c j (fun z => n (hs c j z))
def bI (b : Bool) : Int32 := if b then 1 else 0
theorem bI_t : bI true = 1 := rfl
theorem bI_f : bI false = 0 := rfl
theorem bI_0 {b : Bool} : bI b = 0 ↔ b = false := by cases b <;> decide
theorem bI_1 {b : Bool} : bI b = 1 ↔ b = true := by cases b <;> decide
theorem bz_b (b : Bool) : bz (bI b) := by cases b <;> simp [bI, bz]
/-! within, isIn -/
theorem s_within {a b c : Int64} {σ : Sg} {Q : Int32 → Sg → Prop} (h : Q (bI (decide (b ≤ a ∧ a ≤ c))) σ) : w_x_within a b c σ Q := by
  unfold w_x_within w_x_within_17 w_x_within_18
  refine ⟨fun h1 => ⟨bz_0, ?_⟩, fun h1 => ⟨fun h2 => ⟨bz_0, ?_⟩, fun h2 => ⟨bz_1, ?_⟩⟩⟩
  · rw [show decide (b ≤ a ∧ a ≤ c) = false from decide_eq_false (fun z => absurd z.1 (Int64.not_le.mpr h1))] at h; exact h
  · rw [show decide (b ≤ a ∧ a ≤ c) = false from decide_eq_false (fun z => absurd z.2 (Int64.not_le.mpr h2))] at h; exact h
  · rw [show decide (b ≤ a ∧ a ≤ c) = true from decide_eq_true ⟨Int64.not_lt.mp h1, Int64.not_lt.mp h2⟩] at h; exact h
theorem s_isIn {a b c : Int64} {σ : Sg} {Q : Int32 → Sg → Prop} (h : Q (bI (decide (b ≤ a ∧ a ≤ c))) σ) : w_m_isIn a b c σ Q := by
  unfold w_m_isIn w_m_isIn_17 w_m_isIn_18
  refine ⟨fun h1 => ⟨bz_0, ?_⟩, fun h1 => ⟨fun h2 => ⟨bz_0, ?_⟩, fun h2 => ⟨bz_1, ?_⟩⟩⟩
  · rw [show decide (b ≤ a ∧ a ≤ c) = false from decide_eq_false (fun z => absurd z.1 (Int64.not_le.mpr h1))] at h; exact h
  · rw [show decide (b ≤ a ∧ a ≤ c) = false from decide_eq_false (fun z => absurd z.2 (Int64.not_le.mpr h2))] at h; exact h
  · rw [show decide (b ≤ a ∧ a ≤ c) = true from decide_eq_true ⟨Int64.not_lt.mp h1, Int64.not_lt.mp h2⟩] at h; exact h
theorem win_iff {x : Int32} {lo hi : Int64} {a b : Int} (hlo : lo.toInt = a) (hhi : hi.toInt = b) : (lo ≤ x.toInt64 ∧ x.toInt64 ≤ hi) ↔ (a ≤ x.toInt ∧ x.toInt ≤ b) := by
  rw [Int64.le_iff_toInt_le, Int64.le_iff_toInt_le, Int32.toInt_toInt64, hlo, hhi]
/-- a number within 0 .. n - 1, or not -/
theorem win_n {x : Int32} {hi : Int64} {n : Nat} (hn : n < 2 ^ 31) (hhi : hi.toInt = (n : Int) - 1) : (∃ j, j < n ∧ x = nI j ∧ decide ((0 : Int64) ≤ x.toInt64 ∧ x.toInt64 ≤ hi) = true) ∨ decide ((0 : Int64) ≤ x.toInt64 ∧ x.toInt64 ≤ hi) = false := by
  by_cases h : (0 : Int64) ≤ x.toInt64 ∧ x.toInt64 ≤ hi
  · have h' := (win_iff (a := 0) (by decide) hhi).mp h
    obtain ⟨j, hj, rfl⟩ := nI_of (x := x) (by rw [Int32.lt_iff_toInt_lt]; simp; omega)
    rw [nI_toInt hj] at h'
    exact Or.inl ⟨j, by omega, rfl, decide_eq_true h⟩
  · exact Or.inr (decide_eq_false h)
/-- x - 1, for a bound -/
theorem pre_toInt {n : Nat} (hn : n < 2 ^ 31) : ((nI n - 1).toInt64).toInt = (n : Int) - 1 := by
  rw [Int32.toInt_toInt64]
  cases n with
  | zero => decide
  | succ n => rw [nI_pred, nI_toInt (by omega)]; omega
theorem s_may {a b : Int32} {σ : Sg} {Q : Int32 → Sg → Prop} (h1 : a = 0 → Q 0 (up σ 58 0 1)) (h2 : ¬ a = 0 → b = 0 → Q 0 (up σ 58 0 2)) (h3 : ¬ a = 0 → ¬ b = 0 → Q 1 (up σ 58 0 0)) : w_m_may a b σ Q := by
  unfold w_m_may w_m_may_18 w_m_may_33
  refine ⟨fun ha => ⟨fun hb => ⟨fun z => absurd rfl z, fun _ => ⟨bz_1, h3 ha hb⟩⟩, fun hb => ⟨fun _ => ⟨bz_0, h2 ha hb⟩, fun z => absurd z (by decide)⟩⟩, fun ha => ⟨fun _ => ⟨bz_0, h1 ha⟩, fun z => absurd z (by decide)⟩⟩

/-! ## steps, statements: the abstract form -/
theorem vp_nI {n N : Nat} (h : n < 2 ^ 31) : vp_in (nI n) N ↔ n < N := by
  unfold vp_in
  rw [nI_clamp h]
  constructor
  · intro z; exact Nat.lt_of_not_le (fun q => z (Or.inr q))
  · intro z q; rcases q with q | q
    · exact nI_pos h q
    · omega
theorem nI_0' {n : Nat} (h : n < 2 ^ 31) : nI n = 0 ↔ n = 0 := nI_eq h (by decide)
theorem nI_m1 {n : Nat} (h : n < 2 ^ 31) : ¬ nI n = -1 := by
  intro z
  have := congrArg Int32.toInt z
  rw [nI_toInt h] at this
  have e : (-1 : Int32).toInt = -1 := by decide
  rw [e] at this
  omega
/-- what comes of two numbers -/
def rk (c : Nat) (a b : Int32) : Int32 := if c = 2 then a + b else if c = 3 then a - b else if c = 4 then a * b else if c = 5 then a / b else if c = 6 then a - a / b * b else if c = 7 then a &&& b else if c = 8 then a ||| b else if c = 9 then a ^^^ b else if c = 10 then (if a = b then 1 else 0) else if c = 11 then (if a = b then 0 else 1) else (if b ≤ a then 0 else 1)
def dv (c : Nat) (b : Int32) : Prop := (c = 5 ∨ c = 6) ∧ b = 0
theorem in_ops {c : Nat} (h : 2 ≤ c ∧ c ≤ 12) : c = 2 ∨ c = 3 ∨ c = 4 ∨ c = 5 ∨ c = 6 ∨ c = 7 ∨ c = 8 ∨ c = 9 ∨ c = 10 ∨ c = 11 ∨ c = 12 := by omega
theorem s_reckon {c : Nat} (hc : 2 ≤ c ∧ c ≤ 12) {a b s : Int32} {σ : Sg} {Q : Int32 → Sg → Prop} {E : Nat → Sg → Prop} (h1 : dv c b → E 1 (up (up σ 4 5 1) 4 6 s)) (h2 : ¬ dv c b → Q (rk c a b) σ) : w_x_reckon (nI c) a b s σ Q E := by
  unfold w_x_reckon w_x_reckon_11 w_x_reckon_23 w_x_reckon_164 w_x_end
  unfold dv rk at *
  rcases in_ops hc with rfl | rfl | rfl | rfl | rfl | rfl | rfl | rfl | rfl | rfl | rfl <;> by_cases hb : b = 0 <;> simp [nI] at h1 h2 ⊢ <;> (try simp [hb] at h1 h2 ⊢) <;> (try assumption) <;> (try (constructor <;> intro hq <;> simpa [hq] using h2; done)) <;> (try exact ⟨fun hq => by rw [if_pos hq] at h2; exact h2, fun hq => by rw [if_neg (Int32.not_le.mpr hq)] at h2; exact h2⟩)
theorem i64_ne0 {b : Int32} (h : ¬ b = 0) : ¬ b.toInt64 = 0 := by
  intro z
  apply h
  have := congrArg Int64.toInt z
  rw [Int32.toInt_toInt64] at this
  exact Int32.toInt_inj.mp (by simpa using this)
theorem i64_div (a b : Int32) : (a.toInt64 / b.toInt64).toInt32 = a / b := by
  apply Int32.toInt_inj.mp
  rw [Int64.toInt_toInt32, Int64.toInt_div, Int32.toInt_div, Int32.toInt_toInt64, Int32.toInt_toInt64]
  have h1 := Int32.toInt_lt a
  have h2 := Int32.le_toInt a
  rw [Int.bmod_bmod_of_dvd (by decide)]
theorem s_reach {c : Nat} (hc : 2 ≤ c ∧ c ≤ 12) {a b s : Int32} {σ : Sg} {Q : Int32 → Sg → Prop} (h1 : dv c b → Q 0 (up (up σ 58 42 1) 58 40 s)) (h2 : ¬ dv c b → Q (rk c a b) σ) : w_m_reach (nI c) a b s σ Q := by
  unfold w_m_reach w_m_reach_106 w_m_reach_130 w_m_reach_141 w_m_reach_152 w_m_stop
  unfold dv rk at *
  have e1 := i64_div a b
  have e2 : (a.toInt64 - a.toInt64 / b.toInt64 * b.toInt64).toInt32 = a - a / b * b := by
    rw [Int64.toInt32_sub, Int64.toInt32_mul, i64_div, Int32.toInt32_toInt64, Int32.toInt32_toInt64]
  rcases in_ops hc with rfl | rfl | rfl | rfl | rfl | rfl | rfl | rfl | rfl | rfl | rfl <;> by_cases hb : b = 0 <;> simp [nI] at h1 h2 ⊢ <;> (try simp [hb] at h1 h2 ⊢) <;> (try assumption) <;> (try (constructor <;> intro hq <;> simpa [hq] using h2; done)) <;> (try exact ⟨fun hq => by rw [if_pos hq] at h2; exact h2, fun hq => by rw [if_neg (Int32.not_le.mpr hq)] at h2; exact h2⟩) <;> (try exact ⟨i64_ne0 hb, by rw [e1]; exact h2⟩) <;> (try exact ⟨i64_ne0 hb, by rw [e2]; exact h2⟩)

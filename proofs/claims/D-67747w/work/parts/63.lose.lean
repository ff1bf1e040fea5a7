def XRow (σ : Sg) (i : Nat) (p : Ps) : Prop := σ 6 i = nI p.1 ∧ σ 14 i = p.2.1 ∧ σ 15 i = p.2.2.1 ∧ σ 16 i = p.2.2.2.1 ∧ σ 17 i = p.2.2.2.2.1 ∧ σ 7 i = nI p.2.2.2.2.2
def SL9 (c j : Nat) : Prop := c = 6 ∨ c = 7 ∨ (14 ≤ c ∧ c ≤ 17) ∨ (c = 0 ∧ j = 12)
/-- the four numbers move down -/
theorem s_lose_50 {K12 : Int32 → Int32 → Sg → Prop} {Q : Sg → Prop} {v1 : Int32} {j : Nat} (hj : j + 1 < 3000) : ∀ (m k : Nat) (σ : Sg), k + m = 4 → (∀ τ, Fr (fun c i => (14 + k ≤ c ∧ c ≤ 17) ∧ i = j) σ τ → (∀ c, 14 + k ≤ c → c ≤ 17 → τ c j = σ c (j + 1)) → K12 v1 (nI (j + 1)) τ) → w_x_lose_50 K12 Q (m + 1) v1 (nI j) (nI k) σ := by
  intro m
  induction m with
  | zero =>
    intro k σ hk hK
    unfold w_x_lose_50
    obtain rfl : k = 4 := by omega
    refine ⟨fun _ x1 e1 => ?_, fun z => absurd (by decide) z⟩
    subst e1
    rw [nI_1]
    exact hK σ Fr.rf (fun c h1 h2 => by omega)
  | succ m ih =>
    intro k σ hk hK
    unfold w_x_lose_50
    rw [nI_1, nI_clamp (show k < 2 ^ 31 by omega), nI_clamp (show j < 2 ^ 31 by omega), nI_clamp (show j + 1 < 2 ^ 31 by omega)]
    have hN : inN (14 + k) := ⟨by omega, by omega⟩
    refine ⟨fun z => absurd z (nI_ge (show k < 4 by omega) (by decide)), fun _ => ⟨vp_in_nI (by omega) (by omega), vp_in_nI (by omega) (by omega), hN, vp_in_nI (by omega) (by omega), hN, vp_in_nI (by omega) (by omega), ?_⟩⟩
    intro x2 e2
    subst e2
    rw [nI_1]
    refine ih (k + 1) _ (by omega) (fun τ hF h => hK τ (fun c i hn => ?_) (fun c h1 h2 => ?_))
    · rw [hF c i (by omega), up_at]
      repeat' split
      all_goals (first | rfl | omega)
    · by_cases e : c = 14 + k
      · subst e
        rw [hF (14 + k) j (by omega), up_at, if_pos rfl, if_pos rfl]
      · rw [h c (by omega) h2, up_ne e]
theorem s_lose_12 {A : Nat → Ps} {len i : Nat} (hlen : len + 1 ≤ 3000) {Q : Sg → Prop} : ∀ (m j : Nat) (σ : Sg), j + m = len → i ≤ j → σ 0 12 = nI len → (∀ r, r < i → XRow σ r (A r)) → (∀ r, i ≤ r → r < j → XRow σ r (A (r + 1))) → (∀ r, j ≤ r → r ≤ len → XRow σ r (A r)) → (∀ τ, Fr SL9 σ τ → τ 0 12 = nI len → (∀ r, r < i → XRow τ r (A r)) → (∀ r, i ≤ r → r < len → XRow τ r (A (r + 1))) → ∃ q87, w_x_lose_87 Q q87 (nI i) 0 τ) → w_x_lose_12 Q (m + 1) (nI i) (nI j) σ := by
  intro m
  induction m with
  | zero =>
    intro j σ hj hij h12 h1 h2 h3 hQ
    unfold w_x_lose_12
    refine ⟨fun _ => hQ σ Fr.rf h12 h1 (fun r a b => h2 r a (by omega)), fun z => absurd (by rw [h12]; exact nI_le (by omega) (by omega)) z⟩
  | succ m ih =>
    intro j σ hj hij h12 h1 h2 h3 hQ
    unfold w_x_lose_12
    rw [nI_1, nI_clamp (show j < 2 ^ 31 by omega), nI_clamp (show j + 1 < 2 ^ 31 by omega)]
    have va : vp_in (nI j) 3000 := vp_in_nI (by omega) (by omega)
    have vb : vp_in (nI (j + 1)) 3000 := vp_in_nI (by omega) (by omega)
    refine ⟨fun z => absurd z (by rw [h12]; exact nI_ge (by omega) (by omega)), fun _ => ⟨vb, va, vb, va, 5, ?_⟩⟩
    refine s_lose_50 (by omega) 4 0 _ (by omega) (fun τ hF h => ?_)
    have q : ∀ c r, ¬ r = j → τ c r = σ c r := by
      intro c r hr
      rw [hF c r (by omega)]
      simp only [up_at, hr, if_false]
      repeat' split
      all_goals rfl
    have q0 : ∀ r, τ 0 r = σ 0 r := fun r => by rw [hF 0 r (by omega)]; simp [up_at]
    have hrow : ∀ r p, ¬ r = j → XRow σ r p → XRow τ r p := by
      intro r p hr hx
      unfold XRow
      rw [q 6 r hr, q 14 r hr, q 15 r hr, q 16 r hr, q 17 r hr, q 7 r hr]
      exact hx
    have hrj : XRow τ j (A (j + 1)) := by
      have hx := h3 (j + 1) (by omega) (by omega)
      unfold XRow
      have e6 : τ 6 j = σ 6 (j + 1) := by rw [hF 6 j (by omega)]; simp [up_at]
      have e7 : τ 7 j = σ 7 (j + 1) := by rw [hF 7 j (by omega)]; simp [up_at]
      have e14 : τ 14 j = σ 14 (j + 1) := by rw [h 14 (by omega) (by omega)]; simp [up_at]
      have e15 : τ 15 j = σ 15 (j + 1) := by rw [h 15 (by omega) (by omega)]; simp [up_at]
      have e16 : τ 16 j = σ 16 (j + 1) := by rw [h 16 (by omega) (by omega)]; simp [up_at]
      have e17 : τ 17 j = σ 17 (j + 1) := by rw [h 17 (by omega) (by omega)]; simp [up_at]
      rw [e6, e7, e14, e15, e16, e17]
      exact hx
    have hFF : Fr SL9 σ τ := by
      intro c r hn
      rw [hF c r (by unfold SL9 at hn; omega)]
      have c6 : ¬ c = 6 := by unfold SL9 at hn; omega
      have c7 : ¬ c = 7 := by unfold SL9 at hn; omega
      simp only [up_at, c6, c7, if_false]
    refine ih (j + 1) τ (by omega) (by omega) (by rw [q0]; exact h12) (fun r hr => hrow r _ (by omega) (h1 r hr)) (fun r a b => ?_) (fun r a b => hrow r _ (by omega) (h3 r (by omega) b)) (fun υ hυ => hQ υ (hFF.tr hυ))
    by_cases e : r = j
    · subst e; exact hrj
    · exact hrow r _ e (h2 r a (by omega))
/-- one step's target, when the step i is lost -/
def ad1 (i : Nat) (p : Ps) : Ps := if p.1 = 16 then (p.1, p.2.1 - (if p.2.1 ≤ nI i then 0 else 1), p.2.2) else if p.1 = 17 then (p.1, p.2.1, p.2.2.1 - (if p.2.2.1 ≤ nI i then 0 else 1), p.2.2.2) else p
theorem s_lose_87 {B : Nat → Ps} {len i : Nat} (hlen : len ≤ 3000) (hB : ∀ r, r < len → (B r).1 ≤ 18) {Q : Sg → Prop} : ∀ (m j : Nat) (σ : Sg), j + m = len → σ 0 12 = nI len → (∀ r, r < j → XRow σ r (ad1 i (B r))) → (∀ r, j ≤ r → r < len → XRow σ r (B r)) → (∀ τ, Fr SL9 σ τ → τ 0 12 = nI len → (∀ r, r < len → XRow τ r (ad1 i (B r))) → Q τ) → w_x_lose_87 Q (m + 1) (nI i) (nI j) σ := by
  intro m
  induction m with
  | zero =>
    intro j σ hj h12 h1 h2 hQ
    unfold w_x_lose_87
    exact ⟨fun _ => hQ σ Fr.rf h12 (fun r hr => h1 r (by omega)), fun z => absurd (by rw [h12]; exact nI_le (by omega) (by omega)) z⟩
  | succ m ih =>
    intro j σ hj h12 h1 h2 hQ
    unfold w_x_lose_87 w_x_lose_132 w_x_lose_174 w_x_lose_176
    have hb := hB j (by omega)
    have hx := h2 j (by omega) (by omega)
    have cv : ∀ k, k < 100 → (nI (B j).1 = nI k ↔ (B j).1 = k) := fun k hk => nI_eq (by omega) (by omega)
    rw [nI_1, nI_clamp (show j < 2 ^ 31 by omega), hx.1, hx.2.1, hx.2.2.1]
    have va : vp_in (nI j) 3000 := vp_in_nI (by omega) (by omega)
    have hgo : ∀ τ, Fr SL9 σ τ → (∀ c r, ¬ r = j → τ c r = σ c r) → τ 0 12 = nI len → XRow τ j (ad1 i (B j)) → ∀ x1 : Int32, x1 = nI (j + 1) → w_x_lose_87 Q (m + 1) (nI i) x1 τ := by
      intro τ hF q q12 hxj x1 e1
      subst e1
      have hrow : ∀ r p, ¬ r = j → XRow σ r p → XRow τ r p := by
        intro r p hr hx
        unfold XRow
        rw [q 6 r hr, q 14 r hr, q 15 r hr, q 16 r hr, q 17 r hr, q 7 r hr]
        exact hx
      refine ih (j + 1) τ (by omega) q12 (fun r hr => ?_) (fun r a b => hrow r _ (by omega) (h2 r (by omega) b)) (fun υ hυ => hQ υ (hF.tr hυ))
      by_cases e : r = j
      · subst e; exact hxj
      · exact hrow r _ e (h1 r (by omega))
    have u14 : ∀ v : Int32, ((B j).1 = 16 → v = (ad1 i (B j)).2.1) → (B j).1 = 16 → ∀ x1 : Int32, x1 = nI (j + 1) → w_x_lose_87 Q (m + 1) (nI i) x1 (up σ 14 j v) := by
      intro v hv h16
      refine hgo _ (Fr.rf.up (by unfold SL9; omega)) (fun c r hr => by rw [up_at]; simp [hr]) (by rw [up_ne (by decide)]; exact h12) ?_
      have := hv h16
      unfold XRow ad1 at *
      rw [if_pos h16] at this ⊢
      simp [up_at, this, hx]
    have u15 : ∀ v : Int32, ((B j).1 = 17 → v = (ad1 i (B j)).2.2.1) → (B j).1 = 17 → ∀ x1 : Int32, x1 = nI (j + 1) → w_x_lose_87 Q (m + 1) (nI i) x1 (up σ 15 j v) := by
      intro v hv h17
      refine hgo _ (Fr.rf.up (by unfold SL9; omega)) (fun c r hr => by rw [up_at]; simp [hr]) (by rw [up_ne (by decide)]; exact h12) ?_
      have := hv h17
      unfold XRow ad1 at *
      rw [if_neg (by omega), if_pos h17] at this ⊢
      simp [up_at, this, hx]
    refine ⟨fun z => absurd z (by rw [h12]; exact nI_ge (by omega) (by omega)), fun _ => ⟨va, fun z16 => ⟨va, fun z17 => ?_, fun z17 => ⟨va, va, fun y => ⟨va, ?_⟩, fun y => ⟨va, ?_⟩⟩⟩, fun z16 => ⟨va, va, fun y => ⟨va, ?_⟩, fun y => ⟨va, ?_⟩⟩⟩⟩
    · refine hgo σ Fr.rf (fun _ _ _ => rfl) h12 ?_
      unfold ad1
      rw [if_neg (fun q => z16 ((cv 16 (by omega)).mpr q)), if_neg (fun q => z17 ((cv 17 (by omega)).mpr q))]
      exact hx
    · refine u15 _ (fun h17 => ?_) ((cv 17 (by omega)).mp z17)
      unfold ad1; rw [if_neg (by omega), if_pos h17]; simp only; rw [if_pos y]
    · refine u15 _ (fun h17 => ?_) ((cv 17 (by omega)).mp z17)
      unfold ad1; rw [if_neg (by omega), if_pos h17]; simp only; rw [if_neg y]
    · refine u14 _ (fun h16 => ?_) ((cv 16 (by omega)).mp z16)
      unfold ad1; rw [if_pos h16]; simp only; rw [if_pos y]
    · refine u14 _ (fun h16 => ?_) ((cv 16 (by omega)).mp z16)
      unfold ad1; rw [if_pos h16]; simp only; rw [if_neg y]
/-- a step is lost -/
theorem s_lose {cd : List Ps} {σ : Sg} (hC : XC σ cd) (hl : cd.length ≤ 3000) (hc : ∀ (i : Nat) (p : Ps), cd[i]? = some p → p.1 ≤ 18) {i : Nat} (hi : i < cd.length) {Q : Sg → Prop} (hQ : ∀ τ, Fr SL9 σ τ → XC τ ((cd.eraseIdx i).map (ad1 i)) → Q τ) : w_x_lose (nI i) σ Q := by
  obtain ⟨n, hn⟩ : ∃ n, cd.length = n + 1 := ⟨cd.length - 1, by omega⟩
  have hA : ∀ r, r < cd.length → cd[r]? = some (cd.getD r (0, 0, 0, 0, 0, 0)) := by
    intro r hr
    rw [List.getD_eq_getElem?_getD, List.getElem?_eq_getElem hr]; rfl
  generalize hAA : (fun r => cd.getD r (0, 0, 0, 0, 0, 0)) = A
  have hA' : ∀ r, r < cd.length → cd[r]? = some (A r) := fun r hr => by rw [← hAA]; exact hA r hr
  clear hA hAA
  unfold w_x_lose
  have hrow : ∀ r, r < cd.length → XRow (up σ 0 12 (nI n)) r (A r) := by
    intro r hr
    have := hC.2 r _ (hA' r hr)
    unfold XRow
    simp [up_at]
    exact this
  rw [hC.1, hn, nI_pred]
  refine ⟨n - i + 1, s_lose_12 (A := A) (len := n) (by omega) (n - i) i _ (by omega) (Nat.le_refl _) (by simp [up_at]) (fun r hr => hrow r (by omega)) (fun r a b => by omega) (fun r a b => hrow r (by omega)) (fun τ hF t12 t1 t2 => ?_)⟩
  refine ⟨n + 1, s_lose_87 (B := fun r => if r < i then A r else A (r + 1)) (by omega) (fun r hr => ?_) n 0 τ (by omega) t12 (fun r hr => by omega) (fun r a b => ?_) (fun υ hυ u12 u1 => hQ υ ?_ ⟨?_, fun j q hq => ?_⟩)⟩
  · split
    · exact hc r _ (hA' r (by omega))
    · exact hc (r + 1) _ (hA' (r + 1) (by omega))
  · split
    · exact t1 r (by assumption)
    · exact t2 r (by omega) b
  · exact ((Fr.rf.up (by unfold SL9; omega)).tr hF).tr hυ
  · rw [u12, List.length_map, List.length_eraseIdx, if_pos hi]; congr 1; omega
  · rw [List.getElem?_map, List.getElem?_eraseIdx] at hq
    have hj : j < n := by
      rcases Nat.lt_or_ge j n with h | h
      · exact h
      · rw [if_neg (by omega), List.getElem?_eq_none (by omega)] at hq
        cases hq
    have hu := u1 j hj
    by_cases hji : j < i
    · rw [if_pos hji, hA' j (by omega)] at hq
      rw [if_pos hji] at hu
      cases hq
      exact hu
    · rw [if_neg hji, hA' (j + 1) (by omega)] at hq
      rw [if_neg hji] at hu
      cases hq
      exact hu

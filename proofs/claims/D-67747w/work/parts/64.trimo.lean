/-! the class's loop: from the last step on -/
def gst (g : Nat → Bool) (i : Nat) : Nat → Bool := fun k => decide (i ≤ k) && g k
theorem gst_lo {g : Nat → Bool} {i k : Nat} (h : k < i) : gst g i k = false := by
  unfold gst; rw [decide_eq_false (by omega)]; rfl
theorem gst_hi {g : Nat → Bool} {i k : Nat} (h : i ≤ k) : gst g i k = g k := by
  unfold gst; rw [decide_eq_true h]; rfl
theorem rn_id {g : Nat → Bool} {i : Nat} : ∀ {k : Nat}, k ≤ i → rn (gst g i) k = k := by
  intro k
  induction k with
  | zero => intro _; rfl
  | succ k ih =>
    intro h
    rw [rn, ih (by omega), gst_lo (by omega)]
    rfl
theorem rn_step {g : Nat → Bool} {i : Nat} (hg : g i = true) : ∀ {k : Nat}, rn (gst g (i + 1)) k = if i < k then rn (gst g i) k + 1 else rn (gst g i) k := by
  intro k
  induction k with
  | zero => rfl
  | succ k ih =>
    rw [rn, rn, ih]
    rcases Nat.lt_trichotomy k i with h | h | h
    · simp [gst_lo (g := g) (show k < i + 1 by omega), gst_lo (g := g) h, show ¬ i < k by omega, show ¬ i < k + 1 by omega]
    · subst h
      simp [gst_lo (g := g) (show k < k + 1 by omega), gst_hi (g := g) (Nat.le_refl k), hg]
    · simp [gst_hi (g := g) (show i + 1 ≤ k by omega), gst_hi (g := g) (show i ≤ k by omega), h, show i < k + 1 by omega]
      omega
theorem adj_step {g : Nat → Bool} {i : Nat} (hg : g i = true) {p : Ps} (h16 : p.1 = 16 → ∃ t, t < 3000 ∧ p.2.1 = nI t) (h17 : p.1 = 17 → ∃ t, t < 3000 ∧ p.2.2.1 = nI t) (hi : i < 3000) : ad1 i (adjP (gst g (i + 1)) p) = adjP (gst g i) p := by
  obtain ⟨c, a, b, d, e, o⟩ := p
  simp only at h16 h17
  have key : ∀ t, t < 3000 → nI (rn (gst g (i + 1)) t) - (if nI (rn (gst g (i + 1)) t) ≤ nI i then (0 : Int32) else 1) = nI (rn (gst g i) t) := by
    intro t ht
    have hle := rn_le (gst g (i + 1)) t
    rw [rn_step hg]
    by_cases h : i < t
    · have h2 : i ≤ rn (gst g i) t := by
        have := rn_mono (gst g i) (Nat.le_of_lt h)
        rw [rn_id (Nat.le_refl _)] at this
        exact this
      rw [rn_step hg, if_pos h] at hle
      rw [if_pos h, if_neg (nI_ge (by omega) (by omega)), nI_pred]
    · have h2 : rn (gst g i) t = t := rn_id (by omega)
      rw [if_neg h, h2, if_pos (nI_le (by omega) (by omega))]
      simp
  unfold adjP ad1
  by_cases e16 : c = 16
  · obtain ⟨t, ht, rfl⟩ := h16 e16
    subst e16
    simp only [if_true]
    rw [nI_clamp (by omega), key t ht]
  · by_cases e17 : c = 17
    · obtain ⟨t, ht, rfl⟩ := h17 e17
      subst e17
      simp only [if_neg e16, if_true]
      rw [nI_clamp (by omega), key t ht]
    · simp only [if_neg e16, if_neg e17]
theorem lose_step {cd : List Ps} {rg : Nat} (hw : CW cd rg) {g : Nat → Bool} {i : Nat} (hi : i < cd.length) (hg : g i = true) : ((mfk (gst g (i + 1)) cd cd.length).eraseIdx i).map (ad1 i) = mfk (gst g i) cd cd.length := by
  have hl1 : (mfk (gst g (i + 1)) cd cd.length).length = rn (gst g (i + 1)) cd.length := mfk_len (Nat.le_refl _)
  have hl2 : (mfk (gst g i) cd cd.length).length = rn (gst g i) cd.length := mfk_len (Nat.le_refl _)
  have hrs : rn (gst g (i + 1)) cd.length = rn (gst g i) cd.length + 1 := by rw [rn_step hg, if_pos hi]
  have hri : i ≤ rn (gst g i) cd.length := by
    have := rn_mono (gst g i) (Nat.le_of_lt hi)
    rw [rn_id (Nat.le_refl _)] at this
    exact this
  have h1 := hw.1
  apply List.ext_getElem?
  intro j
  rw [List.getElem?_map, List.getElem?_eraseIdx]
  by_cases hj : j < rn (gst g i) cd.length
  · obtain ⟨k, k1, k2, k3⟩ := rn_on hj
    obtain ⟨p, hp⟩ := cd_at k1
    have hki : ¬ k = i := by
      intro z; subst z
      rw [gst_hi (Nat.le_refl _), hg] at k2
      cases k2
    rw [← k3, mfk_at (Nat.le_refl _) k1 k2 hp]
    have ok := hw.2.2.2.1 k p hp
    have ha := adj_step (i := i) hg (p := p) (fun z => by obtain ⟨t, -, t2, t3⟩ := ok.2.2.1 z; exact ⟨t, by omega, t3⟩) (fun z => by obtain ⟨t, -, t2, t3⟩ := ok.2.2.2.1 z; exact ⟨t, by omega, t3⟩) (by omega)
    have k2' : gst g (i + 1) k = false := by
      rcases Nat.lt_or_ge k (i + 1) with h | h
      · exact gst_lo h
      · rw [gst_hi h]; rw [gst_hi (by omega)] at k2; exact k2
    have hr := rn_step (k := k) hg
    by_cases hlt : i < k
    · rw [if_pos hlt] at hr
      have : i ≤ rn (gst g i) k := by
        have := rn_mono (gst g i) (Nat.le_of_lt hlt)
        rw [rn_id (Nat.le_refl _)] at this
        exact this
      rw [if_neg (by omega), ← hr, mfk_at (Nat.le_refl _) k1 k2' hp]
      exact congrArg some ha
    · rw [if_neg hlt] at hr
      have : rn (gst g i) k = k := rn_id (by omega)
      rw [if_pos (by omega), ← hr, mfk_at (Nat.le_refl _) k1 k2' hp]
      exact congrArg some ha
  · rw [if_neg (by omega), List.getElem?_eq_none (by omega), List.getElem?_eq_none (by omega)]
    rfl
theorem mfk_none {cd : List Ps} {rg : Nat} (hw : CW cd rg) {g : Nat → Bool} : mfk (gst g cd.length) cd cd.length = cd := by
  have hl1 : (mfk (gst g cd.length) cd cd.length).length = rn (gst g cd.length) cd.length := mfk_len (Nat.le_refl _)
  rw [rn_id (Nat.le_refl _)] at hl1
  have h1 := hw.1
  apply List.ext_getElem?
  intro j
  by_cases hj : j < cd.length
  · obtain ⟨p, hp⟩ := cd_at hj
    have := mfk_at (g := gst g cd.length) (Nat.le_refl _) hj (gst_lo hj) hp
    rw [rn_id (by omega)] at this
    rw [this, hp]
    have ok := hw.2.2.2.1 j p hp
    congr 1
    obtain ⟨c, a, b, d, e, o⟩ := p
    unfold adjP
    simp only
    by_cases e16 : c = 16
    · obtain ⟨t, -, t2, t3⟩ := ok.2.2.1 e16
      simp only at t3
      subst t3
      rw [if_pos e16, nI_clamp (by omega), rn_id (by omega)]
    · rw [if_neg e16]
      by_cases e17 : c = 17
      · obtain ⟨t, -, t2, t3⟩ := ok.2.2.2.1 e17
        simp only at t3
        subst t3
        rw [if_pos e17, nI_clamp (by omega), rn_id (by omega)]
      · rw [if_neg e17]
  · rw [List.getElem?_eq_none (by omega), List.getElem?_eq_none (by omega)]
theorem adj_fst {g : Nat → Bool} {p : Ps} : (adjP g p).1 = p.1 := by
  unfold adjP
  split
  · rfl
  · split <;> rfl
theorem adj_id {g : Nat → Bool} {p : Ps} (h : p.1 ≤ 13) : adjP g p = p := by
  unfold adjP
  rw [if_neg (by omega), if_neg (by omega)]
theorem rem_adj {g : Nat → Bool} {p : Ps} : rem9 (adjP g p) ↔ rem9 p := by
  by_cases h : p.1 ≤ 13
  · rw [adj_id h]
  · constructor
    · intro z; exact absurd z.1 (by rw [adj_fst]; exact h)
    · intro z; exact absurd z.1 h
theorem s_trim_12 {cd : List Ps} {rg : Nat} (hw : CW cd rg) {g : Nat → Bool} (hg : Gn cd g) {v1 : Int32} {Q : Int32 → Sg → Prop} : ∀ (i : Nat) (σ : Sg), i ≤ cd.length → XC σ (mfk (gst g i) cd cd.length) → (∀ τ, Fr SL9 σ τ → XC τ (mfk (gst g 0) cd cd.length) → Q (v1 - nI (mfk (gst g 0) cd cd.length).length) τ) → w_x_trim_12 Q (i + 1) v1 (nI i - 1) σ := by
  have h1 := hw.1
  intro i
  induction i with
  | zero =>
    intro σ hi hC hQ
    unfold w_x_trim_12
    rw [hC.1]
    exact ⟨fun _ => hQ σ Fr.rf hC, fun z => absurd (by decide) z⟩
  | succ i ih =>
    intro σ hi hC hQ
    unfold w_x_trim_12 w_x_trim_29
    rw [nI_pred]
    have hl : (mfk (gst g (i + 1)) cd cd.length).length = rn (gst g (i + 1)) cd.length := mfk_len (Nat.le_refl _)
    have hle := rn_le (gst g (i + 1)) cd.length
    have hii : i < (mfk (gst g (i + 1)) cd cd.length).length := by
      rw [hl]
      have := rn_mono (gst g (i + 1)) hi
      rw [rn_id (Nat.le_refl _)] at this
      omega
    obtain ⟨p, hp⟩ := cd_at (cd := cd) (i := i) (by omega)
    have hpi : (mfk (gst g (i + 1)) cd cd.length)[i]? = some (adjP (gst g (i + 1)) p) := by
      have := mfk_at (g := gst g (i + 1)) (Nat.le_refl _) (show i < cd.length by omega) (gst_lo (by omega)) hp
      rw [rn_id (by omega)] at this
      exact this
    have hc18 : ∀ (j : Nat) (q : Ps), (mfk (gst g (i + 1)) cd cd.length)[j]? = some q → q.1 ≤ 18 := by
      intro j q hq
      obtain ⟨k, p', -, -, -, e4, rfl⟩ := mfk_inv hq
      rw [adj_fst]
      exact (hw.2.2.2.1 k p' e4).1
    refine ⟨fun z => absurd z (nI_pos (by omega)), fun _ => ?_⟩
    refine s_isUselessX hC (by omega) hc18 hpi (fun b hb => ?_)
    have hbg : b = true ↔ g i = true := by
      rw [hb, hg i p hp, rem_adj]
      constructor
      · rintro ⟨a1, a2⟩
        refine ⟨a1, fun k q hk hq hgk hn => a2 ?_⟩
        refine ⟨_, _, mfk_at (g := gst g (i + 1)) (Nat.le_refl _) (List.getElem?_eq_some_iff.mp hq).1 (by rw [gst_hi hk]; exact hgk) hq, ?_⟩
        rw [nm9_adj, adj_id a1.1]
        exact hn
      · rintro ⟨a1, a2⟩
        refine ⟨a1, ?_⟩
        rintro ⟨j, q, hq, hn⟩
        obtain ⟨k, p', e1, e2, e3, e4, rfl⟩ := mfk_inv hq
        rw [nm9_adj, adj_id a1.1] at hn
        have hik := hw.2.2.2.2.1 i k p p' hp e4 a1.1 a1.2.2.2 hn
        exact a2 k p' hik e4 (by rw [gst_hi hik] at e2; exact e2) hn
    refine ⟨fun z x1 e1 => ?_, fun z => ?_⟩
    · have e1' : x1 = nI i - 1 := by rw [e1, Int32.sub_eq_add_neg]
      subst e1'
      have hgi : g i = false := by
        cases h : g i with
        | false => rfl
        | true => rw [hbg.mpr h] at z; exact absurd z (by decide)
      have hsame : gst g (i + 1) = gst g i := by
        funext k
        rcases Nat.lt_trichotomy k i with h | h | h
        · rw [gst_lo (by omega), gst_lo h]
        · subst h; rw [gst_lo (by omega), gst_hi (Nat.le_refl _), hgi]
        · rw [gst_hi (by omega), gst_hi (by omega)]
      exact ih σ (by omega) (by rw [← hsame]; exact hC) hQ
    · have hgi : g i = true := by
        refine hbg.mp ?_
        cases b with
        | false => exact absurd rfl z
        | true => rfl
      refine s_lose hC (by omega) hc18 hii (fun τ hF hX => ?_)
      intro x1 e1
      have e1' : x1 = nI i - 1 := by rw [e1, Int32.sub_eq_add_neg]
      subst e1'
      rw [lose_step hw (by omega) hgi] at hX
      exact ih τ (by omega) hX (fun υ hυ => hQ υ (hF.tr hυ))
theorem gst_0 (g : Nat → Bool) : gst g 0 = g := by
  funext k; exact gst_hi (Nat.zero_le _)
theorem s_trimX {cd : List Ps} {rg : Nat} (hw : CW cd rg) {g : Nat → Bool} (hg : Gn cd g) {σ : Sg} (hC : XC σ cd) {Q : Int32 → Sg → Prop} (hQ : ∀ τ, Fr SL9 σ τ → XC τ (mfk g cd cd.length) → Q (nI cd.length - nI (mfk g cd cd.length).length) τ) : w_x_trim σ Q := by
  unfold w_x_trim
  intro x1 e1 x2 e2
  subst e1 e2
  rw [hC.1]
  refine ⟨cd.length + 1, s_trim_12 hw hg cd.length σ (Nat.le_refl _) (by rw [mfk_none hw]; exact hC) (fun τ hF hX => ?_)⟩
  rw [gst_0] at hX ⊢
  exact hQ τ hF hX

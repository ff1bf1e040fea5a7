def MRow (σ : Sg) (i : Nat) (p : Ps) : Prop := σ 70 (6 * i) = nI p.1 ∧ σ 70 (6 * i + 1) = p.2.1 ∧ σ 70 (6 * i + 2) = p.2.2.1 ∧ σ 70 (6 * i + 3) = p.2.2.2.1 ∧ σ 70 (6 * i + 4) = p.2.2.2.2.1 ∧ σ 70 (6 * i + 5) = nI p.2.2.2.2.2
theorem MRow.fr {σ τ : Sg} {i : Nat} {p : Ps} (h : MRow σ i p) (e : ∀ k, k < 6 → τ 70 (6 * i + k) = σ 70 (6 * i + k)) : MRow τ i p := by
  unfold MRow
  have e0 : τ 70 (6 * i) = σ 70 (6 * i) := e 0 (by omega)
  rw [e0, e 1 (by omega), e 2 (by omega), e 3 (by omega), e 4 (by omega), e 5 (by omega)]
  exact h
/-- the targets -/
theorem s_trim_79 {cd : List Ps} {rg : Nat} (hw : CW cd rg) {g : Nat → Bool} {v1 : Int32} {Q : Int32 → Sg → Prop} : ∀ (m j : Nat) (σ : Sg), j + m = cd.length → σ 58 20 = nI cd.length → MG σ cd.length g → (∀ (k : Nat) (p : Ps), k < j → cd[k]? = some p → MRow σ k (adjP g p)) → (∀ (k : Nat) (p : Ps), j ≤ k → cd[k]? = some p → MRow σ k p) → (∀ τ, Fr (fun c _ => c = 70) σ τ → (∀ (k : Nat) (p : Ps), cd[k]? = some p → MRow τ k (adjP g p)) → ∃ q173, w_m_trim_173 Q q173 v1 0 0 τ) → w_m_trim_79 Q (m + 1) v1 (nI j) σ := by
  have h1 := hw.1
  intro m
  induction m with
  | zero =>
    intro j σ hj h20 hG ha hb hQ
    unfold w_m_trim_79
    exact ⟨fun _ => hQ σ Fr.rf (fun k p hp => ha k p (by have := (List.getElem?_eq_some_iff.mp hp).1; omega) hp), fun z => absurd (by rw [h20]; exact nI_le (by omega) (by omega)) z⟩
  | succ m ih =>
    intro j σ hj h20 hG ha hb hQ
    obtain ⟨p, hp⟩ := cd_at (cd := cd) (i := j) (by omega)
    have hr := hb j p (Nat.le_refl _) hp
    have ok := hw.2.2.2.1 j p hp
    have h18 := ok.1
    have cv : ∀ k, k < 100 → (nI p.1 = nI k ↔ p.1 = k) := fun k hk => nI_eq (by omega) (by omega)
    unfold w_m_trim_79 w_m_trim_124 w_m_trim_162
    rw [pk_60, nI_clamp (show 6 * j < 2 ^ 31 by omega), hr.1]
    have a1 : nI (6 * j) + 1 = nI (6 * j + 1) := nI_add _ 1
    have a2 : nI (6 * j) + 2 = nI (6 * j + 2) := nI_add _ 2
    have v0 : vp_in (nI (6 * j)) 24000 := vp_in_nI (by omega) (by omega)
    have hgo : ∀ τ, Fr (fun c i => c = 70 ∧ 6 * j ≤ i ∧ i < 6 * j + 6) σ τ → MRow τ j (adjP g p) → ∀ x1 : Int32, x1 = nI j + 1 → w_m_trim_79 Q (m + 1) v1 x1 τ := by
      intro τ hF hx x1 e1
      rw [nI_1] at e1
      subst e1
      refine ih (j + 1) τ (by omega) (by rw [hF 58 20 (by omega)]; exact h20) (fun i hi => by rw [hF 81 i (by omega)]; exact hG i hi) (fun k q hk hq => ?_) (fun k q hk hq => (hb k q (by omega) hq).fr (fun r hr => hF 70 _ (by omega))) (fun υ hυ => hQ υ ((hF.mono (fun c i z => z.1)).tr hυ))
      by_cases e : k = j
      · subst e
        cases hp.symm.trans hq
        exact hx
      · exact (ha k q (by omega) hq).fr (fun r hr => hF 70 _ (by omega))
    refine ⟨fun z => absurd z (by rw [h20]; exact nI_ge (by omega) (by omega)), fun _ => ⟨v0, fun z16 => ⟨v0, fun z17 => ⟨fun _ => ?_, fun z => absurd (by decide) z⟩, fun z17 => ⟨fun z => absurd z (by decide), fun _ => ?_⟩⟩, fun z16 => ⟨fun z => absurd z (by decide), fun _ => ?_⟩⟩⟩
    · refine hgo σ Fr.rf ?_
      unfold adjP
      rw [if_neg (fun q => z16 ((cv 16 (by omega)).mpr q)), if_neg (fun q => z17 ((cv 17 (by omega)).mpr q))]
      exact hr
    · have h17 := (cv 17 (by omega)).mp z17
      obtain ⟨t, t1, t2, t3⟩ := ok.2.2.2.1 h17
      rw [a2, nI_clamp (by omega), hr.2.2.1, t3]
      have v2 : vp_in (nI (6 * j + 2)) 24000 := vp_in_nI (by omega) (by omega)
      refine ⟨v2, v2, s_goneBefore hG (by omega) t2 ⟨v2, hgo _ ((Fr.rf (S := fun c i => c = 70 ∧ 6 * j ≤ i ∧ i < 6 * j + 6)).up (by omega)) ?_⟩⟩
      have hle := rn_le g t
      have hv : nI t - nI (t - rn g t) = nI (rn g t) := by rw [pk_sub (by omega)]; congr 1; omega
      unfold adjP MRow
      rw [if_neg (by omega), if_pos h17, t3, nI_clamp (by omega), hv]
      simp [up_at]
      exact ⟨hr.1, hr.2.1, hr.2.2.2.1, hr.2.2.2.2.1, hr.2.2.2.2.2⟩
    · have h16 := (cv 16 (by omega)).mp z16
      obtain ⟨t, t1, t2, t3⟩ := ok.2.2.1 h16
      rw [a1, nI_clamp (by omega), hr.2.1, t3]
      have v2 : vp_in (nI (6 * j + 1)) 24000 := vp_in_nI (by omega) (by omega)
      refine ⟨v2, v2, s_goneBefore hG (by omega) t2 ⟨v2, hgo _ ((Fr.rf (S := fun c i => c = 70 ∧ 6 * j ≤ i ∧ i < 6 * j + 6)).up (by omega)) ?_⟩⟩
      have hle := rn_le g t
      have hv : nI t - nI (t - rn g t) = nI (rn g t) := by rw [pk_sub (by omega)]; congr 1; omega
      unfold adjP MRow
      rw [if_pos h16, t3, nI_clamp (by omega), hv]
      simp [up_at]
      exact ⟨hr.1, hr.2.2.1, hr.2.2.2.1, hr.2.2.2.2.1, hr.2.2.2.2.2⟩
/-- six numbers move down -/
theorem s_trim_195 {K173 : Int32 → Int32 → Int32 → Sg → Prop} {Q : Int32 → Sg → Prop} {v1 : Int32} {n i : Nat} (hn : n ≤ i) (hi : i < 3000) : ∀ (m k : Nat) (σ : Sg), k + m = 6 → (∀ τ, Fr (fun c r => c = 70 ∧ 6 * n + k ≤ r ∧ r < 6 * n + 6) σ τ → (∀ r, k ≤ r → r < 6 → τ 70 (6 * n + r) = σ 70 (6 * i + r)) → K173 v1 (nI (n + 1)) (nI (i + 1)) τ) → w_m_trim_195 K173 Q (m + 1) v1 (nI n) (nI i) (nI k) σ := by
  intro m
  induction m with
  | zero =>
    intro k σ hk hK
    unfold w_m_trim_195 w_m_trim_236
    obtain rfl : k = 6 := by omega
    refine ⟨fun _ x1 e1 x2 e2 => ?_, fun z => absurd (by decide) z⟩
    subst e1 e2
    rw [nI_1, nI_1]
    exact hK σ Fr.rf (fun r h1 h2 => by omega)
  | succ m ih =>
    intro k σ hk hK
    unfold w_m_trim_195
    rw [pk_6, pk_6, nI_clamp (show 6 * i + k < 2 ^ 31 by omega), nI_clamp (show 6 * n + k < 2 ^ 31 by omega)]
    refine ⟨fun z => absurd z (nI_ge (show k < 6 by omega) (by decide)), fun _ => ⟨vp_in_nI (by omega) (by omega), vp_in_nI (by omega) (by omega), ?_⟩⟩
    intro x2 e2
    rw [nI_1] at e2
    subst e2
    refine ih (k + 1) _ (by omega) (fun τ hF h => hK τ (fun c r hn => ?_) (fun r h1 h2 => ?_))
    · rw [hF c r (by omega), up_at]
      repeat' split
      all_goals (first | rfl | omega)
    · by_cases e : r = k
      · subst e
        rw [hF 70 (6 * n + r) (by omega), up_at, if_pos rfl, if_pos rfl]
      · rw [h r (by omega) h2, up_at, if_pos rfl, if_neg (by omega)]
/-- those that stay move together -/
theorem s_trim_173 {cd : List Ps} (hl : cd.length ≤ 3000) {g : Nat → Bool} {v1 : Int32} {Q : Int32 → Sg → Prop} : ∀ (m j : Nat) (σ : Sg), j + m = cd.length → σ 58 20 = nI cd.length → MG σ cd.length g → (∀ (k : Nat) (p : Ps), k < j → g k = false → cd[k]? = some p → MRow σ (rn g k) (adjP g p)) → (∀ (k : Nat) (p : Ps), j ≤ k → cd[k]? = some p → MRow σ k (adjP g p)) → (∀ τ, Fr (fun c i => c = 70 ∨ (c = 58 ∧ i = 20)) σ τ → MC τ (mfk g cd cd.length) → Q v1 τ) → w_m_trim_173 Q (m + 1) v1 (nI (rn g j)) (nI j) σ := by
  intro m
  induction m with
  | zero =>
    intro j σ hj h20 hG ha hb hQ
    unfold w_m_trim_173
    obtain rfl : j = cd.length := by omega
    refine ⟨fun _ => hQ _ (Fr.rf.up (Or.inr ⟨rfl, rfl⟩)) ⟨?_, fun i q hq => ?_⟩, fun z => absurd (by rw [h20]; exact nI_le (by omega) (by omega)) z⟩
    · rw [up_at, if_pos rfl, if_pos rfl, mfk_len (Nat.le_refl _)]
    · obtain ⟨k, p, e1, e2, e3, e4, rfl⟩ := mfk_inv hq
      have := ha k p e1 e2 e4
      rw [e3] at this
      exact this.fr (fun r hr => by rw [up_ne (by decide)])
  | succ m ih =>
    intro j σ hj h20 hG ha hb hQ
    obtain ⟨p, hp⟩ := cd_at (cd := cd) (i := j) (by omega)
    unfold w_m_trim_173 w_m_trim_236
    have hle := rn_le g j
    rw [nI_clamp (show j < 2 ^ 31 by omega), hG j (by omega)]
    refine ⟨fun z => absurd z (by rw [h20]; exact nI_ge (by omega) (by omega)), fun _ => ⟨vp_in_nI (by omega) (by omega), fun z => ?_, fun z => ?_⟩⟩
    · have hgj : g j = true := by
        cases h : g j with
        | false => rw [h] at z; exact absurd rfl z
        | true => rfl
      intro x1 e1
      rw [nI_1] at e1
      subst e1
      have := ih (j + 1) σ (by omega) h20 hG (fun k q hk hgk hq => ?_) (fun k q hk hq => hb k q (by omega) hq) hQ
      · rw [rn, hgj] at this
        simp at this
        exact this
      · by_cases e : k = j
        · subst e; rw [hgj] at hgk; cases hgk
        · exact ha k q (by omega) hgk hq
    · have hgj := bI_0.mp z
      refine ⟨7, s_trim_195 hle (by omega) 6 0 σ (by omega) (fun τ hF h => ?_)⟩
      have hrn : rn g (j + 1) = rn g j + 1 := by rw [rn, hgj]; simp
      have := ih (j + 1) τ (by omega) (by rw [hF 58 20 (by omega)]; exact h20) (fun i hi => by rw [hF 81 i (by omega)]; exact hG i hi) (fun k q hk hgk hq => ?_) (fun k q hk hq => (hb k q (by omega) hq).fr (fun r hr => hF 70 _ (by omega))) (fun υ hυ => hQ υ ((hF.mono (fun c i z => Or.inl z.1)).tr hυ))
      · rw [hrn] at this
        exact this
      · by_cases e : k = j
        · subst e
          cases hp.symm.trans hq
          have hr := hb k p (Nat.le_refl _) hp
          unfold MRow at hr ⊢
          have t0 : τ 70 (6 * rn g k) = σ 70 (6 * k) := h 0 (by omega) (by omega)
          rw [t0, h 1 (by omega) (by omega), h 2 (by omega) (by omega), h 3 (by omega) (by omega), h 4 (by omega) (by omega), h 5 (by omega) (by omega)]
          exact hr
        · have hlt := rn_lt g (show k < j by omega) hgk
          exact (ha k q (by omega) hgk hq).fr (fun r hr => hF 70 _ (by omega))
def ST9 (c j : Nat) : Prop := c = 70 ∨ c = 81 ∨ (c = 58 ∧ (j = 0 ∨ j = 20))
theorem s_trimM {cd : List Ps} {rg : Nat} (hw : CW cd rg) {g : Nat → Bool} (hg : Gn cd g) {σ : Sg} (hC : MC σ cd) {Q : Int32 → Sg → Prop} (hQ : ∀ τ, Fr ST9 σ τ → MC τ (mfk g cd cd.length) → Q (nI (cd.length - rn g cd.length)) τ) : w_m_trim σ Q := by
  have h1 := hw.1
  unfold w_m_trim
  have hF0 : Fr ST9 σ (up σ 58 0 0) := Fr.rf.up (by unfold ST9; omega)
  have hC0 : MC (up σ 58 0 0) cd := hC.fr (S := fun c j => c = 58 ∧ j = 0) (Fr.rf.up ⟨rfl, rfl⟩) ⟨by omega, fun i => by omega⟩
  refine ⟨cd.length + 1, s_trim_7 (by omega) cd.length 0 _ (by omega) hC0 (fun k hk => by omega) (fun τ hF h81 => ?_)⟩
  have hCt := hC0.f81 hF
  have hall : ∀ n, rn (fun _ => false) n = n := by
    intro n
    induction n with
    | zero => rfl
    | succ n ih => rw [rn, ih]; rfl
  have key := s_trim_32 (Q := Q) hw hg cd.length τ (fun _ => false) (by rw [hall]; exact Nat.le_refl _) hCt (fun i hi => h81 i hi) (fun k hk z => by cases z) (fun υ hυ hGg => ?_)
  · rw [hall, Nat.sub_self] at key
    exact ⟨_, key⟩
  · have hCu := hCt.f81 hυ
    refine ⟨cd.length + 1, s_trim_79 hw cd.length 0 υ (by omega) hCu.1 hGg (fun k p hk => by omega) (fun k p _ hp => hCu.2 k p hp) (fun α hA hrows => ?_)⟩
    refine ⟨cd.length + 1, s_trim_173 (g := g) (by omega) cd.length 0 α (by omega) (by rw [hA 58 20 (by omega)]; exact hCu.1) (fun i hi => by rw [hA 81 i (by omega)]; exact hGg i hi) (fun k p hk => by omega) (fun k p _ hp => hrows k p hp) (fun β hB hMC => hQ β ?_ hMC)⟩
    exact (((hF0.tr (hF.mono (fun c j z => by unfold ST9; omega))).tr (hυ.mono (fun c j z => by unfold ST9; omega))).tr (hA.mono (fun c j z => by unfold ST9; omega))).tr (hB.mono (fun c j z => by unfold ST9; omega))
theorem o_trim {σ : Sg} (h : Inv σ) {K : Int32 → Sg → Prop} (hK : ∀ (k : Int32) (σ2 : Sg), (∀ K2 : Int32 → Sg → Prop, (∀ τ, Inv τ → K2 k τ) → w_m_trim σ2 K2) → K k σ2) : w_x_trim σ K := by
  obtain ⟨h1, ⟨z, h2⟩, h3, ⟨n, T, h4, cd, hc, rg, ic, h5⟩, S, h6⟩ := h
  obtain ⟨c1, c2, c3, c4, c5, c6, c7, c8, c9⟩ := h5
  obtain ⟨g, hg⟩ := Gn.ex cd
  have hl := c3.1
  refine s_trimX c3 hg c1 (fun τ hF hX => hK _ τ (fun K2 hk2 => ?_))
  have hMC : MC τ cd := c2.fr hF (by unfold SL9; exact ⟨by omega, fun i => by omega⟩)
  refine s_trimM c3 hg hMC (fun υ hG hM => ?_)
  have hle := rn_le g cd.length
  have hlen : (mfk g cd cd.length).length = rn g cd.length := mfk_len (Nat.le_refl _)
  have hres : nI (cd.length - rn g cd.length) = nI cd.length - nI (mfk g cd cd.length).length := by
    rw [hlen, pk_sub hle]
  rw [hres]
  refine hk2 υ ?_
  have q : ∀ c j, ¬ (c = 6 ∨ c = 7 ∨ (14 ≤ c ∧ c ≤ 17) ∨ c = 70 ∨ c = 81 ∨ (c = 0 ∧ j = 12) ∨ (c = 58 ∧ (j = 0 ∨ j = 20))) → υ c j = σ c j := by
    intro c j hn
    rw [hG c j (by unfold ST9; omega), hF c j (by unfold SL9; omega)]
  have hX' : XC υ (mfk g cd cd.length) := hX.fr hG (by unfold ST9; refine ⟨by omega, ?_, ?_, ?_, ?_, ?_, ?_⟩ <;> intro i <;> omega)
  refine ⟨h1.fr (fun c j w => q c j (by unfold fIP at w; omega)), ⟨z, h2.fr (fun c j w => q c j (by unfold fIT at w; omega))⟩, by rw [q 58 6 (by omega), q 0 6 (by omega)]; exact h3, ⟨n, T, h4.fr (fun c j w => q c j (by unfold fIX at w; omega)), mfk g cd cd.length, hc, rg, ic, hX', hM, c3.trim hg, by rw [q 0 14 (by omega)]; exact c4, by rw [q 58 22 (by omega)]; exact c5, by rw [q 0 13 (by omega)]; exact c6, by rw [q 58 21 (by omega)]; exact c7, fun w => ⟨(c8 w).1, by rw [(c8 w).2]; rfl⟩, fun s hs => by rw [q 71 s (by omega), q 8 s (by omega)]; exact c9 s hs⟩, S, h6.fr (fun c j w => q c j (by unfold fIR at w; omega))⟩

theorem rn_cong {g h : Nat → Bool} : ∀ {k : Nat}, (∀ j, j < k → g j = h j) → rn g k = rn h k := by
  intro k
  induction k with
  | zero => intro _; rfl
  | succ k ih => intro e; rw [rn, rn, ih (fun j hj => e j (by omega)), e k (by omega)]
def mk1 (G : Nat → Bool) (i : Nat) : Nat → Bool := fun k => if k = i then true else G k
theorem rn_mk {G : Nat → Bool} {i : Nat} (h : G i = false) : ∀ {k : Nat}, i < k → rn (mk1 G i) k + 1 = rn G k := by
  intro k
  induction k with
  | zero => intro h; omega
  | succ k ih =>
    intro hk
    rw [rn, rn]
    by_cases e : i = k
    · subst e
      rw [rn_cong (g := mk1 G i) (h := G) (fun j hj => by unfold mk1; rw [if_neg (by omega)])]
      unfold mk1
      simp [h]
    · have := ih (by omega)
      have e2 : mk1 G i k = G k := by unfold mk1; rw [if_neg (by omega)]
      rw [e2]
      omega
/-- marks are sound -/
def Snd (cd : List Ps) (g G : Nat → Bool) : Prop := ∀ k, k < cd.length → G k = true → g k = true
def usl (cd : List Ps) (G : Nat → Bool) (i : Nat) : Prop := ∃ p, cd[i]? = some p ∧ G i = false ∧ rem9 p ∧ ∀ (k : Nat) (q : Ps), ¬ k = i → G k = false → cd[k]? = some q → ¬ nm9 q p.2.1
theorem Snd.mk {cd : List Ps} {g G : Nat → Bool} (hg : Gn cd g) (h : Snd cd g G) {i : Nat} (hu : usl cd G i) : Snd cd g (mk1 G i) := by
  intro k hk hm
  unfold mk1 at hm
  by_cases e : k = i
  · subst e
    obtain ⟨p, hp, -, hr, hn⟩ := hu
    refine (hg k p hp).mpr ⟨hr, fun j q hj hq hgj => ?_⟩
    refine hn j q (by omega) ?_ hq
    cases hG : G j with
    | false => rfl
    | true => have := h j (List.getElem?_eq_some_iff.mp hq).1 hG; rw [hgj] at this; cases this
  · rw [if_neg e] at hm
    exact h k hk hm
/-- where none is useless, the marks are those that go -/
theorem Snd.full {cd : List Ps} {rg : Nat} (hw : CW cd rg) {g G : Nat → Bool} (hg : Gn cd g) (h : Snd cd g G) (hn : ∀ k, k < cd.length → ¬ usl cd G k) : ∀ k, k < cd.length → G k = g k := by
  have key : ∀ m k, k < cd.length → cd.length - k ≤ m → G k = g k := by
    intro m
    induction m with
    | zero => intro k hk hm; omega
    | succ m ih =>
      intro k hk hm
      cases hG : G k with
      | true => exact (h k hk hG).symm
      | false =>
        cases hgk : g k with
        | false => rfl
        | true =>
          exfalso
          obtain ⟨p, hp⟩ := cd_at hk
          obtain ⟨hr, hx⟩ := (hg k p hp).mp hgk
          refine hn k hk ⟨p, hp, hG, hr, fun j q hj hGj hq hnm => ?_⟩
          have hkj := hw.2.2.2.2.1 k j p q hp hq hr.1 hr.2.2.2 hnm
          have hjl := (List.getElem?_eq_some_iff.mp hq).1
          exact hx j q hkj hq (by rw [← ih j hjl (by omega)]; exact hGj) hnm
  exact fun k hk => key cd.length k hk (by omega)
theorem MG.mk {σ : Sg} {len : Nat} {G : Nat → Bool} (h : MG σ len G) (i : Nat) : MG (up σ 81 i 1) len (mk1 G i) := by
  intro k hk
  rw [up_at, if_pos rfl]
  unfold mk1
  split
  · rfl
  · exact h k hk
theorem MC.f81 {σ τ : Sg} {cd : List Ps} (h : MC σ cd) (hF : Fr (fun c _ => c = 81) σ τ) : MC τ cd := h.fr hF ⟨by omega, fun i => by omega⟩
/-- one pass -/
theorem s_trim_40 {cd : List Ps} {rg : Nat} (hw : CW cd rg) {g : Nat → Bool} (hg : Gn cd g) {K32 : Int32 → Int32 → Sg → Prop} {Q : Int32 → Sg → Prop} : ∀ (m j : Nat) (σ : Sg) (G : Nat → Bool) (b : Bool), j + m = cd.length → MC σ cd → MG σ cd.length G → Snd cd g G → (b = false → ∀ k, k < j → ¬ usl cd G k) →
    (∀ (τ : Sg) (G' : Nat → Bool) (b' : Bool), Fr (fun c _ => c = 81) σ τ → MG τ cd.length G' → Snd cd g G' → rn G' cd.length ≤ rn G cd.length → (b' = true → b = true ∨ rn G' cd.length < rn G cd.length) → (b' = false → ∀ k, k < cd.length → ¬ usl cd G' k) → K32 (nI (cd.length - rn G' cd.length)) (bI b') τ) → w_m_trim_40 K32 Q (m + 1) (nI (cd.length - rn G cd.length)) (bI b) (nI j) σ := by
  have h1 := hw.1
  intro m
  induction m with
  | zero =>
    intro j σ G b hj hC hG hS hb hK
    unfold w_m_trim_40
    refine ⟨fun _ => hK σ G b Fr.rf hG hS (Nat.le_refl _) (fun z => Or.inl z) (fun z k hk => hb z k (by omega)), fun z => absurd (by rw [hC.1]; exact nI_le (by omega) (by omega)) z⟩
  | succ m ih =>
    intro j σ G b hj hC hG hS hb hK
    obtain ⟨p, hp⟩ := cd_at (cd := cd) (i := j) (by omega)
    unfold w_m_trim_40 w_m_trim_68
    refine ⟨fun z => absurd z (by rw [hC.1]; exact nI_ge (by omega) (by omega)), fun _ => ?_⟩
    refine s_isUselessM hC (by omega) (fun i p hp => (hw.2.2.2.1 i p hp).1) hG hp (fun u hu => ⟨fun z => ?_, fun z => ⟨vp_in_nI (by omega) (by omega), ?_⟩⟩)
    · intro x1 e1
      rw [nI_1] at e1
      subst e1
      refine ih (j + 1) σ G b (by omega) hC hG hS (fun hbf k hk hus => ?_) hK
      by_cases e : k = j
      · subst e
        obtain ⟨p', hp', hr⟩ := hus
        cases hp.symm.trans hp'
        rw [hu.mpr hr] at z
        exact absurd z (by decide)
      · exact hb hbf k (by omega) hus
    · have hut : u = true := by
        cases u with
        | false => exact absurd rfl z
        | true => rfl
      have hus : usl cd G j := ⟨p, hp, hu.mp hut⟩
      have hGj : G j = false := (hu.mp hut).1
      have hrn := rn_mk hGj (show j < cd.length by omega)
      have hle := rn_le G cd.length
      intro x3 e3 x1 e1
      rw [nI_1] at e1 e3
      subst e1 e3
      rw [nI_clamp (by omega), show cd.length - rn G cd.length + 1 = cd.length - rn (mk1 G j) cd.length by omega]
      have hF : Fr (fun c _ => c = 81) σ (up σ 81 j 1) := (Fr.rf (S := fun c _ => c = 81)).up rfl
      refine ih (j + 1) (up σ 81 j 1) (mk1 G j) true (by omega) (hC.f81 hF) (hG.mk j) (hS.mk hg hus) (fun z => by cases z) (fun τ G' b' f1 f2 f3 f4 f5 f6 => hK τ G' b' (hF.tr f1) f2 f3 (by omega) (fun _ => Or.inr (by omega)) f6)
/-- the passes -/
theorem s_trim_32 {cd : List Ps} {rg : Nat} (hw : CW cd rg) {g : Nat → Bool} (hg : Gn cd g) {Q : Int32 → Sg → Prop} : ∀ (N : Nat) (σ : Sg) (G : Nat → Bool), rn G cd.length ≤ N → MC σ cd → MG σ cd.length G → Snd cd g G → (∀ τ, Fr (fun c _ => c = 81) σ τ → MG τ cd.length g → ∃ q79, w_m_trim_79 Q q79 (nI (cd.length - rn g cd.length)) 0 τ) → w_m_trim_32 Q (N + 2) (nI (cd.length - rn G cd.length)) 1 σ := by
  intro N
  induction N with
  | zero =>
    intro σ G hN hC hG hS hQ
    unfold w_m_trim_32
    refine ⟨fun z => absurd z (by decide), fun _ => ⟨cd.length + 1, s_trim_40 hw hg cd.length 0 σ G false (by omega) hC hG hS (fun _ k hk => by omega) (fun τ G' b' f1 f2 f3 f4 f5 f6 => ?_)⟩⟩
    cases b' with
    | true => rcases f5 rfl with h | h
              · cases h
              · omega
    | false =>
      have hfull := f3.full hw hg (f6 rfl)
      unfold w_m_trim_32
      refine ⟨fun _ => ?_, fun z => absurd rfl z⟩
      rw [rn_cong hfull]
      exact hQ τ f1 (fun i hi => by rw [← hfull i hi]; exact f2 i hi)
  | succ N ih =>
    intro σ G hN hC hG hS hQ
    unfold w_m_trim_32
    refine ⟨fun z => absurd z (by decide), fun _ => ⟨cd.length + 1, s_trim_40 hw hg cd.length 0 σ G false (by omega) hC hG hS (fun _ k hk => by omega) (fun τ G' b' f1 f2 f3 f4 f5 f6 => ?_)⟩⟩
    cases b' with
    | true =>
      rcases f5 rfl with h | h
      · cases h
      · exact ih τ G' (by omega) (hC.f81 f1) f2 f3 (fun υ hυ => hQ υ (f1.tr hυ))
    | false =>
      have hfull := f3.full hw hg (f6 rfl)
      unfold w_m_trim_32
      refine ⟨fun _ => ?_, fun z => absurd rfl z⟩
      rw [rn_cong hfull]
      exact hQ τ f1 (fun i hi => by rw [← hfull i hi]; exact f2 i hi)
theorem s_trim_7 {cd : List Ps} (hl : cd.length ≤ 3000) {Q : Int32 → Sg → Prop} : ∀ (m i : Nat) (σ : Sg), i + m = cd.length → MC σ cd → (∀ k, k < i → σ 81 k = 0) → (∀ τ, Fr (fun c _ => c = 81) σ τ → (∀ k, k < cd.length → τ 81 k = 0) → ∃ q32, w_m_trim_32 Q q32 0 1 τ) → w_m_trim_7 Q (m + 1) (nI i) σ := by
  intro m
  induction m with
  | zero =>
    intro i σ hi hC h hQ
    unfold w_m_trim_7
    exact ⟨fun _ => hQ σ Fr.rf (fun k hk => h k (by omega)), fun z => absurd (by rw [hC.1]; exact nI_le (by omega) (by omega)) z⟩
  | succ m ih =>
    intro i σ hi hC h hQ
    unfold w_m_trim_7
    refine ⟨fun z => absurd z (by rw [hC.1]; exact nI_ge (by omega) (by omega)), fun _ => ⟨vp_in_nI (by omega) (by omega), ?_⟩⟩
    intro x1 e1
    rw [nI_1] at e1
    subst e1
    rw [nI_clamp (by omega)]
    have hF : Fr (fun c _ => c = 81) σ (up σ 81 i 0) := (Fr.rf (S := fun c _ => c = 81)).up rfl
    refine ih (i + 1) _ (by omega) (hC.f81 hF) (fun k hk => ?_) (fun τ hτ => hQ τ (hF.tr hτ))
    rw [up_at, if_pos rfl]
    split
    · rfl
    · exact h k (by omega)
theorem s_goneBefore {σ : Sg} {len : Nat} {g : Nat → Bool} (hG : MG σ len g) (hl : len ≤ 3000) {t : Nat} (ht : t ≤ len) {Q : Int32 → Sg → Prop} (hQ : Q (nI (t - rn g t)) σ) : w_m_goneBefore (nI t) σ Q := by
  unfold w_m_goneBefore
  have key : ∀ m k, k + m = t → w_m_goneBefore_4 Q (m + 1) (nI t) (nI (k - rn g k)) (nI k) σ := by
    intro m
    induction m with
    | zero =>
      intro k hk
      unfold w_m_goneBefore_4
      obtain rfl : k = t := by omega
      exact ⟨fun _ => hQ, fun z => absurd (nI_le (Nat.le_refl _) (by omega)) z⟩
    | succ m ih =>
      intro k hk
      unfold w_m_goneBefore_4 w_m_goneBefore_24
      have hle := rn_le g k
      rw [nI_clamp (by omega), hG k (by omega)]
      refine ⟨fun z => absurd z (nI_ge (by omega) (by omega)), fun _ => ⟨vp_in_nI (by omega) (by omega), fun z => ?_, fun z => ?_⟩⟩
      · intro x1 e1 x2 e2
        have hk2 := ih (k + 1) (by omega)
        rw [rn, bI_0.mp z] at hk2
        subst e1 e2
        rw [nI_1, show nI (k - rn g k) + 0 = nI (k - rn g k) by simp]
        simp at hk2
        exact hk2
      · intro x1 e1 x2 e2
        have hk2 := ih (k + 1) (by omega)
        have hgk : g k = true := by
          cases h : g k with
          | false => rw [h] at z; exact absurd rfl z
          | true => rfl
        rw [rn, hgk] at hk2
        simp at hk2
        subst e1 e2
        rw [nI_1, nI_1]
        rw [show k - rn g k + 1 = k + 1 - rn g k by omega]
        exact hk2
  exact ⟨t + 1, key t 0 (by omega)⟩

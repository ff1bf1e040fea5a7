/-! the model's tell -/
def MX (σ : Sg) (n : Nat) (T : Nat → St9) : Prop := σ 58 9 = nI n ∧ ∀ s, s < n → MS9 63 66 σ s (T s)
/-- what the model's run may write -/
def SMt (c j : Nat) : Prop := SM c j ∨ c = 86
theorem MX.fr {S : Nat → Nat → Prop} {σ τ : Sg} {n : Nat} {T : Nat → St9} (h : MX σ n T) (f : Fr S σ τ) (hs : ¬ S 58 9 ∧ (∀ i, ¬ S 63 i) ∧ (∀ i, ¬ S 66 i) ∧ ∀ i, ¬ S 67 i) : MX τ n T :=
  ⟨by rw [f 58 9 hs.1]; exact h.1, fun s hs' => (h.2 s hs').fr (fun k _ => f 63 _ (hs.2.1 _)) ⟨f 66 s (hs.2.2.1 s), f 67 s (hs.2.2.2 s)⟩⟩
theorem MX.st {σ τ : Sg} {n : Nat} {T : Nat → St9} (h : MX σ n T) (f : Fr SMt σ τ) : MX τ n T := h.fr f (by unfold SMt SM; refine ⟨by omega, ?_, ?_, ?_⟩ <;> intro i <;> omega)
theorem Fr.smt {σ τ : Sg} (h : Fr SM σ τ) : Fr SMt σ τ := h.mono (fun c j z => Or.inl z)
theorem s_toldA {σ : Sg} {s : Nat} {t : St9} {S : RS} (hs : s < 60) (hx : MS9 63 66 σ s t) (hR : MR σ S) (hv : okV (tf t)) {Q : Int32 → Sg → Prop} (h : Q (vlR S (tf t)) σ) : w_m_toldValue (nI s) 3 σ Q := by
  unfold w_m_toldValue w_m_toldValue_34
  refine s_of (k := 3) hs (by omega) ?_
  rw [hx.2.2.2.2.2.1]
  have hw : σ 63 (9 * s + 4) = mw (tf t) := hx.2.2.2.2.2.2.1
  cases ht : tf t with
  | inl k =>
    rw [ht] at h hv hw
    have hv : k < 16 := hv
    refine ⟨fun z => absurd rfl z, fun _ => s_of (k := 4) hs (by omega) ?_⟩
    rw [hw]
    refine ⟨vp_in_nI (show k < 4100 by omega) (by omega), ?_⟩
    show Q (σ 85 (nI k).toNatClampNeg) σ
    rw [nI_clamp (by omega), hR.1 k (by omega)]
    exact h
  | inr x =>
    rw [ht] at h hw
    refine ⟨fun _ => s_of (k := 4) hs (by omega) ?_, fun z => absurd z (show ¬ (0 : Int32) = 1 by decide)⟩
    rw [hw]; exact h
theorem s_toldB {σ : Sg} {s : Nat} {t : St9} {S : RS} (hs : s < 60) (hx : MS9 63 66 σ s t) (hR : MR σ S) (hv : okV (tg t)) {Q : Int32 → Sg → Prop} (h : Q (vlR S (tg t)) σ) : w_m_toldValue (nI s) 5 σ Q := by
  unfold w_m_toldValue w_m_toldValue_34
  refine s_of (k := 5) hs (by omega) ?_
  rw [hx.2.2.2.2.2.2.2.1]
  have hw : σ 63 (9 * s + 6) = mw (tg t) := hx.2.2.2.2.2.2.2.2.1
  cases ht : tg t with
  | inl k =>
    rw [ht] at h hv hw
    have hv : k < 16 := hv
    refine ⟨fun z => absurd rfl z, fun _ => s_of (k := 6) hs (by omega) ?_⟩
    rw [hw]
    refine ⟨vp_in_nI (show k < 4100 by omega) (by omega), ?_⟩
    show Q (σ 85 (nI k).toNatClampNeg) σ
    rw [nI_clamp (by omega), hR.1 k (by omega)]
    exact h
  | inr x =>
    rw [ht] at h hw
    refine ⟨fun _ => s_of (k := 6) hs (by omega) ?_, fun z => absurd z (show ¬ (0 : Int32) = 1 by decide)⟩
    rw [hw]; exact h
theorem setR_same (S : RS) (r : Nat) : setR S r (S.1 r) = S := by
  unfold setR
  have : upd S.1 r (S.1 r) = S.1 := by
    funext j; unfold upd; split
    · next h => rw [h]
    · rfl
  rw [this]
/-- what a plain statement does, in the model -/
theorem s_doSt4 {T : Nat → St9} {σ : Sg} {S : RS} {s : Nat} (hs : s < 60) (hx : MS9 63 66 σ s (T s)) (hR : MR σ S) (h42 : σ 58 42 = 0) (hok : okT (T s)) (h4 : tso (T s) ≤ 4) (hom : S.2.2.2.1 < 60) {Q : Int32 → Sg → Prop}
    (hQ : ∀ τ, Fr SM0 σ τ → MR τ (ex1 (T s) S).1 → (ex1 (T s) S).2 = 0 → Q (nI (s + 1)) τ) (hE : ∀ τ, Fr SM σ τ → MR τ (ex1 (T s) S).1 → ¬ (ex1 (T s) S).2 = 0 → τ 58 42 = nI (ex1 (T s) S).2 → τ 58 40 = nI s → Q (nI (s + 1)) τ) : w_m_doStatement (nI s) σ Q := by
  obtain ⟨o1, o2, o3, o4, o5, o6, o7⟩ := hok
  unfold w_m_doStatement
  refine s_toldA hs hx hR o5 (s_toldB hs hx hR o6 ?_)
  refine s_of (k := 1) hs (by omega) (s_of (k := 0) hs (by omega) ?_)
  have e0 : σ 63 (9 * s + 0) = nI (tso (T s)) := hx.1
  rw [e0]
  have cv : ∀ k, k < 100 → (nI (tso (T s)) = nI k ↔ tso (T s) = k) := fun k hk => nI_eq (by omega) (by omega)
  generalize hx5 : σ 63 (9 * s + 1) = x5
  have hva : tso (T s) ≤ 2 → x5 = nI (tva (T s)) ∧ tva (T s) < 16 := fun h => ⟨hx5.symm.trans (hx.2.2.1 h), o2 h⟩
  have s85 : ∀ q w, Fr SM0 σ (up σ 85 q w) := fun q w => Fr.rf.up (by unfold SM0; omega)
  have s44 : ∀ q w, Fr SM σ (up (up σ 58 42 q) 58 40 w) := fun q w => (Fr.rf.up (by unfold SM; omega)).up (by unfold SM; omega)
  unfold w_m_doStatement_115 w_m_doStatement_236
  rw [nI_1]
  refine ⟨fun z => ?_, fun z0 => ⟨fun z => s_of (k := 2) hs (by omega) ?_, fun z1 => ⟨fun z => ?_, fun z2 => ⟨fun z => ?_, fun z3 => ⟨fun z => ?_, fun z4 => ?_⟩⟩⟩⟩⟩
  · have h := (cv 0 (by omega)).mp z
    obtain ⟨rfl, hv⟩ := hva (by omega)
    rw [nI_clamp (by omega)]
    have he : ex1 (T s) S = (setR S (tva (T s)) (vlR S (tf (T s))), 0) := by simp only [ex1]; rw [if_pos h]
    rw [he] at hQ
    exact ⟨vp_in_nI (by omega) (by omega), hQ _ (s85 _ _) (hR.set _ _) rfl⟩
  · have h := (cv 1 (by omega)).mp z
    obtain ⟨rfl, hv⟩ := hva (by omega)
    have e3 : σ 63 (9 * s + 2) = nI (top (T s) + 2) := hx.2.2.2.1 h
    rw [e3]
    have o3 := o3 h
    have he : ex1 (T s) S = if (top (T s) + 2 = 5 ∨ top (T s) + 2 = 6) ∧ vlR S (tg (T s)) = 0 then (S, 1) else (setR S (tva (T s)) (rk (top (T s) + 2) (vlR S (tf (T s))) (vlR S (tg (T s)))), 0) := by simp only [ex1]; rw [if_neg (by omega), if_pos h]
    have vv : vp_in (nI (tva (T s))) 4100 := vp_in_nI (by omega) (by omega)
    refine s_reach (by omega) (fun y => ⟨fun _ => ⟨vv, vv, ?_⟩, fun z => absurd z (by simp [up_at])⟩) (fun y => ⟨fun z => absurd h42 z, fun _ => ⟨vv, ?_⟩⟩)
    · unfold dv at y
      rw [if_pos y] at he
      rw [he] at hE
      have hv2 : up (up σ 58 42 1) 58 40 (nI s) 85 (nI (tva (T s))).toNatClampNeg = S.1 (nI (tva (T s))).toNatClampNeg := by
        simp [up_at]; rw [nI_clamp (by omega)]; exact hR.1 _ (by omega)
      rw [hv2]
      refine hE _ ((((Fr.rf (S := SM)).up (by unfold SM; omega)).up (by unfold SM; omega)).up (by unfold SM; omega)) ?_ (by simp) (by simp [up_at]; rfl) (by simp [up_at])
      have h2 := ((hR.e58 (j := 42) (by omega) 1).e58 (j := 40) (by omega) (nI s)).set (nI (tva (T s))).toNatClampNeg (S.1 (nI (tva (T s))).toNatClampNeg)
      rw [setR_same] at h2
      exact h2
    · unfold dv at y
      rw [if_neg y] at he
      rw [he] at hQ
      rw [nI_clamp (by omega)]
      exact hQ _ (s85 _ _) (hR.set _ _) rfl
  · have h := (cv 2 (by omega)).mp z
    obtain ⟨rfl, hv⟩ := hva (by omega)
    have he : ex1 (T s) S = if 0 ≤ (vlR S (tf (T s))).toInt ∧ (vlR S (tf (T s))).toInt ≤ 31 then (setR S (tva (T s)) (S.2.1 (vlR S (tf (T s))).toNatClampNeg), 0) else (S, 2) := by simp only [ex1]; rw [if_neg (by omega), if_neg (by omega), if_pos h]
    refine s_isWord (fun y => ⟨fun z => absurd z (by decide), fun _ => ⟨vp_wd y, vp_in_nI (by omega) (by omega), ?_⟩⟩) (fun y => ⟨fun _ => ?_, fun z => absurd rfl z⟩)
    · rw [if_pos y] at he
      rw [he] at hQ
      obtain ⟨w, hw, ew⟩ := vp_in_of (vp_wd y) (by omega)
      rw [nI_clamp (show tva (T s) < 2 ^ 31 by omega), hR.2.1 _ (by rw [ew, nI_clamp (by omega)]; exact hw)]
      exact hQ _ (s85 _ _) (hR.set _ _) rfl
    · rw [if_neg y] at he
      rw [he] at hE
      exact hE _ (s44 _ _) ((hR.e58 (by omega) _).e58 (by omega) _) (by simp) (by simp [up_at]; rfl) (by simp [up_at])
  · have h := (cv 3 (by omega)).mp z
    have he : ex1 (T s) S = if 0 ≤ (vlR S (tf (T s))).toInt ∧ (vlR S (tf (T s))).toInt ≤ 31 then (setK S (vlR S (tf (T s))).toNatClampNeg (vlR S (tg (T s))), 0) else (S, 2) := by simp only [ex1]; rw [if_neg (by omega), if_neg (by omega), if_neg (by omega), if_pos h]
    refine s_isWord (fun y => ⟨fun z => absurd z (by decide), fun _ => ⟨vp_wd y, ?_⟩⟩) (fun y => ⟨fun _ => ?_, fun z => absurd rfl z⟩)
    · rw [if_pos y] at he
      rw [he] at hQ
      exact hQ _ (Fr.rf.up (by unfold SM0; omega)) (hR.kp _ _) rfl
    · rw [if_neg y] at he
      rw [he] at hE
      exact hE _ (s44 _ _) ((hR.e58 (by omega) _).e58 (by omega) _) (by simp) (by simp [up_at]; rfl) (by simp [up_at])
  · have h := (cv 4 (by omega)).mp z
    have he : ex1 (T s) S = (telR S (vlR S (tf (T s))), 0) := by simp only [ex1]; rw [if_neg (by omega), if_neg (by omega), if_neg (by omega), if_neg (by omega)]
    rw [he] at hQ
    refine ⟨by rw [hR.2.2.2.1]; exact vp_in_nI (by omega) (by omega), ?_⟩
    exact hQ _ ((Fr.rf.up (by unfold SM0; omega)).up (by unfold SM0; omega)) (hR.tel _ hom) rfl
  · have n0 : ¬ tso (T s) = 0 := fun y => z0 ((cv 0 (by omega)).mpr y)
    have n1 : ¬ tso (T s) = 1 := fun y => z1 ((cv 1 (by omega)).mpr y)
    have n2 : ¬ tso (T s) = 2 := fun y => z2 ((cv 2 (by omega)).mpr y)
    have n3 : ¬ tso (T s) = 3 := fun y => z3 ((cv 3 (by omega)).mpr y)
    have n4 : ¬ tso (T s) = 4 := fun y => z4 ((cv 4 (by omega)).mpr y)
    omega
theorem s_doSt5 {T : Nat → St9} {σ : Sg} {S : RS} {s : Nat} (hs : s < 60) (hx : MS9 63 66 σ s (T s)) (hR : MR σ S) (hok : okT (T s)) (h5 : tso (T s) = 5) {Q : Int32 → Sg → Prop}
    (hy : asks (T s) S → Q (nI (s + 1)) (up σ 86 s 1)) (hn : ¬ asks (T s) S → Q (nI (tm (T s))) (up σ 86 s 0)) : w_m_doStatement (nI s) σ Q := by
  obtain ⟨o1, o2, o3, o4, o5, o6, o7⟩ := hok
  have o4 := o4 h5
  unfold w_m_doStatement
  refine s_toldA hs hx hR o5 (s_toldB hs hx hR o6 ?_)
  refine s_of (k := 1) hs (by omega) (s_of (k := 0) hs (by omega) ?_)
  have e0 : σ 63 (9 * s + 0) = nI 5 := by rw [← h5]; exact hx.1
  rw [e0]
  unfold w_m_doStatement_213 w_m_doStatement_235
  refine ⟨fun z => absurd z (by decide), fun _ => ⟨fun z => absurd z (by decide), fun _ => ⟨fun z => absurd z (by decide), fun _ => ⟨fun z => absurd z (by decide), fun _ => ⟨fun z => absurd z (by decide), fun _ => s_of (k := 2) hs (by omega) ?_⟩⟩⟩⟩⟩
  have e3 : σ 63 (9 * s + 2) = nI (top (T s) + 10) := hx.2.2.2.2.1 h5
  have em : σ 66 s = nI (tm (T s)) := (hx.2.2.2.2.2.2.2.2.2 h5).1
  rw [e3]
  have v : vp_in (nI s) 60 := vp_in_nI hs (by omega)
  refine s_reach (by omega) (fun y => by unfold dv at y; omega) (fun y => ⟨fun z => ⟨v, bz_0, v, ?_⟩, fun z => ⟨v, bz_1, v, ?_⟩⟩)
  · rw [nI_clamp (by omega), em]
    refine ⟨fun _ => ⟨v, hn z⟩, fun q => absurd (by simp [up_at]) q⟩
  · rw [nI_clamp (by omega), nI_1]
    refine ⟨fun q => absurd q (by simp [up_at]), fun _ => hy z⟩
/-! behind -/
def SBq (T : Nat → St9) (q s : Nat) : Prop := tso (T q) = 5 ∧ tm (T q) = s ∧ s < te (T q)
theorem s_beh_13 {T : Nat → St9} {n : Nat} (hn : n ≤ 60) (hok : ∀ s, s < n → okT (T s)) {σ : Sg} (hX : MX σ n T) {s : Nat} (hs : s ≤ n) (hb : ∀ q, q < n → tso (T q) = 5 → tm (T q) ≤ te (T q) ∧ te (T q) ≤ n) {K4 : Int32 → Int32 → Sg → Prop} {Q : Int32 → Sg → Prop} (h0 : (∀ q, q < n → SBq T q s → σ 86 q = 0) → K4 (nI s) 0 σ) (h1 : ∀ q, q < n → SBq T q s → ¬ σ 86 q = 0 → (∀ r, r < q → SBq T r s → σ 86 r = 0) → K4 (nI (te (T q))) 1 σ) : ∀ (m j : Nat), j + m = n → (∀ q, q < j → SBq T q s → σ 86 q = 0) → w_m_behind_13 K4 Q (m + 2) (nI s) 0 (nI j) σ := by
  intro m
  induction m with
  | zero =>
    intro j hj h
    unfold w_m_behind_13 w_m_behind_85
    exact ⟨fun _ => h0 (fun q hq => h q (by omega)), fun z => absurd (by rw [hX.1]; exact nI_le (by omega) (by omega)) z⟩
  | succ m ih =>
    intro j hj h
    unfold w_m_behind_13 w_m_behind_85 w_m_behind_79
    have hx := hX.2 j (by omega)
    have ho := (hok j (by omega)).1
    have v : vp_in (nI j) 60 := vp_in_nI (by omega) (by omega)
    have cv : nI (tso (T j)) = 5 ↔ tso (T j) = 5 := nI_eq (by omega) (by decide)
    have hgo : (SBq T j s → σ 86 j = 0) → ∀ x1 : Int32, x1 = nI j + 1 → w_m_behind_13 K4 Q (m + 2) (nI s) 0 x1 σ := by
      intro hj2 x1 e1
      rw [nI_1] at e1
      subst e1
      refine ih (j + 1) (by omega) (fun q hq hsb => ?_)
      by_cases e : q = j
      · subst e; exact hj2 hsb
      · exact h q (by omega) hsb
    refine ⟨fun z => absurd z (by rw [hX.1]; exact nI_ge (by omega) (by omega)), fun _ => ⟨fun z => absurd rfl z, fun _ => s_of (k := 0) (by omega) (by omega) ?_⟩⟩
    have e0 : σ 63 (9 * j + 0) = nI (tso (T j)) := hx.1
    rw [e0, nI_clamp (by omega)]
    refine ⟨fun z => hgo (fun q => absurd (cv.mpr q.1) z), fun z => ?_⟩
    have h5 := cv.mp z
    obtain ⟨b1, b2⟩ := hb j (by omega) h5
    have em : σ 66 j = nI (tm (T j)) := (hx.2.2.2.2.2.2.2.2.2 h5).1
    have ee : σ 67 j = nI (te (T j)) := (hx.2.2.2.2.2.2.2.2.2 h5).2
    rw [em, ee]
    refine ⟨v, fun z => hgo (fun q => absurd (by rw [q.2.1]) z), fun z => ⟨v, fun y => hgo (fun q => absurd q.2.2 ?_), fun y => ⟨v, fun w => hgo (fun _ => w), fun w => ⟨v, ?_⟩⟩⟩⟩
    · have := (nI_leI (by omega) (by omega)).mp y
      omega
    · have z := (nI_eq (by omega) (by omega)).mp z
      have y : s < te (T j) := by
        have := mt (nI_leI (a := te (T j)) (b := s) (by omega) (by omega)).mpr y
        omega
      have hk := h1 j (by omega) ⟨h5, z, y⟩ w (fun r hr => h r hr)
      intro x3 e3 x1 e1
      rw [nI_1] at e1
      subst e1 e3
      unfold w_m_behind_13 w_m_behind_85
      exact ⟨fun _ => hk, fun _ => ⟨fun _ => hk, fun z => absurd z (by decide)⟩⟩
/-- nothing is left out -/
theorem s_beh_stay {T : Nat → St9} {n : Nat} (hn : n ≤ 60) (hok : ∀ s, s < n → okT (T s)) {σ : Sg} (hX : MX σ n T) {s : Nat} (hs : s ≤ n) (hb : ∀ q, q < n → tso (T q) = 5 → tm (T q) ≤ te (T q) ∧ te (T q) ≤ n) (hN : ∀ q, q < n → SBq T q s → σ 86 q = 0) {Q : Int32 → Sg → Prop} (hQ : Q (nI s) σ) : w_m_behind (nI s) σ Q := by
  refine ⟨2, ?_⟩
  unfold w_m_behind_4
  refine ⟨fun z => absurd z (by decide), fun _ => ⟨n + 2, s_beh_13 hn hok hX hs hb (fun _ => ?_) (fun q h1 h2 h3 => absurd (hN q h1 h2) h3) n 0 (by omega) (fun q hq => by omega)⟩⟩
  unfold w_m_behind_4
  exact ⟨fun _ => hQ, fun z => absurd rfl z⟩
/-- a second side is left out -/
theorem s_beh_jump {T : Nat → St9} {n : Nat} (hn : n ≤ 60) (hok : ∀ s, s < n → okT (T s)) {σ : Sg} (hX : MX σ n T) {s q0 : Nat} (hs : s ≤ n) (hb : ∀ q, q < n → tso (T q) = 5 → tm (T q) ≤ te (T q) ∧ te (T q) ≤ n) (hq0 : q0 < n) (h0 : SBq T q0 s) (ht : ¬ σ 86 q0 = 0) (hu : ∀ q, q < n → SBq T q s → q = q0) {Q : Int32 → Sg → Prop} (hQ : w_m_behind (nI (te (T q0))) σ Q) : w_m_behind (nI s) σ Q := by
  obtain ⟨q4, h⟩ := hQ
  refine ⟨q4 + 1, ?_⟩
  unfold w_m_behind_4
  refine ⟨fun z => absurd z (by decide), fun _ => ⟨n + 2, s_beh_13 hn hok hX hs hb (fun z => absurd (z q0 hq0 h0) ht) (fun q h1 h2 h3 _ => ?_) n 0 (by omega) (fun q hq => by omega)⟩⟩
  rw [hu q h1 h2]
  exact h
/-- wherever it comes to -/
theorem s_beh_any {T : Nat → St9} {n : Nat} (hn : n ≤ 60) (hok : ∀ s, s < n → okT (T s)) {σ : Sg} (hX : MX σ n T) {s : Nat} (hs : s ≤ n) (hb : ∀ q, q < n → tso (T q) = 5 → tm (T q) ≤ te (T q) ∧ te (T q) ≤ n) {Q : Int32 → Sg → Prop} (hQ : ∀ x, Q x σ) : w_m_behind (nI s) σ Q := by
  have key : ∀ m s F, s ≤ n → n - s ≤ m → m + 2 ≤ F → w_m_behind_4 Q F (nI s) 1 σ := by
    intro m
    induction m with
    | zero =>
      intro s F hs hm hF
      obtain ⟨F, rfl⟩ : ∃ F', F = F' + 2 := ⟨F - 2, by omega⟩
      unfold w_m_behind_4
      refine ⟨fun z => absurd z (by decide), fun _ => ⟨n + 2, s_beh_13 hn hok hX hs hb (fun _ => ?_) (fun q h1 h2 h3 _ => ?_) n 0 (by omega) (fun q hq => by omega)⟩⟩
      · unfold w_m_behind_4
        exact ⟨fun _ => hQ _, fun z => absurd rfl z⟩
      · obtain ⟨b1, b2⟩ := hb q h1 h2.1
        have := h2.2.2
        omega
    | succ m ih =>
      intro s F hs hm hF
      obtain ⟨F, rfl⟩ : ∃ F', F = F' + 2 := ⟨F - 2, by omega⟩
      unfold w_m_behind_4
      refine ⟨fun z => absurd z (by decide), fun _ => ⟨n + 2, s_beh_13 hn hok hX hs hb (fun _ => ?_) (fun q h1 h2 h3 _ => ?_) n 0 (by omega) (fun q hq => by omega)⟩⟩
      · unfold w_m_behind_4
        exact ⟨fun _ => hQ _, fun z => absurd rfl z⟩
      · obtain ⟨b1, b2⟩ := hb q h1 h2.1
        have := h2.2.2
        exact ih (te (T q)) (F + 1) b2 (by omega) (by omega)
  exact ⟨n - s + 2, key (n - s) s _ hs (by omega) (by omega)⟩

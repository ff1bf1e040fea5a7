/-! ## tell -/
def vlR (S : RS) (v : Vl) : Int32 := match v with
  | .inl k => S.1 k
  | .inr x => x
/-- a plain statement: the state behind it, how it ended -/
def ex1 (t : St9) (S : RS) : RS × Nat :=
  let a := vlR S (tf t)
  let b := vlR S (tg t)
  if tso t = 0 then (setR S (tva t) a, 0)
  else if tso t = 1 then (if (top t + 2 = 5 ∨ top t + 2 = 6) ∧ b = 0 then (S, 1) else (setR S (tva t) (rk (top t + 2) a b), 0))
  else if tso t = 2 then (if 0 ≤ a.toInt ∧ a.toInt ≤ 31 then (setR S (tva t) (S.2.1 a.toNatClampNeg), 0) else (S, 2))
  else if tso t = 3 then (if 0 ≤ a.toInt ∧ a.toInt ≤ 31 then (setK S a.toNatClampNeg b, 0) else (S, 2))
  else (telR S a, 0)
def asks (t : St9) (S : RS) : Prop := rk (top t + 10) (vlR S (tf t)) (vlR S (tg t)) = 1
noncomputable def tlF (T : Nat → St9) : Nat → Nat → Nat → RS → RS × Nat × Nat
  | 0, _, _, S => (S, 0, 0)
  | f + 1, a, b, S =>
    if b ≤ a then (S, 0, 0)
    else if tso (T a) ≤ 4 then
      (if (ex1 (T a) (dnR S)).2 = 0 then tlF T f (a + 1) b (ex1 (T a) (dnR S)).1 else ((ex1 (T a) (dnR S)).1, (ex1 (T a) (dnR S)).2, a))
    else
      have := Classical.propDecidable (asks (T a) (dnR S))
      let r := if asks (T a) (dnR S) then tlF T f (a + 1) (tm (T a)) (dnR S) else tlF T f (tm (T a)) (te (T a)) (dnR S)
      if r.2.1 = 0 then tlF T f (te (T a)) b r.1 else r
theorem tlF_nil {T : Nat → St9} {f a b : Nat} {S : RS} (h : b ≤ a) : tlF T f a b S = (S, 0, 0) := by
  cases f with
  | zero => rfl
  | succ f => rw [tlF, if_pos h]
theorem tlF_one {T : Nat → St9} {f a b : Nat} {S : RS} (h : a < b) (h4 : tso (T a) ≤ 4) : tlF T (f + 1) a b S = if (ex1 (T a) (dnR S)).2 = 0 then tlF T f (a + 1) b (ex1 (T a) (dnR S)).1 else ((ex1 (T a) (dnR S)).1, (ex1 (T a) (dnR S)).2, a) := by
  rw [tlF, if_neg (by omega), if_pos h4]
theorem tlF_yes {T : Nat → St9} {f a b : Nat} {S : RS} (h : a < b) (h5 : tso (T a) = 5) (hy : asks (T a) (dnR S)) : tlF T (f + 1) a b S = if (tlF T f (a + 1) (tm (T a)) (dnR S)).2.1 = 0 then tlF T f (te (T a)) b (tlF T f (a + 1) (tm (T a)) (dnR S)).1 else tlF T f (a + 1) (tm (T a)) (dnR S) := by
  rw [tlF, if_neg (by omega), if_neg (by omega)]
  simp only [if_pos hy]
theorem tlF_not {T : Nat → St9} {f a b : Nat} {S : RS} (h : a < b) (h5 : tso (T a) = 5) (hy : ¬ asks (T a) (dnR S)) : tlF T (f + 1) a b S = if (tlF T f (tm (T a)) (te (T a)) (dnR S)).2.1 = 0 then tlF T f (te (T a)) b (tlF T f (tm (T a)) (te (T a)) (dnR S)).1 else tlF T f (tm (T a)) (te (T a)) (dnR S) := by
  rw [tlF, if_neg (by omega), if_neg (by omega)]
  simp only [if_neg hy]
theorem ex1_om {t : St9} {S : RS} : (ex1 t S).1.2.2.2.1 ≤ S.2.2.2.1 + 1 := by
  simp only [ex1]
  repeat' split
  all_goals (simp [setR, setK, telR])
theorem ex1_how {t : St9} {S : RS} : (ex1 t S).2 = 0 ∨ ((ex1 t S).2 = 1 ∨ (ex1 t S).2 = 2) ∧ (ex1 t S).1 = S := by
  simp only [ex1]
  repeat' split
  all_goals simp
theorem tlF_om {T : Nat → St9} : ∀ {f d a b : Nat} {S : RS}, Blk T f d a b → (tlF T f a b S).1.2.2.2.1 ≤ S.2.2.2.1 + (b - a) := by
  intro f
  induction f with
  | zero => intro d a b S _; show S.2.2.2.1 ≤ _; omega
  | succ f ih =>
    intro d a b S h
    rcases h with h | ⟨h1, h2, h3⟩ | ⟨h1, h2, h3, h4, h5, h6⟩
    · rw [tlF_nil (by omega)]; show S.2.2.2.1 ≤ _; omega
    · rw [tlF_one h1 h2]
      have e := ex1_om (t := T a) (S := dnR S)
      have e' : (ex1 (T a) (dnR S)).1.2.2.2.1 ≤ S.2.2.2.1 + 1 := e
      split
      · have := ih (S := (ex1 (T a) (dnR S)).1) h3
        have := h3.le
        omega
      · show (ex1 (T a) (dnR S)).1.2.2.2.1 ≤ _; omega
    · have l4 := h4.le
      have l5 := h5.le
      have l6 := h6.le
      by_cases hy : asks (T a) (dnR S)
      · rw [tlF_yes h1 h2 hy]
        have i4 : (tlF T f (a + 1) (tm (T a)) (dnR S)).1.2.2.2.1 ≤ S.2.2.2.1 + _ := ih (S := dnR S) h4
        split
        · have := ih (S := (tlF T f (a + 1) (tm (T a)) (dnR S)).1) h6
          omega
        · omega
      · rw [tlF_not h1 h2 hy]
        have i4 : (tlF T f (tm (T a)) (te (T a)) (dnR S)).1.2.2.2.1 ≤ S.2.2.2.1 + _ := ih (S := dnR S) h5
        split
        · have := ih (S := (tlF T f (tm (T a)) (te (T a)) (dnR S)).1) h6
          omega
        · omega
theorem tlF_how {T : Nat → St9} : ∀ {f a b : Nat} {S : RS}, (tlF T f a b S).2.1 = 0 ∨ (tlF T f a b S).2.1 = 1 ∨ (tlF T f a b S).2.1 = 2 := by
  intro f
  induction f with
  | zero => intro a b S; exact Or.inl rfl
  | succ f ih =>
    intro a b S
    rw [tlF]
    split
    · exact Or.inl rfl
    · split
      · split
        · exact ih
        · rename_i hn
          have := ex1_how (t := T a) (S := dnR S)
          show _ ∨ (ex1 (T a) (dnR S)).2 = 1 ∨ (ex1 (T a) (dnR S)).2 = 2
          omega
      · simp only
        repeat' split
        all_goals exact ih
theorem XS.sx {σ τ : Sg} {s : Nat} {t : St9} (h : XS 36 σ s t) (f : Fr SX σ τ) : XS 36 τ s t := h.fr (fun c h1 h2 => f c s (by unfold SX; omega))
theorem s_firstX {σ : Sg} {s : Nat} {t : St9} {S : RS} (hs : s < 60) (hx : XS 36 σ s t) (hR : XR σ S) (hv : okV (tf t)) {Q : Int32 → Sg → Prop} (h : Q (vlR S (tf t)) σ) : w_x_first_I (nI s) σ Q := by
  unfold w_x_first_I w_x_first_I_39
  have v : vp_in (nI s) 60 := vp_in_nI hs (by omega)
  have e4 : σ 40 s = xv (tf t) := hx.2.2.2.2.1
  have e5 : σ 41 s = xw (tf t) := hx.2.2.2.2.2.1
  rw [nI_clamp (by omega), e4, e5]
  cases ht : tf t with
  | inl k =>
    rw [ht] at h hv
    have hv : k < 16 := hv
    refine ⟨v, fun _ => ⟨v, vp_in_nI (show k < 3016 by omega) (by omega), ?_⟩, fun z => absurd z (nI_m1 (by omega))⟩
    show Q (σ 11 (nI k).toNatClampNeg) σ
    rw [nI_clamp (by omega), hR.1 k (by omega)]
    exact h
  | inr x =>
    rw [ht] at h
    exact ⟨v, fun z => absurd rfl z, fun _ => ⟨v, h⟩⟩
theorem s_secondX {σ : Sg} {s : Nat} {t : St9} {S : RS} (hs : s < 60) (hx : XS 36 σ s t) (hR : XR σ S) (hv : okV (tg t)) {Q : Int32 → Sg → Prop} (h : Q (vlR S (tg t)) σ) : w_x_second_I (nI s) σ Q := by
  unfold w_x_second_I w_x_second_I_39
  have v : vp_in (nI s) 60 := vp_in_nI hs (by omega)
  have e4 : σ 42 s = xv (tg t) := hx.2.2.2.2.2.2.1
  have e5 : σ 43 s = xw (tg t) := hx.2.2.2.2.2.2.2.1
  rw [nI_clamp (by omega), e4, e5]
  cases ht : tg t with
  | inl k =>
    rw [ht] at h hv
    have hv : k < 16 := hv
    refine ⟨v, fun _ => ⟨v, vp_in_nI (show k < 3016 by omega) (by omega), ?_⟩, fun z => absurd z (nI_m1 (by omega))⟩
    show Q (σ 11 (nI k).toNatClampNeg) σ
    rw [nI_clamp (by omega), hR.1 k (by omega)]
    exact h
  | inr x =>
    rw [ht] at h
    exact ⟨v, fun z => absurd rfl z, fun _ => ⟨v, h⟩⟩
theorem s_next {σ : Sg} {s : Nat} {t : St9} (hs : s < 60) (hx : XS 36 σ s t) (h5 : tso t ≤ 5) {Q : Int32 → Sg → Prop} (h : Q (nI (if tso t = 5 then te t else s + 1)) σ) : w_t_next (nI s) σ Q := by
  unfold w_t_next w_t_next_22
  have v : vp_in (nI s) 60 := vp_in_nI hs (by omega)
  have e0 : σ 36 s = nI (tso t) := hx.1
  rw [nI_clamp (by omega), e0, nI_1]
  refine ⟨v, fun z => ?_, fun z => ⟨v, ?_⟩⟩
  · rw [if_neg (fun q => z (by rw [q]; rfl))] at h; exact h
  · have h5' : tso t = 5 := (nI_eq (by omega) (by omega)).mp z
    have e9 : σ 45 s = nI (te t) := (hx.2.2.2.2.2.2.2.2 h5').2
    rw [if_pos h5'] at h
    rw [e9]; exact h

/-- what a plain statement does, in the class -/
theorem s_tellOne4 {T : Nat → St9} {n : Nat} {σ : Sg} {S : RS} {s : Nat} (hs : s < 60) (hx : XS 36 σ s (T s)) (hR : XR σ S) (hok : okT (T s)) (h4 : tso (T s) ≤ 4) (hom : S.2.2.2.1 < 60) {RA : Int32 → Int32 → Sg → (Sg → Prop) → (Nat → Sg → Prop) → Prop} {Q : Sg → Prop} {E : Nat → Sg → Prop}
    (hQ : ∀ τ, Fr SX σ τ → XR τ (ex1 (T s) (dnR S)).1 → (ex1 (T s) (dnR S)).2 = 0 → Q τ) (hE : ∀ τ, Fr SX σ τ → XR τ (ex1 (T s) (dnR S)).1 → ¬ (ex1 (T s) (dnR S)).2 = 0 → τ 4 5 = nI (ex1 (T s) (dnR S)).2 → τ 4 6 = nI s → E 1 τ) : w_x_tellOne RA (nI s) σ Q E := by
  have hF1 : Fr SX σ (up σ 0 25 (σ 0 25 + 1)) := Fr.rf.up (by unfold SX; omega)
  have hR1 := hR.dn
  have hx1 := hx.sx hF1
  obtain ⟨o1, o2, o3, o4, o5, o6, o7⟩ := hok
  unfold w_x_tellOne
  refine s_firstX hs hx1 hR1 o5 (s_secondX hs hx1 hR1 o6 ?_)
  have v : vp_in (nI s) 60 := vp_in_nI hs (by omega)
  refine ⟨v, ?_⟩
  intro x5 e5
  rw [nI_clamp (by omega)] at e5 ⊢
  have e0 : up σ 0 25 (σ 0 25 + 1) 36 s = nI (tso (T s)) := hx1.1
  rw [e0]
  have cv : ∀ k, k < 100 → (nI (tso (T s)) = nI k ↔ tso (T s) = k) := fun k hk => nI_eq (by omega) (by omega)
  have hva : tso (T s) ≤ 2 → x5 = nI (tva (T s)) ∧ tva (T s) < 16 := fun h => ⟨e5.trans (hx1.2.2.1 h), o2 h⟩
  have s11 : ∀ q w, Fr SX σ (up (up σ 0 25 (σ 0 25 + 1)) 11 q w) := fun q w => hF1.up (by unfold SX; omega)
  have s44 : ∀ q w, Fr SX σ (up (up (up σ 0 25 (σ 0 25 + 1)) 4 5 q) 4 6 w) := fun q w => (hF1.up (by unfold SX; omega)).up (by unfold SX; omega)
  unfold w_x_tellOne_223
  refine ⟨v, fun z => ?_, fun z0 => ⟨fun z => ⟨v, ?_⟩, fun z1 => ⟨fun z => ?_, fun z2 => ⟨fun z => ?_, fun z3 => ⟨fun z => ?_, fun z4 => ?_⟩⟩⟩⟩⟩
  · have h := (cv 0 (by omega)).mp z
    obtain ⟨rfl, hv⟩ := hva (by omega)
    rw [nI_clamp (by omega)]
    have he : ex1 (T s) (dnR S) = (setR (dnR S) (tva (T s)) (vlR (dnR S) (tf (T s))), 0) := by simp only [ex1]; rw [if_pos h]
    rw [he] at hQ
    exact ⟨vp_in_nI (by omega) (by omega), hQ _ (s11 _ _) (hR1.set _ _) rfl⟩
  · have h := (cv 1 (by omega)).mp z
    obtain ⟨rfl, hv⟩ := hva (by omega)
    have e3 : up σ 0 25 (σ 0 25 + 1) 39 s = nI (top (T s)) := hx1.2.2.2.1 (Or.inl h)
    rw [e3, show (2 : Int32) + nI (top (T s)) = nI (top (T s) + 2) by rw [Nat.add_comm, ← nI_add]; rfl]
    have o3 := o3 h
    have he : ex1 (T s) (dnR S) = if (top (T s) + 2 = 5 ∨ top (T s) + 2 = 6) ∧ vlR (dnR S) (tg (T s)) = 0 then (dnR S, 1) else (setR (dnR S) (tva (T s)) (rk (top (T s) + 2) (vlR (dnR S) (tf (T s))) (vlR (dnR S) (tg (T s)))), 0) := by simp only [ex1]; rw [if_neg (by omega), if_pos h]
    refine s_reckon (by omega) (fun y => ?_) (fun y => ⟨vp_in_nI (by omega) (by omega), ?_⟩)
    · unfold dv at y
      rw [if_pos y] at he
      rw [he] at hE
      exact hE _ (s44 _ _) ((hR1.e4 _ _).e4 _ _) (by simp) (by simp [up_at]; rfl) (by simp [up_at])
    · unfold dv at y
      rw [if_neg y] at he
      rw [he] at hQ
      rw [nI_clamp (by omega)]
      exact hQ _ (s11 _ _) (hR1.set _ _) rfl
  · have h := (cv 2 (by omega)).mp z
    obtain ⟨rfl, hv⟩ := hva (by omega)
    have he : ex1 (T s) (dnR S) = if 0 ≤ (vlR (dnR S) (tf (T s))).toInt ∧ (vlR (dnR S) (tf (T s))).toInt ≤ 31 then (setR (dnR S) (tva (T s)) ((dnR S).2.1 (vlR (dnR S) (tf (T s))).toNatClampNeg), 0) else (dnR S, 2) := by simp only [ex1]; rw [if_neg (by omega), if_neg (by omega), if_pos h]
    refine s_place (fun y => ⟨vp_wd y, vp_in_nI (by omega) (by omega), ?_⟩) (fun y => ?_)
    · rw [if_pos y] at he
      rw [he] at hQ
      obtain ⟨w, hw, ew⟩ := vp_in_of (vp_wd y) (by omega)
      rw [nI_clamp (show tva (T s) < 2 ^ 31 by omega), hR1.2.1 _ (by rw [ew, nI_clamp (by omega)]; exact hw)]
      exact hQ _ (s11 _ _) (hR1.set _ _) rfl
    · rw [if_neg y] at he
      rw [he] at hE
      exact hE _ (s44 _ _) ((hR1.e4 _ _).e4 _ _) (by simp) (by simp [up_at]; rfl) (by simp [up_at])
  · have h := (cv 3 (by omega)).mp z
    have he : ex1 (T s) (dnR S) = if 0 ≤ (vlR (dnR S) (tf (T s))).toInt ∧ (vlR (dnR S) (tf (T s))).toInt ≤ 31 then (setK (dnR S) (vlR (dnR S) (tf (T s))).toNatClampNeg (vlR (dnR S) (tg (T s))), 0) else (dnR S, 2) := by simp only [ex1]; rw [if_neg (by omega), if_neg (by omega), if_neg (by omega), if_pos h]
    refine s_place (fun y => ⟨vp_wd y, ?_⟩) (fun y => ?_)
    · rw [if_pos y] at he
      rw [he] at hQ
      exact hQ _ (hF1.up (by unfold SX; omega)) (hR1.kp _ _) rfl
    · rw [if_neg y] at he
      rw [he] at hE
      exact hE _ (s44 _ _) ((hR1.e4 _ _).e4 _ _) (by simp) (by simp [up_at]; rfl) (by simp [up_at])
  · have h := (cv 4 (by omega)).mp z
    have he : ex1 (T s) (dnR S) = (telR (dnR S) (vlR (dnR S) (tf (T s))), 0) := by simp only [ex1]; rw [if_neg (by omega), if_neg (by omega), if_neg (by omega), if_neg (by omega)]
    rw [he] at hQ
    unfold w_x_tell_I
    have e23 : (up σ 0 25 (σ 0 25 + 1)) 0 23 = nI S.2.2.2.1 := hR1.2.2.2.1
    refine ⟨by rw [e23]; exact vp_in_nI (by omega) (by omega), ?_⟩
    exact hQ _ ((hF1.up (by unfold SX; omega)).up (by unfold SX; omega)) (hR1.tel _ hom) rfl
  · have n0 : ¬ tso (T s) = 0 := fun y => z0 ((cv 0 (by omega)).mpr y)
    have n1 : ¬ tso (T s) = 1 := fun y => z1 ((cv 1 (by omega)).mpr y)
    have n2 : ¬ tso (T s) = 2 := fun y => z2 ((cv 2 (by omega)).mpr y)
    have n3 : ¬ tso (T s) = 3 := fun y => z3 ((cv 3 (by omega)).mpr y)
    have n4 : ¬ tso (T s) = 4 := fun y => z4 ((cv 4 (by omega)).mpr y)
    omega
theorem s_tellOne5 {T : Nat → St9} {σ : Sg} {S : RS} {s : Nat} (hs : s < 60) (hx : XS 36 σ s (T s)) (hR : XR σ S) (hok : okT (T s)) (h5 : tso (T s) = 5) {RA : Int32 → Int32 → Sg → (Sg → Prop) → (Nat → Sg → Prop) → Prop} {Q : Sg → Prop} {E : Nat → Sg → Prop}
    (hy : asks (T s) (dnR S) → RA (nI (s + 1)) (nI (tm (T s))) (up σ 0 25 (σ 0 25 + 1)) Q E) (hn : ¬ asks (T s) (dnR S) → RA (nI (tm (T s))) (nI (te (T s))) (up σ 0 25 (σ 0 25 + 1)) Q E) : w_x_tellOne RA (nI s) σ Q E := by
  have hF1 : Fr SX σ (up σ 0 25 (σ 0 25 + 1)) := Fr.rf.up (by unfold SX; omega)
  have hR1 := hR.dn
  have hx1 := hx.sx hF1
  obtain ⟨o1, o2, o3, o4, o5, o6, o7⟩ := hok
  have o4 := o4 h5
  unfold w_x_tellOne
  refine s_firstX hs hx1 hR1 o5 (s_secondX hs hx1 hR1 o6 ?_)
  have v : vp_in (nI s) 60 := vp_in_nI hs (by omega)
  refine ⟨v, ?_⟩
  intro x5 e5
  rw [nI_clamp (by omega)]
  have e0 : up σ 0 25 (σ 0 25 + 1) 36 s = nI 5 := by rw [← h5]; exact hx1.1
  rw [e0]
  have e3 : up σ 0 25 (σ 0 25 + 1) 39 s = nI (top (T s)) := hx1.2.2.2.1 (Or.inr h5)
  rw [e3, show (10 : Int32) + nI (top (T s)) = nI (top (T s) + 10) by rw [Nat.add_comm, ← nI_add]; rfl]
  have em := (hx1.2.2.2.2.2.2.2.2 h5).1
  have ee := (hx1.2.2.2.2.2.2.2.2 h5).2
  have em : up σ 0 25 (σ 0 25 + 1) 44 s = nI (tm (T s)) := em
  have ee : up σ 0 25 (σ 0 25 + 1) 45 s = nI (te (T s)) := ee
  unfold w_x_tellOne_223
  refine ⟨v, fun z => absurd z (by decide), fun _ => ⟨fun z => absurd z (by decide), fun _ => ⟨fun z => absurd z (by decide), fun _ => ⟨fun z => absurd z (by decide), fun _ => ⟨fun z => absurd z (by decide), fun _ => ⟨v, ?_⟩⟩⟩⟩⟩⟩
  refine s_reckon (by omega) (fun y => ?_) (fun y => ⟨fun z => ⟨v, v, ?_⟩, fun z => ⟨v, ?_⟩⟩)
  · unfold dv at y; omega
  · rw [em, ee]; exact hn z
  · rw [em, nI_1]; exact hy z
/-- the class's way through a block -/
theorem s_tellAll {T : Nat → St9} {n : Nat} (hn : n ≤ 60) (hok : ∀ s, s < n → okT (T s)) : ∀ (f d a b : Nat), Blk T f d a b → b ≤ n → ∀ (D : Nat), 7 ≤ D + d → ∀ (S : RS) (σ : Sg) (Q : Sg → Prop) (E : Nat → Sg → Prop), (∀ s, s < n → XS 36 σ s (T s)) → XR σ S → S.2.2.2.1 + (b - a) ≤ 60 →
    (∀ τ, Fr SX σ τ → XR τ (tlF T f a b S).1 → (tlF T f a b S).2.1 = 0 → Q τ) → (∀ τ, Fr SX σ τ → XR τ (tlF T f a b S).1 → ¬ (tlF T f a b S).2.1 = 0 → τ 4 5 = nI (tlF T f a b S).2.1 → τ 4 6 = nI (tlF T f a b S).2.2 → E 1 τ) → ∀ q, b - a < q → w_x_tellAll_2 (w_x_tellAll (D - 1)) Q E q (nI b) (nI a) σ := by
  intro f
  induction f with
  | zero =>
    intro d a b hB hb D hD S σ Q E hX hR hom hQ hE q hq
    obtain rfl : a = b := hB
    cases q with
    | zero => omega
    | succ q =>
      unfold w_x_tellAll_2
      exact ⟨fun _ => hQ σ Fr.rf hR rfl, fun z => absurd (nI_le (Nat.le_refl _) (by omega)) z⟩
  | succ f ih =>
    intro d a b hB hb D hD S σ Q E hX hR hom hQ hE q hq
    cases q with
    | zero => omega
    | succ q =>
      have hle := hB.le
      unfold w_x_tellAll_2
      rcases hB with h | ⟨h1, h2, h3⟩ | ⟨h1, h2, h3, h4, h5, h6⟩
      · subst h
        rw [tlF_nil (Nat.le_refl _)] at hQ
        exact ⟨fun _ => hQ σ Fr.rf hR rfl, fun z => absurd (nI_le (Nat.le_refl _) (by omega)) z⟩
      · rw [tlF_one h1 h2] at hQ hE
        refine ⟨fun z => absurd z (nI_ge h1 (by omega)), fun _ => ?_⟩
        have hom1 := ex1_om (t := T a) (S := dnR S)
        have hom1 : (ex1 (T a) (dnR S)).1.2.2.2.1 ≤ S.2.2.2.1 + 1 := hom1
        refine s_tellOne4 (n := n) (by omega) (hX a (by omega)) hR (hok a (by omega)) h2 (by omega) (fun τ hF hR' h0 => ?_) (fun τ hF hR' h0 t5 t6 => ?_)
        · refine s_next (by omega) ((hX a (by omega)).sx hF) (by omega) ?_
          rw [if_neg (by omega)]
          rw [if_pos h0] at hQ hE
          exact ih d (a + 1) b h3 hb D hD _ τ Q E (fun s hs => (hX s hs).sx hF) hR' (by omega) (fun υ hυ => hQ υ (hF.tr hυ)) (fun υ hυ => hE υ (hF.tr hυ)) q (by omega)
        · rw [if_neg h0] at hE
          exact hE τ hF hR' h0 t5 t6
      · refine ⟨fun z => absurd z (nI_ge h1 (by omega)), fun _ => ?_⟩
        have l4 := h4.le
        have l5 := h5.le
        have l6 := h6.le
        have hF1 : Fr SX σ (up σ 0 25 (σ 0 25 + 1)) := Fr.rf.up (by unfold SX; omega)
        have hX1 : ∀ s, s < n → XS 36 (up σ 0 25 (σ 0 25 + 1)) s (T s) := fun s hs => (hX s hs).sx hF1
        obtain ⟨D', rfl⟩ : ∃ D', D = D' + 1 := ⟨D - 1, by omega⟩
        obtain ⟨D'', rfl⟩ : ∃ D'', D' = D'' + 1 := ⟨D' - 1, by omega⟩
        rw [Nat.add_sub_cancel]
        have hgo : ∀ r : RS × Nat × Nat, tlF T (f + 1) a b S = (if r.2.1 = 0 then tlF T f (te (T a)) b r.1 else r) → r.1.2.2.2.1 + (b - te (T a)) ≤ 60 → (∀ τ, Fr SX (up σ 0 25 (σ 0 25 + 1)) τ → XR τ r.1 → r.2.1 = 0 → w_t_next (nI a) τ (fun x2 σ3 => w_x_tellAll_2 (w_x_tellAll (D'' + 1)) Q E q (nI b) x2 σ3)) ∧ (∀ τ, Fr SX (up σ 0 25 (σ 0 25 + 1)) τ → XR τ r.1 → ¬ r.2.1 = 0 → τ 4 5 = nI r.2.1 → τ 4 6 = nI r.2.2 → E 1 τ) := by
          intro r hr hrom
          rw [hr] at hQ hE
          refine ⟨fun τ hF hR' h0 => ?_, fun τ hF hR' h0 t5 t6 => ?_⟩
          · rw [if_pos h0] at hQ hE
            refine s_next (by omega) ((hX1 a (by omega)).sx hF) (by omega) ?_
            rw [if_pos h2]
            exact ih d (te (T a)) b h6 hb (D'' + 1 + 1) hD _ τ Q E (fun s hs => (hX1 s hs).sx hF) hR' hrom (fun υ hυ => hQ υ ((hF1.tr hF).tr hυ)) (fun υ hυ => hE υ ((hF1.tr hF).tr hυ)) q (by omega)
          · rw [if_neg h0] at hE
            exact hE τ (hF1.tr hF) hR' h0 t5 t6
        refine s_tellOne5 (by omega) (hX a (by omega)) hR (hok a (by omega)) h2 (fun hy => ?_) (fun hy => ?_)
        · have hom2 : (tlF T f (a + 1) (tm (T a)) (dnR S)).1.2.2.2.1 ≤ S.2.2.2.1 + _ := tlF_om (S := dnR S) h4
          obtain ⟨g1, g2⟩ := hgo _ (tlF_yes h1 h2 hy) (by omega)
          show w_x_tellAll_s _ _ _ _ _ _
          exact ⟨tm (T a) - (a + 1) + 1, ih (d + 1) (a + 1) (tm (T a)) h4 (by omega) (D'' + 1) (by omega) (dnR S) _ _ E hX1 hR.dn (by show S.2.2.2.1 + _ ≤ 60; omega) g1 g2 _ (by omega)⟩
        · have hom2 : (tlF T f (tm (T a)) (te (T a)) (dnR S)).1.2.2.2.1 ≤ S.2.2.2.1 + _ := tlF_om (S := dnR S) h5
          obtain ⟨g1, g2⟩ := hgo _ (tlF_not h1 h2 hy) (by omega)
          show w_x_tellAll_s _ _ _ _ _ _
          exact ⟨te (T a) - tm (T a) + 1, ih (d + 1) (tm (T a)) (te (T a)) h5 (by omega) (D'' + 1) (by omega) (dnR S) _ _ E hX1 hR.dn (by show S.2.2.2.1 + _ ≤ 60; omega) g1 g2 _ (by omega)⟩

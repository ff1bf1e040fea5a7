/-! the class's loops over the variables -/
theorem XL.row {σ : Sg} {L : L9} (h : XL σ L) {r j : Nat} (hr : r < 16) {v : Int32} : XL (up σ (18 + r) j v) L := by
  have hF : Fr (fun c _ => c = 18 + r) σ (up σ (18 + r) j v) := (Fr.rf (S := fun c _ => c = 18 + r)).up rfl
  refine ⟨h.1.fr hF ⟨by omega, ?_, ?_, ?_, ?_, ?_, ?_⟩, by rw [hF 0 13 (by omega)]; exact h.2⟩ <;> intro i <;> omega
theorem XL.fr {S : Nat → Nat → Prop} {σ τ : Sg} {L : L9} (h : XL σ L) (f : Fr S σ τ) (hs : ∀ c j, SW0 c j → ¬ S c j) : XL τ L := by
  refine ⟨h.1.fr f ⟨hs 0 12 (by unfold SW0; omega), fun i => hs 6 i (by unfold SW0; omega), fun i => hs 14 i (by unfold SW0; omega), fun i => hs 15 i (by unfold SW0; omega), fun i => hs 16 i (by unfold SW0; omega), fun i => hs 17 i (by unfold SW0; omega), fun i => hs 7 i (by unfold SW0; omega)⟩, by rw [f 0 13 (hs 0 13 (by unfold SW0; omega))]; exact h.2⟩
theorem RX.set {σ : Sg} {row : Nat} {y : Nat → Nat} (h : RX σ row y) (k r : Nat) : RX (up σ (18 + row) k (nI r)) row (un9 y k r) := by
  intro v hv
  rw [up_at, if_pos rfl]
  unfold un9
  split
  · rfl
  · exact h v hv
theorem RX.oth {σ : Sg} {row r2 : Nat} {y : Nat → Nat} (h : RX σ row y) (hne : ¬ row = r2) {j : Nat} {v : Int32} : RX (up σ (18 + r2) j v) row y := fun k hk => by rw [up_ne (by omega)]; exact h k hk
theorem s_copy_2 {r1 r2 : Nat} (h1 : r1 < 16) (h2 : r2 < 16) (hne : ¬ r1 = r2) {y : Nat → Nat} {Q : Sg → Prop} : ∀ (m v : Nat) (σ : Sg), v + m = 16 → RX σ r1 y → (∀ k, k < v → σ (18 + r2) k = nI (y k)) → (∀ τ, Fr (fun c _ => c = 18 + r2) σ τ → RX τ r2 y → Q τ) → w_x_copy_2 Q (m + 1) (nI r1) (nI r2) (nI v) σ := by
  intro m
  induction m with
  | zero =>
    intro v σ hv hy h hQ
    unfold w_x_copy_2
    obtain rfl : v = 16 := by omega
    exact ⟨fun _ => hQ σ Fr.rf (fun k hk => h k hk), fun z => absurd (by decide) z⟩
  | succ m ih =>
    intro v σ hv hy h hQ
    unfold w_x_copy_2
    rw [nI_clamp (show r1 < 2 ^ 31 by omega), nI_clamp (show r2 < 2 ^ 31 by omega), nI_clamp (show v < 2 ^ 31 by omega), nI_1, hy v (by omega)]
    refine ⟨fun z => absurd z (nI_ge (show v < 16 by omega) (by decide)), fun _ => ⟨vp_in_nI h2 (by omega), vp_in_nI h1 (by omega), ⟨by omega, by omega⟩, vp_in_nI (by omega) (by omega), ⟨by omega, by omega⟩, vp_in_nI (by omega) (by omega), ?_⟩⟩
    intro x1 e1
    subst e1
    have hF : Fr (fun c _ => c = 18 + r2) σ (up σ (18 + r2) v (nI (y v))) := (Fr.rf (S := fun c _ => c = 18 + r2)).up rfl
    refine ih (v + 1) _ (by omega) (hy.oth hne) (fun k hk => ?_) (fun τ hτ => hQ τ (hF.tr hτ))
    rw [up_at, if_pos rfl]
    split
    · rename_i e; rw [e]
    · exact h k (by omega)
theorem s_copy {r1 r2 : Nat} (h1 : r1 < 16) (h2 : r2 < 16) (hne : ¬ r1 = r2) {y : Nat → Nat} {σ : Sg} (hy : RX σ r1 y) {Q : Sg → Prop} (hQ : ∀ τ, Fr (fun c _ => c = 18 + r2) σ τ → RX τ r2 y → Q τ) : w_x_copy (nI r1) (nI r2) σ Q :=
  ⟨17, s_copy_2 h1 h2 hne 16 0 σ (by omega) hy (fun k hk => by omega) hQ⟩
/-- what is chosen -/
theorem s_merge {RA : Int32 → Int32 → Int32 → Int32 → Sg → (Sg → Prop) → Prop} {s row free c : Nat} (hrow : row < free) (hfree : free + 1 < 16) {y A B : Nat → Nat} (hyb : ∀ v, v < 16 → y v < 2 ^ 30 ∧ A v < 2 ^ 30 ∧ B v < 2 ^ 30) {Q : Sg → Prop} : ∀ (m v : Nat) (Z : Nat → Nat) (L : L9) (σ : Sg), v + m = 16 → XL σ L → L.1.length + m < 3000 → RX σ row y → RX σ (free + 1) B → RX σ free Z → (∀ k, v ≤ k → Z k = A k) →
    (∀ τ, Fr (fun c j => SW0 c j ∨ c = 18 + free) σ τ → XL τ (mg9 s c y A B m v Z L).2 → RX τ free (mg9 s c y A B m v Z L).1 → ∃ q302, w_x_convert_302 RA Q q302 (nI s) (nI row) (nI free) (18 + row) 0 τ) → w_x_convert_208 RA Q (m + 1) (nI s) (nI row) (nI free) (18 + row) (nI c) (nI v) σ := by
  intro m
  induction m with
  | zero =>
    intro v Z L σ hv hX hl hy hB hZ hA hQ
    unfold w_x_convert_208
    obtain rfl : v = 16 := by omega
    exact ⟨fun _ => hQ σ Fr.rf hX hZ, fun z => absurd (by decide) z⟩
  | succ m ih =>
    intro v Z L σ hv hX hl hy hB hZ hA hQ
    obtain ⟨b1, b2, b3⟩ := hyb v (by omega)
    unfold w_x_convert_208 w_x_convert_270 w_x_convert_292
    have ec : (nI free).toNatClampNeg = free := nI_clamp (by omega)
    have ev : (nI v).toNatClampNeg = v := nI_clamp (by omega)
    have ef : (nI free + 1).toNatClampNeg = free + 1 := by rw [nI_1]; exact nI_clamp (by omega)
    have eZ : σ (18 + free) v = nI (A v) := by rw [hZ v (by omega), hA v (Nat.le_refl _)]
    have eB : σ (18 + (free + 1)) v = nI (B v) := hB v (by omega)
    have ey : σ (18 + row) v = nI (y v) := hy v (by omega)
    rw [ec, ev, ef, eZ, eB, ey]
    have vf : vp_in (nI free) 16 := vp_in_nI (by omega) (by omega)
    have vf1 : vp_in (nI free + 1) 16 := by rw [nI_1]; exact vp_in_nI (by omega) (by omega)
    have vv : vp_in (nI v) 16 := vp_in_nI (by omega) (by omega)
    have iF : inS (18 + free) := ⟨by omega, by omega⟩
    have iF1 : inS (18 + (free + 1)) := ⟨by omega, by omega⟩
    have iR : inS (18 + row) := ⟨by omega, by omega⟩
    refine ⟨fun z => absurd z (nI_ge (show v < 16 by omega) (by decide)), fun _ => ⟨vf, iF, vv, ?_⟩⟩
    intro x1 e1
    refine ⟨vf1, iF1, vv, ?_⟩
    intro x2 e2
    subst e1 e2
    rw [mg9] at hQ
    have hch : ¬ (A v = y v ∧ B v = y v) → w_x_fresh σ (fun x1 σ2 => w_x_put (nI s) 13 x1 (nI c) (nI (A v)) (nI (B v)) σ2 (fun x3 σ4 => inS (18 + free) ∧ (vp_in (nI v) 16 ∧ (∀ x1 : Int32, x1 = nI v + 1 → (w_x_convert_208 RA Q (m + 1) (nI s) (nI row) (nI free) (18 + row) (nI c) x1 (up σ4 (18 + free) v x3)))))) := by
      intro hne
      rw [if_neg hne] at hQ
      refine s_fput (s := s) (c := 13) (b := nI c) (d := nI (A v)) (e := nI (B v)) hX (by omega) (Q := fun x3 σ4 => inS (18 + free) ∧ (vp_in (nI v) 16 ∧ (∀ x1 : Int32, x1 = nI v + 1 → (w_x_convert_208 RA Q (m + 1) (nI s) (nI row) (nI free) (18 + row) (nI c) x1 (up σ4 (18 + free) v x3))))) (fun τ f1 x1 => ⟨iF, vv, ?_⟩)
      intro x4 e4
      rw [nI_1] at e4
      subst e4
      refine ih (v + 1) (un9 Z v L.2) _ _ (by omega) (x1.row (by omega)) (by rw [ef9_len]; omega) ((hy.sw0 f1).oth (by omega)) ((hB.sw0 f1).oth (by omega)) ((hZ.sw0 f1).set v _) (fun k hk => ?_) (fun υ hυ => hQ υ ((f1.mono (fun c j z => Or.inl z)).tr (((Fr.rf (S := fun c j => SW0 c j ∨ c = 18 + free)).up (Or.inr rfl)).tr hυ)))
      unfold un9
      rw [if_neg (by omega)]
      exact hA k (by omega)
    refine ⟨vf, iR, vv, fun z => hch (fun q => z (by rw [q.1])), fun z => ⟨iR, vv, fun w => ⟨iF, vv, ?_⟩, fun w => hch (fun q => w (by rw [q.2]))⟩⟩
    have hA' := (nI_eq (by omega) (by omega)).mp z
    have hB' := (nI_eq (by omega) (by omega)).mp w
    rw [if_pos ⟨hA', hB'⟩] at hQ
    intro x4 e4
    rw [nI_1] at e4
    subst e4
    refine ih (v + 1) (un9 Z v (A v)) L _ (by omega) (hX.row (by omega)) (by omega) (hy.oth (by omega)) (hB.oth (by omega)) (hZ.set v _) (fun k hk => ?_) (fun υ hυ => hQ υ (((Fr.rf (S := fun c j => SW0 c j ∨ c = 18 + free)).up (Or.inr rfl)).tr hυ))
    unfold un9
    rw [if_neg (by omega)]
    exact hA k (by omega)
/-- a row takes what was chosen -/
theorem s_back {RA : Int32 → Int32 → Int32 → Int32 → Sg → (Sg → Prop) → Prop} {s row free : Nat} (h0 : 0 < row) (hrow : row < free) (hfree : free < 16) {Z : Nat → Nat} {Q : Sg → Prop} : ∀ (m v : Nat) (σ : Sg), v + m = 16 → RX σ free Z → (∀ k, k < v → σ (18 + row) k = nI (Z k)) → (∀ τ, Fr (fun c _ => c = 18 + row) σ τ → RX τ row Z → Q τ) → w_x_convert_302 RA Q (m + 1) (nI s) (nI row) (nI free) (18 + row) (nI v) σ := by
  intro m
  induction m with
  | zero =>
    intro v σ hv hZ h hQ
    unfold w_x_convert_302
    obtain rfl : v = 16 := by omega
    exact ⟨fun _ => hQ σ Fr.rf (fun k hk => h k hk), fun z => absurd (by decide) z⟩
  | succ m ih =>
    intro v σ hv hZ h hQ
    unfold w_x_convert_302 w_x_convert_367
    rw [nI_clamp (show free < 2 ^ 31 by omega), nI_clamp (show v < 2 ^ 31 by omega), hZ v (by omega)]
    refine ⟨fun z => absurd z (nI_ge (show v < 16 by omega) (by decide)), fun _ => ⟨fun z => absurd z (nI_nle h0 (by omega)), fun _ => ⟨vp_in_nI (by omega) (by omega), ⟨by omega, by omega⟩, vp_in_nI (by omega) (by omega), ⟨by omega, by omega⟩, vp_in_nI (by omega) (by omega), ?_⟩⟩⟩
    intro x1 e1
    rw [nI_1] at e1
    subst e1
    have hF : Fr (fun c _ => c = 18 + row) σ (up σ (18 + row) v (nI (Z v))) := (Fr.rf (S := fun c _ => c = 18 + row)).up rfl
    refine ih (v + 1) _ (by omega) (hZ.oth (by omega)) (fun k hk => ?_) (fun τ hτ => hQ τ (hF.tr hτ))
    rw [up_at, if_pos rfl]
    split
    · rename_i e; rw [e]
    · exact h k (by omega)
/-- the moves behind an outer ask -/
theorem s_moves {RA : Int32 → Int32 → Int32 → Int32 → Sg → (Sg → Prop) → Prop} {s free : Nat} (hfree : free < 16) {Z : Nat → Nat} (hz : ∀ v, v < 16 → Z v < 2 ^ 30) {Q : Sg → Prop} : ∀ (m v : Nat) (L : L9) (σ : Sg), v + m = 16 → XL σ L → L.1.length + m < 3000 → RX σ free Z → (∀ τ, Fr SW0 σ τ → XL τ (mo9 s Z m v L) → Q τ) → w_x_convert_302 RA Q (m + 1) (nI s) 0 (nI free) 18 (nI v) σ := by
  intro m
  induction m with
  | zero =>
    intro v L σ hv hX hl hZ hQ
    unfold w_x_convert_302
    obtain rfl : v = 16 := by omega
    exact ⟨fun _ => hQ σ Fr.rf hX, fun z => absurd (by decide) z⟩
  | succ m ih =>
    intro v L σ hv hX hl hZ hQ
    unfold w_x_convert_302 w_x_convert_367
    have hzv := hz v (by omega)
    rw [nI_clamp (show free < 2 ^ 31 by omega), nI_clamp (show v < 2 ^ 31 by omega), hZ v (by omega)]
    have vf : vp_in (nI free) 16 := vp_in_nI (by omega) (by omega)
    have vv : vp_in (nI v) 16 := vp_in_nI (by omega) (by omega)
    have iF : inS (18 + free) := ⟨by omega, by omega⟩
    rw [mo9] at hQ
    refine ⟨fun z => absurd z (nI_ge (show v < 16 by omega) (by decide)), fun _ => ⟨fun _ => ⟨vf, iF, vv, fun w => ?_, fun w => ⟨vf, iF, vv, ?_⟩⟩, fun z => absurd (by decide) z⟩⟩
    · rw [if_pos ((nI_eq (by omega) (by omega)).mp w)] at hQ
      intro x1 e1
      rw [nI_1] at e1
      subst e1
      exact ih (v + 1) L σ (by omega) hX (by omega) hZ hQ
    · rw [if_neg (fun q => w (by rw [q]))] at hQ
      refine s_put (s := s) (c := 1) hX (by omega) (fun τ f1 x1 => ?_)
      intro x4 e4
      rw [nI_1] at e4
      subst e4
      exact ih (v + 1) _ τ (by omega) x1 (by rw [em9_len]; omega) (hZ.sw0 f1) (fun υ hυ => hQ υ (f1.tr hυ))

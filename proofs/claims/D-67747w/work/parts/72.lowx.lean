/-! lengths -/
theorem ef9_len {s c : Nat} {b d e : Int32} {L : L9} : (ef9 s c b d e L).2.1.length = L.1.length + 1 := by simp [ef9]
theorem em9_len {s c : Nat} {a b d e : Int32} {L : L9} : (em9 s c a b d e L).1.length = L.1.length + 1 := by simp [em9]
theorem vl9_len {s : Nat} {v : Vl} {y : Nat → Nat} {L : L9} : L.1.length ≤ (vl9 s v y L).2.1.length ∧ (vl9 s v y L).2.1.length ≤ L.1.length + 1 := by
  cases v with
  | inl k => simp [vl9]
  | inr x => simp [vl9, ef9_len]
theorem ts9_len {s : Nat} {t : St9} {y : Nat → Nat} {L : L9} : L.1.length < (ts9 s t y L).2.1.length ∧ (ts9 s t y L).2.1.length ≤ L.1.length + 3 := by
  have h1 := vl9_len (s := s) (v := tf t) (y := y) (L := L)
  have h2 := vl9_len (s := s) (v := tg t) (y := y) (L := (vl9 s (tf t) y L).2)
  simp only [ts9, ef9_len]
  omega
theorem hm9_len {s g r : Nat} {x : Int32} {L : L9} : (hm9 s g r x L).2.1.length = L.1.length + 2 := by simp only [hm9, ef9_len]
theorem ix9_len {s : Nat} {t : St9} {g r : Nat} {L : L9} : L.1.length ≤ (ix9 s t g r L).2.1.length ∧ (ix9 s t g r L).2.1.length ≤ L.1.length + 2 := by
  unfold ix9
  split
  · simp
  · rw [hm9_len]; omega
theorem gu9_len {s : Nat} {u : Option Nat} {c : Nat} {L : L9} : L.1.length ≤ (gu9 s u c L).2.1.length ∧ (gu9 s u c L).2.1.length ≤ L.1.length + 1 := by
  cases u with
  | none => simp [gu9]
  | some g => simp [gu9, ef9_len]
theorem gd9_len {s : Nat} {t : St9} {g : Nat} {y : Nat → Nat} {L : L9} : L.1.length ≤ (gd9 s t g y L).2.1.length ∧ (gd9 s t g y L).2.1.length ≤ L.1.length + 7 := by
  have h1 := vl9_len (s := s) (v := tf t) (y := y) (L := L)
  have h2 := vl9_len (s := s) (v := tg t) (y := y) (L := (vl9 s (tf t) y L).2)
  have h3 := ix9_len (s := s) (t := t) (g := g) (r := (vl9 s (tf t) y L).1) (L := (vl9 s (tf t) y L).2)
  have h4 := ix9_len (s := s) (t := t) (g := g) (r := (vl9 s (tf t) y L).1) (L := (vl9 s (tg t) y (vl9 s (tf t) y L).2).2)
  unfold gd9
  split
  · simp only; omega
  · split
    · simp only [ef9_len]
      split
      · rw [hm9_len]; omega
      · omega
    · split
      · simp only [ef9_len]; omega
      · simp only [em9_len, ef9_len]; omega
theorem mg9_len {s c : Nat} {y A B : Nat → Nat} : ∀ {m v : Nat} {Z : Nat → Nat} {L : L9}, L.1.length ≤ (mg9 s c y A B m v Z L).2.1.length ∧ (mg9 s c y A B m v Z L).2.1.length ≤ L.1.length + m := by
  intro m
  induction m with
  | zero => intro v Z L; simp [mg9]
  | succ m ih =>
    intro v Z L
    rw [mg9]
    split
    · have := ih (v := v + 1) (Z := un9 Z v (A v)) (L := L); omega
    · have := ih (v := v + 1) (Z := un9 Z v L.2) (L := (ef9 s 13 (nI c) (nI (A v)) (nI (B v)) L).2)
      rw [ef9_len] at this; omega
theorem mo9_len {s : Nat} {Z : Nat → Nat} : ∀ {m v : Nat} {L : L9}, L.1.length ≤ (mo9 s Z m v L).1.length ∧ (mo9 s Z m v L).1.length ≤ L.1.length + m := by
  intro m
  induction m with
  | zero => intro v L; simp [mo9]
  | succ m ih =>
    intro v L
    rw [mo9]
    split
    · have := ih (v := v + 1) (L := L); omega
    · have := ih (v := v + 1) (L := em9 s 1 (nI v) (nI (Z v)) 0 0 L)
      rw [em9_len] at this; omega
/-! the class's rows -/
def RX (σ : Sg) (row : Nat) (y : Nat → Nat) : Prop := ∀ v, v < 16 → σ (18 + row) v = nI (y v)
theorem RX.fr {S : Nat → Nat → Prop} {σ τ : Sg} {row : Nat} {y : Nat → Nat} (h : RX σ row y) (f : Fr S σ τ) (hs : ∀ j, ¬ S (18 + row) j) : RX τ row y := fun v hv => by rw [f _ v (hs v)]; exact h v hv
theorem RX.sw0 {σ τ : Sg} {row : Nat} {y : Nat → Nat} (h : RX σ row y) (f : Fr SW0 σ τ) : RX τ row y := h.fr f (fun j => by unfold SW0; omega)
/-- the text in the class -/
def TX (σ : Sg) (n : Nat) (T : Nat → St9) : Prop := ∀ s, s < n → XS 36 σ s (T s)
theorem TX.sw {σ τ : Sg} {n : Nat} {T : Nat → St9} (h : TX σ n T) (f : Fr SW σ τ) : TX τ n T := fun s hs => (h s hs).fr (fun c h1 h2 => f c s (by unfold SW; omega))
theorem s_reg {σ : Sg} {L : L9} (h : XL σ L) (hl : L.1.length < 3000) {s row : Nat} (hr : row < 16) {y : Nat → Nat} (hy : RX σ row y) {v : Vl} (hv : okV v) {Q : Int32 → Sg → Prop} (hQ : ∀ τ, Fr SW0 σ τ → XL τ (vl9 s v y L).2 → Q (nI (vl9 s v y L).1) τ) : w_x_register (nI s) (xv v) (xw v) (18 + row) σ Q := by
  unfold w_x_register w_x_register_18
  cases v with
  | inl k =>
    have hk : k < 16 := hv
    refine ⟨fun z => absurd z (nI_m1 (by omega)), fun _ => ⟨⟨by omega, by omega⟩, vp_in_nI (show k < 16 by omega) (by omega), ?_⟩⟩
    show Q (σ (18 + row) (nI k).toNatClampNeg) σ
    rw [nI_clamp (by omega), hy k hk]
    exact hQ σ Fr.rf h
  | inr x => exact ⟨fun _ => s_set h hl hQ, fun z => absurd rfl z⟩
theorem s_firstL {σ : Sg} {L : L9} (h : XL σ L) (hl : L.1.length < 3000) {s row : Nat} (hs : s < 60) (hr : row < 16) {y : Nat → Nat} (hy : RX σ row y) {t : St9} (hx : XS 36 σ s t) (hv : okV (tf t)) {Q : Int32 → Sg → Prop} (hQ : ∀ τ, Fr SW0 σ τ → XL τ (vl9 s (tf t) y L).2 → Q (nI (vl9 s (tf t) y L).1) τ) : w_x_first_IAI (nI s) (18 + row) σ Q := by
  unfold w_x_first_IAI
  have v : vp_in (nI s) 60 := vp_in_nI hs (by omega)
  have e4 : σ 40 s = xv (tf t) := hx.2.2.2.2.1
  have e5 : σ 41 s = xw (tf t) := hx.2.2.2.2.2.1
  rw [nI_clamp (by omega), e4, e5]
  exact ⟨v, v, s_reg h hl hr hy hv hQ⟩
theorem s_secondL {σ : Sg} {L : L9} (h : XL σ L) (hl : L.1.length < 3000) {s row : Nat} (hs : s < 60) (hr : row < 16) {y : Nat → Nat} (hy : RX σ row y) {t : St9} (hx : XS 36 σ s t) (hv : okV (tg t)) {Q : Int32 → Sg → Prop} (hQ : ∀ τ, Fr SW0 σ τ → XL τ (vl9 s (tg t) y L).2 → Q (nI (vl9 s (tg t) y L).1) τ) : w_x_second_IAI (nI s) (18 + row) σ Q := by
  unfold w_x_second_IAI
  have v : vp_in (nI s) 60 := vp_in_nI hs (by omega)
  have e4 : σ 42 s = xv (tg t) := hx.2.2.2.2.2.2.1
  have e5 : σ 43 s = xw (tg t) := hx.2.2.2.2.2.2.2.1
  rw [nI_clamp (by omega), e4, e5]
  exact ⟨v, v, s_reg h hl hr hy hv hQ⟩
theorem XS.sw0 {σ τ : Sg} {s : Nat} {t : St9} (h : XS 36 σ s t) (f : Fr SW0 σ τ) : XS 36 τ s t := h.fr (fun c h1 h2 => f c s (by unfold SW0; omega))
theorem s_testL {σ : Sg} {L : L9} (h : XL σ L) (hl : L.1.length + 3 < 3000) {s row : Nat} (hs : s < 60) (hr : row < 16) {y : Nat → Nat} (hy : RX σ row y) {t : St9} (hx : XS 36 σ s t) (hok : okT t) (h5 : tso t = 5) {Q : Int32 → Sg → Prop} (hQ : ∀ τ, Fr SW0 σ τ → XL τ (ts9 s t y L).2 → Q (nI (ts9 s t y L).1) τ) : w_x_test (nI s) (18 + row) σ Q := by
  unfold w_x_test
  have l1 := vl9_len (s := s) (v := tf t) (y := y) (L := L)
  have l2 := vl9_len (s := s) (v := tg t) (y := y) (L := (vl9 s (tf t) y L).2)
  have o4 := hok.2.2.2.1 h5
  refine s_firstL h (by omega) hs hr hy hx hok.2.2.2.2.1 (fun τ f1 x1 => s_secondL x1 (by omega) hs hr (hy.sw0 f1) (hx.sw0 f1) hok.2.2.2.2.2.1 (fun υ f2 x2 => ?_))
  have e3 : υ 39 s = nI (top t) := ((hx.sw0 f1).sw0 f2).2.2.2.1 (Or.inr h5)
  rw [nI_clamp (by omega), e3, show (10 : Int32) + nI (top t) = nI (top t + 10) by rw [Nat.add_comm, ← nI_add]; rfl]
  exact ⟨vp_in_nI hs (by omega), s_fput x2 (by omega) (fun ω f3 x3 => hQ ω ((f1.tr f2).tr f3) x3)⟩
theorem s_harmL {σ : Sg} {L : L9} (h : XL σ L) (hl : L.1.length + 2 < 3000) {s g r : Nat} {x : Int32} {Q : Int32 → Sg → Prop} (hQ : ∀ τ, Fr SW0 σ τ → XL τ (hm9 s g r x L).2 → Q (nI (hm9 s g r x L).1) τ) : w_x_harmless (nI s) (nI g) (nI r) x σ Q := by
  unfold w_x_harmless
  refine s_set h (by omega) (fun τ f1 x1 => ?_)
  exact s_fput (c := 13) x1 (by rw [ef9_len]; omega) (fun ω f2 x2 => hQ ω (f1.tr f2) x2)
theorem s_indexL {σ : Sg} {L : L9} (h : XL σ L) (hl : L.1.length + 2 < 3000) {s g r : Nat} (hs : s < 60) {t : St9} (hx : XS 36 σ s t) (hv : okV (tf t)) {Q : Int32 → Sg → Prop} (hQ : ∀ τ, Fr SW0 σ τ → XL τ (ix9 s t g r L).2 → Q (nI (ix9 s t g r L).1) τ) : w_x_index (nI s) (nI g) (nI r) σ Q := by
  unfold w_x_index w_x_index_37 w_x_index_45
  have v : vp_in (nI s) 60 := vp_in_nI hs (by omega)
  have e4 : σ 40 s = xv (tf t) := hx.2.2.2.2.1
  have e5 : σ 41 s = xw (tf t) := hx.2.2.2.2.2.1
  rw [nI_clamp (by omega), e4, e5]
  cases ht : tf t with
  | inl k =>
    rw [ht] at hv
    have hk : k < 16 := hv
    have hp : pl9 t = false := by unfold pl9; rw [ht]
    have he : ix9 s t g r L = hm9 s g r 0 L := by unfold ix9; rw [hp]; rfl
    rw [he] at hQ
    exact ⟨v, fun _ => s_harmL h hl hQ, fun z => absurd z (nI_m1 (by omega))⟩
  | inr x =>
    refine ⟨v, fun z => absurd rfl z, fun _ => ⟨v, s_within ?_⟩⟩
    have hw : xw (.inr x) = x := rfl
    rw [hw, in_wd]
    by_cases hb : 0 ≤ x.toInt ∧ x.toInt ≤ 31
    · have hp : pl9 t = true := by unfold pl9; rw [ht]; exact decide_eq_true hb
      have he : ix9 s t g r L = (r, L) := by unfold ix9; rw [hp]; rfl
      rw [he] at hQ
      rw [decide_eq_true hb]
      exact ⟨fun z => absurd z (by decide), fun _ => hQ σ Fr.rf h⟩
    · have hp : pl9 t = false := by unfold pl9; rw [ht]; exact decide_eq_false hb
      have he : ix9 s t g r L = hm9 s g r 0 L := by unfold ix9; rw [hp]; rfl
      rw [he] at hQ
      rw [decide_eq_false hb]
      exact ⟨fun _ => s_harmL h hl hQ, fun z => absurd rfl z⟩

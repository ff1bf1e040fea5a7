/-! the class's sides -/
def SR (row free : Nat) (c j : Nat) : Prop := SW0 c j ∨ c = 18 + row ∨ (18 + free ≤ c ∧ c ≤ 33)
theorem Fr.sr0 {row free : Nat} {σ τ : Sg} (h : Fr SW0 σ τ) : Fr (SR row free) σ τ := h.mono (fun c j z => Or.inl z)
theorem TX.sr {row free : Nat} (hr : row < 16) {σ τ : Sg} {n : Nat} {T : Nat → St9} (h : TX σ n T) (f : Fr (SR row free) σ τ) : TX τ n T := fun s hs => (h s hs).fr (fun c h1 h2 => f c s (by unfold SR SW0; omega))
def gI9 (u : Option Nat) : Int32 := match u with
  | none => -1
  | some g => nI g
/-- a plain statement on a side -/
theorem s_guard3 {RA : Int32 → Int32 → Int32 → Int32 → Sg → (Sg → Prop) → Prop} {σ : Sg} {L : L9} (h : XL σ L) (hl : L.1.length + 7 < 2990) {s row free g : Nat} (hs : s < 60) (hr : row < 16) {y : Nat → Nat} (hy : RX σ row y) {t : St9} (hx : XS 36 σ s t) (hok : okT t) (h3 : tso t ≤ 3) {p4 : Int32} {Q : Sg → Prop} (hQ : ∀ τ, Fr (SR row free) σ τ → XL τ (gd9 s t g y L).2 → RX τ row (gd9 s t g y L).1 → Q τ) : w_x_guarded RA (nI s) (nI g) (nI row) p4 σ Q := by
  have l1 := vl9_len (s := s) (v := tf t) (y := y) (L := L)
  have l2 := vl9_len (s := s) (v := tg t) (y := y) (L := (vl9 s (tf t) y L).2)
  obtain ⟨o1, o2, o3, o4, o5, o6, o7⟩ := hok
  have v : vp_in (nI s) 60 := vp_in_nI hs (by omega)
  have vr : vp_in (nI row) 16 := vp_in_nI hr (by omega)
  have iR : inS (18 + row) := ⟨by omega, by omega⟩
  unfold w_x_guarded
  rw [nI_clamp (show row < 2 ^ 31 by omega), nI_clamp (show s < 2 ^ 31 by omega), hx.1]
  refine ⟨vr, v, ?_⟩
  intro x1 e1
  have cv : ∀ k, k < 100 → (nI (tso t) = nI k ↔ tso t = k) := fun k hk => nI_eq (by omega) (by omega)
  have hva : tso t ≤ 2 → x1 = nI (tva t) ∧ tva t < 16 := fun hh => ⟨e1.trans (hx.2.2.1 hh), o2 hh⟩
  unfold w_x_guarded_323
  have hup : ∀ (τ : Sg) (r : Nat) (L' : L9), tso t ≤ 2 → Fr SW0 σ τ → XL τ L' → gd9 s t g y L = (un9 y (tva t) r, L') → inS (18 + row) ∧ (vp_in x1 16 ∧ Q (up τ (18 + row) x1.toNatClampNeg (nI r))) := by
    intro τ r L' h2 f1 x' he
    obtain ⟨rfl, hv⟩ := hva h2
    rw [he] at hQ
    refine ⟨iR, vp_in_nI hv (by omega), ?_⟩
    rw [nI_clamp (by omega)]
    exact hQ _ (f1.sr0.up (Or.inr (Or.inl rfl))) (x'.row hr) ((hy.sw0 f1).set _ _)
  refine ⟨v, fun z => ?_, fun z0 => ⟨fun z => ?_, fun z1 => ⟨fun z => ?_, fun z2 => ⟨fun z => ?_, fun z3 => ?_⟩⟩⟩⟩
  · have hh := (cv 0 (by omega)).mp z
    refine s_firstL h (by omega) hs hr hy hx o5 (fun τ f1 x' => hup τ _ _ (by omega) f1 x' ?_)
    unfold gd9; rw [if_pos hh]
  · have hh := (cv 1 (by omega)).mp z
    have o3 := o3 hh
    refine s_firstL h (by omega) hs hr hy hx o5 (fun τ f1 x1' => s_secondL x1' (by omega) hs hr (hy.sw0 f1) (hx.sw0 f1) o6 (fun υ f2 x2' => ⟨v, ?_⟩))
    have hxu := (hx.sw0 f1).sw0 f2
    have e3 : υ 39 s = nI (top t) := hxu.2.2.2.1 (Or.inl hh)
    rw [e3, show (2 : Int32) + nI (top t) = nI (top t + 2) by rw [Nat.add_comm, ← nI_add]; rfl]
    intro x8 e8
    subst e8
    have fin : ∀ (H : Nat × L9) (ω : Sg), (if fl9 t then hm9 s g (vl9 s (tg t) y (vl9 s (tf t) y L).2).1 1 (vl9 s (tg t) y (vl9 s (tf t) y L).2).2 else vl9 s (tg t) y (vl9 s (tf t) y L).2) = H → Fr SW0 σ ω → XL ω H.2 → H.2.1.length ≤ L.1.length + 4 → w_x_guarded_170 RA Q (nI s) (18 + row) x1 (nI (vl9 s (tf t) y L).1) (nI (top t + 2)) (nI H.1) ω := by
      intro H ω hH f3 x3 hlen
      unfold w_x_guarded_170 w_x_guarded_323
      refine s_fput x3 (by omega) (Q := fun x3 σ4 => inS (18 + row) ∧ (vp_in x1 16 ∧ (Q (up σ4 (18 + row) (x1.toNatClampNeg) x3)))) (fun τ' f4 x4 => hup τ' _ _ (by omega) (f3.tr f4) x4 ?_)
      unfold gd9; rw [if_neg (by omega), if_pos hh]; simp only [hH]
    have fA : fl9 t = true → w_x_guarded_149 RA Q (nI s) (nI g) (18 + row) x1 (nI (vl9 s (tf t) y L).1) (nI (vl9 s (tg t) y (vl9 s (tf t) y L).2).1) (nI (top t + 2)) 1 υ := by
      intro hf
      unfold w_x_guarded_149
      refine ⟨fun z => absurd z (by decide), fun _ => s_harmL x2' (by omega) (fun ω f3 x3 => fin _ ω (by rw [hf]; rfl) ((f1.tr f2).tr f3) x3 (by rw [hm9_len]; omega))⟩
    have fB : fl9 t = false → w_x_guarded_149 RA Q (nI s) (nI g) (18 + row) x1 (nI (vl9 s (tf t) y L).1) (nI (vl9 s (tg t) y (vl9 s (tf t) y L).2).1) (nI (top t + 2)) 0 υ := by
      intro hf
      unfold w_x_guarded_149
      exact ⟨fun _ => fin _ υ (by rw [hf]; rfl) (f1.tr f2) x2' (by omega), fun z => absurd rfl z⟩
    have f119 : (top t + 2 = 5 ∨ top t + 2 = 6) → w_x_guarded_119 RA Q (nI s) (nI g) (18 + row) x1 (nI (vl9 s (tf t) y L).1) (nI (vl9 s (tg t) y (vl9 s (tf t) y L).2).1) (nI (top t + 2)) υ := by
      intro hd
      unfold w_x_guarded_119 w_x_guarded_144 w_x_guarded_148
      have e6 : υ 42 s = xv (tg t) := hxu.2.2.2.2.2.2.1
      have e7 : υ 43 s = xw (tg t) := hxu.2.2.2.2.2.2.2.1
      rw [nI_clamp (show s < 2 ^ 31 by omega), e6, e7]
      have hfl : fl9 t = z9 t := by unfold fl9; rw [decide_eq_true hd]; rfl
      refine ⟨v, fun w => fA ?_, fun w => ⟨v, fun u => fB ?_, fun u => fA ?_⟩⟩
      · rw [hfl]; unfold z9
        cases ht : tg t with
        | inl k => rfl
        | inr x => rw [ht] at w; exact absurd rfl w
      · rw [hfl]; unfold z9
        cases ht : tg t with
        | inl k => rw [ht] at w o6; have hk : k < 16 := o6; exact absurd w (nI_m1 (by omega))
        | inr x => rw [ht] at u; exact decide_eq_false u
      · rw [hfl]; unfold z9
        cases ht : tg t with
        | inl k => rfl
        | inr x => rw [ht] at u; exact decide_eq_true u
    have c5 : (nI (top t + 2) = 5) = (top t + 2 = 5) := propext (nI_eq (b := 5) (by omega) (by decide))
    have c6 : (nI (top t + 2) = 6) = (top t + 2 = 6) := propext (nI_eq (b := 6) (by omega) (by decide))
    rw [c5, c6]
    unfold w_x_guarded_148
    refine ⟨fun w => f119 (Or.inl w), fun w5 => ⟨fun w6 => fB ?_, fun w => f119 (Or.inr w)⟩⟩
    unfold fl9
    rw [decide_eq_false (by omega)]
    rfl
  · have hh := (cv 2 (by omega)).mp z
    have l3 := ix9_len (s := s) (t := t) (g := g) (r := (vl9 s (tf t) y L).1) (L := (vl9 s (tf t) y L).2)
    refine s_firstL h (by omega) hs hr hy hx o5 (fun τ f1 x1' => s_indexL x1' (by omega) hs (hx.sw0 f1) o5 (fun υ f2 x2' => ?_))
    refine s_fput (c := 14) x2' (by omega) (Q := fun x3 σ4 => inS (18 + row) ∧ (vp_in x1 16 ∧ (Q (up σ4 (18 + row) (x1.toNatClampNeg) x3)))) (fun τ' f4 x4 => hup τ' _ _ (by omega) ((f1.tr f2).tr f4) x4 ?_)
    unfold gd9; rw [if_neg (by omega), if_neg (by omega), if_pos hh]
  · have hh := (cv 3 (by omega)).mp z
    have l3 := ix9_len (s := s) (t := t) (g := g) (r := (vl9 s (tf t) y L).1) (L := (vl9 s (tg t) y (vl9 s (tf t) y L).2).2)
    refine s_firstL h (by omega) hs hr hy hx o5 (fun τ f1 x1' => s_secondL x1' (by omega) hs hr (hy.sw0 f1) (hx.sw0 f1) o6 (fun υ f2 x2' => s_indexL x2' (by omega) hs ((hx.sw0 f1).sw0 f2) o5 (fun ω f3 x3' => ?_)))
    have he : gd9 s t g y L = (y, em9 s 15 (nI (ix9 s t g (vl9 s (tf t) y L).1 (vl9 s (tg t) y (vl9 s (tf t) y L).2).2).1) (nI (ef9 s 13 (nI g) (nI (vl9 s (tg t) y (vl9 s (tf t) y L).2).1) (nI (ef9 s 14 (nI (ix9 s t g (vl9 s (tf t) y L).1 (vl9 s (tg t) y (vl9 s (tf t) y L).2).2).1) 0 0 (ix9 s t g (vl9 s (tf t) y L).1 (vl9 s (tg t) y (vl9 s (tf t) y L).2).2).2).1) (ef9 s 14 (nI (ix9 s t g (vl9 s (tf t) y L).1 (vl9 s (tg t) y (vl9 s (tf t) y L).2).2).1) 0 0 (ix9 s t g (vl9 s (tf t) y L).1 (vl9 s (tg t) y (vl9 s (tf t) y L).2).2).2).2).1) 0 0 (ef9 s 13 (nI g) (nI (vl9 s (tg t) y (vl9 s (tf t) y L).2).1) (nI (ef9 s 14 (nI (ix9 s t g (vl9 s (tf t) y L).1 (vl9 s (tg t) y (vl9 s (tf t) y L).2).2).1) 0 0 (ix9 s t g (vl9 s (tf t) y L).1 (vl9 s (tg t) y (vl9 s (tf t) y L).2).2).2).1) (ef9 s 14 (nI (ix9 s t g (vl9 s (tf t) y L).1 (vl9 s (tg t) y (vl9 s (tf t) y L).2).2).1) 0 0 (ix9 s t g (vl9 s (tf t) y L).1 (vl9 s (tg t) y (vl9 s (tf t) y L).2).2).2).2).2) := by
      unfold gd9; rw [if_neg (by omega), if_neg (by omega), if_neg (by omega)]
    rw [he] at hQ
    generalize ix9 s t g (vl9 s (tf t) y L).1 (vl9 s (tg t) y (vl9 s (tf t) y L).2).2 = I at *
    refine s_fput (c := 14) x3' (by omega) (Q := fun x25 σ26 => w_x_fresh σ26 (fun x27 σ28 => w_x_put (nI s) 13 x27 (nI g) (nI (vl9 s (tg t) y (vl9 s (tf t) y L).2).1) x25 σ28 (fun x29 σ30 => w_x_put (nI s) 15 (nI I.1) x29 0 0 σ30 (fun x31 σ32 => Q σ32)))) (fun a f4 x4 => ?_)
    refine s_fput (c := 13) x4 (by rw [ef9_len]; omega) (Q := fun x29 σ30 => w_x_put (nI s) 15 (nI I.1) x29 0 0 σ30 (fun x31 σ32 => Q σ32)) (fun b f5 x5 => ?_)
    refine s_put (c := 15) x5 (by rw [ef9_len, ef9_len]; omega) (fun c f6 x6 => ?_)
    exact hQ c (((((f1.tr f2).tr f3).tr f4).tr f5).tr f6).sr0 x6 (((((((hy.sw0 f1).sw0 f2).sw0 f3).sw0 f4).sw0 f5).sw0 f6))
  · have n0 : ¬ tso t = 0 := fun q => z0 ((cv 0 (by omega)).mpr q)
    have n1 : ¬ tso t = 1 := fun q => z1 ((cv 1 (by omega)).mpr q)
    have n2 : ¬ tso t = 2 := fun q => z2 ((cv 2 (by omega)).mpr q)
    have n3 : ¬ tso t = 3 := fun q => z3 ((cv 3 (by omega)).mpr q)
    omega

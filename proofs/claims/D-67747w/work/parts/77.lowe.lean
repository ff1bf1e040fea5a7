/-! the class's asks without jumps -/
def SF9 (free : Nat) (c j : Nat) : Prop := SW0 c j ∨ (18 + free ≤ c ∧ c ≤ 33)
/-- what a side's walk gives, up to the row M -/
def CS (RA : Int32 → Int32 → Int32 → Int32 → Sg → (Sg → Prop) → Prop) (R : Nat → Nat → Nat → (Nat → Nat) → L9 → (Nat → Nat) × L9) (T : Nat → St9) (n a b M : Nat) : Prop := ∀ (row free g : Nat) (y : Nat → Nat) (L : L9) (σ : Sg) (Q : Sg → Prop), 0 < row → row < free → free ≤ M → TX σ n T → XL σ L → G9 L → RX σ row y → Bd y L.2 → g < L.2 → L.1.length + 23 * (b - a) < 2990 → (∀ τ, Fr (SR row free) σ τ → XL τ (R a b g y L).2 → RX τ row (R a b g y L).1 → Q τ) → w_x_side RA (nI a) (nI b) (nI g) (nI row) (nI free) σ Q
theorem RX.sf {σ τ : Sg} {row free : Nat} {y : Nat → Nat} (h : RX σ row y) (f : Fr (SF9 free) σ τ) (hr : row < free) (hf : free < 16) : RX τ row y := h.fr f (fun j => by unfold SF9 SW0; omega)
theorem TX.sf {σ τ : Sg} {free n : Nat} {T : Nat → St9} (h : TX σ n T) (f : Fr (SF9 free) σ τ) : TX τ n T := fun s hs => (h s hs).fr (fun c h1 h2 => f c s (by unfold SF9 SW0; omega))
theorem s_guI {s : Nat} {u : Option Nat} {c : Nat} {L : L9} {σ : Sg} (h : XL σ L) (hl : L.1.length < 2990) (hb : ∀ g, u = some g → g < 2 ^ 30) {Q : Int32 → Sg → Prop} (hQ : ∀ τ, Fr SW0 σ τ → XL τ (gu9 s u c L).2 → Q (nI (gu9 s u c L).1) τ) : (¬ gI9 u = (-1) → w_x_fresh σ (fun x5 σ6 => w_x_put (nI s) 7 x5 (gI9 u) (nI c) 0 σ6 (fun x7 σ8 => Q x7 σ8))) ∧ (gI9 u = (-1) → Q (nI c) σ) := by
  cases u with
  | none => exact ⟨fun z => absurd rfl z, fun _ => hQ σ Fr.rf h⟩
  | some g =>
    have := hb g rfl
    exact ⟨fun _ => s_fput (c := 7) h (by omega) hQ, fun z => absurd z (nI_m1 (by omega))⟩
theorem s_convert {RA : Int32 → Int32 → Int32 → Int32 → Sg → (Sg → Prop) → Prop} {R : Nat → Nat → Nat → (Nat → Nat) → L9 → (Nat → Nat) × L9} {T : Nat → St9} {n : Nat} (hn : n ≤ 60) {s row free M : Nat} (hs : s < n) (hrow : row < free) (hfree : free + 1 < 16) (hM : free + 2 ≤ M) (hok : okT (T s)) (h5 : tso (T s) = 5) (hm : s + 1 ≤ tm (T s)) (he : tm (T s) ≤ te (T s)) (hen : te (T s) ≤ n) (hRA : RH R (s + 1) (tm (T s))) (hRB : RH R (tm (T s)) (te (T s))) (hCA : CS RA R T n (s + 1) (tm (T s)) M) (hCB : CS RA R T n (tm (T s)) (te (T s)) M)
    {u : Option Nat} {y : Nat → Nat} {L : L9} {σ : Sg} (hT : TX σ n T) (hX : XL σ L) (hG : G9 L) (hy : RX σ row y) (hyb : Bd y L.2) (hu : ∀ g, u = some g → g < L.2) (hl : L.1.length + 23 * (te (T s) - s) < 2990) {Q : Sg → Prop}
    (hfin : ∀ τ, Fr (SF9 free) σ τ → XL τ (cv9 R s (T s) u y L).2 → RX τ free (cv9 R s (T s) u y L).1 → ∃ q302, w_x_convert_302 RA Q q302 (nI s) (nI row) (nI free) (18 + row) 0 τ) : w_x_convert_s RA (nI s) (gI9 u) (nI row) (nI free) σ Q := by
  have v : vp_in (nI s) 60 := vp_in_nI (by omega) (by omega)
  obtain ⟨a1, a2, a3⟩ := hG.ts (s := s) (t := T s) (y := y) (by omega) (by omega) hyb hok h5
  have la := ts9_len (s := s) (t := T s) (y := y) (L := L)
  rw [cv9_eq] at hfin
  unfold w_x_convert_s
  refine ⟨vp_in_nI (by omega) (by omega), ?_⟩
  rw [nI_clamp (show row < 2 ^ 31 by omega)]
  refine s_testL hX (by omega) (by omega) (by omega) hy (hT s hs) hok h5 (fun σ1 f1 x1 => ?_)
  generalize ts9 s (T s) y L = C at *
  refine s_copy (by omega) (by omega) (by omega) (hy.sw0 f1) (fun σ2 f2 r2 => ?_)
  rw [nI_1]
  have hy2 : RX σ2 row y := (hy.sw0 f1).fr f2 (fun j => by omega)
  refine s_copy (by omega) (by omega) (by omega) hy2 (fun σ3 f3 r3 => ?_)
  have F1 : Fr (SF9 free) σ σ3 := ((f1.mono (fun c j z => Or.inl z)).tr (f2.mono (fun c j z => Or.inr (by omega)))).tr (f3.mono (fun c j z => Or.inr (by omega)))
  have X3 : XL σ3 C.2 := (x1.fr f2 (fun c j z => by unfold SW0 at z; omega)).fr f3 (fun c j z => by unfold SW0 at z; omega)
  have Y3 : RX σ3 free y := r2.fr f3 (fun j => by omega)
  have T3 := hT.sf F1
  have hC2 := a1.hi
  obtain ⟨b1, b2, b3, b4, b5⟩ := a1.sA (s := s) (t := T s) (u := u) (c := C.1) (by omega) hm (by omega) (fun g hg => Nat.lt_of_lt_of_le (hu g hg) a3) a2 (hyb.mono a3) hRA
  -- behind the first side
  have h99 : ∀ τ, Fr (SF9 free) σ τ → XL τ (sA9 R s (T s) u y C.1 C.2).2 → RX τ free (sA9 R s (T s) u y C.1 C.2).1 → RX τ (free + 1) y → w_x_convert_99 RA Q (nI s) (gI9 u) (nI row) (nI free) (18 + row) (nI C.1) τ := by
    intro τ hF hXA hrA hrB
    generalize sA9 R s (T s) u y C.1 C.2 = A at *
    have hA2 := b1.hi
    have Tt := hT.sf hF
    have em : τ 44 s = nI (tm (T s)) := ((Tt s hs).2.2.2.2.2.2.2.2 h5).1
    have ee : τ 45 s = nI (te (T s)) := ((Tt s hs).2.2.2.2.2.2.2.2 h5).2
    obtain ⟨c1, c2, c3, c4, c5⟩ := b1.sB (s := s) (t := T s) (u := u) (c := C.1) (by omega) he (by omega) (fun g hg => Nat.lt_of_lt_of_le (hu g hg) (by omega)) (by omega) (hyb.mono (by omega)) hRB
    have h205 : ∀ υ, Fr (SF9 free) σ υ → XL υ (sB9 R s (T s) u y C.1 A.2).2 → RX υ free A.1 → RX υ (free + 1) (sB9 R s (T s) u y C.1 A.2).1 → w_x_convert_205 RA Q (nI s) (nI row) (nI free) (18 + row) (nI C.1) υ := by
      intro υ hFu hXB hrA' hrB'
      generalize sB9 R s (T s) u y C.1 A.2 = B at *
      have hB2 := c1.hi
      unfold w_x_convert_205
      refine ⟨17, s_merge (s := s) (c := C.1) (A := A.1) (B := B.1) hrow hfree (fun w hw => ⟨?_, ?_, ?_⟩) 16 0 A.1 B.2 υ (by omega) hXB (by omega) (hy.sf hFu hrow (by omega)) hrB' hrA' (fun _ _ => rfl) (fun ω hω hXω hrω => hfin ω (hFu.tr (hω.mono (fun c j z => z.elim Or.inl (fun z => Or.inr (by omega))))) hXω hrω)⟩
      · have := hyb w hw; omega
      · have := b2 w hw; omega
      · have := c2 w hw; omega
    unfold w_x_convert_99
    rw [nI_clamp (show s < 2 ^ 31 by omega), em, ee]
    refine ⟨v, v, fun z => ?_, fun z => ?_⟩
    · have hle := (nI_leI (by omega) (by omega)).mp z
      have hB : sB9 R s (T s) u y C.1 A.2 = (y, A.2) := by unfold sB9; rw [if_neg (by omega)]
      rw [hB] at h205
      exact h205 τ hF hXA hrA hrB
    · have hlt : tm (T s) < te (T s) := by
        have := mt (nI_leI (a := te (T s)) (b := tm (T s)) (by omega) (by omega)).mpr z
        omega
      have hB : sB9 R s (T s) u y C.1 A.2 = R (tm (T s)) (te (T s)) (gu9 s u (eB9 s C.1 A.2).1 (eB9 s C.1 A.2).2).1 y (gu9 s u (eB9 s C.1 A.2).1 (eB9 s C.1 A.2).2).2 := by unfold sB9; rw [if_pos hlt]
      rw [hB] at h205
      obtain ⟨e1, e2, e3⟩ := b1.eB (s := s) (c := C.1) (by omega) (by omega) (by omega)
      have le := eB9_len (s := s) (c := C.1) (L := A.2)
      obtain ⟨g1, g2, g3⟩ := e1.gu (s := s) (u := u) (c := (eB9 s C.1 A.2).1) (by omega) (by omega) (fun g hg => by have := hu g hg; omega) e2
      have lg := gu9_len (s := s) (u := u) (c := (eB9 s C.1 A.2).1) (L := (eB9 s C.1 A.2).2)
      refine s_set hXA (by omega) (fun τ1 t1 y1 => ?_)
      refine s_fput (c := 10) y1 (by rw [ef9_len]; omega) (Q := fun x5 σ6 => (¬ gI9 u = (-1) → (w_x_fresh σ6 (fun x7 σ8 => w_x_put (nI s) 7 x7 (gI9 u) x5 0 σ8 (fun x9 σ10 => w_x_convert_171 RA Q (nI s) (nI row) (nI free) (18 + row) (nI C.1) x9 σ10)))) ∧ (gI9 u = (-1) → (w_x_convert_171 RA Q (nI s) (nI row) (nI free) (18 + row) (nI C.1) x5 σ6))) (fun τ2 t2 y2 => ?_)
      refine s_guI (s := s) (u := u) (c := (eB9 s C.1 A.2).1) (L := (eB9 s C.1 A.2).2) y2 (by omega) (fun g hg => by have := hu g hg; have := hG.hi; omega) (Q := fun x9 σ10 => w_x_convert_171 RA Q (nI s) (nI row) (nI free) (18 + row) (nI C.1) x9 σ10) (fun τ3 t3 y3 => ?_)
      have t123 : Fr SW0 τ τ3 := (t1.tr t2).tr t3
      have F3 : Fr (SF9 free) σ τ3 := hF.tr (t123.mono (fun c j z => Or.inl z))
      have T3' := hT.sf F3
      have em3 : τ3 44 s = nI (tm (T s)) := ((T3' s hs).2.2.2.2.2.2.2.2 h5).1
      have ee3 : τ3 45 s = nI (te (T s)) := ((T3' s hs).2.2.2.2.2.2.2.2 h5).2
      unfold w_x_convert_171
      rw [nI_clamp (show s < 2 ^ 31 by omega), em3, ee3, nI_1, show nI free + 2 = nI (free + 2) from nI_add free 2]
      refine ⟨v, v, hCB (free + 1) (free + 2) _ y _ τ3 _ (by omega) (by omega) hM T3' y3 g1 (hrB.sw0 t123) (hyb.mono (by omega)) g2 (by omega) (fun υ hυ hXυ hrυ => ?_)⟩
      refine h205 υ (F3.tr (hυ.mono (fun c j z => by unfold SR at z; unfold SF9; exact z.elim Or.inl (fun z => Or.inr (by omega))))) hXυ ?_ hrυ
      exact (hrA.sw0 t123).fr hυ (fun j => by unfold SR SW0; omega)
  have em3 : σ3 44 s = nI (tm (T s)) := ((T3 s hs).2.2.2.2.2.2.2.2 h5).1
  rw [nI_clamp (show s < 2 ^ 31 by omega), em3]
  refine ⟨v, fun z => ?_, fun z => ?_⟩ <;> rw [nI_1] at z
  · have hle := (nI_leI (by omega) (by omega)).mp z
    have hA : sA9 R s (T s) u y C.1 C.2 = (y, C.2) := by unfold sA9; rw [if_neg (by omega)]
    rw [hA] at h99
    exact h99 σ3 F1 X3 Y3 r3
  · have hlt : s + 1 < tm (T s) := by
      have := mt (nI_leI (a := tm (T s)) (b := s + 1) (by omega) (by omega)).mpr z
      omega
    have hA : sA9 R s (T s) u y C.1 C.2 = R (s + 1) (tm (T s)) (gu9 s u C.1 C.2).1 y (gu9 s u C.1 C.2).2 := by unfold sA9; rw [if_pos hlt]
    rw [hA] at h99
    obtain ⟨g1, g2, g3⟩ := a1.gu (s := s) (u := u) (c := C.1) (by omega) (by omega) (fun g hg => Nat.lt_of_lt_of_le (hu g hg) a3) a2
    have lg := gu9_len (s := s) (u := u) (c := C.1) (L := C.2)
    refine s_guI (s := s) (u := u) (c := C.1) (L := C.2) X3 (by omega) (fun g hg => by have := hu g hg; have := hG.hi; omega) (Q := fun x9 σ10 => w_x_convert_73 RA Q (nI s) (gI9 u) (nI row) (nI free) (18 + row) (nI C.1) x9 σ10) (fun τ3 t3 y3 => ?_)
    have F3 : Fr (SF9 free) σ τ3 := F1.tr (t3.mono (fun c j z => Or.inl z))
    have T3' := hT.sf F3
    have em4 : τ3 44 s = nI (tm (T s)) := ((T3' s hs).2.2.2.2.2.2.2.2 h5).1
    unfold w_x_convert_73
    rw [nI_clamp (show s < 2 ^ 31 by omega), em4, nI_1, show nI free + 2 = nI (free + 2) from nI_add free 2]
    refine ⟨v, hCA free (free + 2) _ y _ τ3 _ (by omega) (by omega) hM T3' y3 g1 (Y3.sw0 t3) (hyb.mono (by omega)) g2 (by omega) (fun υ hυ hXυ hrυ => ?_)⟩
    refine h99 υ (F3.tr (hυ.mono (fun c j z => by unfold SR at z; unfold SF9; exact z.elim Or.inl (fun z => Or.inr (by omega))))) hXυ hrυ ?_
    exact (r3.sw0 t3).fr hυ (fun j => by unfold SR SW0; omega)

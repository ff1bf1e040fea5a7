/-! ## lower: what it makes -/
/-- code under way, registers -/
abbrev L9 : Type := List Ps × Nat
def em9 (s c : Nat) (a b d e : Int32) (L : L9) : L9 := (L.1 ++ [(c, a, b, d, e, s)], L.2)
/-- a step that sets a new register: the register -/
def ef9 (s c : Nat) (b d e : Int32) (L : L9) : Nat × L9 := (L.2, (L.1 ++ [(c, nI L.2, b, d, e, s)], L.2 + 1))
def vl9 (s : Nat) (v : Vl) (y : Nat → Nat) (L : L9) : Nat × L9 := match v with
  | .inl k => (y k, L)
  | .inr x => ef9 s 0 x 0 0 L
def ts9 (s : Nat) (t : St9) (y : Nat → Nat) (L : L9) : Nat × L9 :=
  let A := vl9 s (tf t) y L
  let B := vl9 s (tg t) y A.2
  ef9 s (top t + 10) (nI A.1) (nI B.1) 0 B.2
def hm9 (s g r : Nat) (x : Int32) (L : L9) : Nat × L9 :=
  let O := ef9 s 0 x 0 0 L
  ef9 s 13 (nI g) (nI r) (nI O.1) O.2
def pl9 (t : St9) : Bool := match tf t with
  | .inl _ => false
  | .inr x => decide (0 ≤ x.toInt ∧ x.toInt ≤ 31)
def ix9 (s : Nat) (t : St9) (g r : Nat) (L : L9) : Nat × L9 := if pl9 t then (r, L) else hm9 s g r 0 L
/-- whether the second value may be 0 -/
def z9 (t : St9) : Bool := match tg t with
  | .inl _ => true
  | .inr x => decide (x = 0)
def fl9 (t : St9) : Bool := decide (top t + 2 = 5 ∨ top t + 2 = 6) && z9 t
def un9 (y : Nat → Nat) (k r : Nat) : Nat → Nat := fun j => if j = k then r else y j
/-- a plain statement on a side, under the guard g -/
def gd9 (s : Nat) (t : St9) (g : Nat) (y : Nat → Nat) (L : L9) : (Nat → Nat) × L9 :=
  if tso t = 0 then (let A := vl9 s (tf t) y L; (un9 y (tva t) A.1, A.2))
  else if tso t = 1 then
    (let A := vl9 s (tf t) y L
     let B := vl9 s (tg t) y A.2
     let H := if fl9 t then hm9 s g B.1 1 B.2 else B
     let R := ef9 s (top t + 2) (nI A.1) (nI H.1) 0 H.2
     (un9 y (tva t) R.1, R.2))
  else if tso t = 2 then
    (let A := vl9 s (tf t) y L
     let I := ix9 s t g A.1 A.2
     let R := ef9 s 14 (nI I.1) 0 0 I.2
     (un9 y (tva t) R.1, R.2))
  else
    (let A := vl9 s (tf t) y L
     let B := vl9 s (tg t) y A.2
     let I := ix9 s t g A.1 B.2
     let O := ef9 s 14 (nI I.1) 0 0 I.2
     let V := ef9 s 13 (nI g) (nI B.1) (nI O.1) O.2
     (y, em9 s 15 (nI I.1) (nI V.1) 0 0 V.2))
/-- a guard within another -/
def gu9 (s : Nat) (u : Option Nat) (c : Nat) (L : L9) : Nat × L9 := match u with
  | none => (c, L)
  | some g => ef9 s 7 (nI g) (nI c) 0 L
/-- what is chosen, for the variables from v on -/
def mg9 (s c : Nat) (y A B : Nat → Nat) : Nat → Nat → (Nat → Nat) → L9 → (Nat → Nat) × L9
  | 0, _, Z, L => (Z, L)
  | m + 1, v, Z, L => if A v = y v ∧ B v = y v then mg9 s c y A B m (v + 1) (un9 Z v (A v)) L else mg9 s c y A B m (v + 1) (un9 Z v L.2) (ef9 s 13 (nI c) (nI (A v)) (nI (B v)) L).2
/-- the moves behind an outer ask -/
def mo9 (s : Nat) (Z : Nat → Nat) : Nat → Nat → L9 → L9
  | 0, _, L => L
  | m + 1, v, L => if Z v = v then mo9 s Z m (v + 1) L else mo9 s Z m (v + 1) (em9 s 1 (nI v) (nI (Z v)) 0 0 L)
/-- the statements of a side under a guard; an ask, by the side's own function -/
def cv9 (R : Nat → Nat → Nat → (Nat → Nat) → L9 → (Nat → Nat) × L9) (s : Nat) (t : St9) (u : Option Nat) (y : Nat → Nat) (L : L9) : (Nat → Nat) × L9 :=
  let C := ts9 s t y L
  let A := if s + 1 < tm t then (let G := gu9 s u C.1 C.2; R (s + 1) (tm t) G.1 y G.2) else (y, C.2)
  let B := if tm t < te t then (let Z := ef9 s 0 0 0 0 A.2; let E := ef9 s 10 (nI C.1) (nI Z.1) 0 Z.2; let G := gu9 s u E.1 E.2; R (tm t) (te t) G.1 y G.2) else (y, A.2)
  mg9 s C.1 y A.1 B.1 16 0 A.1 B.2
def sd9 (T : Nat → St9) : Nat → Nat → Nat → Nat → (Nat → Nat) → L9 → (Nat → Nat) × L9
  | 0, _, _, _, y, L => (y, L)
  | f + 1, a, b, g, y, L =>
    if b ≤ a then (y, L)
    else if tso (T a) = 5 then (let r := cv9 (sd9 T f) a (T a) (some g) y L; sd9 T f (te (T a)) b g r.1 r.2)
    else (let r := gd9 a (T a) g y L; sd9 T f (a + 1) b g r.1 r.2)
def id9 : Nat → Nat := fun v => v
/-- a plain statement outside of sides -/
def tp9 (s : Nat) (t : St9) (L : L9) : L9 :=
  if tso t = 0 then (match tf t with
    | .inl k => em9 s 1 (nI (tva t)) (nI k) 0 0 L
    | .inr x => em9 s 0 (nI (tva t)) x 0 0 L)
  else if tso t = 1 then
    (let A := vl9 s (tf t) id9 L
     let B := vl9 s (tg t) id9 A.2
     em9 s (top t + 2) (nI (tva t)) (nI A.1) (nI B.1) 0 B.2)
  else if tso t = 2 then (let A := vl9 s (tf t) id9 L; em9 s 14 (nI (tva t)) (nI A.1) 0 0 A.2)
  else if tso t = 3 then
    (let A := vl9 s (tf t) id9 L
     let B := vl9 s (tg t) id9 A.2
     em9 s 15 (nI A.1) (nI B.1) 0 0 B.2)
  else (let A := vl9 s (tf t) id9 L; em9 s 18 (nI A.1) 0 0 0 A.2)
/-- an outer ask without jumps -/
def cm9 (T : Nat → St9) (f s : Nat) (L : L9) : L9 :=
  let r := cv9 (sd9 T f) s (T s) none id9 L
  mo9 s r.1 16 0 r.2
def pA9 (i : Nat) (v : Int32) (cd : List Ps) : List Ps := cd.modify i (fun p => (p.1, v, p.2.2))
def pB9 (i : Nat) (v : Int32) (cd : List Ps) : List Ps := cd.modify i (fun p => (p.1, p.2.1, v, p.2.2.2))
def lw9 (T : Nat → St9) (ic : Nat → Bool) : Nat → Nat → Nat → L9 → L9
  | 0, _, _, L => L
  | f + 1, a, b, L =>
    if b ≤ a then L
    else if tso (T a) ≤ 4 then lw9 T ic f (a + 1) b (tp9 a (T a) L)
    else if ic a then lw9 T ic f (te (T a)) b (cm9 T f a L)
    else
      let C := ts9 a (T a) id9 L
      let J := em9 a 17 (nI C.1) 0 0 0 C.2
      let A := lw9 T ic f (a + 1) (tm (T a)) J
      lw9 T ic f (te (T a)) b
        (if tm (T a) < te (T a) then
          (let O := em9 a 16 0 0 0 0 A
           let B := lw9 T ic f (tm (T a)) (te (T a)) (pB9 C.2.1.length (nI O.1.length) O.1, O.2)
           (pA9 A.1.length (nI B.1.length) B.1, B.2))
         else (pB9 C.2.1.length (nI A.1.length) A.1, A.2))
/-! the class's code under way -/
def XL (σ : Sg) (L : L9) : Prop := XC σ L.1 ∧ σ 0 13 = nI L.2
/-- what the class's lowering may write -/
def SW (c j : Nat) : Prop := c = 6 ∨ c = 7 ∨ (14 ≤ c ∧ c ≤ 33) ∨ (c = 0 ∧ (j = 12 ∨ j = 13))
/-- the same without the rows -/
def SW0 (c j : Nat) : Prop := c = 6 ∨ c = 7 ∨ (14 ≤ c ∧ c ≤ 17) ∨ (c = 0 ∧ (j = 12 ∨ j = 13))
theorem Fr.sw {σ τ : Sg} (h : Fr SW0 σ τ) : Fr SW σ τ := h.mono (fun c j => by unfold SW0 SW; omega)
theorem XC.push {σ : Sg} {cd : List Ps} (h : XC σ cd) (p : Ps) : XC (up (up (up (up (up (up (up σ 6 cd.length (nI p.1)) 14 cd.length p.2.1) 15 cd.length p.2.2.1) 16 cd.length p.2.2.2.1) 17 cd.length p.2.2.2.2.1) 7 cd.length (nI p.2.2.2.2.2)) 0 12 (nI cd.length + 1)) (cd ++ [p]) := by
  refine ⟨by simp [up_at, nI_1], fun i q hq => ?_⟩
  by_cases hi : i < cd.length
  · rw [List.getElem?_append_left hi] at hq
    have hne : ¬ i = cd.length := by omega
    simp [up_at, hne]
    exact h.2 i q hq
  · have hlt := (List.getElem?_eq_some_iff.mp hq).1
    simp at hlt
    obtain rfl : i = cd.length := by omega
    simp at hq
    subst hq
    simp [up_at]
theorem s_put {σ : Sg} {L : L9} (h : XL σ L) (hl : L.1.length < 3000) {s c : Nat} {a b d e : Int32} {Q : Int32 → Sg → Prop} (hQ : ∀ τ, Fr SW0 σ τ → XL τ (em9 s c a b d e L) → Q a τ) : w_x_put (nI s) (nI c) a b d e σ Q := by
  unfold w_x_put
  have v : vp_in (nI L.1.length) 3000 := vp_in_nI hl (by omega)
  rw [h.1.1, nI_clamp (by omega)]
  refine ⟨v, v, v, v, v, v, hQ _ ?_ ⟨h.1.push (c, a, b, d, e, s), ?_⟩⟩
  · exact ((((((Fr.rf.up (by unfold SW0; omega)).up (by unfold SW0; omega)).up (by unfold SW0; omega)).up (by unfold SW0; omega)).up (by unfold SW0; omega)).up (by unfold SW0; omega)).up (by unfold SW0; omega)
  · simp [up_at, em9]; exact h.2
/-- a new register and the step that sets it -/
theorem s_fput {σ : Sg} {L : L9} (h : XL σ L) (hl : L.1.length < 3000) {s c : Nat} {b d e : Int32} {Q : Int32 → Sg → Prop} (hQ : ∀ τ, Fr SW0 σ τ → XL τ (ef9 s c b d e L).2 → Q (nI (ef9 s c b d e L).1) τ) : w_x_fresh σ (fun x1 σ2 => w_x_put (nI s) (nI c) x1 b d e σ2 (fun x3 σ4 => Q x3 σ4)) := by
  unfold w_x_fresh
  rw [h.2, nI_1]
  have hF : Fr SW0 σ (up σ 0 13 (nI (L.2 + 1))) := Fr.rf.up (by unfold SW0; omega)
  have h' : XL (up σ 0 13 (nI (L.2 + 1))) (L.1, L.2 + 1) := by
    refine ⟨h.1.fr (S := fun c j => c = 0 ∧ j = 13) (Fr.rf.up ⟨rfl, rfl⟩) ⟨by omega, ?_, ?_, ?_, ?_, ?_, ?_⟩, by simp [up_at]⟩ <;> intro i <;> omega
  exact s_put h' hl (fun τ hτ hX => hQ τ (hF.tr hτ) hX)
theorem s_set {σ : Sg} {L : L9} (h : XL σ L) (hl : L.1.length < 3000) {s : Nat} {x : Int32} {Q : Int32 → Sg → Prop} (hQ : ∀ τ, Fr SW0 σ τ → XL τ (ef9 s 0 x 0 0 L).2 → Q (nI (ef9 s 0 x 0 0 L).1) τ) : w_x_set (nI s) x σ Q := by
  unfold w_x_set
  exact s_fput (c := 0) h hl hQ

/-! ## statements: sort, variable, operator, first value, second value, depth, where the first side ends, the second one -/
abbrev Vl : Type := Nat ⊕ Int32
abbrev St9 : Type := Nat × Nat × Nat × Vl × Vl × Nat × Nat × Nat
def tso (t : St9) : Nat := t.1
def tva (t : St9) : Nat := t.2.1
def top (t : St9) : Nat := t.2.2.1
def tf (t : St9) : Vl := t.2.2.2.1
def tg (t : St9) : Vl := t.2.2.2.2.1
def tde (t : St9) : Nat := t.2.2.2.2.2.1
def tm (t : St9) : Nat := t.2.2.2.2.2.2.1
def te (t : St9) : Nat := t.2.2.2.2.2.2.2
def xv (v : Vl) : Int32 := match v with
  | .inl k => nI k
  | .inr _ => -1
def xw (v : Vl) : Int32 := match v with
  | .inl _ => 0
  | .inr x => x
def mv (v : Vl) : Int32 := match v with
  | .inl _ => 1
  | .inr _ => 0
def mw (v : Vl) : Int32 := match v with
  | .inl k => nI k
  | .inr x => x
/-- a statement in the class's rows from b on -/
def XS (b : Nat) (σ : Sg) (s : Nat) (t : St9) : Prop := σ b s = nI (tso t) ∧ σ (b + 1) s = nI (tde t) ∧ (tso t ≤ 2 → σ (b + 2) s = nI (tva t)) ∧ (tso t = 1 ∨ tso t = 5 → σ (b + 3) s = nI (top t)) ∧ σ (b + 4) s = xv (tf t) ∧ σ (b + 5) s = xw (tf t) ∧ σ (b + 6) s = xv (tg t) ∧ σ (b + 7) s = xw (tg t) ∧ (tso t = 5 → σ (b + 8) s = nI (tm t) ∧ σ (b + 9) s = nI (te t))
/-- and in the model's row a, its sides' ends in e and e + 1 -/
def MS9 (a e : Nat) (σ : Sg) (s : Nat) (t : St9) : Prop := σ a (9 * s) = nI (tso t) ∧ σ a (9 * s + 7) = nI (tde t) ∧ (tso t ≤ 2 → σ a (9 * s + 1) = nI (tva t)) ∧ (tso t = 1 → σ a (9 * s + 2) = nI (top t + 2)) ∧ (tso t = 5 → σ a (9 * s + 2) = nI (top t + 10)) ∧ σ a (9 * s + 3) = mv (tf t) ∧ σ a (9 * s + 4) = mw (tf t) ∧ σ a (9 * s + 5) = mv (tg t) ∧ σ a (9 * s + 6) = mw (tg t) ∧ (tso t = 5 → σ e s = nI (tm t) ∧ σ (e + 1) s = nI (te t))
def okV (v : Vl) : Prop := match v with
  | .inl k => k < 16
  | .inr _ => True
def okT (t : St9) : Prop := tso t ≤ 5 ∧ (tso t ≤ 2 → tva t < 16) ∧ (tso t = 1 → top t ≤ 7) ∧ (tso t = 5 → top t ≤ 2) ∧ okV (tf t) ∧ okV (tg t) ∧ tde t ≤ 6
/-- the statements from a to b at depth d: sides lie within -/
def Blk (T : Nat → St9) : Nat → Nat → Nat → Nat → Prop
  | 0, _, a, b => a = b
  | f + 1, d, a, b => a = b ∨ (a < b ∧ tso (T a) ≤ 4 ∧ Blk T f d (a + 1) b) ∨ (a < b ∧ tso (T a) = 5 ∧ d < 6 ∧ Blk T f (d + 1) (a + 1) (tm (T a)) ∧ Blk T f (d + 1) (tm (T a)) (te (T a)) ∧ Blk T f d (te (T a)) b)
theorem Blk.le {T : Nat → St9} : ∀ {f d a b : Nat}, Blk T f d a b → a ≤ b := by
  intro f
  induction f with
  | zero => intro d a b h; exact Nat.le_of_eq h
  | succ f ih =>
    intro d a b h
    rcases h with h | h | h
    · omega
    · omega
    · omega
theorem Blk.up {T : Nat → St9} : ∀ {f d a b : Nat}, Blk T f d a b → Blk T (f + 1) d a b := by
  intro f
  induction f with
  | zero => intro d a b h; exact Or.inl h
  | succ f ih =>
    intro d a b h
    rcases h with h | ⟨h1, h2, h3⟩ | ⟨h1, h2, h3, h4, h5, h6⟩
    · exact Or.inl h
    · exact Or.inr (Or.inl ⟨h1, h2, ih h3⟩)
    · exact Or.inr (Or.inr ⟨h1, h2, h3, ih h4, ih h5, ih h6⟩)
theorem Blk.mono {T : Nat → St9} {f g d a b : Nat} (h : Blk T f d a b) (hg : f ≤ g) : Blk T g d a b := by
  induction hg with
  | refl => exact h
  | step _ ih => exact ih.up
/-! ## the invariant, in five parts -/
def IP (σ : Sg) : Prop := (∀ v, v < 16 → σ 59 v = σ 9 v) ∧ ∀ i, i < 32 → σ 60 i = σ 10 i
/-- a byte, as both have it -/
def by9 (x y : Int32) : Prop := ∃ k : Nat, k < 256 ∧ y = nI k ∧ x = if k < 128 then nI k else nI k - 256
def IT (σ : Sg) (z : Nat) : Prop := σ 0 4 = nI z ∧ σ 58 4 = nI z ∧ z ≤ 600 ∧ ∀ i, i < z → by9 (σ 5 i) (σ 61 i)
def IX (σ : Sg) (n : Nat) (T : Nat → St9) : Prop := σ 1 0 = nI n ∧ σ 58 9 = nI n ∧ n ≤ 60 ∧ Blk T 60 0 0 n ∧ ∀ s, s < n → XS 36 σ s (T s) ∧ MS9 63 66 σ s (T s) ∧ okT (T s)
/-- which registers a step takes -/
def nm9 (p : Ps) (r : Int32) : Prop := ((p.1 = 15 ∨ p.1 = 17 ∨ p.1 = 18) ∧ p.2.1 = r) ∨ ((1 ≤ p.1 ∧ p.1 ≤ 15) ∧ p.2.2.1 = r) ∨ ((2 ≤ p.1 ∧ p.1 ≤ 13) ∧ p.2.2.2.1 = r) ∨ (p.1 = 13 ∧ p.2.2.2.2.1 = r)
/-- what a step takes was set before it -/
def Od (cd : List Ps) : Prop := ∀ (i k : Nat) (p q : Ps), cd[i]? = some p → cd[k]? = some q → p.1 ≤ 13 → ¬ p.2.1 < 16 → nm9 q p.2.1 → i < k
def CW (cd : List Ps) (rg : Nat) : Prop := cd.length ≤ 2900 ∧ 16 ≤ rg ∧ rg ≤ 3016 ∧ (∀ i p, cd[i]? = some p → okS cd.length rg i p) ∧ Od cd ∧ tls cd 0 ≤ 60
def IC (σ : Sg) (n : Nat) (T : Nat → St9) (cd : List Ps) (hc : Bool) (rg : Nat) (ic : Nat → Bool) : Prop := XC σ cd ∧ MC σ cd ∧ CW cd rg ∧ σ 0 14 = bI hc ∧ σ 58 22 = bI hc ∧ (hc = true → σ 0 13 = nI rg) ∧ σ 58 21 = nI rg ∧ (hc = false → rg = 16 ∧ cd = []) ∧ (∀ s, s < n → σ 71 s = bI (ic s) ∧ (hc = true → tso (T s) = 5 → σ 8 s = bI (ic s)) ∧ (ic s = true → hc = true ∧ tso (T s) = 5))
def IR (σ : Sg) (S : RS) : Prop := XR σ S ∧ MR σ S ∧ S.2.2.2.1 ≤ 60 ∧ (∀ v, v < 16 → σ 82 v = S.1 v) ∧ σ 58 40 = σ 0 24
def Inv (σ : Sg) : Prop := IP σ ∧ (∃ z, IT σ z) ∧ σ 58 6 = σ 0 6 ∧ (∃ n T, IX σ n T ∧ ∃ cd hc rg ic, IC σ n T cd hc rg ic) ∧ ∃ S, IR σ S
/-! each stays where its cells stay -/
def fIP (c _ : Nat) : Prop := c = 9 ∨ c = 10 ∨ c = 59 ∨ c = 60
def fIT (c j : Nat) : Prop := c = 5 ∨ c = 61 ∨ (c = 0 ∧ j = 4) ∨ (c = 58 ∧ j = 4)
def fIX (c j : Nat) : Prop := (36 ≤ c ∧ c ≤ 45) ∨ c = 63 ∨ c = 66 ∨ c = 67 ∨ (c = 1 ∧ j = 0) ∨ (c = 58 ∧ j = 9)
def fIC (c j : Nat) : Prop := c = 6 ∨ c = 7 ∨ c = 8 ∨ (14 ≤ c ∧ c ≤ 17) ∨ c = 70 ∨ c = 71 ∨ (c = 0 ∧ (j = 12 ∨ j = 13 ∨ j = 14)) ∨ (c = 58 ∧ (j = 20 ∨ j = 21 ∨ j = 22))
def fIR (c j : Nat) : Prop := (11 ≤ c ∧ c ≤ 13) ∨ (82 ≤ c ∧ c ≤ 85) ∨ (c = 0 ∧ (j = 23 ∨ j = 24 ∨ j = 25)) ∨ (c = 58 ∧ (j = 39 ∨ j = 40 ∨ j = 41))
/-- the same on these places -/
def Eqo (F : Nat → Nat → Prop) (σ τ : Sg) : Prop := ∀ c j, F c j → τ c j = σ c j
theorem Fr.eqo {S F : Nat → Nat → Prop} {σ τ : Sg} (h : Fr S σ τ) (hf : ∀ c j, F c j → ¬ S c j) : Eqo F σ τ := fun c j z => h c j (hf c j z)
theorem IP.fr {σ τ : Sg} (h : IP σ) (e : Eqo fIP σ τ) : IP τ :=
  ⟨fun v hv => by rw [e 59 v (by unfold fIP; omega), e 9 v (by unfold fIP; omega)]; exact h.1 v hv, fun v hv => by rw [e 60 v (by unfold fIP; omega), e 10 v (by unfold fIP; omega)]; exact h.2 v hv⟩
theorem IT.fr {σ τ : Sg} {z : Nat} (h : IT σ z) (e : Eqo fIT σ τ) : IT τ z :=
  ⟨by rw [e 0 4 (by unfold fIT; omega)]; exact h.1, by rw [e 58 4 (by unfold fIT; omega)]; exact h.2.1, h.2.2.1, fun i hi => by rw [e 5 i (by unfold fIT; omega), e 61 i (by unfold fIT; omega)]; exact h.2.2.2 i hi⟩
theorem XS.fr {b : Nat} {σ τ : Sg} {s : Nat} {t : St9} (h : XS b σ s t) (e : ∀ c, b ≤ c → c ≤ b + 9 → τ c s = σ c s) : XS b τ s t := by
  unfold XS
  rw [e b (by omega) (by omega), e (b + 1) (by omega) (by omega), e (b + 2) (by omega) (by omega), e (b + 3) (by omega) (by omega), e (b + 4) (by omega) (by omega), e (b + 5) (by omega) (by omega), e (b + 6) (by omega) (by omega), e (b + 7) (by omega) (by omega), e (b + 8) (by omega) (by omega), e (b + 9) (by omega) (by omega)]
  exact h
theorem MS9.fr {a q : Nat} {σ τ : Sg} {s : Nat} {t : St9} (h : MS9 a q σ s t) (e : ∀ k, k < 9 → τ a (9 * s + k) = σ a (9 * s + k)) (e2 : τ q s = σ q s ∧ τ (q + 1) s = σ (q + 1) s) : MS9 a q τ s t := by
  unfold MS9
  have e0 : τ a (9 * s) = σ a (9 * s) := e 0 (by omega)
  rw [e0, e 1 (by omega), e 2 (by omega), e 3 (by omega), e 4 (by omega), e 5 (by omega), e 6 (by omega), e 7 (by omega), e2.1, e2.2]
  exact h
theorem IX.fr {σ τ : Sg} {n : Nat} {T : Nat → St9} (h : IX σ n T) (e : Eqo fIX σ τ) : IX τ n T := by
  obtain ⟨h1, h2, h3, h4, h5⟩ := h
  refine ⟨by rw [e 1 0 (by unfold fIX; omega)]; exact h1, by rw [e 58 9 (by unfold fIX; omega)]; exact h2, h3, h4, fun s hs => ⟨(h5 s hs).1.fr (fun c _ _ => e c s (by unfold fIX; omega)), (h5 s hs).2.1.fr (fun k _ => e 63 _ (by unfold fIX; omega)) ⟨e 66 s (by unfold fIX; omega), e 67 s (by unfold fIX; omega)⟩, (h5 s hs).2.2⟩⟩
theorem IC.fr {σ τ : Sg} {n : Nat} {T : Nat → St9} {cd : List Ps} {hc : Bool} {rg : Nat} {ic : Nat → Bool} (h : IC σ n T cd hc rg ic) (e : Eqo fIC σ τ) : IC τ n T cd hc rg ic := by
  obtain ⟨h1, h2, h3, h4, h5, h6, h7, h8, h9⟩ := h
  refine ⟨h1.fr (S := fun c j => ¬ fIC c j) (fun c j z => e c j (Classical.byContradiction z)) ?_, h2.fr (S := fun c j => ¬ fIC c j) (fun c j z => e c j (Classical.byContradiction z)) ?_, h3, by rw [e 0 14 (by unfold fIC; omega)]; exact h4, by rw [e 58 22 (by unfold fIC; omega)]; exact h5, by rw [e 0 13 (by unfold fIC; omega)]; exact h6, by rw [e 58 21 (by unfold fIC; omega)]; exact h7, h8, fun s hs => by rw [e 71 s (by unfold fIC; omega), e 8 s (by unfold fIC; omega)]; exact h9 s hs⟩
  · unfold fIC; refine ⟨by omega, ?_, ?_, ?_, ?_, ?_, ?_⟩ <;> intro i <;> omega
  · unfold fIC; exact ⟨by omega, fun i => by omega⟩
theorem IR.fr {σ τ : Sg} {S : RS} (h : IR σ S) (e : Eqo fIR σ τ) : IR τ S := by
  obtain ⟨⟨a1, a2, a3, a4, a5⟩, ⟨b1, b2, b3, b4, b5⟩, h3, h4, h5⟩ := h
  refine ⟨⟨fun r hr => ?_, fun r hr => ?_, fun r hr => ?_, ?_, ?_⟩, ⟨fun r hr => ?_, fun r hr => ?_, fun r hr => ?_, ?_, ?_⟩, h3, fun v hv => ?_, ?_⟩
  · rw [e 11 r (by unfold fIR; omega)]; exact a1 r hr
  · rw [e 12 r (by unfold fIR; omega)]; exact a2 r hr
  · rw [e 13 r (by unfold fIR; omega)]; exact a3 r hr
  · rw [e 0 23 (by unfold fIR; omega)]; exact a4
  · rw [e 0 25 (by unfold fIR; omega)]; exact a5
  · rw [e 85 r (by unfold fIR; omega)]; exact b1 r hr
  · rw [e 83 r (by unfold fIR; omega)]; exact b2 r hr
  · rw [e 84 r (by unfold fIR; omega)]; exact b3 r hr
  · rw [e 58 39 (by unfold fIR; omega)]; exact b4
  · rw [e 58 41 (by unfold fIR; omega)]; exact b5
  · rw [e 82 v (by unfold fIR; omega)]; exact h4 v hv
  · rw [e 58 40 (by unfold fIR; omega), e 0 24 (by unfold fIR; omega)]; exact h5

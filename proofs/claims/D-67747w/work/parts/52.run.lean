/-! ## a step: code, four numbers, statement -/
abbrev Ps : Type := Nat × Int32 × Int32 × Int32 × Int32 × Nat
def XC (σ : Sg) (cd : List Ps) : Prop := σ 0 12 = nI cd.length ∧ ∀ (i : Nat) (p : Ps), cd[i]? = some p → σ 6 i = nI p.1 ∧ σ 14 i = p.2.1 ∧ σ 15 i = p.2.2.1 ∧ σ 16 i = p.2.2.2.1 ∧ σ 17 i = p.2.2.2.2.1 ∧ σ 7 i = nI p.2.2.2.2.2
def MC (σ : Sg) (cd : List Ps) : Prop := σ 58 20 = nI cd.length ∧ ∀ (i : Nat) (p : Ps), cd[i]? = some p → σ 70 (6 * i) = nI p.1 ∧ σ 70 (6 * i + 1) = p.2.1 ∧ σ 70 (6 * i + 2) = p.2.2.1 ∧ σ 70 (6 * i + 3) = p.2.2.2.1 ∧ σ 70 (6 * i + 4) = p.2.2.2.2.1 ∧ σ 70 (6 * i + 5) = nI p.2.2.2.2.2
/-- a step that can be done: its registers are there, its jump goes on -/
def okS (len rg i : Nat) (p : Ps) : Prop := p.1 ≤ 18 ∧ (¬ p.1 = 16 → ∃ r, r < rg ∧ p.2.1 = nI r) ∧ (p.1 = 16 → ∃ t, i < t ∧ t ≤ len ∧ p.2.1 = nI t) ∧ (p.1 = 17 → ∃ t, i < t ∧ t ≤ len ∧ p.2.2.1 = nI t) ∧ ((1 ≤ p.1 ∧ p.1 ≤ 15) → ∃ r, r < rg ∧ p.2.2.1 = nI r) ∧ ((2 ≤ p.1 ∧ p.1 ≤ 13) → ∃ r, r < rg ∧ p.2.2.2.1 = nI r) ∧ (p.1 = 13 → ∃ r, r < rg ∧ p.2.2.2.2.1 = nI r) ∧ p.2.2.2.2.2 < 60
/-- a run's state: registers, words, what was told, how many, how many done -/
abbrev RS : Type := (Nat → Int32) × (Nat → Int32) × (Nat → Int32) × Nat × Int32
def XR (σ : Sg) (S : RS) : Prop := (∀ r, r < 3016 → σ 11 r = S.1 r) ∧ (∀ i, i < 32 → σ 12 i = S.2.1 i) ∧ (∀ i, i < 60 → σ 13 i = S.2.2.1 i) ∧ σ 0 23 = nI S.2.2.2.1 ∧ σ 0 25 = S.2.2.2.2
def MR (σ : Sg) (S : RS) : Prop := (∀ r, r < 3016 → σ 85 r = S.1 r) ∧ (∀ i, i < 32 → σ 83 i = S.2.1 i) ∧ (∀ i, i < 60 → σ 84 i = S.2.2.1 i) ∧ σ 58 39 = nI S.2.2.2.1 ∧ σ 58 41 = S.2.2.2.2
def setR (S : RS) (r : Nat) (v : Int32) : RS := (upd S.1 r v, S.2.1, S.2.2.1, S.2.2.2.1, S.2.2.2.2)
def setK (S : RS) (r : Nat) (v : Int32) : RS := (S.1, upd S.2.1 r v, S.2.2.1, S.2.2.2.1, S.2.2.2.2)
def telR (S : RS) (v : Int32) : RS := (S.1, S.2.1, upd S.2.2.1 S.2.2.2.1 v, S.2.2.2.1 + 1, S.2.2.2.2)
def dnR (S : RS) : RS := (S.1, S.2.1, S.2.2.1, S.2.2.2.1, S.2.2.2.2 + 1)
/-- a word's place, or none -/
def wdI (x : Int32) : Prop := (0 : Int64) ≤ x.toInt64 ∧ x.toInt64 ≤ 31
/-- one step: the state behind it, how it ended (0: it didn't), the next one -/
def st1 (p : Ps) (i : Nat) (S : RS) : RS × Nat × Nat :=
  let a := p.2.1.toNatClampNeg
  let b := p.2.2.1.toNatClampNeg
  let d := p.2.2.2.1.toNatClampNeg
  let e := p.2.2.2.2.1.toNatClampNeg
  if p.1 = 0 then (setR S a p.2.2.1, 0, i + 1)
  else if p.1 = 1 then (setR S a (S.1 b), 0, i + 1)
  else if p.1 = 13 then (setR S a (if S.1 b = 0 then S.1 e else S.1 d), 0, i + 1)
  else if p.1 = 14 then (if 0 ≤ (S.1 b).toInt ∧ (S.1 b).toInt ≤ 31 then (setR S a (S.2.1 (S.1 b).toNatClampNeg), 0, i + 1) else (S, 2, 0))
  else if p.1 = 15 then (if 0 ≤ (S.1 a).toInt ∧ (S.1 a).toInt ≤ 31 then (setK S (S.1 a).toNatClampNeg (S.1 b), 0, i + 1) else (S, 2, 0))
  else if p.1 = 16 then (S, 0, a)
  else if p.1 = 17 then (S, 0, if S.1 a = 0 then b else i + 1)
  else if p.1 = 18 then (telR S (S.1 a), 0, i + 1)
  else if (p.1 = 5 ∨ p.1 = 6) ∧ S.1 d = 0 then (S, 1, 0) else (setR S a (rk p.1 (S.1 b) (S.1 d)), 0, i + 1)
/-- a run: the state, how it ended, at which statement -/
def runF (cd : List Ps) : Nat → Nat → RS → RS × Nat × Nat
  | 0, _, S => (S, 0, 0)
  | f + 1, i, S => match cd[i]? with
    | none => (S, 0, 0)
    | some p => if (st1 p i (dnR S)).2.1 = 0 then runF cd f (st1 p i (dnR S)).2.2 (st1 p i (dnR S)).1 else ((st1 p i (dnR S)).1, (st1 p i (dnR S)).2.1, p.2.2.2.2.2)

theorem XR.dn {σ : Sg} {S : RS} (h : XR σ S) : XR (up σ 0 25 (σ 0 25 + 1)) (dnR S) := by
  obtain ⟨h1, h2, h3, h4, h5⟩ := h
  refine ⟨fun r hr => ?_, fun r hr => ?_, fun r hr => ?_, ?_, ?_⟩ <;> simp [up_at, dnR, *]
theorem XR.set {σ : Sg} {S : RS} (h : XR σ S) (r : Nat) (v : Int32) : XR (up σ 11 r v) (setR S r v) := by
  obtain ⟨h1, h2, h3, h4, h5⟩ := h
  refine ⟨fun q hq => ?_, fun r hr => ?_, fun r hr => ?_, ?_, ?_⟩ <;> simp [up_at, setR, *]
  simp only [upd]
theorem XR.kp {σ : Sg} {S : RS} (h : XR σ S) (r : Nat) (v : Int32) : XR (up σ 12 r v) (setK S r v) := by
  obtain ⟨h1, h2, h3, h4, h5⟩ := h
  refine ⟨fun q hq => ?_, fun r hr => ?_, fun r hr => ?_, ?_, ?_⟩ <;> simp [up_at, setK, *]
  simp only [upd]
theorem XR.tel {σ : Sg} {S : RS} (h : XR σ S) (v : Int32) (hm : S.2.2.2.1 < 60) : XR (up (up σ 0 23 (σ 0 23 + 1)) 13 (σ 0 23).toNatClampNeg v) (telR S v) := by
  obtain ⟨h1, h2, h3, h4, h5⟩ := h
  refine ⟨fun q hq => ?_, fun r hr => ?_, fun r hr => ?_, ?_, ?_⟩ <;> simp [up_at, telR, *]
  · rw [nI_clamp (by omega)]
    simp only [upd]
  · rw [nI_1]
theorem XR.e4 {σ : Sg} {S : RS} (h : XR σ S) (j : Nat) (v : Int32) : XR (up σ 4 j v) S := by
  obtain ⟨h1, h2, h3, h4, h5⟩ := h
  refine ⟨fun q hq => ?_, fun r hr => ?_, fun r hr => ?_, ?_, ?_⟩ <;> simp [up_at, *]
def SX (c j : Nat) : Prop := c = 11 ∨ c = 12 ∨ c = 13 ∨ c = 4 ∨ (c = 0 ∧ (j = 23 ∨ j = 25))
theorem XC.fr {S : Nat → Nat → Prop} {σ τ : Sg} {cd : List Ps} (h : XC σ cd) (f : Fr S σ τ) (hs : ¬ S 0 12 ∧ (∀ i, ¬ S 6 i) ∧ (∀ i, ¬ S 14 i) ∧ (∀ i, ¬ S 15 i) ∧ (∀ i, ¬ S 16 i) ∧ (∀ i, ¬ S 17 i) ∧ ∀ i, ¬ S 7 i) : XC τ cd := by
  refine ⟨by rw [f 0 12 hs.1]; exact h.1, fun i p hp => ?_⟩
  rw [f 6 i (hs.2.1 i), f 14 i (hs.2.2.1 i), f 15 i (hs.2.2.2.1 i), f 16 i (hs.2.2.2.2.1 i), f 17 i (hs.2.2.2.2.2.1 i), f 7 i (hs.2.2.2.2.2.2 i)]
  exact h.2 i p hp
theorem XC.sx {σ τ : Sg} {cd : List Ps} (h : XC σ cd) (f : Fr SX σ τ) : XC τ cd := h.fr f (by unfold SX; refine ⟨by omega, ?_, ?_, ?_, ?_, ?_, ?_⟩ <;> intro i <;> omega)
/-- how many tells stand from i on -/
def tls (cd : List Ps) (i : Nat) : Nat := (cd.drop i).countP (fun p => p.1 == 18)
theorem tls_le (cd : List Ps) {i j : Nat} (h : i ≤ j) : tls cd j ≤ tls cd i := by
  unfold tls
  obtain ⟨k, rfl⟩ := Nat.exists_eq_add_of_le h
  rw [← List.drop_drop]
  exact List.Sublist.countP_le (List.drop_sublist _ _)
theorem tls_at {cd : List Ps} {i : Nat} {p : Ps} (h : cd[i]? = some p) (hp : p.1 = 18) : tls cd i = tls cd (i + 1) + 1 := by
  unfold tls
  obtain ⟨hlt, he⟩ := List.getElem?_eq_some_iff.mp h
  rw [List.drop_eq_getElem_cons hlt, he, List.countP_cons_of_pos (by simp [hp])]
theorem in_wd {x : Int32} : decide ((0 : Int64) ≤ x.toInt64 ∧ x.toInt64 ≤ 31) = decide (0 ≤ x.toInt ∧ x.toInt ≤ 31) := by
  congr 1
  exact propext (win_iff (by decide) (by decide))
theorem s_place {x s : Int32} {σ : Sg} {Q : Int32 → Sg → Prop} {E : Nat → Sg → Prop} (h1 : 0 ≤ x.toInt ∧ x.toInt ≤ 31 → Q x σ) (h2 : ¬ (0 ≤ x.toInt ∧ x.toInt ≤ 31) → E 1 (up (up σ 4 5 2) 4 6 s)) : w_x_place x s σ Q E := by
  unfold w_x_place w_x_end
  refine s_within ?_
  rw [in_wd]
  by_cases h : 0 ≤ x.toInt ∧ x.toInt ≤ 31
  · rw [decide_eq_true h]; exact ⟨fun _ => h1 h, fun z => absurd z (by decide)⟩
  · rw [decide_eq_false h]; exact ⟨fun z => absurd rfl z, fun _ => h2 h⟩
theorem vp_wd {x : Int32} (h : 0 ≤ x.toInt ∧ x.toInt ≤ 31) : vp_in x 32 := vp_in_iff.mpr ⟨h.1, by omega⟩

/-! the class's trim -/
def tk9 (c : Nat) : Int32 := if c = 0 ∨ c = 16 then 0 else if c = 1 ∨ c = 14 then 2 else if c = 13 then 14 else if c = 15 then 3 else if c = 17 ∨ c = 18 then 1 else 6
theorem s_takes {c : Nat} (hc : c ≤ 18) {σ : Sg} {Q : Int32 → Sg → Prop} (h : Q (tk9 c) σ) : w_x_takes (nI c) σ Q := by
  unfold w_x_takes w_x_takes_10 w_x_takes_25 w_x_takes_62 w_x_takes_68
  have cv : ∀ k, k < 100 → (nI c = nI k ↔ c = k) := fun k hk => nI_eq (by omega) (by omega)
  have c0 : (nI c = 0) = (c = 0) := propext (cv 0 (by omega))
  have c1 : (nI c = 1) = (c = 1) := propext (cv 1 (by omega))
  have c13 : (nI c = 13) = (c = 13) := propext (cv 13 (by omega))
  have c14 : (nI c = 14) = (c = 14) := propext (cv 14 (by omega))
  have c15 : (nI c = 15) = (c = 15) := propext (cv 15 (by omega))
  have c16 : (nI c = 16) = (c = 16) := propext (cv 16 (by omega))
  have c17 : (nI c = 17) = (c = 17) := propext (cv 17 (by omega))
  have c18 : (nI c = 18) = (c = 18) := propext (cv 18 (by omega))
  rw [c0, c1, c13, c14, c15, c16, c17, c18]
  unfold tk9 at h
  refine ⟨fun z => by rw [if_pos (Or.inl z)] at h; exact h, fun z0 => ⟨fun z16 => ⟨fun z => ?_, fun z1 => ⟨fun z14 => ⟨fun z13 => ⟨fun z15 => ⟨fun z => ?_, fun z17 => ⟨fun z18 => ?_, fun z => ?_⟩⟩, fun z => ?_⟩, fun z => ?_⟩, fun z => ?_⟩⟩, fun z => by rw [if_pos (Or.inr z)] at h; exact h⟩⟩
  · rw [if_neg (by omega), if_pos (Or.inl z)] at h; exact h
  · rw [if_neg (by omega), if_neg (by omega), if_neg (by omega), if_neg (by omega), if_pos (Or.inl z)] at h; exact h
  · rw [if_neg (by omega), if_neg (by omega), if_neg (by omega), if_neg (by omega), if_neg (by omega)] at h; exact h
  · rw [if_neg (by omega), if_neg (by omega), if_neg (by omega), if_neg (by omega), if_pos (Or.inr z)] at h; exact h
  · rw [if_neg (by omega), if_neg (by omega), if_neg (by omega), if_pos z] at h; exact h
  · rw [if_neg (by omega), if_neg (by omega), if_pos z] at h; exact h
  · rw [if_neg (by omega), if_pos (Or.inr z)] at h; exact h
/-- the k-th number of a step -/
def nu9 (p : Ps) (k : Nat) : Int32 := if k = 0 then p.2.1 else if k = 1 then p.2.2.1 else if k = 2 then p.2.2.2.1 else p.2.2.2.2.1
/-- whether the k-th number is a register that is taken -/
def bt9 (c k : Nat) : Prop := (k = 0 ∧ (c = 15 ∨ c = 17 ∨ c = 18)) ∨ (k = 1 ∧ 1 ≤ c ∧ c ≤ 15) ∨ (k = 2 ∧ 2 ≤ c ∧ c ≤ 13) ∨ (k = 3 ∧ c = 13)
def btb (c k : Nat) : Bool := (k == 0 && (c == 15 || c == 17 || c == 18)) || (k == 1 && (decide (1 ≤ c) && decide (c ≤ 15))) || (k == 2 && (decide (2 ≤ c) && decide (c ≤ 13))) || (k == 3 && c == 13)
theorem tk_all : ((List.range 19).all fun c => (List.range 4).all fun k => (decide ((((tk9 c) >>> (nI k &&& 31)) &&& 1) = 1) == btb c k)) = true := by decide +kernel
theorem tk_bit (c : Nat) (hc : c ≤ 18) (k : Nat) (hk : k < 4) : (((tk9 c) >>> (nI k &&& 31)) &&& 1) = 1 ↔ bt9 c k := by
  have h1 := List.all_eq_true.mp tk_all c (List.mem_range.mpr (by omega))
  have h2 := List.all_eq_true.mp h1 k (List.mem_range.mpr hk)
  have h3 : decide ((((tk9 c) >>> (nI k &&& 31)) &&& 1) = 1) = btb c k := by simpa using h2
  have h4 : btb c k = true ↔ bt9 c k := by
    unfold btb bt9
    simp only [Bool.or_eq_true, Bool.and_eq_true, beq_iff_eq, decide_eq_true_eq]
    omega
  rw [← h4, ← h3, decide_eq_true_eq]
theorem nm_nu {p : Ps} {r : Int32} : nm9 p r ↔ ∃ k, k < 4 ∧ bt9 p.1 k ∧ nu9 p k = r := by
  unfold nm9 bt9 nu9
  constructor
  · rintro (⟨h1, h2⟩ | ⟨h1, h2⟩ | ⟨h1, h2⟩ | ⟨h1, h2⟩)
    · exact ⟨0, by omega, Or.inl ⟨rfl, h1⟩, by simp [h2]⟩
    · exact ⟨1, by omega, Or.inr (Or.inl ⟨rfl, h1⟩), by simp [h2]⟩
    · exact ⟨2, by omega, Or.inr (Or.inr (Or.inl ⟨rfl, h1⟩)), by simp [h2]⟩
    · exact ⟨3, by omega, Or.inr (Or.inr (Or.inr ⟨rfl, h1⟩)), by simp [h2]⟩
  · rintro ⟨k, hk, h1, h2⟩
    rcases h1 with ⟨rfl, h1⟩ | ⟨rfl, h1⟩ | ⟨rfl, h1⟩ | ⟨rfl, h1⟩
    · exact Or.inl ⟨h1, by simpa using h2⟩
    · exact Or.inr (Or.inl ⟨h1, by simpa using h2⟩)
    · exact Or.inr (Or.inr (Or.inl ⟨h1, by simpa using h2⟩))
    · exact Or.inr (Or.inr (Or.inr ⟨h1, by simpa using h2⟩))
theorem XC.nu {σ : Sg} {cd : List Ps} (h : XC σ cd) {i : Nat} {p : Ps} (hp : cd[i]? = some p) {k : Nat} (hk : k < 4) : σ (14 + k) i = nu9 p k := by
  obtain ⟨-, g1, g2, g3, g4, -⟩ := h.2 i p hp
  unfold nu9
  rcases (show k = 0 ∨ k = 1 ∨ k = 2 ∨ k = 3 by omega) with rfl | rfl | rfl | rfl
  · exact g1
  · exact g2
  · exact g3
  · exact g4
/-- the inner loop: the step's numbers from k on -/
theorem s_isTaken_19 {cd : List Ps} {σ : Sg} (hC : XC σ cd) (hl : cd.length ≤ 3000) {r : Int32} {K4 : Int32 → Int32 → Int32 → Sg → Prop} {Q : Int32 → Sg → Prop} {i : Nat} {p : Ps} (hp : cd[i]? = some p) (hc : p.1 ≤ 18) : ∀ (m k : Nat) (b : Bool), k + m = 4 → (∀ b' : Bool, (b' = true ↔ b = true ∨ ∃ j, k ≤ j ∧ j < 4 ∧ bt9 p.1 j ∧ nu9 p j = r) → K4 r (bI b') (nI (i + 1)) σ) → w_x_isTaken_19 K4 Q (m + 1) r (bI b) (nI i) (nI k) σ := by
  have hi : i < cd.length := (List.getElem?_eq_some_iff.mp hp).1
  intro m
  induction m with
  | zero =>
    intro k b hk hK
    unfold w_x_isTaken_19
    obtain rfl : k = 4 := by omega
    refine ⟨fun _ x1 e1 => ?_, fun z => absurd (by decide) z⟩
    subst e1
    rw [nI_1]
    refine hK b ⟨fun z => Or.inl z, fun z => z.elim id (fun ⟨j, h1, h2, _⟩ => by omega)⟩
  | succ m ih =>
    intro k b hk hK
    unfold w_x_isTaken_19 w_x_isTaken_60 w_x_isTaken_64 w_x_isTaken_65
    have hgo : ∀ b2 : Bool, (b2 = true ↔ b = true ∨ (bt9 p.1 k ∧ nu9 p k = r)) → ∀ x1 : Int32, x1 = nI k + 1 → w_x_isTaken_19 K4 Q (m + 1) r (bI b2) (nI i) x1 σ := by
      intro b2 hb2 x1 e1
      subst e1
      rw [nI_1]
      refine ih (k + 1) b2 (by omega) (fun b' hb' => hK b' ?_)
      rw [hb', hb2]
      constructor
      · rintro ((h | h) | ⟨j, h1, h2, h3⟩)
        · exact Or.inl h
        · exact Or.inr ⟨k, by omega, by omega, h⟩
        · exact Or.inr ⟨j, by omega, h2, h3⟩
      · rintro (h | ⟨j, h1, h2, h3⟩)
        · exact Or.inl (Or.inl h)
        · by_cases e : j = k
          · subst e; exact Or.inl (Or.inr h3)
          · exact Or.inr ⟨j, by omega, h2, h3⟩
    rw [nI_clamp (show i < 2 ^ 31 by omega), nI_clamp (show k < 2 ^ 31 by omega), (hC.2 i p hp).1]
    refine ⟨fun z => absurd z (nI_ge (show k < 4 by omega) (by decide)), fun _ => ⟨fun z => hgo true ?_, fun z => ⟨vp_in_nI (by omega) (by omega), ?_⟩⟩⟩
    · cases b with
      | false => exact absurd rfl z
      | true => simp
    · have hb : b = false := bI_0.mp z
      subst hb
      refine s_takes hc ?_
      have hbit := tk_bit p.1 hc k (by omega)
      refine ⟨fun y => hgo false ?_, fun y => ⟨vp_in_nI (by omega) (by omega), ⟨by omega, by omega⟩, vp_in_nI (by omega) (by omega), fun w => hgo false ?_, fun w => hgo true ?_⟩⟩
      · simp only [Bool.false_eq_true, false_or, false_iff]
        exact fun q => y (hbit.mpr q.1)
      · rw [hC.nu hp (by omega)] at w
        simp only [Bool.false_eq_true, false_or, false_iff]
        exact fun q => w q.2
      · rw [hC.nu hp (by omega)] at w
        simp only [Bool.false_eq_true, false_or, true_iff]
        exact ⟨hbit.mp y, w⟩
theorem s_isTaken_4 {cd : List Ps} {σ : Sg} (hC : XC σ cd) (hl : cd.length ≤ 3000) (hc : ∀ (i : Nat) (p : Ps), cd[i]? = some p → p.1 ≤ 18) {r : Int32} {Q : Int32 → Sg → Prop} : ∀ (m i : Nat) (b : Bool), i + m = cd.length → (∀ b' : Bool, (b' = true ↔ b = true ∨ ∃ (k : Nat) (q : Ps), i ≤ k ∧ cd[k]? = some q ∧ nm9 q r) → Q (bI b') σ) → w_x_isTaken_4 Q (m + 1) r (bI b) (nI i) σ := by
  intro m
  induction m with
  | zero =>
    intro i b hi hQ
    unfold w_x_isTaken_4 w_x_isTaken_78
    refine ⟨fun _ => ⟨bz_b b, hQ b ⟨fun z => Or.inl z, fun z => z.elim id (fun ⟨k, q, h1, h2, _⟩ => ?_)⟩⟩, fun z => absurd (by rw [hC.1]; exact nI_le (by omega) (by omega)) z⟩
    have := (List.getElem?_eq_some_iff.mp h2).1
    omega
  | succ m ih =>
    intro i b hi hQ
    obtain ⟨p, hp⟩ := cd_at (cd := cd) (i := i) (by omega)
    unfold w_x_isTaken_4 w_x_isTaken_78
    refine ⟨fun z => absurd z (by rw [hC.1]; exact nI_ge (by omega) (by omega)), fun _ => ⟨fun z => ⟨bz_b b, hQ b ?_⟩, fun z => ⟨5, s_isTaken_19 hC hl hp (hc i p hp) 4 0 b (by omega) (fun b' hb' => ?_)⟩⟩⟩
    · cases b with
      | false => exact absurd rfl z
      | true => simp
    · refine ih (i + 1) b' (by omega) (fun b2 hb2 => hQ b2 ?_)
      rw [hb2, hb']
      constructor
      · rintro ((h | ⟨j, h1, h2, h3⟩) | ⟨k, q, h1, h2, h3⟩)
        · exact Or.inl h
        · exact Or.inr ⟨i, p, by omega, hp, nm_nu.mpr ⟨j, h2, h3⟩⟩
        · exact Or.inr ⟨k, q, by omega, h2, h3⟩
      · rintro (h | ⟨k, q, h1, h2, h3⟩)
        · exact Or.inl (Or.inl h)
        · by_cases e : k = i
          · subst e
            cases hp.symm.trans h2
            obtain ⟨j, j1, j2⟩ := nm_nu.mp h3
            exact Or.inl (Or.inr ⟨j, by omega, j1, j2⟩)
          · exact Or.inr ⟨k, q, by omega, h2, h3⟩
theorem s_isUselessX {cd : List Ps} {σ : Sg} (hC : XC σ cd) (hl : cd.length ≤ 3000) (hc : ∀ (i : Nat) (p : Ps), cd[i]? = some p → p.1 ≤ 18) {Q : Int32 → Sg → Prop} {i : Nat} {p : Ps} (hp : cd[i]? = some p) (hQ : ∀ b : Bool, (b = true ↔ rem9 p ∧ ¬ ∃ (k : Nat) (q : Ps), cd[k]? = some q ∧ nm9 q p.2.1) → Q (bI b) σ) : w_x_isUseless (nI i) σ Q := by
  have hi : i < cd.length := (List.getElem?_eq_some_iff.mp hp).1
  have h18 := hc i p hp
  unfold w_x_isUseless w_x_isUseless_28 w_x_isUseless_29 w_x_isUseless_66 w_x_isUseless_67
  rw [nI_clamp (by omega), (hC.2 i p hp).1, (hC.2 i p hp).2.1]
  have hv : vp_in (nI i) 3000 := vp_in_nI (by omega) (by omega)
  refine ⟨hv, ?_⟩
  intro x1 e1
  subst e1
  have cv : ∀ k, k < 100 → (nI p.1 = nI k ↔ p.1 = k) := fun k hk => nI_eq (by omega) (by omega)
  have cl : (13 : Int32) < nI p.1 ↔ 13 < p.1 := nI_ltI (a := 13) (by decide) (by omega)
  have hno : ¬ rem9 p → Q 0 σ := fun h => hQ false (by simp only [Bool.false_eq_true, false_iff]; exact fun q => h q.1)
  have h00 : ¬ rem9 p → ((0 : Int32) = 0 → bz 0 ∧ Q 0 σ) ∧ (¬ (0 : Int32) = 0 → vp_in (nI i) 3000 ∧ ((p.2.1 < 16 → bz 0 ∧ Q 0 σ) ∧ (¬ p.2.1 < 16 → vp_in (nI i) 3000 ∧ w_x_isTaken p.2.1 σ (fun x1 σ2 => (¬ x1 = 0 → bz 0 ∧ Q 0 σ2) ∧ (x1 = 0 → bz 1 ∧ Q 1 σ2))))) := fun h => ⟨fun _ => ⟨bz_0, hno h⟩, fun z => absurd rfl z⟩
  refine ⟨fun z => h00 (fun q => absurd q.1 (by rw [cl] at z; omega)), fun z13 => ⟨fun z => h00 (fun q => q.2.1 ((cv 5 (by omega)).mp z)), fun z5 => ⟨fun z => h00 (fun q => q.2.2.1 ((cv 6 (by omega)).mp z)), fun z6 => ⟨fun z => absurd z (by decide), fun _ => ⟨hv, fun y => ⟨bz_0, hno (fun q => q.2.2.2 y)⟩, fun y => ⟨hv, ?_⟩⟩⟩⟩⟩⟩
  have hrem : rem9 p := ⟨by rw [cl] at z13; omega, fun q => z5 ((cv 5 (by omega)).mpr q), fun q => z6 ((cv 6 (by omega)).mpr q), y⟩
  unfold w_x_isTaken
  refine ⟨cd.length + 1, s_isTaken_4 hC hl hc cd.length 0 false (by omega) (fun b' hb' => ?_)⟩
  have hb2 : b' = true ↔ ∃ (k : Nat) (q : Ps), cd[k]? = some q ∧ nm9 q p.2.1 := by
    rw [hb']
    constructor
    · rintro (h | ⟨k, q, _, h⟩)
      · cases h
      · exact ⟨k, q, h⟩
    · rintro ⟨k, q, h⟩
      exact Or.inr ⟨k, q, by omega, h⟩
  refine ⟨fun z => ⟨bz_0, hQ false ?_⟩, fun z => ⟨bz_1, hQ true ?_⟩⟩
  · simp only [Bool.false_eq_true, false_iff]
    intro q
    cases b' with
    | false => exact z rfl
    | true => exact q.2 (hb2.mp rfl)
  · simp only [true_iff]
    refine ⟨hrem, fun q => ?_⟩
    have := hb2.mpr q
    rw [this] at z
    exact absurd z (by decide)

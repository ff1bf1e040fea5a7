theorem Blk.in {T : Nat → St9} : ∀ {f d a b : Nat}, Blk T f d a b → ∀ q, a ≤ q → q < b → tso (T q) = 5 → q < tm (T q) ∧ tm (T q) ≤ te (T q) ∧ te (T q) ≤ b := by
  intro f
  induction f with
  | zero => intro d a b h q h1 h2; have : a = b := h; omega
  | succ f ih =>
    intro d a b h q h1 h2 h5
    rcases h with h | ⟨g1, g2, g3⟩ | ⟨g1, g2, g3, g4, g5, g6⟩
    · omega
    · by_cases e : q = a
      · subst e; omega
      · exact ih g3 q (by omega) h2 h5
    · have l4 := g4.le
      have l5 := g5.le
      have l6 := g6.le
      by_cases e : q = a
      · subst e; omega
      · rcases Nat.lt_or_ge q (tm (T a)) with h | h
        · have := ih g4 q (by omega) h h5; omega
        · rcases Nat.lt_or_ge q (te (T a)) with h' | h'
          · have := ih g5 q h h' h5; omega
          · exact ih g6 q h' h2 h5
/-- no other first side ends within -/
def Ctx (T : Nat → St9) (n a b : Nat) : Prop := ∀ q, q < n → tso (T q) = 5 → ¬ (a ≤ q ∧ q < b) → tm (T q) ≤ a ∨ b ≤ tm (T q)
/-- the model's way through a block: K takes over where it ends, before what is left out -/
theorem s_tellM {T : Nat → St9} {n : Nat} (hn : n ≤ 60) (hok : ∀ s, s < n → okT (T s)) (hb : ∀ q, q < n → tso (T q) = 5 → tm (T q) ≤ te (T q) ∧ te (T q) ≤ n) {Q : Int32 → Sg → Prop} : ∀ (f d a b : Nat), Blk T f d a b → b ≤ n → Ctx T n a b → a < b → ∀ (S : RS) (σ : Sg) (q : Nat), b - a < q → MX σ n T → MR σ S → σ 58 42 = 0 → (∀ r, r < n → SBq T r a → σ 86 r = 0) → S.2.2.2.1 + (b - a) ≤ 60 →
    (∀ (τ : Sg) (q' : Nat), q ≤ q' + (b - a) → Fr SMt σ τ → (∀ r, ¬ (a ≤ r ∧ r < b) → τ 86 r = σ 86 r) → MR τ (tlF T f a b S).1 → τ 58 42 = 0 → τ 58 40 = σ 58 40 → (tlF T f a b S).2.1 = 0 → w_m_behind (nI b) τ (fun x σ4 => w_m_tell_11 Q q' x σ4)) →
    (∀ τ, Fr SMt σ τ → MR τ (tlF T f a b S).1 → ¬ (tlF T f a b S).2.1 = 0 → τ 58 42 = nI (tlF T f a b S).2.1 → τ 58 40 = nI (tlF T f a b S).2.2 → w_m_tell_49 Q τ) → w_m_tell_11 Q q (nI a) σ := by
  intro f
  induction f with
  | zero => intro d a b hB hbn hC hab; have : a = b := hB; omega
  | succ f ih =>
    intro d a b hB hbn hC hab S σ q hq hX hR h42 hN hom hK hE
    have hle := hB.le
    cases q with
    | zero => omega
    | succ q =>
      have hF1 : Fr SM0 σ (up σ 58 41 (σ 58 41 + 1)) := Fr.rf.up (by unfold SM0; omega)
      have hX1 : MX (up σ 58 41 (σ 58 41 + 1)) n T := hX.st hF1.sm0.smt
      have h421 : (up σ 58 41 (σ 58 41 + 1)) 58 42 = 0 := by simp [up_at, h42]
      unfold w_m_tell_11
      refine ⟨fun z => absurd z (by rw [hX.1]; exact nI_ge (by omega) (by omega)), fun _ => ⟨fun z => absurd h42 z, fun _ => ?_⟩⟩
      rcases hB with h | ⟨h1, h2, h3⟩ | ⟨h1, h2, h3, h4, h5, h6⟩
      · omega
      · rw [tlF_one h1 h2] at hK hE
        have hom1 : (ex1 (T a) (dnR S)).1.2.2.2.1 ≤ S.2.2.2.1 + 1 := ex1_om (t := T a) (S := dnR S)
        refine s_doSt4 (by omega) (hX1.2 a (by omega)) hR.dn h421 (hok a (by omega)) h2 (by show S.2.2.2.1 < 60; omega) (fun τ hF hR' h0 => ?_) (fun τ hF hR' h0 t42 t40 => ?_)
        · rw [if_pos h0] at hK hE
          have hFt : Fr SM0 σ τ := hF1.tr hF
          have hXt := hX1.st hF.sm0.smt
          have t42 : τ 58 42 = 0 := (hF 58 42 (by unfold SM0; omega)).trans h421
          have t40 : τ 58 40 = σ 58 40 := hFt 58 40 (by unfold SM0; omega)
          have t86 : ∀ r, τ 86 r = σ 86 r := fun r => hFt 86 r (by unfold SM0; omega)
          by_cases e : a + 1 < b
          · have hN1 : ∀ r, r < n → SBq T r (a + 1) → τ 86 r = 0 := by
              intro r hr ⟨r1, r2, r3⟩
              exfalso
              by_cases hin : a ≤ r ∧ r < b
              · by_cases hra : r = a
                · subst hra; omega
                · have := h3.in r (by omega) hin.2 r1; omega
              · rcases hC r hr r1 hin with h | h <;> omega
            refine s_beh_stay hn hok hXt (by omega) hb hN1 ?_
            refine ih d (a + 1) b h3 hbn (fun r hr r1 hin => ?_) e _ τ q (by omega) hXt hR' t42 hN1 (by omega) (fun υ q' hq' hυ h86 m1 m2 m3 m4 => hK υ q' (by omega) (hFt.sm0.smt.tr hυ) (fun r hr => by rw [h86 r (by omega), t86]) m1 m2 (m3.trans t40) m4) (fun υ hυ => hE υ (hFt.sm0.smt.tr hυ))
            by_cases hra : r = a
            · subst hra; omega
            · rcases hC r hr r1 (by omega) with h | h <;> omega
          · obtain rfl : b = a + 1 := by omega
            have hnil : tlF T f (a + 1) (a + 1) (ex1 (T a) (dnR S)).1 = ((ex1 (T a) (dnR S)).1, 0, 0) := tlF_nil (Nat.le_refl _)
            rw [hnil] at hK
            exact hK τ q (by omega) hFt.sm0.smt (fun r _ => t86 r) hR' t42 t40 rfl
        · rw [if_neg h0] at hE
          have hz := hE τ (hF1.sm0.smt.tr hF.smt) hR' h0 t42 t40
          have hXt := hX1.st hF.smt
          have hne : ¬ τ 58 42 = 0 := by
            rw [t42]
            rcases ex1_how (t := T a) (S := dnR S) with e | ⟨e | e, _⟩
            · exact absurd e h0
            · rw [e]; decide
            · rw [e]; decide
          -- wherever it goes on, it has ended
          have hend : ∀ (q' : Nat) (x : Int32), w_m_tell_11 Q (q' + 1) x τ := by
            intro q' x
            unfold w_m_tell_11
            exact ⟨fun _ => hz, fun _ => ⟨fun _ => hz, fun z => absurd z hne⟩⟩
          obtain ⟨q', rfl⟩ : ∃ q', q = q' + 1 := ⟨q - 1, by omega⟩
          exact s_beh_any hn hok hXt (by omega) hb (fun x => hend q' x)
      · have l4 := h4.le
        have l5 := h5.le
        have l6 := h6.le
        -- behind the ask's end
        have hrest : ∀ (r : RS × Nat × Nat), tlF T (f + 1) a b S = (if r.2.1 = 0 then tlF T f (te (T a)) b r.1 else r) → r.1.2.2.2.1 + (b - te (T a)) ≤ 60 → ∀ (τ : Sg) (q' : Nat), q + 1 ≤ q' + (te (T a) - a) → Fr SMt σ τ → (∀ r, ¬ (a ≤ r ∧ r < te (T a)) → τ 86 r = σ 86 r) → MR τ r.1 → τ 58 42 = 0 → τ 58 40 = σ 58 40 → r.2.1 = 0 → w_m_behind (nI (te (T a))) τ (fun x σ4 => w_m_tell_11 Q q' x σ4) := by
          intro r hr hrom τ q' hq' hF h86 hR' t42 t40 h0
          rw [hr] at hK hE
          rw [if_pos h0] at hK hE
          have hXt := hX.st hF
          by_cases e : te (T a) < b
          · have hN1 : ∀ r, r < n → SBq T r (te (T a)) → τ 86 r = 0 := by
              intro r hr ⟨r1, r2, r3⟩
              exfalso
              by_cases hin : a ≤ r ∧ r < b
              · by_cases hra : r = a
                · subst hra; omega
                · rcases Nat.lt_or_ge r (tm (T a)) with h | h
                  · have := h4.in r (by omega) h r1; omega
                  · rcases Nat.lt_or_ge r (te (T a)) with h' | h'
                    · have := h5.in r h h' r1; omega
                    · have := h6.in r h' hin.2 r1; omega
              · rcases hC r hr r1 hin with h | h <;> omega
            refine s_beh_stay hn hok hXt (by omega) hb hN1 ?_
            refine ih d (te (T a)) b h6 hbn (fun r hr r1 hin => ?_) e _ τ q' (by omega) hXt hR' t42 hN1 hrom (fun υ q'' hq'' hυ h86' m1 m2 m3 m4 => hK υ q'' (by omega) (hF.tr hυ) (fun r hr => by rw [h86' r (by omega), h86 r (by omega)]) m1 m2 (m3.trans t40) m4) (fun υ hυ => hE υ (hF.tr hυ))
            by_cases hin2 : a ≤ r ∧ r < b
            · by_cases hra : r = a
              · subst hra; omega
              · rcases Nat.lt_or_ge r (tm (T a)) with h | h
                · have := h4.in r (by omega) h r1; omega
                · rcases Nat.lt_or_ge r (te (T a)) with h' | h'
                  · have := h5.in r h h' r1; omega
                  · omega
            · rcases hC r hr r1 hin2 with h | h <;> omega
          · have eb : b = te (T a) := by omega
            have hnil : tlF T f (te (T a)) b r.1 = (r.1, 0, 0) := tlF_nil (by omega)
            rw [hnil] at hK
            rw [← eb]
            exact hK τ q' (by omega) hF (fun s hs => h86 s (by omega)) hR' t42 t40 rfl
        have hstop : ∀ (r : RS × Nat × Nat), tlF T (f + 1) a b S = (if r.2.1 = 0 then tlF T f (te (T a)) b r.1 else r) → ∀ τ, Fr SMt σ τ → MR τ r.1 → ¬ r.2.1 = 0 → τ 58 42 = nI r.2.1 → τ 58 40 = nI r.2.2 → w_m_tell_49 Q τ := by
          intro r hr τ hF hR' h0 t42 t40
          rw [hr, if_neg h0] at hE
          exact hE τ hF hR' h0 t42 t40
        have hu : tm (T a) < te (T a) → ∀ r, r < n → SBq T r (tm (T a)) → r = a := by
          intro hme r hr ⟨r1, r2, r3⟩
          by_cases hra : r = a
          · exact hra
          · exfalso
            by_cases hin : a ≤ r ∧ r < b
            · rcases Nat.lt_or_ge r (tm (T a)) with h | h
              · have := h4.in r (by omega) h r1; omega
              · rcases Nat.lt_or_ge r (te (T a)) with h' | h'
                · have := h5.in r h h' r1; omega
                · have := h6.in r h' hin.2 r1; omega
            · have := hb r hr r1
              rcases hC r hr r1 hin with h | h <;> omega
        have hF86 : ∀ v : Int32, Fr SMt σ (up (up σ 58 41 (σ 58 41 + 1)) 86 a v) := fun v => hF1.sm0.smt.up (Or.inr rfl)
        have hX86 : ∀ v : Int32, MX (up (up σ 58 41 (σ 58 41 + 1)) 86 a v) n T := fun v => hX.st (hF86 v)
        have hR86 : ∀ v : Int32, MR (up (up σ 58 41 (σ 58 41 + 1)) 86 a v) (dnR S) := by
          intro v
          obtain ⟨m1, m2, m3, m4, m5⟩ := hR.dn
          exact ⟨fun r hr => by rw [up_ne (by decide)]; exact m1 r hr, fun r hr => by rw [up_ne (by decide)]; exact m2 r hr, fun r hr => by rw [up_ne (by decide)]; exact m3 r hr, by rw [up_ne (by decide)]; exact m4, by rw [up_ne (by decide)]; exact m5⟩
        have h4286 : ∀ v : Int32, (up (up σ 58 41 (σ 58 41 + 1)) 86 a v) 58 42 = 0 := fun v => by simp [up_at, h42]
        have h4086 : ∀ v : Int32, (up (up σ 58 41 (σ 58 41 + 1)) 86 a v) 58 40 = σ 58 40 := fun v => by simp [up_at]
        have h86o : ∀ (v : Int32) r, ¬ r = a → (up (up σ 58 41 (σ 58 41 + 1)) 86 a v) 86 r = σ 86 r := fun v r hr => by simp [up_at, hr]
        refine s_doSt5 (by omega) (hX1.2 a (by omega)) hR.dn (hok a (by omega)) h2 (fun hy => ?_) (fun hy => ?_)
        · have heq := tlF_yes (f := f) (b := b) h1 h2 hy
          have hom2 : (tlF T f (a + 1) (tm (T a)) (dnR S)).1.2.2.2.1 ≤ S.2.2.2.1 + _ := tlF_om (S := dnR S) h4
          have hto : ∀ (τ : Sg) (q' : Nat), q + 1 ≤ q' + (tm (T a) - a) → Fr SMt σ τ → (∀ r, ¬ (a ≤ r ∧ r < tm (T a)) → τ 86 r = σ 86 r) → τ 86 a = 1 → MR τ (tlF T f (a + 1) (tm (T a)) (dnR S)).1 → τ 58 42 = 0 → τ 58 40 = σ 58 40 → (tlF T f (a + 1) (tm (T a)) (dnR S)).2.1 = 0 → w_m_behind (nI (tm (T a))) τ (fun x σ4 => w_m_tell_11 Q q' x σ4) := by
            intro τ q' hq' hF h86 ha1 hR' t42 t40 h0
            have hnx := hrest _ heq (by omega) τ q' (by omega) hF (fun r hr => h86 r (by omega)) hR' t42 t40 h0
            by_cases e : tm (T a) < te (T a)
            · exact s_beh_jump hn hok (hX.st hF) (by omega) hb (by omega) ⟨h2, rfl, e⟩ (by rw [ha1]; decide) (hu e) hnx
            · rw [show tm (T a) = te (T a) by omega]; exact hnx
          by_cases e : a + 1 < tm (T a)
          · have hN1 : ∀ r, r < n → SBq T r (a + 1) → (up (up σ 58 41 (σ 58 41 + 1)) 86 a 1) 86 r = 0 := by
              intro r hr ⟨r1, r2, r3⟩
              exfalso
              by_cases hin : a ≤ r ∧ r < b
              · by_cases hra : r = a
                · subst hra; omega
                · rcases Nat.lt_or_ge r (tm (T a)) with h | h
                  · have := h4.in r (by omega) h r1; omega
                  · have := hb r hr r1
                    rcases Nat.lt_or_ge r (te (T a)) with h' | h'
                    · have := h5.in r h h' r1; omega
                    · have := h6.in r h' hin.2 r1; omega
              · rcases hC r hr r1 hin with h | h <;> omega
            refine s_beh_stay hn hok (hX86 1) (by omega) hb hN1 ?_
            refine ih (d + 1) (a + 1) (tm (T a)) h4 (by omega) (fun r hr r1 hin => ?_) e (dnR S) _ q (by omega) (hX86 1) (hR86 1) (h4286 1) hN1 (by show S.2.2.2.1 + _ ≤ 60; omega) (fun υ q' hq' hυ h86' m1 m2 m3 m4 => hto υ q' (by omega) ((hF86 1).tr hυ) (fun r hr => by rw [h86' r (by omega), h86o 1 r (by omega)]) (by rw [h86' a (by omega)]; simp [up_at]) m1 m2 (m3.trans (h4086 1)) m4) (fun υ hυ => hstop _ heq υ ((hF86 1).tr hυ))
            by_cases hin2 : a ≤ r ∧ r < b
            · by_cases hra : r = a
              · subst hra; omega
              · have : tm (T a) ≤ r := by omega
                rcases Nat.lt_or_ge r (te (T a)) with h' | h'
                · have := h5.in r (by omega) h' r1; omega
                · have := h6.in r h' hin2.2 r1; omega
            · rcases hC r hr r1 hin2 with h | h <;> omega
          · have eb : tm (T a) = a + 1 := by omega
            have hnil : tlF T f (a + 1) (tm (T a)) (dnR S) = (dnR S, 0, 0) := tlF_nil (by omega)
            have := hto (up (up σ 58 41 (σ 58 41 + 1)) 86 a 1) q (by omega) (hF86 1) (fun r hr => h86o 1 r (by omega)) (by simp [up_at]) (by rw [hnil]; exact hR86 1) (h4286 1) (h4086 1) (by rw [hnil])
            rw [eb] at this
            exact this
        · have heq := tlF_not (f := f) (b := b) h1 h2 hy
          have hom2 : (tlF T f (tm (T a)) (te (T a)) (dnR S)).1.2.2.2.1 ≤ S.2.2.2.1 + _ := tlF_om (S := dnR S) h5
          by_cases e : tm (T a) < te (T a)
          · have hN1 : ∀ r, r < n → SBq T r (tm (T a)) → (up (up σ 58 41 (σ 58 41 + 1)) 86 a 0) 86 r = 0 := by
              intro r hr hsb
              rw [hu e r hr hsb]
              simp [up_at]
            refine s_beh_stay hn hok (hX86 0) (by omega) hb hN1 ?_
            refine ih (d + 1) (tm (T a)) (te (T a)) h5 (by omega) (fun r hr r1 hin => ?_) e (dnR S) _ q (by omega) (hX86 0) (hR86 0) (h4286 0) hN1 (by show S.2.2.2.1 + _ ≤ 60; omega) (fun υ q' hq' hυ h86' m1 m2 m3 m4 => hrest _ heq (by omega) υ q' (by omega) ((hF86 0).tr hυ) (fun r hr => by rw [h86' r (by omega), h86o 0 r (by omega)]) m1 m2 (m3.trans (h4086 0)) m4) (fun υ hυ => hstop _ heq υ ((hF86 0).tr hυ))
            by_cases hin2 : a ≤ r ∧ r < b
            · by_cases hra : r = a
              · subst hra; omega
              · rcases Nat.lt_or_ge r (tm (T a)) with h' | h'
                · have := h4.in r (by omega) h' r1; omega
                · have := h6.in r (by omega) hin2.2 r1; omega
            · rcases hC r hr r1 hin2 with h | h <;> omega
          · have hnil : tlF T f (tm (T a)) (te (T a)) (dnR S) = (dnR S, 0, 0) := tlF_nil (by omega)
            rw [show tm (T a) = te (T a) by omega]
            rw [show tm (T a) = te (T a) by omega] at hnil heq hom2
            exact hrest _ heq (by omega) _ q (by omega) (hF86 0) (fun r hr => h86o 0 r (by omega)) (by rw [hnil]; exact hR86 0) (h4286 0) (h4086 0) (by rw [hnil])

theorem o_tell {σ : Sg} (h : Inv σ) {K : Int32 → Sg → Prop} (hK : ∀ (k : Int32) (σ2 : Sg), (∀ K2 : Int32 → Sg → Prop, (∀ τ, Inv τ → K2 k τ) → w_m_tell σ2 K2) → K k σ2) : w_x_tell_ σ K := by
  have hI := h
  obtain ⟨h1, ⟨z, h2⟩, h3, ⟨n, T, h4, cd, hc, rg, ic, h5⟩, S, h6⟩ := h
  have hX := h4
  obtain ⟨x1, x2, x3, x4, x5⟩ := h4
  obtain ⟨r1, r2, r3, r4, r5⟩ := h6
  have hok : ∀ s, s < n → okT (T s) := fun s hs => (x5 s hs).2.2
  unfold w_x_tell_
  refine s_beginRun r1.1 r1.2.2.1 (fun τ hF hR0 h24 => ?_)
  have hb0 : (bg0 σ S.1 S.2.2.1).2.2.2.1 + (n - 0) ≤ 60 := by show 0 + _ ≤ 60; omega
  have how := tlF_how (T := T) (f := 60) (a := 0) (b := n) (S := bg0 σ S.1 S.2.2.1)
  have hom : (tlF T 60 0 n (bg0 σ S.1 S.2.2.1)).1.2.2.2.1 ≤ 0 + (n - 0) := tlF_om x4
  generalize hres : tlF T 60 0 n (bg0 σ S.1 S.2.2.1) = res at how hom
  have hXt : ∀ s, s < n → XS 36 τ s (T s) := fun s hs => (x5 s hs).1.fr (fun c a b => hF c s (by unfold SB1; omega))
  have key : ∀ υ, Fr SX τ υ → XR υ res.1 → ∀ (x1 : Int32) (ω : Sg), x1 = nI res.2.1 → (∀ c j, ¬ (c = 0 ∧ j = 24) → ω c j = υ c j) → ω 0 24 = (if res.2.1 = 0 then -1 else nI res.2.2) → K x1 ω := by
    intro υ hG hXR xr ω hx1 hω h24'
    refine hK _ _ (fun K2 hk2 => ?_)
    have q : ∀ c j, ¬ (c = 11 ∨ c = 12 ∨ c = 13 ∨ c = 4 ∨ (c = 0 ∧ (j = 23 ∨ j = 24 ∨ j = 25))) → ω c j = σ c j := by
      intro c j hn
      rw [hω c j (by omega), hG c j (by unfold SX; omega), hF c j (by unfold SB1; omega)]
    unfold w_m_tell
    have q' : ∀ c j, ¬ (c = 58 ∧ j = 0) → up ω 58 0 0 c j = ω c j := by
      intro c j hn
      rw [up_at]
      repeat' split
      all_goals (first | rfl | omega)
    refine s_beginM (ρ := σ) (R := S.1) (O := S.2.2.1) (fun r hr => by rw [q' 85 r (by omega), q 85 r (by omega)]; exact r2.1 r hr) (fun r hr => by rw [q' 84 r (by omega), q 84 r (by omega)]; exact r2.2.2.1 r hr) ⟨fun v hv => by rw [q' 59 v (by omega), q 59 v (by omega)]; exact h1.1 v hv, fun v hv => by rw [q' 60 v (by omega), q 60 v (by omega)]; exact h1.2 v hv⟩ (fun α hA hMR a40 a42 => ?_)
    have hMX : MX α n T := by
      have e : ∀ c j, ¬ (c = 11 ∨ c = 12 ∨ c = 13 ∨ c = 4 ∨ (82 ≤ c ∧ c ≤ 85) ∨ (c = 0 ∧ (j = 23 ∨ j = 24 ∨ j = 25)) ∨ (c = 58 ∧ (j = 0 ∨ j = 39 ∨ j = 40 ∨ j = 41 ∨ j = 42))) → α c j = σ c j := fun c j hn => by rw [hA c j (by unfold SB2; omega), q' c j (by omega), q c j (by omega)]
      exact ⟨by rw [e 58 9 (by omega)]; exact x2, fun s hs => (x5 s hs).2.1.fr (fun k _ => e 63 _ (by omega)) ⟨e 66 s (by omega), e 67 s (by omega)⟩⟩
    have hfin : ∀ β, Fr SMt α β → MR β res.1 → β 58 42 = nI res.2.1 → (res.2.1 = 0 → β 58 40 = -1) → (¬ res.2.1 = 0 → β 58 40 = nI res.2.2) → w_m_tell_49 K2 β := by
      intro β hB hMR' b42 b40 b40'
      unfold w_m_tell_49
      refine s_leave (fun γ hγ h82 => ?_)
      have g : ∀ c j, ¬ c = 82 → γ c j = β c j := fun c j hn => hγ c j hn
      rw [g 58 42 (by omega), b42, ← hx1]
      refine hk2 _ ?_
      have qq : ∀ c j, ¬ (c = 11 ∨ c = 12 ∨ c = 13 ∨ c = 4 ∨ (82 ≤ c ∧ c ≤ 86) ∨ (c = 0 ∧ (j = 23 ∨ j = 24 ∨ j = 25)) ∨ (c = 58 ∧ (j = 0 ∨ j = 39 ∨ j = 40 ∨ j = 41 ∨ j = 42))) → γ c j = σ c j := by
        intro c j hn
        rw [g c j (by omega), hB c j (by unfold SMt SM; omega), hA c j (by unfold SB2; omega), q' c j (by omega), q c j (by omega)]
      have gx : ∀ c j, (c < 58) → ¬ (c = 0 ∧ j = 24) → γ c j = υ c j := by
        intro c j hn hn2
        rw [g c j (by omega), hB c j (by unfold SMt SM; omega), hA c j (by unfold SB2; omega), q' c j (by omega), hω c j (by omega)]
      have g24 : γ 0 24 = ω 0 24 := by rw [g 0 24 (by omega), hB 0 24 (by unfold SMt SM; omega), hA 0 24 (by unfold SB2; omega), q' 0 24 (by omega)]
      refine ⟨h1.fr (fun c j w => qq c j (by unfold fIP at w; omega)), ⟨z, h2.fr (fun c j w => qq c j (by unfold fIT at w; omega))⟩, by rw [qq 58 6 (by omega), qq 0 6 (by omega)]; exact h3, ⟨n, T, hX.fr (fun c j w => qq c j (by unfold fIX at w; omega)), cd, hc, rg, ic, h5.fr (fun c j w => qq c j (by unfold fIC at w; omega))⟩, res.1, ⟨?_, ?_, by omega, ?_, ?_⟩⟩
      · obtain ⟨u1, u2, u3, u4, u5⟩ := hXR
        exact ⟨fun r hr => by rw [gx 11 r (by omega) (by omega)]; exact u1 r hr, fun r hr => by rw [gx 12 r (by omega) (by omega)]; exact u2 r hr, fun r hr => by rw [gx 13 r (by omega) (by omega)]; exact u3 r hr, by rw [gx 0 23 (by omega) (by omega)]; exact u4, by rw [gx 0 25 (by omega) (by omega)]; exact u5⟩
      · obtain ⟨u1, u2, u3, u4, u5⟩ := hMR'
        exact ⟨fun r hr => by rw [g 85 r (by omega)]; exact u1 r hr, fun r hr => by rw [g 83 r (by omega)]; exact u2 r hr, fun r hr => by rw [g 84 r (by omega)]; exact u3 r hr, by rw [g 58 39 (by omega)]; exact u4, by rw [g 58 41 (by omega)]; exact u5⟩
      · intro v hv
        rw [h82 v hv]
        exact hMR'.1 v (by omega)
      · rw [g 58 40 (by omega), g24, h24']
        split
        · rename_i h0; rw [b40 h0]
        · rename_i h0; rw [b40' h0]
    by_cases hn0 : 0 < n
    · have hb : ∀ q, q < n → tso (T q) = 5 → tm (T q) ≤ te (T q) ∧ te (T q) ≤ n := fun q hq h5 => (x4.in q (by omega) hq h5).2
      refine ⟨n + 1, s_tellM x3 hok hb 60 0 0 n x4 (Nat.le_refl _) (fun q hq _ hin => absurd ⟨Nat.zero_le _, hq⟩ hin) hn0 _ α (n + 1) (by omega) hMX hMR a42 (fun r hr hsb => ?_) hb0 (fun β q' hq' hB h86 m1 m2 m3 m4 => ?_) (fun β hB m1 m2 m3 m4 => ?_)⟩
      · have := x4.in r (by omega) hr hsb.1
        have := hsb.2.1
        omega
      · rw [hres] at m1 m4
        have hz := hfin β hB m1 (by rw [m2, m4]; rfl) (fun _ => m3.trans a40) (fun w => absurd m4 w)
        refine s_beh_stay x3 hok (hMX.st hB) (Nat.le_refl _) hb (fun r hr hsb => ?_) ?_
        · have := x4.in r (by omega) hr hsb.1
          have := hsb.2.2
          omega
        · obtain ⟨q'', rfl⟩ : ∃ q'', q' = q'' + 1 := ⟨q' - 1, by omega⟩
          unfold w_m_tell_11
          exact ⟨fun _ => hz, fun w => absurd (by rw [(hMX.st hB).1]; exact nI_le (Nat.le_refl _) (by omega)) w⟩
      · rw [hres] at m1 m2 m3 m4
        exact hfin β hB m1 m3 (fun w => absurd w m2) (fun _ => m4)
    · obtain rfl : n = 0 := by omega
      rw [tlF_nil (Nat.le_refl _)] at hres
      refine ⟨1, ?_⟩
      unfold w_m_tell_11
      refine ⟨fun _ => hfin α Fr.rf (by rw [← hres]; exact hMR) (by rw [← hres]; exact a42) (fun _ => a40) (fun w => absurd (by rw [← hres]) w), fun w => absurd (by rw [hMX.1]; exact nI_le (Nat.le_refl _) (by decide)) w⟩
  have e10 : τ 1 0 = nI n := by rw [hF 1 0 (by unfold SB1; omega)]; exact x1
  rw [e10]
  unfold w_x_tell__18
  show w_x_tellAll_s (w_x_tellAll 61) _ _ _ _ _
  refine ⟨n + 1, s_tellAll x3 hok 60 0 0 n x4 (Nat.le_refl _) 62 (by omega) _ τ _ _ hXt hR0 hb0 (fun υ hG hXR h0 => ?_) (fun υ hG hXR h0 e1 e2 => ?_) (n + 1) (by omega)⟩
  · rw [hres] at hXR h0
    refine key υ hG hXR 0 υ (by rw [h0]; rfl) (fun c j hn => rfl) ?_
    rw [if_pos h0, hG 0 24 (by unfold SX; omega), h24]
  · rw [hres] at hXR h0 e1 e2
    refine ⟨rfl, key υ hG hXR (υ 4 5) _ e1 (fun c j hn => ?_) ?_⟩
    · simp only [up_at]
      repeat' split
      all_goals (first | rfl | omega)
    · rw [if_neg h0]; simp [up_at, e2]

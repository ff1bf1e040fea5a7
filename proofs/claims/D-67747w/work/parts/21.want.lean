/-! the three that throw an exception of their own making -/
def mi_x_wantIndex : Mi := ("GuardedMoves", prog_1_method_2_code, 1, [], none, 8, 200, 1, 6, ⟨"GuardedMoves", "wantIndex", "(Z)V"⟩)
theorem d_x_wantIndex_0 : decode prog_1_method_2_code 0 = .ok (.iload_n 0, 1) := by decide +kernel
theorem d_x_wantIndex_1 : decode prog_1_method_2_code 1 = .ok (.ifCond .ne 11, 3) := by decide +kernel
theorem d_x_wantIndex_4 : decode prog_1_method_2_code 4 = .ok (.new 1, 3) := by decide +kernel
theorem d_x_wantIndex_7 : decode prog_1_method_2_code 7 = .ok (.dup, 1) := by decide +kernel
theorem d_x_wantIndex_8 : decode prog_1_method_2_code 8 = .ok (.invokespecial 3, 3) := by decide +kernel
theorem d_x_wantIndex_11 : decode prog_1_method_2_code 11 = .ok (.athrow, 1) := by decide +kernel
theorem d_x_wantIndex_12 : decode prog_1_method_2_code 12 = .ok (.return_, 1) := by decide +kernel
theorem kc_x_wantIndex : Kw (m_w mi_x_wantIndex) := ⟨(in_t3 (List.mem_of_getElem? (i := 40) rfl)), rfl⟩
theorem mv_x_wantIndex : MS mi_x_wantIndex 1 := ⟨kw_519, kc_x_wantIndex, kw_1, ⟨⟨by decide, by decide⟩, by decide +kernel⟩⟩
def w_x_wantIndex (p1 : Int32) (σ : Sg) (Q : Sg → Prop) (E : Nat → Sg → Prop) : Prop := (¬ p1 = 0 → Q σ) ∧ (p1 = 0 → E 2 σ)
def mi_x_want_Z : Mi := ("GuardedMoves", prog_1_method_3_code, 1, [], none, 8, 200, 1, 6, ⟨"GuardedMoves", "want", "(Z)V"⟩)
theorem d_x_want_Z_0 : decode prog_1_method_3_code 0 = .ok (.iload_n 0, 1) := by decide +kernel
theorem d_x_want_Z_1 : decode prog_1_method_3_code 1 = .ok (.ifCond .ne 11, 3) := by decide +kernel
theorem d_x_want_Z_4 : decode prog_1_method_3_code 4 = .ok (.new 7, 3) := by decide +kernel
theorem d_x_want_Z_7 : decode prog_1_method_3_code 7 = .ok (.dup, 1) := by decide +kernel
theorem d_x_want_Z_8 : decode prog_1_method_3_code 8 = .ok (.invokespecial 9, 3) := by decide +kernel
theorem d_x_want_Z_11 : decode prog_1_method_3_code 11 = .ok (.athrow, 1) := by decide +kernel
theorem d_x_want_Z_12 : decode prog_1_method_3_code 12 = .ok (.return_, 1) := by decide +kernel
theorem kc_x_want_Z : Kw (m_w mi_x_want_Z) := ⟨(in_t3 (List.mem_of_getElem? (i := 81) rfl)), rfl⟩
theorem mv_x_want_Z : MS mi_x_want_Z 1 := ⟨kw_560, kc_x_want_Z, kw_1, ⟨⟨by decide, by decide⟩, by decide +kernel⟩⟩
def w_x_want_Z (p1 : Int32) (σ : Sg) (Q : Sg → Prop) (E : Nat → Sg → Prop) : Prop := (¬ p1 = 0 → Q σ) ∧ (p1 = 0 → E 3 σ)
def mi_x_wantState : Mi := ("GuardedMoves", prog_1_method_4_code, 1, [], none, 8, 200, 1, 6, ⟨"GuardedMoves", "wantState", "(Z)V"⟩)
theorem d_x_wantState_0 : decode prog_1_method_4_code 0 = .ok (.iload_n 0, 1) := by decide +kernel
theorem d_x_wantState_1 : decode prog_1_method_4_code 1 = .ok (.ifCond .ne 11, 3) := by decide +kernel
theorem d_x_wantState_4 : decode prog_1_method_4_code 4 = .ok (.new 10, 3) := by decide +kernel
theorem d_x_wantState_7 : decode prog_1_method_4_code 7 = .ok (.dup, 1) := by decide +kernel
theorem d_x_wantState_8 : decode prog_1_method_4_code 8 = .ok (.invokespecial 12, 3) := by decide +kernel
theorem d_x_wantState_11 : decode prog_1_method_4_code 11 = .ok (.athrow, 1) := by decide +kernel
theorem d_x_wantState_12 : decode prog_1_method_4_code 12 = .ok (.return_, 1) := by decide +kernel
theorem kc_x_wantState : Kw (m_w mi_x_wantState) := ⟨(in_t3 (List.mem_of_getElem? (i := 99) rfl)), rfl⟩
theorem mv_x_wantState : MS mi_x_wantState 1 := ⟨kw_578, kc_x_wantState, kw_1, ⟨⟨by decide, by decide⟩, by decide +kernel⟩⟩
def w_x_wantState (p1 : Int32) (σ : Sg) (Q : Sg → Prop) (E : Nat → Sg → Prop) : Prop := (¬ p1 = 0 → Q σ) ∧ (p1 = 0 → E 4 σ)
/-- a contract out of a walk that begins with nothing written yet -/
theorem Ct.ofG {l : Launch} {Δ : Ly} {μ : Mi} {as : List Value} {σ : Sg} {Qr : Option Value → Sg → Prop} {Qe : Nat → Sg → Prop} (hfl : l.flags = flags0) (hy : plainFor (m_y μ) = true) (hown : (m_y μ).cls = m_own μ) (hle : (lg_sl as).length ≤ m_nL μ)
    (h : ∀ G : Gm, g_l G = l → Cx Δ G μ → Wd Δ σ (g_s G).heap → ∀ ls, lv_has ls (m_nL μ) (lv_args 0 as) → Wg G (g_s G).heap [] 0 0 (MU (g_b G) Δ Qr Qe (g_s G) (m_mc μ) (m_ms μ)) (F0 (g_m G) 0 ls [])) : Ct l Δ μ as σ Qr Qe := by
  refine MetFree.of_bodySF (code := m_cc μ) (maxLocals := m_nL μ) (ret := m_ret μ) hy ?_ ?_
  · intro args s m hp hn
    obtain ⟨m', meth, c, hn', h1, h2, h3, h4, -, h5, h6, -⟩ := m_spec (atoms_spec (ws := [m_w μ]) hp _ List.mem_cons_self)
    cases hn.symm.trans hn'
    exact ⟨meth, c, h1, h2, h3, h4, h5, h6⟩
  · intro p e s m args below meth c s₁ B hml hP _
    obtain ⟨rfl, hK, hWd⟩ := hP
    have hh0 : s₁.heap = s.heap := by rw [B.state]; rfl
    obtain ⟨m', meth', c', hn', q1, q2, q3, q4, q5, -⟩ := m_spec (atoms_spec (ws := [m_w μ]) B.pre _ List.mem_cons_self)
    cases B.named.symm.trans hn'
    cases B.method.symm.trans q1
    have X : Stand p l e (headSpec [m_w μ] (m_rm μ)).room s m as.toArray below meth c s₁ [] 0 0 := Stand.of_body B
    cases X.code.symm.trans q2
    have hl := lv_entry as (n := m_nL μ) hle
    have hw := h (p, l, e, m_rm μ, s, m, as.toArray, below, meth, c) rfl ⟨B.exec, B.bytes, B.returns, B.notSynchronized, hml, hown ▸ findClass_of_methodNamed B.named, hK, q5, rfl, hfl⟩ hWd _ hl
    obtain ⟨t, a1, o, b1, b2, b3⟩ := hw s₁ hh0 X
    rw [← lg_entry_eq] at a1
    exact ⟨t, o, a1, b1, b2, ⟨b3.1, b3.2⟩⟩
/-- nothing but new cells: what was there is there -/
theorem old_cells {s t : State} {k n : Nat} (h : s.sameButNew t [] k n) {q : Nat} (hq : q < s.heap.size) : t.heap[q]? = s.heap[q]? := by
  obtain ⟨-, -, -, -, -, h6⟩ := h
  have hc : s.heap[q]? = some s.heap[q] := Array.getElem?_eq_getElem hq
  obtain ⟨c', h1, h2, h3, h4⟩ := h6 q _ hc
  rw [h1, hc]
  have e : c'.slots = (s.heap[q]).slots := by
    apply Array.ext_getElem?
    intro i
    exact h4 i (by simp)
  rw [h2, e]
theorem isRef_of {C n d : String} {A : Nat → Prop} {s : State} {args : Array Value} (h : va_Zq C n d A s s.heap) : (Cond.isRef (.static C n d)).before args s = true := by
  have key : ∀ v : Value, va_Z C n d v A s s.heap → (Term.static C n d).eval args s none [] s = some v := by
    intro v hz
    obtain ⟨cf, kf, fi, f, a, cell, h1, h2, h3, h4, h5, h6, h7, -⟩ := hz
    simp [Term.eval, State.fieldNamed?, h1, h2, h4, h5, h6, h7]
  rcases h with h | ⟨t, h⟩
  · simp [Cond.before, Cond.holds, Cond.value, key _ h]
  · simp [Cond.before, Cond.holds, Cond.value, key _ h]
/-- words of statics: they speak of the heap -/
def isR : Cond → Bool
  | .isRef _ => true
  | .laysStatic .. => true
  | _ => false
/-- the words that a throw of a made exception asks, but for the two statics -/
def wantWords (own : String) (ic : Nat) (X : String) (names : List String) : List Cond := (Bundle.ownAtoms0 own ic X names).filter (fun w => !isR w)
theorem want_atoms {own : String} {ic : Nat} {X : String} {names : List String} {Δ : Ly} {s : State} (hK : Kx Δ s) (hw : (wantWords own ic X names).all (fun w => decide (w ∈ lw_tbl) && gw w) = true) (args : Array Value) : ∀ a ∈ Bundle.ownAtoms0 own ic X names, a.before args s = true := by
  intro a ha
  have hO := hK.2.2.2.2.2.2.2.2
  have hz1 := isRef_of (args := args) hO.2.1
  have hz2 := isRef_of (args := args) hO.2.2.1
  have hz3 := Ls.use (args := args) hO.2.2.2.1
  have hz4 := Ls.use (args := args) hO.2.2.2.2
  by_cases hr : isR a = true
  · have : a = .isRef (.static "java/lang/Throwable" "UNASSIGNED_STACK" "[Ljava/lang/StackTraceElement;") ∨ a = .isRef (.static "java/lang/Throwable" "SUPPRESSED_SENTINEL" "Ljava/util/List;") ∨ a = .laysStatic "java/lang/Throwable" "UNASSIGNED_STACK" "[Ljava/lang/StackTraceElement;" ∨ a = .laysStatic "java/lang/Throwable" "SUPPRESSED_SENTINEL" "Ljava/util/List;" := by
      have key : ∀ (names : List String) (X : String), ∀ c ∈ Bundle.chain0Atoms X names, isR c = false := by
        intro names
        induction names with
        | nil => intro X c hc; simp [Bundle.chain0Atoms, Bundle.passAtoms] at hc; rcases hc with rfl | rfl | rfl | rfl | rfl <;> rfl
        | cons y r ih =>
          intro X c hc
          simp only [Bundle.chain0Atoms, List.mem_append] at hc
          rcases hc with hc | hc
          · simp [Bundle.passAtoms] at hc; rcases hc with rfl | rfl | rfl | rfl | rfl <;> rfl
          · exact ih y c hc
      simp only [Bundle.ownAtoms0, List.mem_append] at ha
      rcases ha with (ha | ha) | ha
      · simp only [Bundle.throwableAtoms, List.mem_cons, List.not_mem_nil, or_false] at ha
        rcases ha with rfl | rfl | rfl | rfl | rfl | rfl | rfl | rfl | rfl | rfl | rfl | rfl | rfl | rfl | rfl | rfl | rfl | rfl | rfl | rfl | rfl | rfl | rfl | rfl
        all_goals first | (exact Or.inr (Or.inr (Or.inl rfl))) | (exact Or.inr (Or.inr (Or.inr rfl))) | (exact absurd hr (by decide))
      · rw [key names X a ha] at hr; cases hr
      · simp only [List.mem_cons, List.not_mem_nil, or_false] at ha
        rcases ha with rfl | rfl | rfl | rfl | rfl | rfl | rfl | rfl | rfl | rfl | rfl | rfl | rfl | rfl
        all_goals first | (exact Or.inl rfl) | (exact Or.inr (Or.inl rfl)) | (exact absurd hr (by simp [isR]))
    rcases this with rfl | rfl | rfl | rfl
    · exact hz1
    · exact hz2
    · exact hz3
    · exact hz4
  · have h1 := List.all_eq_true.mp hw a (List.mem_filter.mpr ⟨ha, by simpa using hr⟩)
    simp only [Bool.and_eq_true, decide_eq_true_eq] at h1
    exact hK.1.at h1.1 h1.2 args
set_option maxHeartbeats 1000000 in
theorem ct_want {l : Launch} {Δ : Ly} {μ : Mi} (hfl : l.flags = flags0) (hy : plainFor (m_y μ) = true) (hown : (m_y μ).cls = m_own μ) (hnL : m_nL μ = 1) (hhh : m_hh μ = []) (hret : m_ret μ = none) (hmc : m_mc μ = 1) (hms : m_ms μ = 6) (hfr : m_fr μ = 8) (hlo : m_lo μ = 200) {x ic inew : Nat} {names : List String} (hx2 : 2 ≤ x)
    (hlen : names.length = 2) (hfit : Bundle.fit (xn x) = true) (hfits : ∀ n ∈ names, Bundle.fit n = true) (hw : (wantWords (m_own μ) ic (xn x) names).all (fun w => decide (w ∈ lw_tbl) && gw w) = true) (kcl : Kw (.classLink (m_own μ) inew (xn x))) (kin : Kw (.instantiable (xn x) 6)) (kini : Kw (.initialized (xn x)))
    (d0 : decode (m_cc μ) 0 = .ok (.iload_n 0, 1)) (d1 : decode (m_cc μ) 1 = .ok (.ifCond .ne 11, 3)) (d4 : decode (m_cc μ) 4 = .ok (.new inew, 3)) (d7 : decode (m_cc μ) 7 = .ok (.dup, 1)) (d8 : decode (m_cc μ) 8 = .ok (.invokespecial ic, 3)) (d11 : decode (m_cc μ) 11 = .ok (.athrow, 1)) (d12 : decode (m_cc μ) 12 = .ok (.return_, 1))
    (p1 : Int32) (σ : Sg) (Q : Sg → Prop) (E : Nat → Sg → Prop) (h : (¬ p1 = 0 → Q σ) ∧ (p1 = 0 → E x σ)) : Ct l Δ μ [.int p1] σ (qV Q) E := by
  refine Ct.ofG hfl hy hown (by rw [hnL]; exact Nat.le_of_ble_eq_true rfl) (fun G hgl cx hWd ls hl => ?_)
  have hl : lv_has ls (m_nL μ) [(0, .int p1)] := hl
  refine lv_iload_n cx.1 cx.2.1 d0 rfl (lv_at hl 0 rfl) ?_
  refine lv_if_ne (tgt := 12) cx.1 cx.2.1 d1 (by decide) (fun hc => ?_) (fun hc => ?_)
  · exact y_vret cx (pc := 12) (lv := [(0, .int p1)]) (st := []) hret d12 (Nat.zero_le _) (Nat.zero_le _) (h.1 hc) (g_s G).heap [] ls hWd va_S.rf hl
  · have hq := h.2 hc
    obtain ⟨hexec, hb, hr, hlocks, hml, hownc, hK, hhd, hR, hflags⟩ := cx
    refine W.newc (n := 6) hexec hb hownc (kcl.at hK.1) (kin.at hK.1) (kini.at hK.1) (g := F0 (g_m G) 4 ls []) rfl d4 (by rw [hR]; show 0 + 1 ≤ m_mc μ; omega) (by rw [hR]; show 0 + 6 ≤ m_ms μ; omega) (fun cC kC h1 h2 h3 h4 => ?_)
    refine lv_dup (pc := 7) (ls := ls) (rest := []) hexec hb d7 rfl ?_
    intro T hT X
    have htr : (g_e G).platform.stackTraces = false := Launch.traces_off hflags X.admits
    obtain ⟨U, s1, s2, s3, s4, s5, ce, s6, s7⟩ := X.ctorThrow0 hexec htr (own := m_own μ) (cls := xn x) (names := names) (ic := ic) hownc hfit hfits (want_atoms hK hw (g_a G)) (fun q hq => by cases hq) (a := (g_s G).heap.size) (cX := cC) (kX := kC) h1 h2 (by rw [hT]; simp) (Nat.le_refl _)
      (g := F0 (g_m G) 8 ls [.ref (g_s G).heap.size, .ref (g_s G).heap.size]) rfl (hl.1.trans hml.symm) rfl rfl (rest := []) rfl (by rw [hb]; exact d8) (by rw [hb]; exact d11) (fun q hq => by
        have h9 : (q.startPc, q.endPc, q.handlerPc, q.catchType) ∈ m_hh μ := by
          rw [← hhd]
          exact List.mem_map.mpr ⟨q, hq, rfl⟩
        rw [hhh] at h9
        cases h9) (by rw [hR, hlen]; show 2 + 3 < m_fr μ; omega) (by rw [hR, hlen]; show 2 * 0 + (1 + 0) + (13 * (2 + 1) + 41) ≤ m_lo μ; omega) hlocks
    refine ⟨U, s1, .threw (g_s G).heap.size, s2, s3, ⟨Or.inr ⟨(g_s G).heap.size, x, σ, rfl, hq, ⟨fun e => absurd e (by omega), fun e => absurd e (by omega), ce, s6, by rw [s7.vm]; rfl, by rw [s4.alike.findClass]; exact s7.cls⟩, ?_⟩, ?_⟩, [], ⟨s4, s5.mono (by omega) (by omega)⟩, fun q hq => by cases hq⟩
    · exact hWd.kept fun k hk => old_cells s5 (hWd.lt hk)
    · exact ⟨s5.2.1, fun q hq _ => old_cells s5 hq⟩

theorem ww_x_wantIndex : (wantWords "GuardedMoves" 3 "java/lang/IndexOutOfBoundsException" ["java/lang/RuntimeException", "java/lang/Exception"]).all (fun w => decide (w ∈ lw_tbl) && gw w) = true := by decide +kernel
set_option maxRecDepth 20000 in
theorem c_x_wantIndex {l : Launch} (hfl : l.flags = flags0) (Δ : Ly) (p1 : Int32) (σ : Sg) (Q : Sg → Prop) (E : Nat → Sg → Prop) (h : w_x_wantIndex p1 σ Q E) : Ct l Δ mi_x_wantIndex [.int p1] σ (qV Q) E :=
  ct_want (μ := mi_x_wantIndex) (ic := 3) (inew := 1) (x := 2) (names := ["java/lang/RuntimeException", "java/lang/Exception"]) hfl (by show plainFor ⟨"GuardedMoves", "wantIndex", "(Z)V"⟩ = true; decide +kernel) rfl rfl rfl rfl rfl rfl rfl rfl (by decide) rfl (by decide +kernel) (by decide +kernel) ww_x_wantIndex kw_521 kw_522 kw_9 d_x_wantIndex_0 d_x_wantIndex_1 d_x_wantIndex_4 d_x_wantIndex_7 d_x_wantIndex_8 d_x_wantIndex_11 d_x_wantIndex_12 p1 σ Q E h
theorem ww_x_want_Z : (wantWords "GuardedMoves" 9 "java/lang/IllegalArgumentException" ["java/lang/RuntimeException", "java/lang/Exception"]).all (fun w => decide (w ∈ lw_tbl) && gw w) = true := by decide +kernel
set_option maxRecDepth 20000 in
theorem c_x_want_Z {l : Launch} (hfl : l.flags = flags0) (Δ : Ly) (p1 : Int32) (σ : Sg) (Q : Sg → Prop) (E : Nat → Sg → Prop) (h : w_x_want_Z p1 σ Q E) : Ct l Δ mi_x_want_Z [.int p1] σ (qV Q) E :=
  ct_want (μ := mi_x_want_Z) (ic := 9) (inew := 7) (x := 3) (names := ["java/lang/RuntimeException", "java/lang/Exception"]) hfl (by show plainFor ⟨"GuardedMoves", "want", "(Z)V"⟩ = true; decide +kernel) rfl rfl rfl rfl rfl rfl rfl rfl (by decide) rfl (by decide +kernel) (by decide +kernel) ww_x_want_Z kw_562 kw_563 kw_12 d_x_want_Z_0 d_x_want_Z_1 d_x_want_Z_4 d_x_want_Z_7 d_x_want_Z_8 d_x_want_Z_11 d_x_want_Z_12 p1 σ Q E h
theorem ww_x_wantState : (wantWords "GuardedMoves" 12 "java/lang/IllegalStateException" ["java/lang/RuntimeException", "java/lang/Exception"]).all (fun w => decide (w ∈ lw_tbl) && gw w) = true := by decide +kernel
set_option maxRecDepth 20000 in
theorem c_x_wantState {l : Launch} (hfl : l.flags = flags0) (Δ : Ly) (p1 : Int32) (σ : Sg) (Q : Sg → Prop) (E : Nat → Sg → Prop) (h : w_x_wantState p1 σ Q E) : Ct l Δ mi_x_wantState [.int p1] σ (qV Q) E :=
  ct_want (μ := mi_x_wantState) (ic := 12) (inew := 10) (x := 4) (names := ["java/lang/RuntimeException", "java/lang/Exception"]) hfl (by show plainFor ⟨"GuardedMoves", "wantState", "(Z)V"⟩ = true; decide +kernel) rfl rfl rfl rfl rfl rfl rfl rfl (by decide) rfl (by decide +kernel) (by decide +kernel) ww_x_wantState kw_580 kw_581 kw_13 d_x_wantState_0 d_x_wantState_1 d_x_wantState_4 d_x_wantState_7 d_x_wantState_8 d_x_wantState_11 d_x_wantState_12 p1 σ Q E h

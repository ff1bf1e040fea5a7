/-! calls by contract: the callee returns or throws -/
theorem Kx.calling {Δ : Ly} {U : State} (h : Kx Δ U) (g : JFrame) (mk : MethodId) (a : Array Value) : Kx Δ (U.calling g mk a) :=
  Kx.go (locs := []) h (State.WarmedH.refl U) rfl va_S.rf
theorem doU {p : Program} {l : Launch} {e : Env} {R : Room} {s : State} {m : MethodId} {sargs : Array Value} {below : List Frame} {meth : Method} {c : Code} {U : State} {locs : List Loc} {cells slots : Nat}
    {Δ : Ly} {ν : Mi} {as : List Value} {σ : Sg} {Qr : Option Value → Sg → Prop} {Qe : Nat → Sg → Prop} (hM : Ct l Δ ν as σ Qr Qe)
    (X : Stand p l e R s m sargs below meth c U locs cells slots) {g : JFrame} {ig : Instr} {len W : Nat} {mk : MethodId} (hg : g.method = m) (hsize : g.locals.size = c.maxLocals) (hdg : decode c.code g.pc = .ok (ig, len))
    (hW : 2 * g.monitorRoom + (g.stack.map fun v => v.category).sum ≤ W) (hn : U.methodNamed? (m_y ν) = some mk)
    (hframes : m_fr ν + 1 ≤ R.frames) (hlocals : W + (m_nL ν + 11) + m_lo ν ≤ R.locals) (h4 : cells + m_mc ν ≤ R.cells) (h5 : slots + m_ms ν ≤ R.slots)
    (hw : (m_w ν).before as.toArray U = true) (hini : (Cond.initialized (m_y ν).cls).before as.toArray U = true) (hK : Kx Δ U) (hP : Wd Δ σ U.heap) :
    (∃ (v : Option Value) (σ' : Sg) (U' : State) (L : List Loc), Stand p l e R s m sargs below meth c U' (locs ++ L) (cells + m_mc ν) (slots + m_ms ν) ∧ Qr v σ' ∧ Wd Δ σ' U'.heap ∧ va_F (Ar Δ U.heap.size) U U' ∧ (∀ q ∈ L, Ar Δ U.heap.size q.base) ∧
      Steps p.tables e below (doInvoke e (U.setTop g) [] mk as.toArray).1 (U'.setTop { g with pc := g.pc + len, stack := v.toList ++ g.stack })) ∨
    (∃ (x a : Nat) (σ' : Sg) (U' : State) (L : List Loc), Stand p l e R s m sargs below meth c U' (locs ++ L) (cells + m_mc ν) (slots + m_ms ν) ∧ Qe x σ' ∧ Exc Δ x a U' U'.heap ∧ Wd Δ σ' U'.heap ∧ va_F (Ar Δ U.heap.size) U U' ∧ (∀ q ∈ L, Ar Δ U.heap.size q.base) ∧
      Steps p.tables e below (doInvoke e (U.setTop g) [] mk as.toArray).1 ((U'.setTop g).pushFrame (.throwing a))) := by
  obtain ⟨mY, methY, cY, hnY, hmY, hcY, -, hlY, -, -, -, -⟩ := m_spec hw
  cases hn.symm.trans hnY
  obtain ⟨kY, hkY, -⟩ := className_of_methodNamed hn
  have hinitY : kY.init = .initialized := Cond.initialized_spec (findClass_of_methodNamed hn) hkY hini
  have h : At U g.method c below := by rw [hg]; exact X.here
  have hpre : (headSpec [m_w ν] (m_rm ν)).pre.before as.toArray U = true := atoms_intro (ws := [m_w ν]) fun w hq => by
    rw [List.mem_singleton] at hq
    subst hq
    exact hw
  have happ : (headSpec [m_w ν] (m_rm ν)).appliesLoose (m_y ν) e.platform (U.calling g mk as.toArray) = true :=
    Spec.appliesLoose_calling (g := g) h hdg hn hkY hinitY
      (X.room_calling (g := g) (R' := (headSpec [m_w ν] (m_rm ν)).room) hsize hmY hcY hframes (by show _ + m_lo ν ≤ _; rw [hlY]; omega) h4 h5) hpre
  obtain ⟨mid, hmid⟩ := h.above
  have hfr : (U.setTop g).frames = (.java g :: mid) ++ below := by rw [State.frames_setTop' g h.top, hmid]; rfl
  obtain ⟨o, s₂, hsteps, -, hend, hq⟩ := Steps.callFree hM p X.admits X.cas X.clock (acts := []) hfr happ ⟨rfl, hK.calling g mk _, hP⟩ trivial
  have hq' : EndU Δ Qr Qe (U.calling g mk as.toArray) o s₂ ∧ ∃ L, FrU (U.calling g mk as.toArray) s₂ L (m_mc ν) (m_ms ν) ∧ ∀ q ∈ L, Ar Δ U.heap.size q.base := hq
  obtain ⟨hq1, L, hfe, hL⟩ := hq'
  rw [State.frames_setTop' g h.top] at hend
  obtain ⟨hW₂, e2, q2, q3, q4, q5, q6⟩ := id hfe
  have e3 : s₂ = ({ (U.calling g mk as.toArray).setFrames s₂.frames with heap := s₂.heap, slotsUsed := s₂.slotsUsed } : State).setVm s₂.vm := by
    have : s₂ = ({ s₂ with vm := (U.calling g mk as.toArray).vm } : State).setVm s₂.vm := rfl
    rw [e2] at this
    exact this
  have hW' : U.WarmedH s₂.vm := hW₂
  obtain ⟨g₀, hg0⟩ := Option.isSome_iff_exists.mp h.top
  obtain ⟨r, hr⟩ := State.topJava?_eq_some.mp hg0
  have hsame : U.sameButNew ({ U with heap := s₂.heap, slotsUsed := s₂.slotsUsed } : State) L (m_mc ν) (m_ms ν) := by
    refine ⟨?_, q2, q3, q4, q5, q6⟩
    obtain ⟨t, ht, -⟩ := State.frames_cons hr
    show ({ U with heap := s₂.heap, slotsUsed := s₂.slotsUsed } : State) = { U.setFrames U.frames with heap := s₂.heap, slotsUsed := s₂.slotsUsed }
    rw [State.setFrames_self ht]
  have hr' : (({ U with heap := s₂.heap, slotsUsed := s₂.slotsUsed } : State).setVm s₂.vm).frames = .java g₀ :: r := hr
  have X' : Stand p l e R s m sargs below meth c (({ U with heap := s₂.heap, slotsUsed := s₂.slotsUsed } : State).setVm s₂.vm) (locs ++ L) (cells + m_mc ν) (slots + m_ms ν) :=
    ⟨X.admits, X.cas, X.clock, X.frames, X.room, X.hears, X.method, X.code, (X.here.setHeapUsed s₂.heap s₂.slotsUsed).setVm hW'.alike, X.tail, State.WarmedH.trans X.warmed hW', X.limits, X.bytes, X.same.trans (hsame.setVm s.vm)⟩
  obtain ⟨hq2, hF⟩ := hq1
  rcases hq2 with ⟨v, σ', rfl, hqr, hP'⟩ | ⟨a, x, σ', rfl, hqe, hex, hP'⟩
  · refine Or.inl ⟨v, σ', _, L, X', hqr, hP', hF, hL, ?_⟩
    obtain ⟨c₂, i₂, len₂, hc₂, hd₂, hf₂⟩ := hend
    have hcc : c₂ = c := by
      have h1 : s₂.code? g.method = U.code? g.method := by
        rw [State.code?_eq, State.code?_eq, hW'.alike.method?]
      exact Option.some.inj (hc₂.symm.trans (h1.trans h.code))
    subst hcc
    have hlen : len₂ = len := by rw [hdg] at hd₂; cases hd₂; rfl
    subst hlen
    have hs₂ : s₂ = (({ U with heap := s₂.heap, slotsUsed := s₂.slotsUsed } : State).setVm s₂.vm).setTop { g with pc := g.pc + len₂, stack := v.toList ++ g.stack } := by
      refine e3.trans ?_
      rw [hf₂, State.calling_eq h.top, State.setFrames_setFrames, State.setTop_of_frames _ hr', hr]
      rfl
    rw [← hs₂]
    exact hsteps
  · refine Or.inr ⟨x, a, σ', _, L, X', hqe, hex.moved (Vm.Alike.refl _), hP', hF, hL, ?_⟩
    have hf₂ : s₂.frames = .throwing a :: .java g :: U.frames.tail := hend
    have hs₂ : s₂ = ((({ U with heap := s₂.heap, slotsUsed := s₂.slotsUsed } : State).setVm s₂.vm).setTop g).pushFrame (.throwing a) := by
      refine e3.trans ?_
      rw [hf₂, State.calling_eq h.top, State.setFrames_setFrames, State.pushFrame, State.frames_setTop _ hr', State.setTop_of_frames _ hr', State.setFrames_setFrames, hr]
      rfl
    rw [← hs₂]
    exact hsteps
/-- the frame goes on behind a call -/
theorem va_S.go {Δ : Ly} {s : State} {H : Heap} {locs L : List Loc} {U U' : State} (hS : va_S (Ar Δ s.heap.size) s.heap H locs) (hU : U.heap = H) (hF : va_F (Ar Δ U.heap.size) U U') (hL : ∀ q ∈ L, Ar Δ U.heap.size q.base) : va_S (Ar Δ s.heap.size) s.heap U'.heap (locs ++ L) := by
  subst hU
  refine ⟨Nat.le_trans hS.1 hF.1, fun q h1 h2 => ?_, fun q hq => ?_⟩
  · rw [hF.2 q (Nat.lt_of_lt_of_le h1 hS.1) (fun z => h2 (Ar.mono hS.1 z))]
    exact hS.2.1 q h1 h2
  · rcases List.mem_append.mp hq with h | h
    · exact hS.2.2 q h
    · exact Ar.mono hS.1 (hL q h)
/-- what the tables say of an instance method of the class C that is called by its own name -/
def MV (ν : Mi) (C : String) (np : Nat) : Prop := Kw (.instanceMethod (m_y ν)) ∧ Kw (.selects C (m_y ν) (m_y ν)) ∧ Kw (m_w ν) ∧ Kw (.initialized (m_y ν).cls) ∧ ((m_y ν).cls ≠ "java/lang/invoke/MethodHandle" ∧ (m_y ν).cls ≠ "java/lang/invoke/VarHandle") ∧ (parseMethodDescriptor (m_y ν).desc).map (fun d => d.parameters.length) = some np
def MS (ν : Mi) (np : Nat) : Prop := Kw (.static (m_y ν)) ∧ Kw (m_w ν) ∧ Kw (.initialized (m_y ν).cls) ∧ ((m_y ν).cls ≠ "java/lang/invoke/MethodHandle" ∧ (m_y ν).cls ≠ "java/lang/invoke/VarHandle") ∧ (parseMethodDescriptor (m_y ν).desc).map (fun d => d.parameters.length) = some np
section YC
variable {Δ : Ly} {G : Gm} {μ ν : Mi} {Qr Rr : Option Value → Sg → Prop} {Qe Re : Nat → Sg → Prop} {k n : Nat} {σ : Sg} {pc : Nat} {lv : List (Nat × Value)} {st : List Value}
theorem y_callV (cx : Cx Δ G μ) {c i np ci : Nat} {C : String} {T : u_T} {N : Nat} {ty0 : Nat → FieldType} {As : List Value} (hC : Ct (g_l G) Δ ν (.ref (Δ.1 c) :: As) σ Rr Re) (mv : MV ν C np) (w : Kw (.methodLink (m_own μ) i (m_y ν))) (hc : c < 88) (ck : CK ci C T N ty0) (hci : ∀ f, ∃ fs, ent Δ c f = .inr (ci, fs)) (hnp : As.length = np)
    (hst : (st.map fun v => v.category).sum ≤ 12) (hfr : m_fr ν + 1 ≤ m_fr μ) (hlo : 12 + (m_nL ν + 11) + m_lo ν ≤ m_lo μ) (hmc : k + m_mc ν ≤ m_mc μ) (hms : n + m_ms ν ≤ m_ms μ) (d : decode (m_cc μ) pc = .ok (.invokevirtual i, 3))
    (kr : ∀ (v : Option Value) (σ' : Sg), Rr v σ' → Y Δ G μ Qr Qe (k + m_mc ν) (n + m_ms ν) σ' (pc + 3) lv (v.toList ++ st)) (kt : ∀ (x : Nat) (σ' : Sg), Re x σ' → Yt Δ G μ Qr Qe (k + m_mc ν) (n + m_ms ν) σ' pc lv x) :
    Y Δ G μ Qr Qe k n σ pc lv (As.reverse ++ .ref (Δ.1 c) :: st) := by
  intro H locs ls hP hS hl T0 hT X
  obtain ⟨hx, hb, -, -, hml, hown, hK, -, hR, -⟩ := cx
  obtain ⟨kin, ksel, kw, kini, hy, hpar⟩ := mv
  obtain ⟨mk, methM, hnamed, hmethM, hstM, habM⟩ := Cond.instanceMethod_spec (kin.at (a := g_a G) hK.1)
  obtain ⟨mM', methM', cM, hn', hmM', -, -, -, -, -, -, hsigM⟩ := m_spec (kw.at (a := g_a G) hK.1)
  cases hnamed.symm.trans hn'
  cases hmethM.symm.trans hmM'
  obtain ⟨fs, hfs⟩ := hci (σ c)
  obtain ⟨cellB, hcB, hoB, hclB⟩ := va_recv hK.2.1 hP (ci := ci) (q0 := c) ck.1 ((ws_get hc).trans (by rw [hfs]))
  obtain ⟨c2, r2, m2, q1, q2, q3, q4, kP, hkP, hkPi⟩ := Cond.selects_spec (ksel.at (a := g_a G) hK.1)
  cases hclB.symm.trans q1
  cases (State.methodFound?_of_named hnamed hy).symm.trans q2
  cases hnamed.symm.trans q3
  have hselP : selectMethod (g_e G).platform (g_s G).vm cellB.cls mk = .method mk := by rw [Launch.admits_selectMethod X.admits]; exact q4
  have hlen : As.length = methM.sig.parameters.length := by
    rw [hsigM] at hpar
    rw [hnp]
    exact (Option.some.inj hpar).symm
  obtain ⟨vm₁, X₁, hstep₁⟩ := X.invokevirtual hx hown (w.at hK.1) hnamed hmethM hstM hkP hkPi hy (a := Δ.1 c) (cell := cellB) (by rw [hT]; exact hcB)
    (fun z h => by rw [h] at hoB; cases hoB) hselP hmethM habM hkP hkPi (g := F0 (g_m G) pc ls (As.reverse ++ .ref (Δ.1 c) :: st)) rfl (argsL := As) (rest := st) hlen rfl (by rw [hb]; exact d)
  have hK1 : Kx Δ (T0.setVm vm₁) := hK.go (U := T0.setVm vm₁) X₁.warmed hT hS
  have hsz : ls.size = (g_c G).maxLocals := hl.1.trans hml.symm
  rcases doU hC X₁ (g := F0 (g_m G) pc ls st) (ig := .invokevirtual i) (len := 3) (W := 12) (mk := mk) rfl hsz (by rw [hb]; exact d) (by show 2 * 0 + (st.map fun v => v.category).sum ≤ 12; omega) (X₁.named hnamed) (by rw [hR]; exact hfr) (by rw [hR]; exact hlo) (by rw [hR]; exact hmc) (by rw [hR]; exact hms) (kw.at hK1.1) (kini.at hK1.1) hK1 (by show Wd Δ σ T0.heap; rw [hT]; exact hP) with ⟨v, σ', U', L, X', hqr, hP', hF, hL, hsteps⟩ | ⟨x, a, σ', U', L, X', hqe, hex, hP', hF, hL, hsteps⟩
  · obtain ⟨t, a1, b1⟩ := kr v σ' hqr U'.heap (locs ++ L) ls hP' (hS.go (U := T0.setVm vm₁) hT hF hL) hl U' rfl X'
    exact ⟨t, hstep₁ _ fun acts => by rw [doInvoke_state]; exact hsteps.trans a1, b1⟩
  · obtain ⟨t, a1, b1⟩ := kt x σ' hqe U'.heap (locs ++ L) ls st a hP' (hS.go (U := T0.setVm vm₁) hT hF hL) hl (hex.moved X'.warmed.alike.symm) U' rfl X'
    exact ⟨t, hstep₁ _ fun acts => by rw [doInvoke_state]; exact hsteps.trans a1, b1⟩
theorem y_callS (cx : Cx Δ G μ) {i np : Nat} {As : List Value} (hC : Ct (g_l G) Δ ν As σ Rr Re) (mv : MS ν np) (w : Kw (.methodLink (m_own μ) i (m_y ν))) (hnp : As.length = np)
    (hst : (st.map fun v => v.category).sum ≤ 12) (hfr : m_fr ν + 1 ≤ m_fr μ) (hlo : 12 + (m_nL ν + 11) + m_lo ν ≤ m_lo μ) (hmc : k + m_mc ν ≤ m_mc μ) (hms : n + m_ms ν ≤ m_ms μ) (d : decode (m_cc μ) pc = .ok (.invokestatic i, 3))
    (kr : ∀ (v : Option Value) (σ' : Sg), Rr v σ' → Y Δ G μ Qr Qe (k + m_mc ν) (n + m_ms ν) σ' (pc + 3) lv (v.toList ++ st)) (kt : ∀ (x : Nat) (σ' : Sg), Re x σ' → Yt Δ G μ Qr Qe (k + m_mc ν) (n + m_ms ν) σ' pc lv x) :
    Y Δ G μ Qr Qe k n σ pc lv (As.reverse ++ st) := by
  intro H locs ls hP hS hl T0 hT X
  obtain ⟨hx, hb, -, -, hml, hown, hK, -, hR, -⟩ := cx
  obtain ⟨kst, kw, kini, hy, hpar⟩ := mv
  obtain ⟨mk, methM, cM, hnamed, hmethM, -, -, -, -, -, -, hsigM⟩ := m_spec (kw.at (a := g_a G) hK.1)
  have hstatic : methM.isStatic = true := Cond.static_spec hnamed hmethM (kst.at (a := g_a G) hK.1)
  obtain ⟨kP, hkP, -⟩ := className_of_methodNamed hnamed
  have hinitP : kP.init = .initialized := Cond.initialized_spec (findClass_of_methodNamed hnamed) hkP (kini.at (a := g_a G) hK.1)
  have hlen : As.length = methM.sig.parameters.length := by
    rw [hsigM] at hpar
    rw [hnp]
    exact (Option.some.inj hpar).symm
  obtain ⟨vm₁, X₁, hstep₁⟩ := X.invokestatic hx hown (w.at hK.1) hnamed hmethM hstatic hkP hinitP hy (g := F0 (g_m G) pc ls (As.reverse ++ st)) rfl (argsL := As) (rest := st) hlen rfl (by rw [hb]; exact d)
  have hK1 : Kx Δ (T0.setVm vm₁) := hK.go (U := T0.setVm vm₁) X₁.warmed hT hS
  have hsz : ls.size = (g_c G).maxLocals := hl.1.trans hml.symm
  rcases doU hC X₁ (g := F0 (g_m G) pc ls st) (ig := .invokestatic i) (len := 3) (W := 12) (mk := mk) rfl hsz (by rw [hb]; exact d) (by show 2 * 0 + (st.map fun v => v.category).sum ≤ 12; omega) (X₁.named hnamed) (by rw [hR]; exact hfr) (by rw [hR]; exact hlo) (by rw [hR]; exact hmc) (by rw [hR]; exact hms) (kw.at hK1.1) (kini.at hK1.1) hK1 (by show Wd Δ σ T0.heap; rw [hT]; exact hP) with ⟨v, σ', U', L, X', hqr, hP', hF, hL, hsteps⟩ | ⟨x, a, σ', U', L, X', hqe, hex, hP', hF, hL, hsteps⟩
  · obtain ⟨t, a1, b1⟩ := kr v σ' hqr U'.heap (locs ++ L) ls hP' (hS.go (U := T0.setVm vm₁) hT hF hL) hl U' rfl X'
    exact ⟨t, hstep₁ _ fun acts => by rw [doInvoke_state]; exact hsteps.trans a1, b1⟩
  · obtain ⟨t, a1, b1⟩ := kt x σ' hqe U'.heap (locs ++ L) ls st a hP' (hS.go (U := T0.setVm vm₁) hT hF hL) hl (hex.moved X'.warmed.alike.symm) U' rfl X'
    exact ⟨t, hstep₁ _ fun acts => by rw [doInvoke_state]; exact hsteps.trans a1, b1⟩
/-- an exception that no handler of this method covers leaves it -/
theorem t_out (cx : Cx Δ G μ) {x : Nat} (hh : (m_hh μ).all (fun h => !(decide (h.1 ≤ pc) && decide (pc < h.2.1))) = true) (hk : k ≤ m_mc μ) (hn : n ≤ m_ms μ) (hq : Qe x σ) : Yt Δ G μ Qr Qe k n σ pc lv x := by
  intro H locs ls st' a hP hS hl hex T hT X
  obtain ⟨hx, hb, -, hlocks, hml, hown, hK, hhh, hR, -⟩ := cx
  have hout : ∀ q ∈ (g_c G).exceptionTable.toList, covers q pc = false := by
    intro q hq
    have h1 : (q.startPc, q.endPc, q.handlerPc, q.catchType) ∈ m_hh μ := by
      rw [← hhh]
      exact List.mem_map.mpr ⟨q, hq, rfl⟩
    have h2 := List.all_eq_true.mp hh _ h1
    simp [covers] at h2 ⊢
    intro hz
    omega
  obtain ⟨h1, h2, h3, h4, h5⟩ := X.leaveThrown a (g := F0 (g_m G) pc ls st') rfl rfl rfl hout hlocks
  refine ⟨_, h1, .threw a, h2, h3, ⟨Or.inr ⟨a, x, σ, rfl, hq, ?_, by show Wd Δ σ T.heap; rw [hT]; exact hP⟩, hS.F hT⟩, locs, ⟨h4, h5.mono hk hn⟩, hS.2.2⟩
  show Exc Δ x a _ T.heap
  rw [hT]
  exact hex.moved h4.alike
/-- athrow -/
theorem y_athrow (cx : Cx Δ G μ) {x a : Nat} (d : decode (m_cc μ) pc = .ok (.athrow, 1)) (hex : ∀ H : Heap, Wd Δ σ H → Exc Δ x a (g_s G) H) (h : Yt Δ G μ Qr Qe k n σ pc lv x) : Y Δ G μ Qr Qe k n σ pc lv (.ref a :: st) := by
  intro H locs ls hP hS hl T hT X
  obtain ⟨t, a1, b1⟩ := h H locs ls st a hP hS hl (hex H hP) T hT X
  refine ⟨t, ?_, b1⟩
  have hx := cx.1
  have hb := cx.2.1
  jvm_step X.here [X.here.top, hx, hb, d, Op.athrow.wp_sem]
  exact a1
end YC

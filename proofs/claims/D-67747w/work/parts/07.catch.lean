/-! an exception is caught in the method: the catch type's entry may be resolved then and there -/
theorem go_cold {Q : Handler → Pre} {E : CtlPost} {e : Env} {d : Bool} {acts : List Action} {s : State} {f : JFrame} {a : Addr} {x : ExceptionTableEntry} {t : List ExceptionTableEntry} {c : ClassId} {vm' : Vm} {cell : Cell} (hx : covers x f.pc = true) (h0 : x.catchType ≠ 0)
    (hg : (Jvm.resolveClass f.method.cls x.catchType).Gives e.toSetting s.vm (.ok c) vm') (hsz : vm'.classes.size ≤ s.vm.classes.size) (hcell : s.heap[a]? = some cell) (hobj : ∀ k, cell.vm ≠ .statics k)
    (hk : ∃ k, vm'.classes[cell.cls]? = some k) (hc : ∃ k, vm'.classes[c]? = some k) :
    wp (findHandler.go f a (x :: t)) Q E e d acts s ↔ if vm'.assignable cell.cls c = true then Q (.found x.handlerPc) d acts (s.setVm vm') else wp (findHandler.go f a t) Q E e d acts (s.setVm vm') := by
  simp only [covers] at hx
  obtain ⟨ha, ht⟩ := hg.op (op := VmOp.resolveClass f.method.cls x.catchType) rfl
  obtain ⟨k1, hk1⟩ := hk
  obtain ⟨k2, hk2⟩ := hc
  cases hfit : vm'.assignable cell.cls c <;>
    simp [findHandler.go, hx, h0, ha, ht, hsz, VmOp.lands_same, hcell, hobj, hk1, hk2, hfit, VmOp.dirties, VmOp.acts]
def FindsTo (e : Env) (s : State) (f : JFrame) (a : Addr) (pc : Nat) (s' : State) : Prop :=
  ∀ (Q : Handler → Pre) (E : CtlPost) (d : Bool) (acts : List Action), wp (findHandler f a) Q E e d acts s ↔ Q (.found pc) d acts s'
theorem catchTo {e : Env} {s s' : State} {a : Addr} {f : JFrame} {r : List Frame} {pc : Nat} (hfind : FindsTo e s f a pc s') :
    (stepThrowing e s a (.java f :: r)).Is (s'.setFrames (.java { f with pc := pc, stack := [.ref a] } :: r)) [] := by
  simp only [stepThrowing, searchFrame, vmDo]
  generalize hr : Sem.go _ e false [] s = res
  obtain ⟨as, rfl, ha⟩ := Sem.eq_ok_of hr (a := Handler.found pc) (s' := s') (acts' := []) (by simp [hfind _ _ _ _])
  exact ⟨rfl, ha⟩
theorem caughtTo {tb : Tables} {e : Env} {s target : State} {g : JFrame} {c : Code} {below : List Frame} {a : Addr} (h : At s g.method c below) {pc : Nat} {vm' : Vm} (hfind : FindsTo e ((s.setTop g).pushFrame (.throwing a)) g a pc (((s.setTop g).pushFrame (.throwing a)).setVm vm'))
    (hrest : Steps tb e below ((s.setVm vm').setTop { g with pc := pc, stack := [.ref a] }) target) :
    Steps tb e below ((s.setTop g).pushFrame (.throwing a)) target := by
  obtain ⟨hgo, hw⟩ := h.throwing a
  refine Steps.head hgo hw ?_
  rw [stepThread_throwing (frames_entered h.top _), (catchTo (s := (s.setTop g).pushFrame (.throwing a)) hfind).1]
  obtain ⟨g₀, hg⟩ := Option.isSome_iff_exists.mp h.top
  obtain ⟨r, hr⟩ := State.topJava?_eq_some.mp hg
  have hr' : (s.setVm vm').frames = .java g₀ :: r := hr
  rw [State.setTop_of_frames _ hr'] at hrest
  have e1 : ((((s.setTop g).pushFrame (.throwing a)).setVm vm').setFrames (.java { g with pc := pc, stack := [.ref a] } :: s.frames.tail)) = (s.setVm vm').setFrames (.java { g with pc := pc, stack := [.ref a] } :: r) := by
    rw [State.pushFrame, State.setTop_of_frames _ hr, State.setFrames_setFrames, hr]
    show ((s.setFrames _).setVm vm').setFrames _ = _
    show ((s.setVm vm').setFrames _).setFrames _ = _
    rw [State.setFrames_setFrames]
    rfl
  rw [e1]
  exact hrest
section YX
variable {Δ : Ly} {G : Gm} {μ : Mi} {Qr : Option Value → Sg → Prop} {Qe : Nat → Sg → Prop} {k n : Nat} {σ : Sg} {pc : Nat} {lv : List (Nat × Value)}
theorem t_catch1 (cx : Cx Δ G μ) {x sp ep hp ct : Nat} {tl : List (Nat × Nat × Nat × Nat)} (hh : m_hh μ = (sp, ep, hp, ct) :: tl) (h1 : sp ≤ pc) (h2 : pc < ep) (h0 : ct ≠ 0) (w : Kw (.classLink (m_own μ) ct (xn x)))
    (h : ∀ a : Nat, (x = 0 → a = Δ.1 3) → (x = 1 → a = Δ.1 4) → Y Δ G μ Qr Qe k n σ hp lv [.ref a]) : Yt Δ G μ Qr Qe k n σ pc lv x := by
  intro H locs ls st' a hP hS hl hex T hT X
  obtain ⟨hx, hb, -, hlocks, hml, hown, hK, hhh, hR, -⟩ := cx
  obtain ⟨x1, x2, cell, hcell, hstat, hcls⟩ := id hex
  rw [hh] at hhh
  obtain ⟨x0, xt, hlist, hx0, -⟩ := List.map_eq_cons_iff.mp hhh
  cases hx0
  have hpl : (g_e G).platform.magicAccessors = ({} : Platform).magicAccessors := by rw [X.admits.platform]
  obtain ⟨c', hc', hcl⟩ := Cond.classLink_spec hown (w.at (a := g_a G) hK.1) (g_e G).platform hpl
  cases hcls.symm.trans hc'
  obtain ⟨dk, _, _, kt, hd, _, _, _, _, hkt, _, hopen⟩ := hcl.here
  have hcl₀ := X.warmed.classLinks hcl
  have hW' : (g_s G).WarmedH (T.vm.noted (g_m G).cls x0.catchType (.cls cell.cls)) := X.warmed.noted hd hopen (State.rightAt_cls hcl)
  obtain ⟨kt', hkt', -⟩ := hW'.alike.2.2 _ _ hkt
  have hasg : (T.vm.noted (g_m G).cls x0.catchType (.cls cell.cls)).assignable cell.cls cell.cls = true := va_asg _ _
  obtain ⟨t, a1, b1⟩ := h a x1 x2 H locs ls hP hS hl (T.setVm (T.vm.noted (g_m G).cls x0.catchType (.cls cell.cls))) hT (X.noted hW')
  refine ⟨t, caughtTo (g := F0 (g_m G) pc ls st') X.here ?_ a1, b1⟩
  intro Q E d acts
  rw [W.findHandler_eq (meth := g_meth G) (code := g_c G) (by simpa [State.pushFrame, State.setFrames] using X.method') X.code, hlist,
    go_cold (c := cell.cls) (cell := cell) (vm' := T.vm.noted (g_m G).cls x0.catchType (.cls cell.cls)) (by simp [covers]; exact ⟨h1, h2⟩) h0
      (resolveClass_links (g_e G).toSetting hcl₀) (by rw [Stand.throwing_vm]; simp [Vm.noted]) (by rw [Stand.throwing_heap, hT]; exact hcell) (fun z q => by rw [q] at hstat; cases hstat) ⟨kt', hkt'⟩ ⟨kt', hkt'⟩, if_pos hasg]
theorem t_catch2 (cx : Cx Δ G μ) {x sp ep hp ct sp1 ep1 hp1 ct1 : Nat} {N0 : String} {tl : List (Nat × Nat × Nat × Nat)} (hh : m_hh μ = (sp, ep, hp, ct) :: (sp1, ep1, hp1, ct1) :: tl) (h1 : sp ≤ pc) (h2 : pc < ep) (h0 : ct ≠ 0) (w : Kw (.classLink (m_own μ) ct N0)) (hnc : va_Nc (xn x) N0 (g_s G)) (h3 : sp1 ≤ pc) (h4 : pc < ep1) (h5 : ct1 ≠ 0) (w1 : Kw (.classLink (m_own μ) ct1 (xn x)))
    (h : ∀ a : Nat, (x = 0 → a = Δ.1 3) → (x = 1 → a = Δ.1 4) → Y Δ G μ Qr Qe k n σ hp1 lv [.ref a]) : Yt Δ G μ Qr Qe k n σ pc lv x := by
  intro H locs ls st' a hP hS hl hex T hT X
  obtain ⟨hx, hb, -, hlocks, hml, hown, hK, hhh, hR, -⟩ := cx
  obtain ⟨x1, x2, cell, hcell, hstat, hcls⟩ := id hex
  rw [hh] at hhh
  obtain ⟨x0, xt, hlist, hx0, hxt⟩ := List.map_eq_cons_iff.mp hhh
  obtain ⟨y0, yt, hlist2, hy0, -⟩ := List.map_eq_cons_iff.mp hxt
  cases hx0
  cases hy0
  subst hlist2
  have hpl : (g_e G).platform.magicAccessors = ({} : Platform).magicAccessors := by rw [X.admits.platform]
  obtain ⟨c0, hc0, hcl0⟩ := Cond.classLink_spec hown (w.at (a := g_a G) hK.1) (g_e G).platform hpl
  obtain ⟨cA, cB, n1, n2, n3⟩ := hnc
  cases hcls.symm.trans n1
  cases hc0.symm.trans n2
  obtain ⟨dk, _, _, kt0, hd, _, _, _, _, hkt0, _, hopen⟩ := hcl0.here
  have hcl0₀ := X.warmed.classLinks hcl0
  have hW0 : (g_s G).WarmedH (T.vm.noted (g_m G).cls x0.catchType (.cls c0)) := X.warmed.noted hd hopen (State.rightAt_cls hcl0)
  have X0 := X.noted hW0
  obtain ⟨c', hc', hcl⟩ := Cond.classLink_spec hown (w1.at (a := g_a G) hK.1) (g_e G).platform hpl
  cases hcls.symm.trans hc'
  obtain ⟨dk1, _, _, kt, hd1, _, _, _, _, hkt, _, hopen1⟩ := hcl.here
  have hcl₀ := X0.warmed.classLinks hcl
  have hW' : (g_s G).WarmedH ((T.vm.noted (g_m G).cls x0.catchType (.cls c0)).noted (g_m G).cls y0.catchType (.cls cell.cls)) := X0.warmed.noted hd1 hopen1 (State.rightAt_cls hcl)
  obtain ⟨kt0', hkt0', -⟩ := hW0.alike.2.2 _ _ hkt0
  obtain ⟨ktc, hktc, -⟩ := hW0.alike.2.2 _ _ hkt
  obtain ⟨kt', hkt', -⟩ := hW'.alike.2.2 _ _ hkt
  have hno : ¬ (T.vm.noted (g_m G).cls x0.catchType (.cls c0)).assignable cell.cls c0 = true := by
    rw [hW0.alike.assignable, n3]
    decide
  have hasg : ((T.vm.noted (g_m G).cls x0.catchType (.cls c0)).noted (g_m G).cls y0.catchType (.cls cell.cls)).assignable cell.cls cell.cls = true := va_asg _ _
  obtain ⟨t, a1, b1⟩ := h a x1 x2 H locs ls hP hS hl (T.setVm ((T.vm.noted (g_m G).cls x0.catchType (.cls c0)).noted (g_m G).cls y0.catchType (.cls cell.cls))) hT (X.noted hW')
  refine ⟨t, caughtTo (g := F0 (g_m G) pc ls st') X.here ?_ a1, b1⟩
  intro Q E d acts
  rw [W.findHandler_eq (meth := g_meth G) (code := g_c G) (by simpa [State.pushFrame, State.setFrames] using X.method') X.code, hlist,
    go_cold (c := c0) (cell := cell) (vm' := T.vm.noted (g_m G).cls x0.catchType (.cls c0)) (by simp [covers]; exact ⟨h1, h2⟩) h0
      (resolveClass_links (g_e G).toSetting hcl0₀) (by rw [Stand.throwing_vm]; simp [Vm.noted]) (by rw [Stand.throwing_heap, hT]; exact hcell) (fun z q => by rw [q] at hstat; cases hstat) ⟨ktc, hktc⟩ ⟨kt0', hkt0'⟩, if_neg hno,
    go_cold (c := cell.cls) (cell := cell) (vm' := (T.vm.noted (g_m G).cls x0.catchType (.cls c0)).noted (g_m G).cls y0.catchType (.cls cell.cls)) (by simp [covers]; exact ⟨h3, h4⟩) h5
      (resolveClass_links (g_e G).toSetting hcl₀) (by simp [Vm.noted]) (by show ((T.setTop (F0 (g_m G) pc ls st')).pushFrame (.throwing a)).heap[a]? = _; rw [Stand.throwing_heap, hT]; exact hcell) (fun z q => by rw [q] at hstat; cases hstat) ⟨kt', hkt'⟩ ⟨kt', hkt'⟩, if_pos hasg]
  rfl
end YX

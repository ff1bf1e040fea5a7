/-! the words of the tables at any state: those that stay -/
def gw : Cond → Bool
  | .fieldLinkNest .. => true
  | w => goodWord w || (w.onTables && w.keepsFace)
theorem gw_of {w : Cond} (h : goodWord w = true) : gw w = true := by
  cases w <;> first | rfl | (simp only [gw, h, Bool.true_or])
theorem gw_at {w : Cond} (hg : gw w = true) {s U : State} {a a' : Array Value} (hW : s.WarmedH U.vm) (h : w.before a s = true) : w.before a' U = true := by
  cases w with
  | fieldLinkNest => exact va_Nw.use rfl (va_Nw.warmF hW (va_Nw.of rfl h))
  | _ =>
    simp only [gw, Bool.or_eq_true, Bool.and_eq_true] at hg
    rcases hg with hg | hg
    · exact word_at hW (good_of_word hg) h
    · exact va_tabs (A := a) (u := s.setVm U.vm) hg.1 rfl (Cond.before_shiftedFace (State.Shifted.of_warmed hW) _ hg.2 h)
def Wk (U : State) : Prop := ∀ w ∈ lw_tbl, gw w = true → w.before #[] U = true
theorem Wk.moved {s U : State} (h : Wk s) (hW : s.WarmedH U.vm) : Wk U := fun w hw hg => gw_at hg hW (h w hw hg)
theorem Wk.at {s : State} (h : Wk s) {w : Cond} (hw : w ∈ lw_tbl) (hg : gw w = true) (a : Array Value) : w.before a s = true := gw_at hg (State.WarmedH.refl s) (h w hw hg)
theorem Wk.of {s : State} {a : Array Value} (h : ∀ w ∈ lw_tbl, w.before a s = true) : Wk s := fun w hw hg => gw_at hg (State.WarmedH.refl s) (h w hw)
/-- a word of the tables that stays -/
def Kw (w : Cond) : Prop := w ∈ lw_tbl ∧ gw w = true
theorem Kw.at {w : Cond} (h : Kw w) {s : State} (hk : Wk s) {a : Array Value} : w.before a s = true := hk.at h.1 h.2 a
/-! the world -/
def ws (Δ : Ly) (σ : Sg) : va_W := (List.range 88).map fun k => (Δ.1 k, ent Δ k (σ k))
abbrev tys (Δ : Ly) : List (ClassId × FieldType) := [(Δ.2.2.1 0, .int), (Δ.2.2.1 1, .byte), (Δ.2.2.1 2, .boolean), (Δ.2.2.1 3, .long), (Δ.2.2.1 4, .array .int)]
def Wd (Δ : Ly) (σ : Sg) (H : Heap) : Prop := va_P Δ.2.1 classes (ws Δ σ) H
def Dj (Δ : Ly) : Prop := ∀ i j : Nat, i < 88 → j < 88 → Δ.1 i = Δ.1 j → i = j
def Ar (Δ : Ly) (sz : Nat) : Nat → Prop := fun q => (∃ k : Nat, k < 88 ∧ q = Δ.1 k) ∨ sz ≤ q
theorem ws_get {Δ : Ly} {σ : Sg} {k : Nat} (h : k < 88) : (ws Δ σ)[k]? = some (Δ.1 k, ent Δ k (σ k)) := by
  simp [ws, h]
theorem ws_inv {Δ : Ly} {σ : Sg} {k : Nat} {q : Nat × va_E} (h : (ws Δ σ)[k]? = some q) : k < 88 ∧ q = (Δ.1 k, ent Δ k (σ k)) := by
  have hk : k < 88 := by
    have := (List.getElem?_eq_some_iff.mp h).1
    simpa [ws] using this
  rw [ws_get hk] at h
  exact ⟨hk, (Option.some.inj h).symm⟩
def upc (σ : Sg) (k : Nat) (f : Nat → Int32) : Sg := fun a => if a = k then f else σ a
def up (σ : Sg) (k j : Nat) (v : Int32) : Sg := upc σ k (upd (σ k) j v)
theorem ws_set {Δ : Ly} {σ : Sg} {k : Nat} (h : k < 88) (f : Nat → Int32) : (ws Δ σ).set k (Δ.1 k, ent Δ k f) = ws Δ (upc σ k f) := by
  apply List.ext_getElem?
  intro i
  by_cases hi : i < 88
  · rw [ws_get hi]
    by_cases e : k = i
    · subst e
      rw [List.getElem?_set_self (by simpa [ws] using h)]
      simp [upc]
    · rw [List.getElem?_set_ne e, ws_get hi]
      simp [upc, Ne.symm e]
  · rw [List.getElem?_eq_none (by simp [ws]; omega), List.getElem?_eq_none (by simp [ws]; omega)]
theorem ws_D {Δ : Ly} (hd : Dj Δ) (σ : Sg) (sz : Nat) : va_D (Ar Δ sz) (ws Δ σ) := by
  refine ⟨fun i j p q hi hj e => ?_, fun k q hk => ?_⟩
  · obtain ⟨h1, rfl⟩ := ws_inv hi
    obtain ⟨h2, rfl⟩ := ws_inv hj
    exact hd i j h1 h2 e
  · obtain ⟨h1, rfl⟩ := ws_inv hk
    exact Or.inl ⟨k, h1, rfl⟩
theorem Wd.kept {Δ : Ly} {σ : Sg} {H H1 : Heap} (h : Wd Δ σ H) (hq : ∀ k : Nat, k < 88 → H1[Δ.1 k]? = H[Δ.1 k]?) : Wd Δ σ H1 := by
  refine va_P.kept h fun k q hk => ?_
  obtain ⟨h1, rfl⟩ := ws_inv hk
  exact hq k h1
theorem Wd.lt {Δ : Ly} {σ : Sg} {H : Heap} (h : Wd Δ σ H) {k : Nat} (hk : k < 88) : Δ.1 k < H.size := (h k _ (ws_get hk)).lt
/-- a static field's place, which stays -/
def Ls (C n d : String) (A : Nat → Prop) (U : State) (H : Heap) : Prop := ∃ (c : ClassId) (k : Class) (i : Nat) (f : Field) (a : Nat) (cell : Cell), U.vm.findClass C = some c ∧ U.fieldFound? C n d = some (c, k, i, f) ∧ f.isStatic = true ∧ k.statics = some a ∧ H[a]? = some cell ∧ cell.vm.isStatics = true ∧ cell.cls = c ∧ f.slot < cell.slots.size ∧ k.staticTypes[f.slot]? = some f.type ∧ ¬ A a
theorem Ls.moved {C n d : String} {A : Nat → Prop} {u U : State} {H : Heap} (hvm : u.vm.Alike U.vm) (h : Ls C n d A u H) : Ls C n d A U H := by
  obtain ⟨c, k, i, f, a, cell, h0, h1, h2, h3, h4, h5, h6, h7, h8, h9⟩ := h
  obtain ⟨k', hi', he⟩ := State.fieldFound?_setVm hvm h1
  exact ⟨c, k', i, f, a, cell, by rw [hvm.findClass]; exact h0, hi', h2, by rw [he]; exact h3, h4, h5, h6, h7, by rw [he]; exact h8, h9⟩
theorem Ls.kept {C n d : String} {A : Nat → Prop} {U : State} {H H1 : Heap} (h : Ls C n d A U H) (hq : ∀ a : Nat, a < H.size → ¬ A a → H1[a]? = H[a]?) : Ls C n d A U H1 := by
  obtain ⟨c, k, i, f, a, cell, h0, h1, h2, h3, h4, h5, h6, h7, h8, h9⟩ := h
  exact ⟨c, k, i, f, a, cell, h0, h1, h2, h3, by rw [hq a (Array.getElem?_eq_some_iff.mp h4).1 h9]; exact h4, h5, h6, h7, h8, h9⟩
theorem Ls.narrow {C n d : String} {A B : Nat → Prop} {U : State} {H : Heap} (h : Ls C n d A U H) (hAB : ∀ q, B q → A q) : Ls C n d B U H := by
  obtain ⟨c, k, i, f, a, cell, h0, h1, h2, h3, h4, h5, h6, h7, h8, h9⟩ := h
  exact ⟨c, k, i, f, a, cell, h0, h1, h2, h3, h4, h5, h6, h7, h8, fun z => h9 (hAB a z)⟩
theorem Ls.of {C n d : String} {A : Nat → Prop} {s : State} {args : Array Value} (h : (Cond.laysStatic C n d).before args s = true) (hA : ∀ a : Nat, a < s.heap.size → ¬ A a) : Ls C n d A s s.heap := by
  obtain ⟨c, k, i, f, a, cell, hc, hi, hst, ha, hcell, hs, hcls, hlt, hty⟩ := Cond.laysStatic_spec h
  exact ⟨c, k, i, f, a, cell, hc, hi, hst, ha, hcell, hs, hcls, hlt, hty, hA a (Array.getElem?_eq_some_iff.mp hcell).1⟩
theorem Ls.use {C n d : String} {A : Nat → Prop} {s : State} {args : Array Value} (h : Ls C n d A s s.heap) : (Cond.laysStatic C n d).before args s = true := by
  obtain ⟨c, k, i, f, a, cell, hc, hi, hst, ha, hcell, hs, hcls, hlt, hty, -⟩ := h
  exact Cond.laysStatic_of hc hi hst ha hcell hs hcls hlt hty
/-- what stands beside the world and stays: the two String constants, which classes are no others -/
def Old (Δ : Ly) (U : State) : Prop := vk_S 2 [8, 3] [[43, 45, 42, 47, 37, 38, 124, 94], [61, 35, 60]] Δ.2.2.2.1 Δ.2.2.2.2 (Ar Δ U.heap.size) U U.heap ∧ vk_R "GuardedMoves" 135 "+-*/%&|^" (Δ.2.2.2.1 0) U ∧ vk_R "GuardedMoves" 146 "=#<" (Δ.2.2.2.1 1) U ∧ (∃ v : Int32, v = 1 ∧ va_Z "java/lang/String" "COMPACT_STRINGS" "Z" (.int v) (Ar Δ U.heap.size) U U.heap) ∧ va_Nc "java/lang/IllegalStateException" "java/lang/IllegalArgumentException" U ∧ va_Nc "java/lang/IllegalArgumentException" "java/lang/IndexOutOfBoundsException" U ∧ va_Zq "java/lang/Throwable" "UNASSIGNED_STACK" "[Ljava/lang/StackTraceElement;" (Ar Δ U.heap.size) U U.heap ∧ va_Zq "java/lang/Throwable" "SUPPRESSED_SENTINEL" "Ljava/util/List;" (Ar Δ U.heap.size) U U.heap ∧ Ls "java/lang/Throwable" "UNASSIGNED_STACK" "[Ljava/lang/StackTraceElement;" (Ar Δ U.heap.size) U U.heap ∧ Ls "java/lang/Throwable" "SUPPRESSED_SENTINEL" "Ljava/util/List;" (Ar Δ U.heap.size) U U.heap
/-- all that a method knows of the tables and of the world's shape -/
def Kx (Δ : Ly) (U : State) : Prop := Wk U ∧ va_K Δ.2.1 classes (tys Δ) U ∧ Dj Δ ∧ Old Δ U
theorem Ar.mono {Δ : Ly} {a b : Nat} (h : a ≤ b) {q : Nat} (hq : Ar Δ b q) : Ar Δ a q := by
  rcases hq with h1 | h1
  · exact Or.inl h1
  · exact Or.inr (Nat.le_trans h h1)
theorem Old.go {Δ : Ly} {s U : State} (h : Old Δ s) (hW : s.WarmedH U.vm) {H : Heap} (hU : U.heap = H) {locs : List Loc} (hS : va_S (Ar Δ s.heap.size) s.heap H locs) : Old Δ U := by
  subst hU
  obtain ⟨h1, h2, h3, ⟨v, hv, h4⟩, h5, h6, h7, h8, h9, h10⟩ := h
  have hm : ∀ q, Ar Δ U.heap.size q → Ar Δ s.heap.size q := fun q hq => Ar.mono hS.1 hq
  refine ⟨((h1.moved hW.alike).kept hS.2.1).narrow hm, h2.warm hW, h3.warm hW, ⟨v, hv, ?_⟩, h5.moved hW.alike, h6.moved hW.alike, ((h7.moved hW.alike).kept hS.2.1).narrow hm, ((h8.moved hW.alike).kept hS.2.1).narrow hm, ((h9.moved hW.alike).kept hS.2.1).narrow hm, ((h10.moved hW.alike).kept hS.2.1).narrow hm⟩
  exact ((h4.moved hW.alike).kept hS.2.1).narrow hm
theorem Kx.go {Δ : Ly} {s U : State} (h : Kx Δ s) (hW : s.WarmedH U.vm) {H : Heap} (hU : U.heap = H) {locs : List Loc} (hS : va_S (Ar Δ s.heap.size) s.heap H locs) : Kx Δ U :=
  ⟨h.1.moved hW, h.2.1.moved hW.alike, h.2.2.1, h.2.2.2.go hW hU hS⟩
/-! a method's own numbers: class, bytes, locals, handlers, answer's type, frames, words, cells, slots, name -/
abbrev Mi : Type := String × ByteArray × Nat × List (Nat × Nat × Nat × Nat) × Option FieldType × Nat × Nat × Nat × Nat × MethodName
def m_own (μ : Mi) : String := μ.1
def m_cc (μ : Mi) : ByteArray := μ.2.1
def m_nL (μ : Mi) : Nat := μ.2.2.1
def m_hh (μ : Mi) : List (Nat × Nat × Nat × Nat) := μ.2.2.2.1
def m_ret (μ : Mi) : Option FieldType := μ.2.2.2.2.1
def m_fr (μ : Mi) : Nat := μ.2.2.2.2.2.1
def m_lo (μ : Mi) : Nat := μ.2.2.2.2.2.2.1
def m_mc (μ : Mi) : Nat := μ.2.2.2.2.2.2.2.1
def m_ms (μ : Mi) : Nat := μ.2.2.2.2.2.2.2.2.1
def m_y (μ : Mi) : MethodName := μ.2.2.2.2.2.2.2.2.2
def m_w (μ : Mi) : Cond := match m_hh μ with
  | [] => .code (m_y μ) (m_cc μ) (m_nL μ) (m_ret μ)
  | h :: t => .codeWith (m_y μ) (m_cc μ) (m_nL μ) (m_ret μ) (h :: t)
def m_rm (μ : Mi) : Room := { frames := m_fr μ, cells := m_mc μ, slots := m_ms μ, locals := m_lo μ }
theorem m_spec {μ : Mi} {a : Array Value} {s : State} (h : (m_w μ).before a s = true) : ∃ m meth c, s.methodNamed? (m_y μ) = some m ∧ s.vm.method? m = some meth ∧ meth.code = some c ∧ c.code = m_cc μ ∧ c.maxLocals = m_nL μ ∧
    c.exceptionTable.toList.map (fun h => (h.startPc, h.endPc, h.handlerPc, h.catchType)) = m_hh μ ∧ meth.sig.returnType = m_ret μ ∧ meth.locks = false ∧ parseMethodDescriptor (m_y μ).desc = some meth.sig := by
  unfold m_w at h
  cases hh : m_hh μ with
  | nil =>
    rw [hh] at h
    obtain ⟨m, hn⟩ := Cond.code_named h
    obtain ⟨meth, c, h1, h2, h3, h4, h5, h6, h7, h8⟩ := Cond.code_spec hn h
    refine ⟨m, meth, c, hn, h1, h2, h3, h4, ?_, h5, h6, h8⟩
    have h9 : c.exceptionTable = #[] := by simpa using h7
    rw [h9]; rfl
  | cons x t =>
    rw [hh] at h
    obtain ⟨m, meth, c, hn, h1, h2, h3, h4, h5, h6, h7, h8⟩ := Cond.codeWith_spec h
    exact ⟨m, meth, c, hn, h1, h2, h3, h4, h5, h6, h7, h8⟩
/-- which exception it is: 0 BadText, 1 Ended (the two that are made once), 2 .. those that are made -/
def xn (x : Nat) : String := match x with
  | 0 => "GuardedMoves$BadText"
  | 1 => "GuardedMoves$Ended"
  | 2 => "java/lang/IndexOutOfBoundsException"
  | 3 => "java/lang/IllegalArgumentException"
  | _ => "java/lang/IllegalStateException"
def Exc (Δ : Ly) (x a : Nat) (U : State) (H : Heap) : Prop := (x = 0 → a = Δ.1 3) ∧ (x = 1 → a = Δ.1 4) ∧ ∃ cell : Cell, H[a]? = some cell ∧ cell.vm.isStatics = false ∧ U.vm.findClass (xn x) = some cell.cls
theorem Exc.moved {Δ : Ly} {x a : Nat} {u U : State} {H : Heap} (hvm : u.vm.Alike U.vm) (h : Exc Δ x a u H) : Exc Δ x a U H := by
  obtain ⟨h1, h2, cell, h3, h4, h5⟩ := h
  exact ⟨h1, h2, cell, h3, h4, by rw [hvm.findClass]; exact h5⟩
def EndU (Δ : Ly) (Qr : Option Value → Sg → Prop) (Qe : Nat → Sg → Prop) (st : State) (o : Outcome) (t : State) : Prop :=
  ((∃ (v : Option Value) (σ : Sg), o = .returned v ∧ Qr v σ ∧ Wd Δ σ t.heap) ∨ ∃ (a x : Nat) (σ : Sg), o = .threw a ∧ Qe x σ ∧ Exc Δ x a t t.heap ∧ Wd Δ σ t.heap) ∧ va_F (Ar Δ st.heap.size) st t
def FrU (first t : State) (L : List Loc) (k n : Nat) : Prop := first.WarmedH t.vm ∧ first.sameButNew ({ t with vm := first.vm } : State) L k n
def MU (below : List Frame) (Δ : Ly) (Qr : Option Value → Sg → Prop) (Qe : Nat → Sg → Prop) (s : State) (mc ms : Nat) : State → Prop := fun t =>
  ∃ o, t.status = .running ∧ Ended t below o ∧ EndU Δ Qr Qe s o t ∧ ∃ L, FrU s t L mc ms ∧ ∀ q ∈ L, Ar Δ s.heap.size q.base
/-- A CONTRACT: from the world σ with the arguments as, the method returns with Qr or throws with Qe; what it knows of the tables is Kx -/
def Ct (l : Launch) (Δ : Ly) (μ : Mi) (as : List Value) (σ : Sg) (Qr : Option Value → Sg → Prop) (Qe : Nat → Sg → Prop) : Prop :=
  MetFree l (m_y μ) (headSpec [m_w μ] (m_rm μ)) (fun v U => v = as.toArray ∧ Kx Δ U ∧ Wd Δ σ U.heap) (fun _ _ _ _ _ => True)
    (fun _ st o t => EndU Δ Qr Qe st o t ∧ ∃ L, FrU st t L (m_mc μ) (m_ms μ) ∧ ∀ q ∈ L, Ar Δ st.heap.size q.base)
/-! the walk's own fixed things, as one tuple -/
abbrev Gm : Type := Program × Launch × Env × Room × State × MethodId × Array Value × List Frame × Method × Code
abbrev g_p (G : Gm) : Program := G.1
abbrev g_l (G : Gm) : Launch := G.2.1
abbrev g_e (G : Gm) : Env := G.2.2.1
abbrev g_R (G : Gm) : Room := G.2.2.2.1
abbrev g_s (G : Gm) : State := G.2.2.2.2.1
abbrev g_m (G : Gm) : MethodId := G.2.2.2.2.2.1
abbrev g_a (G : Gm) : Array Value := G.2.2.2.2.2.2.1
abbrev g_b (G : Gm) : List Frame := G.2.2.2.2.2.2.2.1
abbrev g_meth (G : Gm) : Method := G.2.2.2.2.2.2.2.2.1
abbrev g_c (G : Gm) : Code := G.2.2.2.2.2.2.2.2.2
abbrev Wg (G : Gm) (H : Heap) (locs : List Loc) (k n : Nat) (Q : State → Prop) (g : JFrame) : Prop := W (g_p G) (g_l G) (g_e G) (g_R G) (g_s G) (g_m G) (g_a G) (g_b G) (g_meth G) (g_c G) H locs k n Q g
abbrev Sg' (G : Gm) (T : State) (locs : List Loc) (k n : Nat) : Prop := Stand (g_p G) (g_l G) (g_e G) (g_R G) (g_s G) (g_m G) (g_a G) (g_b G) (g_meth G) (g_c G) T locs k n
/-- what stands fast while a method is walked -/
def Cx (Δ : Ly) (G : Gm) (μ : Mi) : Prop := (g_p G).tables.exec = Jvm.exec ∧ (g_c G).code = m_cc μ ∧ (g_meth G).sig.returnType = m_ret μ ∧ (g_meth G).locks = false ∧ (g_c G).maxLocals = m_nL μ ∧ (g_s G).vm.findClass (m_own μ) = some (g_m G).cls ∧ Kx Δ (g_s G) ∧ (g_c G).exceptionTable.toList.map (fun h => (h.startPc, h.endPc, h.handlerPc, h.catchType)) = m_hh μ ∧ g_R G = m_rm μ ∧ (g_l G).flags = flags0
/-- THE WALK: with the world σ, the locals lv, the operands st, at pc, it comes to an end that Qr, Qe allow -/
def Y (Δ : Ly) (G : Gm) (μ : Mi) (Qr : Option Value → Sg → Prop) (Qe : Nat → Sg → Prop) (k n : Nat) (σ : Sg) (pc : Nat) (lv : List (Nat × Value)) (st : List Value) : Prop :=
  ∀ (H : Heap) (locs : List Loc) (ls : Array Slot), Wd Δ σ H → va_S (Ar Δ (g_s G).heap.size) (g_s G).heap H locs → lv_has ls (m_nL μ) lv → Wg G H locs k n (MU (g_b G) Δ Qr Qe (g_s G) (m_mc μ) (m_ms μ)) (F0 (g_m G) pc ls st)
/-- the same, an exception of the kind x under way at pc -/
def Yt (Δ : Ly) (G : Gm) (μ : Mi) (Qr : Option Value → Sg → Prop) (Qe : Nat → Sg → Prop) (k n : Nat) (σ : Sg) (pc : Nat) (lv : List (Nat × Value)) (x : Nat) : Prop :=
  ∀ (H : Heap) (locs : List Loc) (ls : Array Slot) (st : List Value) (a : Nat), Wd Δ σ H → va_S (Ar Δ (g_s G).heap.size) (g_s G).heap H locs → lv_has ls (m_nL μ) lv → Exc Δ x a (g_s G) H →
    ∀ T : State, T.heap = H → Sg' G T locs k n → ∃ t, Steps (g_p G).tables (g_e G) (g_b G) ((T.setTop (F0 (g_m G) pc ls st)).pushFrame (.throwing a)) t ∧ MU (g_b G) Δ Qr Qe (g_s G) (m_mc μ) (m_ms μ) t
/-- a contract out of a walk -/
theorem Ct.of {l : Launch} {Δ : Ly} {μ : Mi} {as : List Value} {σ : Sg} {Qr : Option Value → Sg → Prop} {Qe : Nat → Sg → Prop} (hfl : l.flags = flags0) (hy : plainFor (m_y μ) = true) (hown : (m_y μ).cls = m_own μ) (hle : (lg_sl as).length ≤ m_nL μ)
    (h : ∀ G : Gm, g_l G = l → Cx Δ G μ → Y Δ G μ Qr Qe 0 0 σ 0 (lv_args 0 as) []) : Ct l Δ μ as σ Qr Qe := by
  refine MetFree.of_bodySF (code := m_cc μ) (maxLocals := m_nL μ) (ret := m_ret μ) hy ?_ ?_
  · intro args s m hp hn
    obtain ⟨m', meth, c, hn', h1, h2, h3, h4, -, h5, h6, -⟩ := m_spec (atoms_spec (ws := [m_w μ]) hp _ List.mem_cons_self)
    cases hn.symm.trans hn'
    exact ⟨meth, c, h1, h2, h3, h4, h5, h6⟩
  · intro p e s m args below meth c s₁ B hml hP _
    obtain ⟨rfl, hK, hWd⟩ := hP
    have hh0 : s₁.heap = s.heap := by rw [B.state]; rfl
    obtain ⟨m', meth', c', hn', q1, q2, q3, q4, q5, -⟩ := m_spec (atoms_spec (ws := [m_w μ]) B.pre _ List.mem_cons_self)
    cases B.named.symm.trans hn'
    cases B.method.symm.trans q1
    have X : Stand p l e (headSpec [m_w μ] (m_rm μ)).room s m as.toArray below meth c s₁ [] 0 0 := Stand.of_body B
    cases X.code.symm.trans q2
    have hw := h (p, l, e, m_rm μ, s, m, as.toArray, below, meth, c) rfl ⟨B.exec, B.bytes, B.returns, B.notSynchronized, hml, hown ▸ findClass_of_methodNamed B.named, hK, q5, rfl, hfl⟩
    have hl := lv_entry as (n := m_nL μ) hle
    obtain ⟨t, a1, o, b1, b2, b3⟩ := hw s.heap [] _ hWd va_S.rf hl s₁ hh0 X
    rw [← lg_entry_eq] at a1
    exact ⟨t, o, a1, b1, b2, ⟨b3.1, b3.2⟩⟩
/-- a return -/
theorem y_end {Δ : Ly} {G : Gm} {μ : Mi} {Qr : Option Value → Sg → Prop} {Qe : Nat → Sg → Prop} {k n : Nat} {σ : Sg} {H : Heap} {locs : List Loc} {v : Option Value} (hk : k ≤ m_mc μ) (hn : n ≤ m_ms μ) (hq : Qr v σ) (hP : Wd Δ σ H) (hS : va_S (Ar Δ (g_s G).heap.size) (g_s G).heap H locs)
    {t : State} (hrun : t.status = .running) (he : Ended t (g_b G) (.returned v)) (hH : t.heap = H) (hW : (g_s G).WarmedH t.vm) (hf : (g_s G).sameButNew ({ t with vm := (g_s G).vm } : State) locs k n) : MU (g_b G) Δ Qr Qe (g_s G) (m_mc μ) (m_ms μ) t :=
  ⟨.returned v, hrun, he, ⟨Or.inl ⟨v, σ, rfl, hq, by rw [hH]; exact hP⟩, hS.F hH⟩, locs, ⟨hW, hf.mono hk hn⟩, hS.2.2⟩
section YR
variable {Δ : Ly} {G : Gm} {μ : Mi} {Qr : Option Value → Sg → Prop} {Qe : Nat → Sg → Prop} {k n : Nat} {σ : Sg} {pc : Nat} {lv : List (Nat × Value)} {st : List Value}
theorem y_ireturn (cx : Cx Δ G μ) {v : Int32} (hr : m_ret μ = some .int) (d : decode (m_cc μ) pc = .ok (.ireturn, 1)) (hk : k ≤ m_mc μ) (hn : n ≤ m_ms μ) (hq : Qr (some (.int v)) σ) : Y Δ G μ Qr Qe k n σ pc lv (.int v :: st) := by
  intro H locs ls hP hS hl T hT X
  have hlocks : (g_meth G).locks = false := cx.2.2.2.1
  have hb := cx.2.1
  have hx := cx.1
  have hr2 : (g_meth G).sig.returnType = some .int := cx.2.2.1.trans hr
  obtain ⟨fs, hret, hrun, hended, hW, hframe⟩ := X.leave (v := some (.int v)) (fun h => by rw [hr2] at h; cases h)
  have hmeth' : T.vm.method? (g_m G) = some (g_meth G) := X.method'
  refine ⟨T.setFrames fs, ?_, y_end hk hn hq hP hS hrun hended hT hW hframe⟩
  jvm_step X.here [X.here.top, hx, hb, d, hmeth', hr2, narrow]
  (try refine ⟨rfl, ?_⟩); (try refine ⟨rfl, ?_⟩)
  first | (intro acts; rw [hret _ acts rfl rfl rfl]) | rw [hret _ _ rfl rfl rfl]
  exact Steps.refl _
theorem y_zreturn (cx : Cx Δ G μ) {v : Int32} (hr : m_ret μ = some .boolean) (hv : narrow .boolean (.int v) = .int v) (d : decode (m_cc μ) pc = .ok (.ireturn, 1)) (hk : k ≤ m_mc μ) (hn : n ≤ m_ms μ) (hq : Qr (some (.int v)) σ) : Y Δ G μ Qr Qe k n σ pc lv (.int v :: st) := by
  intro H locs ls hP hS hl T hT X
  have hlocks : (g_meth G).locks = false := cx.2.2.2.1
  have hb := cx.2.1
  have hx := cx.1
  have hr2 : (g_meth G).sig.returnType = some .boolean := cx.2.2.1.trans hr
  obtain ⟨fs, hret, hrun, hended, hW, hframe⟩ := X.leave (v := some (.int v)) (fun h => by rw [hr2] at h; cases h)
  have hmeth' : T.vm.method? (g_m G) = some (g_meth G) := X.method'
  refine ⟨T.setFrames fs, ?_, y_end hk hn hq hP hS hrun hended hT hW hframe⟩
  jvm_step X.here [X.here.top, hx, hb, d, hmeth', hr2, hv]
  (try refine ⟨rfl, ?_⟩); (try refine ⟨rfl, ?_⟩)
  first | (intro acts; rw [hret _ acts rfl rfl rfl]) | rw [hret _ _ rfl rfl rfl]
  exact Steps.refl _
theorem y_return (cx : Cx Δ G μ) (hr : m_ret μ = none) (d : decode (m_cc μ) pc = .ok (.return_, 1)) (hk : k ≤ m_mc μ) (hn : n ≤ m_ms μ) (hq : Qr none σ) : Y Δ G μ Qr Qe k n σ pc lv st := by
  intro H locs ls hP hS hl T hT X
  have hlocks : (g_meth G).locks = false := cx.2.2.2.1
  have hb := cx.2.1
  have hx := cx.1
  have hr2 : (g_meth G).sig.returnType = none := cx.2.2.1.trans hr
  obtain ⟨fs, hret, hrun, hended, hW, hframe⟩ := X.leave (v := none) (fun _ => rfl)
  have hmeth' : T.vm.method? (g_m G) = some (g_meth G) := X.method'
  refine ⟨T.setFrames fs, ?_, y_end hk hn hq hP hS hrun hended hT hW hframe⟩
  jvm_step X.here [X.here.top, hx, hb, d, hmeth', hr2]
  (try refine ⟨rfl, ?_⟩); (try refine ⟨rfl, ?_⟩)
  first | (intro acts; rw [hret _ acts rfl rfl rfl]) | rw [hret _ _ rfl rfl rfl]
  exact Steps.refl _
theorem y_lreturn (cx : Cx Δ G μ) {v : Int64} (hr : m_ret μ = some .long) (d : decode (m_cc μ) pc = .ok (.lreturn, 1)) (hk : k ≤ m_mc μ) (hn : n ≤ m_ms μ) (hq : Qr (some (.long v)) σ) : Y Δ G μ Qr Qe k n σ pc lv (.long v :: st) := by
  intro H locs ls hP hS hl T hT X
  have hlocks : (g_meth G).locks = false := cx.2.2.2.1
  have hb := cx.2.1
  have hx := cx.1
  have hr2 : (g_meth G).sig.returnType = some .long := cx.2.2.1.trans hr
  obtain ⟨fs, hret, hrun, hended, hW, hframe⟩ := X.leave (v := some (.long v)) (fun h => by rw [hr2] at h; cases h)
  have hmeth' : T.vm.method? (g_m G) = some (g_meth G) := X.method'
  refine ⟨T.setFrames fs, ?_, y_end hk hn hq hP hS hrun hended hT hW hframe⟩
  jvm_step X.here [X.here.top, hx, hb, d, hmeth', hr2, narrow]
  (try refine ⟨rfl, ?_⟩); (try refine ⟨rfl, ?_⟩)
  first | (intro acts; rw [hret _ acts rfl rfl rfl]) | rw [hret _ _ rfl rfl rfl]
  exact Steps.refl _
theorem y_areturn (cx : Cx Δ G μ) {a : Nat} {C : String} (hr : m_ret μ = some (.object C)) (d : decode (m_cc μ) pc = .ok (.areturn, 1)) (hk : k ≤ m_mc μ) (hn : n ≤ m_ms μ) (hq : Qr (some (.ref a)) σ) : Y Δ G μ Qr Qe k n σ pc lv (.ref a :: st) := by
  intro H locs ls hP hS hl T hT X
  have hlocks : (g_meth G).locks = false := cx.2.2.2.1
  have hb := cx.2.1
  have hx := cx.1
  have hr2 : (g_meth G).sig.returnType = some (.object C) := cx.2.2.1.trans hr
  obtain ⟨fs, hret, hrun, hended, hW, hframe⟩ := X.leave (v := some (.ref a)) (fun h => by rw [hr2] at h; cases h)
  have hmeth' : T.vm.method? (g_m G) = some (g_meth G) := X.method'
  refine ⟨T.setFrames fs, ?_, y_end hk hn hq hP hS hrun hended hT hW hframe⟩
  jvm_step X.here [X.here.top, hx, hb, d, hmeth', hr2]
  (try refine ⟨rfl, ?_⟩); (try refine ⟨rfl, ?_⟩)
  first | (intro acts; rw [hret _ acts rfl rfl rfl]) | rw [hret _ _ rfl rfl rfl]
  exact Steps.refl _
end YR

/-! the constructors: a world that grows, as a list of cells -/
abbrev tysc (cs : Nat → ClassId) : List (ClassId × FieldType) := [(cs 0, .int), (cs 1, .byte), (cs 2, .boolean), (cs 3, .long), (cs 4, .array .int)]
/-- the class of int tables -/
def Zm (cs : Nat → ClassId) (U : State) : Prop := ∃ (kT kI : Class) (ccI : ClassId), U.vm.findClass "[[I" = some (cs 4) ∧ U.vm.classes[cs 4]? = some kT ∧ kT.kind = .array (cs 0) (.array .int) ∧ U.vm.classes[cs 0]? = some kI ∧ kI.kind = .array ccI .int
theorem Zm.moved {cs : Nat → ClassId} {u U : State} (hvm : u.vm.Alike U.vm) (h : Zm cs u) : Zm cs U := by
  obtain ⟨kT, kI, cc, h1, h2, h3, h4, h5⟩ := h
  obtain ⟨k1, hk1, e1⟩ := hvm.2.2 _ _ h2
  obtain ⟨k2, hk2, e2⟩ := hvm.2.2 _ _ h4
  exact ⟨k1, k2, cc, by rw [hvm.findClass]; exact h1, hk1, by rw [e1]; exact h3, hk2, by rw [e2]; exact h5⟩
def Zk (D : va_G) (cs : Nat → ClassId) (B0 : Nat) (U : State) : Prop := Wk U ∧ va_K D classes (tysc cs) U ∧ Zm cs U ∧ va_Zq "java/lang/Throwable" "UNASSIGNED_STACK" "[Ljava/lang/StackTraceElement;" (fun q => B0 ≤ q) U U.heap ∧ va_Zq "java/lang/Throwable" "SUPPRESSED_SENTINEL" "Ljava/util/List;" (fun q => B0 ≤ q) U U.heap ∧ B0 ≤ U.heap.size ∧ (Cond.methodLinkNest "GuardedMoves" 369 ⟨"GuardedMoves$Text", "<init>", "()V"⟩ "GuardedMoves").before #[] U = true
theorem Zk.go {D : va_G} {cs : Nat → ClassId} {B0 : Nat} {s U : State} (h : Zk D cs B0 s) (hW : s.WarmedH U.vm) (hz : s.heap.size ≤ U.heap.size) (hq : ∀ q, q < s.heap.size → ¬ B0 ≤ q → U.heap[q]? = s.heap[q]?) : Zk D cs B0 U :=
  ⟨h.1.moved hW, h.2.1.moved hW.alike, h.2.2.1.moved hW.alike, (h.2.2.2.1.moved hW.alike).kept hq, (h.2.2.2.2.1.moved hW.alike).kept hq, Nat.le_trans h.2.2.2.2.2.1 hz, va_Nw.warmM hW h.2.2.2.2.2.2⟩
abbrev zQ (D : va_G) (w0 : va_W) (post : (Nat → Nat) → va_W) (sz : Nat) : Array Value → State → Outcome → State → Prop := va_Qv (fun _ : Nat → Nat => True) (fun q t => va_P D classes (post q) t.heap ∧ va_D (va_A w0 sz) (post q)) (va_A w0 sz)
abbrev zP (D : va_G) (cs : Nat → ClassId) (B0 : Nat) (as : List Value) (w0 : va_W) (sz : Nat) : Array Value → State → Prop := va_Pc as (fun U => U.heap.size = sz ∧ Zk D cs B0 U ∧ va_P D classes w0 U.heap ∧ va_D (fun q => B0 ≤ q) w0)
/-- a constructor's contract -/
def Zc (l : Launch) (D : va_G) (cs : Nat → ClassId) (B0 : Nat) (μ : Mi) (as : List Value) (w0 : va_W) (post : (Nat → Nat) → va_W) : Prop := ∀ sz : Nat, Met l (m_y μ) [m_w μ] (m_rm μ) (zP D cs B0 as w0 sz) (zQ D w0 post sz) (m_mc μ) (m_ms μ) (va_A w0 sz)
def Vx (D : va_G) (cs : Nat → ClassId) (B0 : Nat) (G : Gm) (μ : Mi) (w0 : va_W) : Prop := (g_p G).tables.exec = Jvm.exec ∧ (g_c G).code = m_cc μ ∧ (g_meth G).sig.returnType = m_ret μ ∧ (g_meth G).locks = false ∧ (g_c G).maxLocals = m_nL μ ∧ (g_s G).vm.findClass (m_own μ) = some (g_m G).cls ∧ Zk D cs B0 (g_s G) ∧ g_R G = m_rm μ ∧ (g_meth G).name = (m_y μ).name ∧ va_D (fun q => B0 ≤ q) w0
def V2 (D : va_G) (G : Gm) (μ : Mi) (w0 : va_W) (Z : State → Prop) (k n : Nat) (ws : va_W) (pc : Nat) (lv : List (Nat × Value)) (st : List Value) : Prop :=
  ∀ (H : Heap) (locs : List Loc) (ls : Array Slot), va_P D classes ws H → va_D (va_A w0 (g_s G).heap.size) ws → va_S (va_A w0 (g_s G).heap.size) (g_s G).heap H locs → lv_has ls (m_nL μ) lv → Wg G H locs k n Z (F0 (g_m G) pc ls st)
abbrev V (D : va_G) (G : Gm) (μ : Mi) (w0 : va_W) (post : (Nat → Nat) → va_W) (k n : Nat) (ws : va_W) (pc : Nat) (lv : List (Nat × Value)) (st : List Value) : Prop :=
  V2 D G μ w0 (MQ (g_b G) (zQ D w0 post (g_s G).heap.size) (g_a G) (g_s G) (m_mc μ) (m_ms μ) (va_A w0 (g_s G).heap.size)) k n ws pc lv st
theorem m_w_nil {μ : Mi} (hh : m_hh μ = []) : m_w μ = .code (m_y μ) (m_cc μ) (m_nL μ) (m_ret μ) := by
  unfold m_w
  rw [hh]
theorem Zc.of {l : Launch} {D : va_G} {cs : Nat → ClassId} {B0 : Nat} {μ : Mi} {as : List Value} {w0 : va_W} {post : (Nat → Nat) → va_W} (hy : plainName (m_y μ).cls = true) (hown : (m_y μ).cls = m_own μ) (hh : m_hh μ = []) (hle : (lg_sl as).length ≤ m_nL μ)
    (h : ∀ G : Gm, g_l G = l → Vx D cs B0 G μ w0 → V D G μ w0 post 0 0 w0 0 (lv_args 0 as) []) : Zc l D cs B0 μ as w0 post := by
  intro sz
  refine Met.ofW (cc := m_cc μ) (maxL := m_nL μ) (ret := m_ret μ) (ws' := []) hy (by rw [m_w_nil hh]) ?_
  intro p e s m args below meth c s₁ B hml hv
  obtain ⟨rfl, rfl, hK, hP, hD⟩ := hv
  have hw := h (p, l, e, m_rm μ, s, m, as.toArray, below, meth, c) rfl ⟨B.exec, B.bytes, B.returns, B.notSynchronized, hml, hown ▸ findClass_of_methodNamed B.named, hK, rfl, (name_of_methodNamed B.named B.method).1, hD⟩
  have hl := lv_entry as (n := m_nL μ) hle
  rw [lg_entry_eq]
  exact hw s.heap [] _ hP hD.self va_S.rf hl
section VR
variable {D : va_G} {cs : Nat → ClassId} {B0 : Nat} {G : Gm} {μ ν : Mi} {w0 ws : va_W} {post : (Nat → Nat) → va_W} {Z : State → Prop} {k n : Nat} {pc : Nat} {lv : List (Nat × Value)} {st : List Value}
theorem v_aload (vx : Vx D cs B0 G μ w0) {q : Fin 4} {i x : Nat} (d : decode (m_cc μ) pc = .ok (.aload_n q, 1)) (hi : (q : Nat) = i) (j : Nat) (hj : lv[j]? = some (i, .ref x)) (h : V2 D G μ w0 Z k n ws (pc + 1) lv (.ref x :: st)) : V2 D G μ w0 Z k n ws pc lv st := fun H locs ls hP hD hS hl => lv_aload_n vx.1 vx.2.1 d hi (lv_at hl j hj) (h H locs ls hP hD hS hl)
theorem v_aloadN (vx : Vx D cs B0 G μ w0) {q : Fin 4} {i : Nat} (d : decode (m_cc μ) pc = .ok (.aload_n q, 1)) (hi : (q : Nat) = i) (j : Nat) (hj : lv[j]? = some (i, .null)) (h : V2 D G μ w0 Z k n ws (pc + 1) lv (.null :: st)) : V2 D G μ w0 Z k n ws pc lv st := fun H locs ls hP hD hS hl => lv_aload_nN vx.1 vx.2.1 d hi (lv_at hl j hj) (h H locs ls hP hD hS hl)
theorem v_iload_n (vx : Vx D cs B0 G μ w0) {q : Fin 4} {i : Nat} {x : Int32} (d : decode (m_cc μ) pc = .ok (.iload_n q, 1)) (hi : (q : Nat) = i) (j : Nat) (hj : lv[j]? = some (i, .int x)) (h : V2 D G μ w0 Z k n ws (pc + 1) lv (.int x :: st)) : V2 D G μ w0 Z k n ws pc lv st := fun H locs ls hP hD hS hl => lv_iload_n vx.1 vx.2.1 d hi (lv_at hl j hj) (h H locs ls hP hD hS hl)
theorem v_iload (vx : Vx D cs B0 G μ w0) {i : Nat} {x : Int32} (d : decode (m_cc μ) pc = .ok (.iload i, 2)) (j : Nat) (hj : lv[j]? = some (i, .int x)) (h : V2 D G μ w0 Z k n ws (pc + 2) lv (.int x :: st)) : V2 D G μ w0 Z k n ws pc lv st := fun H locs ls hP hD hS hl => lv_iload vx.1 vx.2.1 d (lv_at hl j hj) (h H locs ls hP hD hS hl)
theorem v_iconst (vx : Vx D cs B0 G μ w0) {i : Int} {v : Int32} (hv : Int32.ofInt i = v) (d : decode (m_cc μ) pc = .ok (.iconst i, 1)) (h : V2 D G μ w0 Z k n ws (pc + 1) lv (.int v :: st)) : V2 D G μ w0 Z k n ws pc lv st := fun H locs ls hP hD hS hl => lv_iconst vx.1 vx.2.1 d hv (h H locs ls hP hD hS hl)
theorem v_bipush (vx : Vx D cs B0 G μ w0) {i : Int} {v : Int32} (hv : (Int8.ofInt i).toInt32 = v) (d : decode (m_cc μ) pc = .ok (.bipush i, 2)) (h : V2 D G μ w0 Z k n ws (pc + 2) lv (.int v :: st)) : V2 D G μ w0 Z k n ws pc lv st := fun H locs ls hP hD hS hl => lv_bipush vx.1 vx.2.1 d hv (h H locs ls hP hD hS hl)
theorem v_sipush (vx : Vx D cs B0 G μ w0) {i : Int} {v : Int32} (hv : (Int16.ofInt i).toInt32 = v) (d : decode (m_cc μ) pc = .ok (.sipush i, 3)) (h : V2 D G μ w0 Z k n ws (pc + 3) lv (.int v :: st)) : V2 D G μ w0 Z k n ws pc lv st := fun H locs ls hP hD hS hl => lv_sipush vx.1 vx.2.1 d hv (h H locs ls hP hD hS hl)
theorem v_dup (vx : Vx D cs B0 G μ w0) {v : Value} (hv : v.category = 1) (d : decode (m_cc μ) pc = .ok (.dup, 1)) (h : V2 D G μ w0 Z k n ws (pc + 1) lv (v :: v :: st)) : V2 D G μ w0 Z k n ws pc lv (v :: st) := fun H locs ls hP hD hS hl => lv_dup vx.1 vx.2.1 d hv (h H locs ls hP hD hS hl)
theorem v_null (vx : Vx D cs B0 G μ w0) (d : decode (m_cc μ) pc = .ok (.aconst_null, 1)) (h : V2 D G μ w0 Z k n ws (pc + 1) lv (.null :: st)) : V2 D G μ w0 Z k n ws pc lv st := fun H locs ls hP hD hS hl => lv_null vx.1 vx.2.1 d (h H locs ls hP hD hS hl)
theorem v_if0 (vx : Vx D cs B0 G μ w0) {off : Int} {tgt : Nat} (d : decode (m_cc μ) pc = .ok (.ifCond .eq off, 3)) (ht : (pc : Int) + off = (tgt : Int)) (h : V2 D G μ w0 Z k n ws tgt lv st) : V2 D G μ w0 Z k n ws pc lv (.int 0 :: st) := fun H locs ls hP hD hS hl => lv_if_eq vx.1 vx.2.1 d ht (fun _ => h H locs ls hP hD hS hl) (fun z => absurd rfl z)
theorem v_ifn0 (vx : Vx D cs B0 G μ w0) {off : Int} {tgt : Nat} (d : decode (m_cc μ) pc = .ok (.ifCond .ne off, 3)) (ht : (pc : Int) + off = (tgt : Int)) (h : V2 D G μ w0 Z k n ws (pc + 3) lv st) : V2 D G μ w0 Z k n ws pc lv (.int 0 :: st) := fun H locs ls hP hD hS hl => lv_if_ne vx.1 vx.2.1 d ht (fun z => absurd rfl z) (fun _ => h H locs ls hP hD hS hl)
theorem v_obj (vx : Vx D cs B0 G μ w0) {q a : Nat} (w : Kw (.methodLink (m_own μ) q Lib.objectInit)) (w1 : Kw (.instanceMethod Lib.objectInit)) (w2 : Kw (.code Lib.objectInit ⟨#[0xb1]⟩ 1 none)) (hst : (st.map fun v => v.category).sum + 12 ≤ m_lo μ) (hfr : 1 ≤ m_fr μ) (d : decode (m_cc μ) pc = .ok (.invokespecial q, 3)) (h : V2 D G μ w0 Z k n ws (pc + 3) lv st) : V2 D G μ w0 Z k n ws pc lv (.ref a :: st) := by
  intro H locs ls hP hD hS hl
  obtain ⟨hx, hb, -, -, hml, hown, hK, hR, -⟩ := vx
  exact W.objInit (g := F0 (g_m G) pc ls (.ref a :: st)) hx hb hown (w.at hK.1) (w1.at hK.1) (w2.at hK.1) rfl (by rw [hml]; exact hl.1) rfl d (by rw [hR]; exact hfr) (by rw [hR]; show 2 * 0 + _ + 12 ≤ m_lo μ; omega) (h H locs ls hP hD hS hl)
/-- a new array of ints, bytes, booleans or longs -/
theorem v_newa (vx : Vx D cs B0 G μ w0) {atype : ArrayType} {ty : FieldType} {t N : Nat} {a0 : vp_A} {c : Int32} (w : Kw (.arrayClass (newarray.typeOf atype))) (hty : newarray.typeOf atype = ty) (ht : (tysc cs)[t]? = some (cs t, ty)) (hp : ∀ cA : ClassId, va_RA (g_s G) cA ty → (g_s G).vm.findClass ("[" ++ ty.toString) = some cA) (ha : ∀ cA : ClassId, vp_cell cA a0 = arrV cA N (fun _ => defaultValue ty)) (hn : ¬ c < 0) (hN : c.toNatClampNeg = N) (hby : N * componentBytes ty ≤ 536870912) (hmc : k + 1 ≤ m_mc μ) (hms : n + N ≤ m_ms μ) (d : decode (m_cc μ) pc = .ok (.newarray atype, 2))
    (h : ∀ q : Nat, V2 D G μ w0 Z (k + 1) (n + N) (ws ++ [(q, .inl (cs t, a0))]) (pc + 2) lv (.ref q :: st)) : V2 D G μ w0 Z k n ws pc lv (.int c :: st) := by
  intro H locs ls hP hD hS hl
  obtain ⟨hx, hb, -, -, hml, hown, hK, hR, -⟩ := vx
  subst hty
  refine va_newaK hx hb (w.at hK.1) rfl d rfl hn hN hby (by rw [hR]; exact hmc) (by rw [hR]; exact hms) rfl fun H1 cA e1 z1 o1 hAr hNm => ?_
  have hcA : cA = cs t := Option.some.inj (hNm.symm.trans (hp _ (hK.2.1.2 t _ ht).2))
  subst hcA
  have hk : ∀ (k : Nat) (x : Nat × va_E), ws[k]? = some x → H1[x.1]? = H[x.1]? := fun k x hx => o1 x.1 ((hP k x hx).lt)
  refine h H.size H1 locs ls ((hP.kept hk).app (fun k x hx => ?_)) (hD.push hP rfl (Or.inr hS.1)) ⟨Nat.le_trans hS.1 (by omega), fun x h1 h2 => (o1 x (Nat.lt_of_lt_of_le h1 hS.1)).trans (hS.2.1 x h1 h2), hS.2.2⟩ hl
  have hz : k < 1 := (List.getElem?_eq_some_iff.mp hx).1
  rw [show k = 0 by omega] at hx
  cases hx
  show H1[H.size]? = some (vp_cell _ _)
  rw [ha]
  exact e1
theorem v_new (vx : Vx D cs B0 G μ w0) {ci i : Nat} {C : String} {T : u_T} {N : Nat} {ty0 : Nat → FieldType} {fs : List Value} (ck : CK ci C T N ty0) (w : Kw (.classLink (m_own μ) i C)) (w1 : Kw (.instantiable C N)) (w2 : Kw (.initialized C)) (hfs : ∀ j, j < N → defaultValue (ty0 j) = vp_V fs j) (hmc : k + 1 ≤ m_mc μ) (hms : n + N ≤ m_ms μ) (d : decode (m_cc μ) pc = .ok (.new i, 3))
    (h : ∀ q : Nat, V2 D G μ w0 Z (k + 1) (n + N) (ws ++ [(q, .inr (ci, fs))]) (pc + 3) lv (.ref q :: st)) : V2 D G μ w0 Z k n ws pc lv st := by
  intro H locs ls hP hD hS hl
  obtain ⟨hx, hb, -, -, hml, hown, hK, hR, -⟩ := vx
  exact va_new (D := D) (ci := ci) (C := C) (T := T) (N := N) hx hb (ck.words hK.1 (g_a G)) (fun _ h => h) ty0 ck.2.2.1 hown (w.at hK.1) (w1.at hK.1) (w2.at hK.1) hK.2.1 hP hD hS (fun _ z => Or.inr z) ck.1 hfs (by rw [hR]; exact hmc) (by rw [hR]; exact hms) d (fun q H1 hP1 hD1 hS1 => h q H1 locs ls hP1 hD1 hS1 hl)
theorem v_put (vx : Vx D cs B0 G μ w0) {ci j i q0 a : Nat} {C : String} {T : u_T} {N : Nat} {ty0 : Nat → FieldType} {fs : List Value} {ty : FieldType} {v : Value} {ws' : va_W} (ck : CK ci C T N ty0) (w : Kw (.fieldLink (m_own μ) i (T j).1 (T j).2.1 (T j).2.2.1)) (hj : j < N) (hfin : (T j).2.2.2 = false) (hd : parseFieldDescriptor (T j).2.2.1 = some ty) (hn : narrow ty v = v) (hfit : fits ty v = true) (hl0 : j < fs.length) (he : ws[q0]? = some (a, .inr (ci, fs))) (hw' : ws.set q0 (a, .inr (ci, fs.set j v)) = ws') (d : decode (m_cc μ) pc = .ok (.putfield i, 3))
    (h : V2 D G μ w0 Z k n ws' (pc + 3) lv st) : V2 D G μ w0 Z k n ws pc lv (v :: .ref a :: st) := by
  intro H locs ls hP hD hS hl
  obtain ⟨hx, hb, -, -, hml, hown, hK, hR, -⟩ := vx
  refine va_put (D := D) (ci := ci) (C := C) (T := T) (N := N) (ref := (T j).1) hx hb (ck.words hK.1 (g_a G)) (fun _ h => h) ty0 ck.2.2.1 ck.2.2.2 hown hK.2.1 hP hD hS q0 he ck.1 j hj (w.at hK.1) (fun _ h => h) hfin hd hn hfit hl0 d (fun H1 locs1 hP1 hD1 hS1 => ?_)
  rw [hw'] at hP1 hD1
  exact h H1 locs1 ls hP1 hD1 hS1 hl
theorem v_putF (vx : Vx D cs B0 G μ w0) {ci j i q0 a : Nat} {C : String} {T : u_T} {N : Nat} {ty0 : Nat → FieldType} {fs : List Value} {ty : FieldType} {v : Value} {ws' : va_W} (hin : (m_y μ).name = "<init>") (hdecl : (T j).1 = m_own μ) (ck : CK ci C T N ty0) (w : Kw (.fieldLink (m_own μ) i (T j).1 (T j).2.1 (T j).2.2.1)) (hj : j < N) (hfin : (T j).2.2.2 = true) (hd : parseFieldDescriptor (T j).2.2.1 = some ty) (hn : narrow ty v = v) (hfit : fits ty v = true) (hl0 : j < fs.length) (he : ws[q0]? = some (a, .inr (ci, fs))) (hw' : ws.set q0 (a, .inr (ci, fs.set j v)) = ws') (d : decode (m_cc μ) pc = .ok (.putfield i, 3))
    (h : V2 D G μ w0 Z k n ws' (pc + 3) lv st) : V2 D G μ w0 Z k n ws pc lv (v :: .ref a :: st) := by
  intro H locs ls hP hD hS hl
  obtain ⟨hx, hb, -, -, hml, hown, hK, hR, hnm, -⟩ := vx
  refine va_putF (D := D) (ci := ci) (C := C) (T := T) (N := N) (ref := (T j).1) hx hb (ck.words hK.1 (g_a G)) (fun _ h => h) ty0 ck.2.2.1 ck.2.2.2 hown hK.2.1 hP hD hS q0 he ck.1 j hj (w.at hK.1) (fun _ h => h) hfin (hnm.trans hin) hdecl hd hn hfit hl0 d (fun H1 locs1 hP1 hD1 hS1 => ?_)
  rw [hw'] at hP1 hD1
  exact h H1 locs1 ls hP1 hD1 hS1 hl
/-- a static that holds a reference or null -/
theorem v_gets (vx : Vx D cs B0 G μ w0) {i : Nat} {C nm ds : String} (w : Kw (.fieldLink (m_own μ) i C nm ds)) (hz : va_Zq C nm ds (fun q => B0 ≤ q) (g_s G) (g_s G).heap) (d : decode (m_cc μ) pc = .ok (.getstatic i, 3)) (h : ∀ r : Option Nat, V2 D G μ w0 Z k n ws (pc + 3) lv (va_rf r :: st)) : V2 D G μ w0 Z k n ws pc lv st := by
  intro H locs ls hP hD hS hl
  obtain ⟨hx, hb, -, -, hml, hown, hK, hR, hnm, hD0⟩ := vx
  have hA : ∀ q, va_A w0 (g_s G).heap.size q → B0 ≤ q := by
    intro q hq
    rcases hq with ⟨k, e, hq⟩ | hq
    · exact hD0.2 k _ hq
    · exact Nat.le_trans hK.2.2.2.2.2.1 hq
  rcases hz.narrow hA with hz | ⟨t, hz⟩
  · exact va_gets hx hb hz hS hown (w.at hK.1) (fun _ h => h) d (h none H locs ls hP hD hS hl)
  · exact va_gets hx hb hz hS hown (w.at hK.1) (fun _ h => h) d (h (some t) H locs ls hP hD hS hl)
theorem v_ret (vx : Vx D cs B0 G μ w0) (q : Nat → Nat) (hr : m_ret μ = none) (hq : ws = post q) (hk : k ≤ m_mc μ) (hn : n ≤ m_ms μ) (d : decode (m_cc μ) pc = .ok (.return_, 1)) : V D G μ w0 post k n ws pc lv [] := by
  intro H locs ls hP hD hS hl
  obtain ⟨hx, hb, hrt, hlocks, hml, hown, hK, hR, -⟩ := vx
  subst hq
  refine W.widen hk hn ?_
  exact W.vret hx hb (hrt.trans hr) (fun t ht hW => ⟨⟨q, rfl, trivial, by rw [ht]; exact hP, hD⟩, hS.F ht⟩) hS.2.2 d
/-- rows of ints under one array -/
theorem v_multi (vx : Vx D cs B0 G μ w0) {i N M : Nat} {c1 c2 : Int32} (w : Kw (.classLink (m_own μ) i "[[I")) (hn1 : ¬ c1 < 0) (hn2 : ¬ c2 < 0) (hN : c1.toNatClampNeg = N) (hM : c2.toNatClampNeg = M) (hb1 : N * 4 ≤ 536870912) (hb2 : M * 4 ≤ 536870912) (hmc : k + (1 + N) ≤ m_mc μ) (hms : n + (N + N * M) ≤ m_ms μ) (d : decode (m_cc μ) pc = .ok (.multianewarray i 2, 4))
    (h : ∀ q : Nat, V2 D G μ w0 Z (k + 1 + N) (n + N + N * M) (ws ++ (q, .inl (cs 4, N, .inr (.inr (.inr (.inr (fun j => some (q + 1 + j))))))) :: (List.range N).map (fun j => (q + 1 + j, .inl (cs 0, M, .inl (fun _ => 0))))) (pc + 4) lv (.ref q :: st)) : V2 D G μ w0 Z k n ws pc lv (.int c2 :: .int c1 :: st) := by
  intro H locs ls hP hD hS hl
  obtain ⟨hx, hb, -, -, hml, hown, hK, hR, -⟩ := vx
  obtain ⟨kT, kI, ccI, m1, m2, m3, m4, m5⟩ := hK.2.2.1
  refine mg_W hx hb hown (w.at hK.1) m1 m2 m3 m4 m5 d hn1 hn2 hN hM hb1 hb2 (by rw [hR]; exact hmc) (by rw [hR]; exact hms) (fun H1 z1 o1 e1 r1 => ?_)
  have hk : ∀ (k : Nat) (x : Nat × va_E), ws[k]? = some x → H1[x.1]? = H[x.1]? := fun k x hx => o1 x.1 ((hP k x hx).lt)
  have key : ∀ (k : Nat) (x : Nat × va_E), ((H.size, (.inl (cs 4, N, .inr (.inr (.inr (.inr (fun j => some (H.size + 1 + j)))))) : va_E)) :: (List.range N).map (fun j => (H.size + 1 + j, (.inl (cs 0, M, .inl (fun _ => 0)) : va_E))))[k]? = some x → x.1 = H.size + k ∧ ((k = 0 ∧ x.2 = .inl (cs 4, N, .inr (.inr (.inr (.inr (fun j => some (H.size + 1 + j))))))) ∨ (∃ j, j < N ∧ k = j + 1 ∧ x.2 = .inl (cs 0, M, .inl (fun _ => 0)))) := by
    intro k x hx
    cases k with
    | zero => simp at hx; subst hx; exact ⟨rfl, Or.inl ⟨rfl, rfl⟩⟩
    | succ j =>
      rw [List.getElem?_cons_succ, List.getElem?_map] at hx
      by_cases hj : j < N
      · rw [List.getElem?_range hj] at hx
        cases hx
        exact ⟨by show H.size + 1 + j = _; omega, Or.inr ⟨j, hj, rfl, rfl⟩⟩
      · rw [List.getElem?_eq_none (by simp; omega)] at hx
        cases hx
  refine h H.size H1 _ ls ((hP.kept hk).app (fun k x hx => ?_)) (hD.app ⟨fun i j x y hi hj hxy => ?_, fun k x hx => ?_⟩ (fun i j x y hx hy hxy => ?_)) ⟨Nat.le_trans hS.1 (by omega), fun x h1 h2 => (o1 x (Nat.lt_of_lt_of_le h1 hS.1)).trans (hS.2.1 x h1 h2), fun q hq => ?_⟩ hl
  · obtain ⟨x1, x2⟩ := key k x hx
    obtain ⟨xa, xe⟩ := x
    simp only at x1 x2
    rcases x2 with ⟨rfl, rfl⟩ | ⟨j, hj, rfl, rfl⟩
    · show H1[xa]? = some (vp_cell _ _)
      rw [x1]
      show H1[H.size]? = _
      rw [e1, vp_cell_q]
      unfold mg_head arrV
      congr 2
      apply Array.ext_getElem?
      intro j
      by_cases hj : j < N <;> simp [hj, va_rf]
    · show H1[xa]? = some (vp_cell _ _)
      rw [x1, show H.size + (j + 1) = H.size + 1 + j by omega, r1 j hj, vp_cell_i]
      unfold mg_row arrV
      congr 2
      apply Array.ext_getElem?
      intro q
      by_cases hq : q < M <;> simp [hq]
  · have a1 := (key i x hi).1
    have a2 := (key j y hj).1
    omega
  · have a1 := (key k x hx).1
    exact Or.inr (by have := hS.1; omega)
  · have a1 := (key j y hy).1
    have a2 := (hP i x hx).lt
    omega
  · rcases List.mem_append.mp hq with hq | hq
    · exact hS.2.2 q hq
    · obtain ⟨j, -, rfl⟩ := List.mem_map.mp hq
      exact Or.inr hS.1
theorem v_astore_n (vx : Vx D cs B0 G μ w0) {q : Fin 4} {i : Nat} {x : Nat} {lv' : List (Nat × Value)} (d : decode (m_cc μ) pc = .ok (.astore_n q, 1)) (hi : (q : Nat) = i) (hn : i < m_nL μ) (hl' : (i, Value.ref x) :: lv.filter (fun q => !(q.1 == i) && !(q.1 + 1 == i && q.2.category == 2)) = lv') (h : V2 D G μ w0 Z k n ws (pc + 1) lv' st) : V2 D G μ w0 Z k n ws pc lv (.ref x :: st) := fun H locs ls hP hD hS hl => lv_astore_n vx.1 vx.2.1 d hi hl hn hl' (fun ls hl => (h H locs ls hP hD hS hl))
theorem v_istore (vx : Vx D cs B0 G μ w0) {i : Nat} {x : Int32} {lv' : List (Nat × Value)} (d : decode (m_cc μ) pc = .ok (.istore i, 2)) (hn : i < m_nL μ) (hl' : (i, Value.int x) :: lv.filter (fun q => !(q.1 == i) && !(q.1 + 1 == i && q.2.category == 2)) = lv') (h : V2 D G μ w0 Z k n ws (pc + 2) lv' st) : V2 D G μ w0 Z k n ws pc lv (.int x :: st) := fun H locs ls hP hD hS hl => lv_istore vx.1 vx.2.1 d hl hn hl' (fun ls hl => (h H locs ls hP hD hS hl))
end VR

/-! rows for the two String constants, and for the law's long[1] -/
def str_len (i : Nat) : Nat := ([8, 3] : List Nat).getD i 0
def str_at (i j : Nat) : Int32 := (([[43, 45, 42, 47, 37, 38, 124, 94], [61, 35, 60]] : List (List Int32)).getD i []).getD j 0
section YS
variable {Δ : Ly} {G : Gm} {μ ν : Mi} {Qr : Option Value → Sg → Prop} {Qe Re : Nat → Sg → Prop} {k n : Nat} {σ : Sg} {pc : Nat} {lv : List (Nat × Value)} {st : List Value}
theorem Cx.old (cx : Cx Δ G μ) : Old Δ (g_s G) := cx.2.2.2.2.2.2.1.2.2.2
theorem y_str_value (cx : Cx Δ G μ) {i q : Nat} (hi : i < 2) (w : Kw (.fieldLink (m_own μ) q "java/lang/String" "value" "[B")) (d : decode (m_cc μ) pc = .ok (.getfield q, 3)) (h : Y Δ G μ Qr Qe k n σ (pc + 3) lv (.ref (Δ.2.2.2.2 i) :: st)) : Y Δ G μ Qr Qe k n σ pc lv (.ref (Δ.2.2.2.1 i) :: st) :=
  fun H locs ls hP hS hl => vk_getf cx.1 cx.2.1 (cx.old.1.1 i hi).2.2.1 hS cx.2.2.2.2.2.1 (w.at cx.2.2.2.2.2.2.1.1) (fun _ h => h) d (h H locs ls hP hS hl)
theorem y_str_coder (cx : Cx Δ G μ) {i q : Nat} (hi : i < 2) (w : Kw (.fieldLink (m_own μ) q "java/lang/String" "coder" "B")) (d : decode (m_cc μ) pc = .ok (.getfield q, 3)) (h : Y Δ G μ Qr Qe k n σ (pc + 3) lv (.int 0 :: st)) : Y Δ G μ Qr Qe k n σ pc lv (.ref (Δ.2.2.2.1 i) :: st) :=
  fun H locs ls hP hS hl => vk_getf cx.1 cx.2.1 (cx.old.1.1 i hi).2.1 hS cx.2.2.2.2.2.1 (w.at cx.2.2.2.2.2.2.1.1) (fun _ h => h) d (h H locs ls hP hS hl)
theorem y_compact (cx : Cx Δ G μ) {q : Nat} (w : Kw (.fieldLink (m_own μ) q "java/lang/String" "COMPACT_STRINGS" "Z")) (d : decode (m_cc μ) pc = .ok (.getstatic q, 3)) (h : Y Δ G μ Qr Qe k n σ (pc + 3) lv (.int 1 :: st)) : Y Δ G μ Qr Qe k n σ pc lv st := by
  intro H locs ls hP hS hl
  obtain ⟨v, rfl, hZ⟩ := cx.old.2.2.2.1
  exact va_gets cx.1 cx.2.1 hZ hS cx.2.2.2.2.2.1 (w.at cx.2.2.2.2.2.2.1.1) (fun _ h => h) d (h H locs ls hP hS hl)
theorem y_str_ald (cx : Cx Δ G μ) {i : Nat} {j : Int32} (hi : i < 2) (hj : vp_in j (str_len i)) (d : decode (m_cc μ) pc = .ok (.baload, 1)) (h : Y Δ G μ Qr Qe k n σ (pc + 1) lv (.int (str_at i j.toNatClampNeg) :: st)) : Y Δ G μ Qr Qe k n σ pc lv (.int j :: .ref (Δ.2.2.2.2 i) :: st) :=
  fun H locs ls hP hS hl => va_tb cx.1 cx.2.1 (cx.old.1.1 i hi).2.2.2 hS hj rfl d (h H locs ls hP hS hl)
theorem y_str_alen (cx : Cx Δ G μ) {i : Nat} (hi : i < 2) (d : decode (m_cc μ) pc = .ok (.arraylength, 1)) (h : Y Δ G μ Qr Qe k n σ (pc + 1) lv (.int (nI (str_len i)) :: st)) : Y Δ G μ Qr Qe k n σ pc lv (.ref (Δ.2.2.2.2 i) :: st) :=
  fun H locs ls hP hS hl => va_tlen cx.1 cx.2.1 (cx.old.1.1 i hi).2.2.2 hS rfl d (h H locs ls hP hS hl)
theorem y_ldcS0 (cx : Cx Δ G μ) (ho : m_own μ = "GuardedMoves") (d : decode (m_cc μ) pc = .ok (.ldc 135, 2)) (h : Y Δ G μ Qr Qe k n σ (pc + 2) lv (.ref (Δ.2.2.2.1 0) :: st)) : Y Δ G μ Qr Qe k n σ pc lv st :=
  fun H locs ls hP hS hl => va_ldcS cx.1 cx.2.1 (ho ▸ cx.2.2.2.2.2.1) cx.old.2.1 d (h H locs ls hP hS hl)
theorem y_ldcS1 (cx : Cx Δ G μ) (ho : m_own μ = "GuardedMoves") (d : decode (m_cc μ) pc = .ok (.ldc 146, 2)) (h : Y Δ G μ Qr Qe k n σ (pc + 2) lv (.ref (Δ.2.2.2.1 1) :: st)) : Y Δ G μ Qr Qe k n σ pc lv st :=
  fun H locs ls hP hS hl => va_ldcS cx.1 cx.2.1 (ho ▸ cx.2.2.2.2.2.1) cx.old.2.2.1 d (h H locs ls hP hS hl)
theorem y_bret (cx : Cx Δ G μ) {v : Int32} (hr : m_ret μ = some .byte) (hv : narrow .byte (.int v) = .int v) (d : decode (m_cc μ) pc = .ok (.ireturn, 1)) (hk : k ≤ m_mc μ) (hn : n ≤ m_ms μ) {Q : Int32 → Sg → Prop} (hq : Q v σ) : Y Δ G μ (qI Q) Qe k n σ pc lv (.int v :: st) := by
  intro H locs ls hP hS hl T hT X
  have hlocks : (g_meth G).locks = false := cx.2.2.2.1
  have hb := cx.2.1
  have hx := cx.1
  have hr2 : (g_meth G).sig.returnType = some .byte := cx.2.2.1.trans hr
  obtain ⟨fs, hret, hrun, hended, hW, hframe⟩ := X.leave (v := some (.int v)) (fun h => by rw [hr2] at h; cases h)
  have hmeth' : T.vm.method? (g_m G) = some (g_meth G) := X.method'
  refine ⟨T.setFrames fs, ?_, y_end hk hn ⟨v, rfl, hq⟩ hP hS hrun hended hT hW hframe⟩
  jvm_step X.here [X.here.top, hx, hb, d, hmeth', hr2, hv]
  (try refine ⟨rfl, ?_⟩); (try refine ⟨rfl, ?_⟩)
  first | (intro acts; rw [hret _ acts rfl rfl rfl]) | rw [hret _ _ rfl rfl rfl]
  exact Steps.refl _
/-- a call of a String constant's method -/
theorem y_kI (cx : Cx Δ G μ) {q np i : Nat} (As : List Value) {Q : Int32 → Sg → Prop} (hC : Ct (g_l G) Δ ν (.ref (Δ.2.2.2.1 i) :: As) σ (qI Q) Re) (hi : i < 2) (mv : MV ν "java/lang/String" np) (w : Kw (.methodLink (m_own μ) q (m_y ν))) (hnp : As.length = np)
    (hst : (st.map fun v => v.category).sum ≤ 12) (hfr : m_fr ν + 1 ≤ m_fr μ) (hlo : 12 + (m_nL ν + 11) + m_lo ν ≤ m_lo μ) (hmc : k + m_mc ν ≤ m_mc μ) (hms : n + m_ms ν ≤ m_ms μ) (d : decode (m_cc μ) pc = .ok (.invokevirtual q, 3))
    (kr : ∀ (r : Int32) (σ' : Sg), Q r σ' → Y Δ G μ Qr Qe (k + m_mc ν) (n + m_ms ν) σ' (pc + 3) lv (.int r :: st)) (kt : ∀ (x : Nat) (σ' : Sg), Re x σ' → Yt Δ G μ Qr Qe (k + m_mc ν) (n + m_ms ν) σ' pc lv x) :
    Y Δ G μ Qr Qe k n σ pc lv (As.reverse ++ .ref (Δ.2.2.2.1 i) :: st) := by
  intro H locs ls hP hS hl T0 hT X
  have hold := cx.old
  obtain ⟨hx, hb, -, -, hml, hown, hK, -, hR, -⟩ := cx
  obtain ⟨kin, ksel, kw, kini, hy, hpar⟩ := mv
  obtain ⟨mk, methM, hnamed, hmethM, hstM, habM⟩ := Cond.instanceMethod_spec (kin.at (a := g_a G) hK.1)
  obtain ⟨mM', methM', cM, hn', hmM', -, -, -, -, -, -, hsigM⟩ := m_spec (kw.at (a := g_a G) hK.1)
  cases hnamed.symm.trans hn'
  cases hmethM.symm.trans hmM'
  obtain ⟨cellB, hcB, hoB, hclB⟩ := vk_recv hold.1 hi hS
  obtain ⟨c2, r2, m2, q1, q2, q3, q4, kP, hkP, hkPi⟩ := Cond.selects_spec (ksel.at (a := g_a G) hK.1)
  cases hclB.symm.trans q1
  cases (State.methodFound?_of_named hnamed hy).symm.trans q2
  cases hnamed.symm.trans q3
  have hselP : selectMethod (g_e G).platform (g_s G).vm cellB.cls mk = .method mk := by rw [Launch.admits_selectMethod X.admits]; exact q4
  have hlen : As.length = methM.sig.parameters.length := by
    rw [hsigM] at hpar
    rw [hnp]
    exact (Option.some.inj hpar).symm
  obtain ⟨vm₁, X₁, hstep₁⟩ := X.invokevirtual hx hown (w.at hK.1) hnamed hmethM hstM hkP hkPi hy (a := Δ.2.2.2.1 i) (cell := cellB) (by rw [hT]; exact hcB)
    (fun z h => by rw [h] at hoB; cases hoB) hselP hmethM habM hkP hkPi (g := F0 (g_m G) pc ls (As.reverse ++ .ref (Δ.2.2.2.1 i) :: st)) rfl (argsL := As) (rest := st) hlen rfl (by rw [hb]; exact d)
  have hK1 : Kx Δ (T0.setVm vm₁) := hK.go (U := T0.setVm vm₁) X₁.warmed hT hS
  have hsz : ls.size = (g_c G).maxLocals := hl.1.trans hml.symm
  rcases doU hC X₁ (g := F0 (g_m G) pc ls st) (ig := .invokevirtual q) (len := 3) (W := 12) (mk := mk) rfl hsz (by rw [hb]; exact d) (by show 2 * 0 + (st.map fun v => v.category).sum ≤ 12; omega) (X₁.named hnamed) (by rw [hR]; exact hfr) (by rw [hR]; exact hlo) (by rw [hR]; exact hmc) (by rw [hR]; exact hms) (kw.at hK1.1) (kini.at hK1.1) hK1 (by show Wd Δ σ T0.heap; rw [hT]; exact hP) with ⟨v, σ', U', L, X', hqr, hP', hF, hL, hsteps⟩ | ⟨x, a, σ', U', L, X', hqe, hex, hP', hF, hL, hsteps⟩
  · obtain ⟨r, rfl, hq⟩ := hqr
    obtain ⟨t, a1, b1⟩ := kr r σ' hq U'.heap (locs ++ L) ls hP' (hS.go (U := T0.setVm vm₁) hT hF hL) hl U' rfl X'
    exact ⟨t, hstep₁ _ fun acts => by rw [doInvoke_state]; exact hsteps.trans a1, b1⟩
  · obtain ⟨t, a1, b1⟩ := kt x σ' hqe U'.heap (locs ++ L) ls st a hP' (hS.go (U := T0.setVm vm₁) hT hF hL) hl (hex.moved X'.warmed.alike.symm) U' rfl X'
    exact ⟨t, hstep₁ _ fun acts => by rw [doInvoke_state]; exact hsteps.trans a1, b1⟩
/-- the law's long[1] -/
theorem y_outld (cx : Cx Δ G μ) (d : decode (m_cc μ) pc = .ok (.laload, 1)) (h : Y Δ G μ Qr Qe k n σ (pc + 1) lv (.long (σ 87 0).toInt64 :: st)) : Y Δ G μ Qr Qe k n σ pc lv (.int 0 :: .ref (Δ.1 87) :: st) := by
  intro H locs ls hP hS hl
  exact va_lald (D := Δ.2.1) (f := fun j => (σ 87 j).toInt64) cx.1 cx.2.1 cx.2.2.2.2.2.2.1.2.1 hP 87 3 (ws_get (by decide)) rfl (i := 0) (by unfold vp_in; decide) d (h H locs ls hP hS hl)
theorem y_outst (cx : Cx Δ G μ) {x : Int32} (d : decode (m_cc μ) pc = .ok (.lastore, 1)) (h : Y Δ G μ Qr Qe k n (up σ 87 0 x) (pc + 1) lv st) : Y Δ G μ Qr Qe k n σ pc lv (.long x.toInt64 :: .int 0 :: .ref (Δ.1 87) :: st) := by
  intro H locs ls hP hS hl
  refine va_last (D := Δ.2.1) (f := fun j => (σ 87 j).toInt64) cx.1 cx.2.1 cx.2.2.2.2.2.2.1.2.1 hP (ws_D cx.2.2.2.2.2.2.1.2.2.1 σ _) hS 87 3 (ws_get (by decide)) rfl (i := 0) (by unfold vp_in; decide) d (fun H1 locs1 hP1 _ hS1 => ?_)
  have e : vp_updL (fun j => (σ 87 j).toInt64) (0 : Int32).toNatClampNeg x.toInt64 = fun j => (upd (σ 87) 0 x j).toInt64 := by
    funext j
    have e0 : (0 : Int32).toNatClampNeg = 0 := by decide
    rw [e0]
    by_cases hj : j = 0
    · simp [vp_updL, upd, hj]
    · simp [vp_updL, upd, hj]
  rw [e] at hP1
  have e2 := ws_set (Δ := Δ) (σ := σ) (k := 87) (by decide) (upd (σ 87) 0 x)
  exact h H1 locs1 ls (by unfold Wd; unfold up; rw [← e2]; exact hP1) hS1 hl
end YS

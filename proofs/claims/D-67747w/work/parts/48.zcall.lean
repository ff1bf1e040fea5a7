/-! a constructor's call by its contract -/
theorem zP_blind {D : va_G} {cs : Nat → ClassId} {B0 : Nat} {as : List Value} {w0 : va_W} {sz : Nat} : FrameBlind (zP D cs B0 as w0 sz) := by
  intro a U g mk h
  obtain ⟨h1, h2, h3, h4, h5⟩ := h
  exact ⟨h1, h2, Zk.go (U := U.calling g mk a) h3 (State.WarmedH.refl U) (Nat.le_refl _) (fun _ _ _ => rfl), h4, h5⟩
theorem zP_at {D : va_G} {cs : Nat → ClassId} {B0 : Nat} {G : Gm} {μ : Mi} {w0 ws wc : va_W} {as : List Value} {H : Heap} {locs : List Loc} (vx : Vx D cs B0 G μ w0) (hD : va_D (va_A w0 (g_s G).heap.size) ws) (hS : va_S (va_A w0 (g_s G).heap.size) (g_s G).heap H locs) (hPc : va_P D classes wc H) (isC : List Nat) (hndC : va_nd isC = true) (e1 : isC.map (fun i => ws[i]?) = wc.map some) : ∀ U : State, U.heap = H → (g_s G).WarmedH U.vm → zP D cs B0 as wc H.size as.toArray U := by
  intro U hU hW
  obtain ⟨hx, hb, -, -, hml, hown, hK, hR, hnm, hD0⟩ := vx
  have hA : ∀ q, va_A w0 (g_s G).heap.size q → B0 ≤ q := by
    intro q hq
    rcases hq with ⟨k, e, hq⟩ | hq
    · exact hD0.2 k _ hq
    · exact Nat.le_trans hK.2.2.2.2.2.1 hq
  refine ⟨rfl, by rw [hU], hK.go hW (by rw [hU]; exact hS.1) (fun q h1 h2 => by rw [hU]; exact hS.2.1 q h1 (fun z => h2 (hA q z))), by rw [hU]; exact hPc, (hD.sub isC hndC e1).weaken (fun _ _ _ z => hA _ z)⟩
section VC
variable {D : va_G} {cs : Nat → ClassId} {B0 : Nat} {G : Gm} {μ ν : Mi} {w0 ws : va_W} {post : (Nat → Nat) → va_W} {Z : State → Prop} {k n : Nat} {pc : Nat} {lv : List (Nat × Value)} {st : List Value}
theorem v_ctor (vx : Vx D cs B0 G μ w0) {i np a : Nat} (As : List Value) {wc wr : va_W} {post' : (Nat → Nat) → va_W} (hC : Zc (g_l G) D cs B0 ν (.ref a :: As) wc post') (isC isR : List Nat) (e0 : isC.filterMap (fun i => ws[i]?) = wc) (e1 : isC.map (fun i => ws[i]?) = wc.map some) (e2 : isR.map (fun i => ws[i]?) = wr.map some) (hnd : va_nd isR = true) (hdis : ∀ i ∈ isR, i ∉ isC) (hndC : va_nd isC = true)
    (w : Kw (.methodLink (m_own μ) i (m_y ν))) (wi : Kw (.instanceMethod (m_y ν))) (wco : Kw (m_w ν)) (wini : Kw (.initialized (m_y ν).cls)) (hin : (m_y ν).name = "<init>") (hh : m_hh ν = []) (hret : m_ret ν = none) (hy : (m_y ν).cls ≠ "java/lang/invoke/MethodHandle" ∧ (m_y ν).cls ≠ "java/lang/invoke/VarHandle") (hpar : (parseMethodDescriptor (m_y ν).desc).map (fun d => d.parameters.length) = some np) (hnp : As.length = np)
    (hst : (st.map fun v => v.category).sum ≤ 8) (hfr : m_fr ν + 1 ≤ m_fr μ) (hlo : 8 + (m_nL ν + 11) + m_lo ν ≤ m_lo μ) (hmc : k + m_mc ν ≤ m_mc μ) (hms : n + m_ms ν ≤ m_ms μ) (d : decode (m_cc μ) pc = .ok (.invokespecial i, 3))
    (h : ∀ q : Nat → Nat, V2 D G μ w0 Z (k + m_mc ν) (n + m_ms ν) (wr ++ post' q) (pc + 3) lv st) : V2 D G μ w0 Z k n ws pc lv (As.reverse ++ .ref a :: st) := by
  intro H locs ls hP hD hS hl
  have hPc : va_P D classes wc H := hP.sub isC e0
  have hFc := va_free (wc := wc) hD hS (fun _ z => Or.inr z) isC e1
  have hpre := zP_at (as := .ref a :: As) vx hD hS hPc isC hndC e1
  obtain ⟨hx, hb, -, -, hml, hown, hK, hR, hnm, hD0⟩ := vx
  have hmw := m_w_nil hh
  have hcode : (Cond.code (m_y ν) (m_cc ν) (m_nL ν) none).before (g_a G) (g_s G) = true := by rw [← hret, ← hmw]; exact wco.at hK.1
  refine va_callv (va_runI (Ts := []) (bytes := m_cc ν) (maxL := m_nL ν) (n := np) (As := As) (rest := st) ⟨hx, hb, hml, hown, fun _ z => by cases z⟩ (hC H.size)
    ⟨⟨rfl, rfl, by rw [hR]; exact hfr, by rw [hR]; exact hlo, fun w hw a' U hW => by rw [List.mem_singleton] at hw; subst hw; exact gw_at wco.2 hW (wco.at (a := a') hK.1), by rw [← hret, ← hmw]; exact List.mem_cons_self, hcode, wini.at hK.1, hy, fun sig hs => by rw [hs] at hpar; exact (Option.some.inj hpar).symm, w.at hK.1⟩, hin, wi.at hK.1⟩
    ⟨zP_blind, hpre⟩ rfl hnp hl.1 rfl (lv_room hst) d ⟨by rw [hR]; exact hmc, by rw [hR]; exact hms⟩) hS (fun q _ z => hFc q z) hFc (fun q t H1 locs1 ht hvm _ hB hz1 hk1 hS1 => ?_)
  obtain ⟨hP1, hD1⟩ := hB
  rw [ht] at hP1
  obtain ⟨hPj, hDj⟩ := va_join hP hD isC isR e1 e2 hnd hdis hk1 hFc hP1 hD1
  exact h q H1 locs1 ls hPj hDj hS1 hl
theorem v_ctorN (vx : Vx D cs B0 G μ w0) {i np a : Nat} {host : String} (As : List Value) {wc wr : va_W} {post' : (Nat → Nat) → va_W} (hC : Zc (g_l G) D cs B0 ν (.ref a :: As) wc post') (isC isR : List Nat) (e0 : isC.filterMap (fun i => ws[i]?) = wc) (e1 : isC.map (fun i => ws[i]?) = wc.map some) (e2 : isR.map (fun i => ws[i]?) = wr.map some) (hnd : va_nd isR = true) (hdis : ∀ i ∈ isR, i ∉ isC) (hndC : va_nd isC = true)
    (w : va_Nw (.methodLinkNest (m_own μ) i (m_y ν) host) (g_s G)) (wi : Kw (.instanceMethod (m_y ν))) (wco : Kw (m_w ν)) (wini : Kw (.initialized (m_y ν).cls)) (hin : (m_y ν).name = "<init>") (hh : m_hh ν = []) (hret : m_ret ν = none) (hy : (m_y ν).cls ≠ "java/lang/invoke/MethodHandle" ∧ (m_y ν).cls ≠ "java/lang/invoke/VarHandle") (hpar : (parseMethodDescriptor (m_y ν).desc).map (fun d => d.parameters.length) = some np) (hnp : As.length = np)
    (hst : (st.map fun v => v.category).sum ≤ 8) (hfr : m_fr ν + 1 ≤ m_fr μ) (hlo : 8 + (m_nL ν + 11) + m_lo ν ≤ m_lo μ) (hmc : k + m_mc ν ≤ m_mc μ) (hms : n + m_ms ν ≤ m_ms μ) (d : decode (m_cc μ) pc = .ok (.invokespecial i, 3))
    (h : ∀ q : Nat → Nat, V2 D G μ w0 Z (k + m_mc ν) (n + m_ms ν) (wr ++ post' q) (pc + 3) lv st) : V2 D G μ w0 Z k n ws pc lv (As.reverse ++ .ref a :: st) := by
  intro H locs ls hP hD hS hl
  have hPc : va_P D classes wc H := hP.sub isC e0
  have hFc := va_free (wc := wc) hD hS (fun _ z => Or.inr z) isC e1
  have hpre := zP_at (as := .ref a :: As) vx hD hS hPc isC hndC e1
  obtain ⟨hx, hb, -, -, hml, hown, hK, hR, hnm, hD0⟩ := vx
  have hmw := m_w_nil hh
  have hcode : (Cond.code (m_y ν) (m_cc ν) (m_nL ν) none).before (g_a G) (g_s G) = true := by rw [← hret, ← hmw]; exact wco.at hK.1
  refine va_callv (va_runIN (Ts := []) (host := host) (bytes := m_cc ν) (maxL := m_nL ν) (n := np) (As := As) (rest := st) ⟨hx, hb, hml, hown, fun _ z => by cases z⟩ (hC H.size)
    ⟨⟨⟨rfl, rfl, by rw [hR]; exact hfr, by rw [hR]; exact hlo, fun w hw a' U hW => by rw [List.mem_singleton] at hw; subst hw; exact gw_at wco.2 hW (wco.at (a := a') hK.1), by rw [← hret, ← hmw]; exact List.mem_cons_self⟩, hcode, wini.at hK.1, hy, fun sig hs => by rw [hs] at hpar; exact (Option.some.inj hpar).symm, va_Nw.use rfl w⟩, hin, wi.at hK.1⟩
    ⟨zP_blind, hpre⟩ rfl hnp hl.1 rfl (lv_room hst) d ⟨by rw [hR]; exact hmc, by rw [hR]; exact hms⟩) hS (fun q _ z => hFc q z) hFc (fun q t H1 locs1 ht hvm _ hB hz1 hk1 hS1 => ?_)
  obtain ⟨hP1, hD1⟩ := hB
  rw [ht] at hP1
  obtain ⟨hPj, hDj⟩ := va_join hP hD isC isR e1 e2 hnd hdis hk1 hFc hP1 hD1
  exact h q H1 locs1 ls hPj hDj hS1 hl
end VC

/-! contracts by the kind of answer, calls by the kind of answer -/
def qI (Q : Int32 → Sg → Prop) : Option Value → Sg → Prop := fun v σ => ∃ r : Int32, v = some (.int r) ∧ Q r σ
def qL (Q : Int64 → Sg → Prop) : Option Value → Sg → Prop := fun v σ => ∃ r : Int64, v = some (.long r) ∧ Q r σ
def qV (Q : Sg → Prop) : Option Value → Sg → Prop := fun v σ => v = none ∧ Q σ
def qR (a : Nat) (Q : Sg → Prop) : Option Value → Sg → Prop := fun v σ => v = some (.ref a) ∧ Q σ
def noE : Nat → Sg → Prop := fun _ _ => False
/-- a boolean -/
def bz (x : Int32) : Prop := x = 0 ∨ x = 1
theorem bz_0 : bz 0 := Or.inl rfl
theorem bz_1 : bz 1 := Or.inr rfl
theorem bz_nar {x : Int32} (h : bz x) : narrow .boolean (.int x) = .int x := by
  rcases h with rfl | rfl <;> decide
theorem bz_fit {x : Int32} (h : bz x) : fits .boolean (.int x) = true := by
  rcases h with rfl | rfl <;> decide
theorem bz_vp {x : Int32} (h : bz x) : vp_nar .boolean x = x := by
  rcases h with rfl | rfl <;> decide
theorem Cx.fl {Δ : Ly} {G : Gm} {μ : Mi} (cx : Cx Δ G μ) : (g_l G).flags = flags0 := cx.2.2.2.2.2.2.2.2.2
section YD
variable {Δ : Ly} {G : Gm} {μ ν : Mi} {Qr : Option Value → Sg → Prop} {Qe Re : Nat → Sg → Prop} {k n : Nat} {σ : Sg} {pc : Nat} {lv : List (Nat × Value)} {st : List Value}
theorem y_zret (cx : Cx Δ G μ) {v : Int32} (hr : m_ret μ = some .boolean) (hv : bz v) (d : decode (m_cc μ) pc = .ok (.ireturn, 1)) (hk : k ≤ m_mc μ) (hn : n ≤ m_ms μ) {Q : Int32 → Sg → Prop} (hq : Q v σ) : Y Δ G μ (qI Q) Qe k n σ pc lv (.int v :: st) := y_zreturn cx hr (bz_nar hv) d hk hn ⟨v, rfl, hq⟩
theorem y_iret (cx : Cx Δ G μ) {v : Int32} (hr : m_ret μ = some .int) (d : decode (m_cc μ) pc = .ok (.ireturn, 1)) (hk : k ≤ m_mc μ) (hn : n ≤ m_ms μ) {Q : Int32 → Sg → Prop} (hq : Q v σ) : Y Δ G μ (qI Q) Qe k n σ pc lv (.int v :: st) := y_ireturn cx hr d hk hn ⟨v, rfl, hq⟩
theorem y_lret (cx : Cx Δ G μ) {v : Int64} (hr : m_ret μ = some .long) (d : decode (m_cc μ) pc = .ok (.lreturn, 1)) (hk : k ≤ m_mc μ) (hn : n ≤ m_ms μ) {Q : Int64 → Sg → Prop} (hq : Q v σ) : Y Δ G μ (qL Q) Qe k n σ pc lv (.long v :: st) := y_lreturn cx hr d hk hn ⟨v, rfl, hq⟩
theorem y_vret (cx : Cx Δ G μ) (hr : m_ret μ = none) (d : decode (m_cc μ) pc = .ok (.return_, 1)) (hk : k ≤ m_mc μ) (hn : n ≤ m_ms μ) {Q : Sg → Prop} (hq : Q σ) : Y Δ G μ (qV Q) Qe k n σ pc lv st := y_return cx hr d hk hn ⟨rfl, hq⟩
theorem y_rret (cx : Cx Δ G μ) {a : Nat} {C : String} (hr : m_ret μ = some (.object C)) (d : decode (m_cc μ) pc = .ok (.areturn, 1)) (hk : k ≤ m_mc μ) (hn : n ≤ m_ms μ) {Q : Sg → Prop} (hq : Q σ) : Y Δ G μ (qR a Q) Qe k n σ pc lv (.ref a :: st) := y_areturn cx hr d hk hn ⟨rfl, hq⟩
theorem y_zastB (cx : Cx Δ G μ) {c N : Nat} {i x : Int32} (hc : AV Δ c 2 N) (hi : vp_in i N) (hb : bz x) (d : decode (m_cc μ) pc = .ok (.bastore, 1)) (h : Y Δ G μ Qr Qe k n (up σ c i.toNatClampNeg x) (pc + 1) lv st) : Y Δ G μ Qr Qe k n σ pc lv (.int x :: .int i :: .ref (Δ.1 c) :: st) := y_zast cx hc hi d (by rw [bz_vp hb]; exact h)
theorem yt_no {x : Nat} (h : noE x σ) : Yt Δ G μ Qr Qe k n σ pc lv x := h.elim
/-- an object cell is of a class of the world -/
def OC (Δ : Ly) (c ci : Nat) : Prop := c < 88 ∧ ∀ f, ∃ fs, ent Δ c f = .inr (ci, fs)
theorem oc_0 (Δ : Ly) : OC Δ 0 0 := ⟨by decide, fun _ => ⟨_, rfl⟩⟩
theorem oc_1 (Δ : Ly) : OC Δ 1 1 := ⟨by decide, fun _ => ⟨_, rfl⟩⟩
theorem oc_2 (Δ : Ly) : OC Δ 2 1 := ⟨by decide, fun _ => ⟨_, rfl⟩⟩
theorem oc_3 (Δ : Ly) : OC Δ 3 2 := ⟨by decide, fun _ => ⟨_, rfl⟩⟩
theorem oc_4 (Δ : Ly) : OC Δ 4 3 := ⟨by decide, fun _ => ⟨_, rfl⟩⟩
theorem oc_58 (Δ : Ly) : OC Δ 58 4 := ⟨by decide, fun _ => ⟨_, rfl⟩⟩
theorem y_vI (cx : Cx Δ G μ) {c i np ci : Nat} {C : String} {T : u_T} {N : Nat} {ty0 : Nat → FieldType} (As : List Value) {Q : Int32 → Sg → Prop} (hC : Ct (g_l G) Δ ν (.ref (Δ.1 c) :: As) σ (qI Q) Re) (mv : MV ν C np) (w : Kw (.methodLink (m_own μ) i (m_y ν))) (oc : OC Δ c ci) (ck : CK ci C T N ty0) (hnp : As.length = np)
    (hst : (st.map fun v => v.category).sum ≤ 12) (hfr : m_fr ν + 1 ≤ m_fr μ) (hlo : 12 + (m_nL ν + 11) + m_lo ν ≤ m_lo μ) (hmc : k + m_mc ν ≤ m_mc μ) (hms : n + m_ms ν ≤ m_ms μ) (d : decode (m_cc μ) pc = .ok (.invokevirtual i, 3))
    (kr : ∀ (r : Int32) (σ' : Sg), Q r σ' → Y Δ G μ Qr Qe (k + m_mc ν) (n + m_ms ν) σ' (pc + 3) lv (.int r :: st)) (kt : ∀ (x : Nat) (σ' : Sg), Re x σ' → Yt Δ G μ Qr Qe (k + m_mc ν) (n + m_ms ν) σ' pc lv x) :
    Y Δ G μ Qr Qe k n σ pc lv (As.reverse ++ .ref (Δ.1 c) :: st) :=
  y_callV cx hC mv w oc.1 ck oc.2 hnp hst hfr hlo hmc hms d (fun v σ' h => by obtain ⟨r, rfl, h⟩ := h; exact kr r σ' h) kt
theorem y_vV (cx : Cx Δ G μ) {c i np ci : Nat} {C : String} {T : u_T} {N : Nat} {ty0 : Nat → FieldType} (As : List Value) {Q : Sg → Prop} (hC : Ct (g_l G) Δ ν (.ref (Δ.1 c) :: As) σ (qV Q) Re) (mv : MV ν C np) (w : Kw (.methodLink (m_own μ) i (m_y ν))) (oc : OC Δ c ci) (ck : CK ci C T N ty0) (hnp : As.length = np)
    (hst : (st.map fun v => v.category).sum ≤ 12) (hfr : m_fr ν + 1 ≤ m_fr μ) (hlo : 12 + (m_nL ν + 11) + m_lo ν ≤ m_lo μ) (hmc : k + m_mc ν ≤ m_mc μ) (hms : n + m_ms ν ≤ m_ms μ) (d : decode (m_cc μ) pc = .ok (.invokevirtual i, 3))
    (kr : ∀ (σ' : Sg), Q σ' → Y Δ G μ Qr Qe (k + m_mc ν) (n + m_ms ν) σ' (pc + 3) lv st) (kt : ∀ (x : Nat) (σ' : Sg), Re x σ' → Yt Δ G μ Qr Qe (k + m_mc ν) (n + m_ms ν) σ' pc lv x) :
    Y Δ G μ Qr Qe k n σ pc lv (As.reverse ++ .ref (Δ.1 c) :: st) :=
  y_callV cx hC mv w oc.1 ck oc.2 hnp hst hfr hlo hmc hms d (fun v σ' h => by obtain ⟨rfl, h⟩ := h; exact kr σ' h) kt
theorem y_vR (cx : Cx Δ G μ) {c i np ci a : Nat} {C : String} {T : u_T} {N : Nat} {ty0 : Nat → FieldType} (As : List Value) {Q : Sg → Prop} (hC : Ct (g_l G) Δ ν (.ref (Δ.1 c) :: As) σ (qR a Q) Re) (mv : MV ν C np) (w : Kw (.methodLink (m_own μ) i (m_y ν))) (oc : OC Δ c ci) (ck : CK ci C T N ty0) (hnp : As.length = np)
    (hst : (st.map fun v => v.category).sum ≤ 12) (hfr : m_fr ν + 1 ≤ m_fr μ) (hlo : 12 + (m_nL ν + 11) + m_lo ν ≤ m_lo μ) (hmc : k + m_mc ν ≤ m_mc μ) (hms : n + m_ms ν ≤ m_ms μ) (d : decode (m_cc μ) pc = .ok (.invokevirtual i, 3))
    (kr : ∀ (σ' : Sg), Q σ' → Y Δ G μ Qr Qe (k + m_mc ν) (n + m_ms ν) σ' (pc + 3) lv (.ref a :: st)) (kt : ∀ (x : Nat) (σ' : Sg), Re x σ' → Yt Δ G μ Qr Qe (k + m_mc ν) (n + m_ms ν) σ' pc lv x) :
    Y Δ G μ Qr Qe k n σ pc lv (As.reverse ++ .ref (Δ.1 c) :: st) :=
  y_callV cx hC mv w oc.1 ck oc.2 hnp hst hfr hlo hmc hms d (fun v σ' h => by obtain ⟨rfl, h⟩ := h; exact kr σ' h) kt
theorem y_sI (cx : Cx Δ G μ) {i np : Nat} (As : List Value) {Q : Int32 → Sg → Prop} (hC : Ct (g_l G) Δ ν As σ (qI Q) Re) (mv : MS ν np) (w : Kw (.methodLink (m_own μ) i (m_y ν))) (hnp : As.length = np)
    (hst : (st.map fun v => v.category).sum ≤ 12) (hfr : m_fr ν + 1 ≤ m_fr μ) (hlo : 12 + (m_nL ν + 11) + m_lo ν ≤ m_lo μ) (hmc : k + m_mc ν ≤ m_mc μ) (hms : n + m_ms ν ≤ m_ms μ) (d : decode (m_cc μ) pc = .ok (.invokestatic i, 3))
    (kr : ∀ (r : Int32) (σ' : Sg), Q r σ' → Y Δ G μ Qr Qe (k + m_mc ν) (n + m_ms ν) σ' (pc + 3) lv (.int r :: st)) (kt : ∀ (x : Nat) (σ' : Sg), Re x σ' → Yt Δ G μ Qr Qe (k + m_mc ν) (n + m_ms ν) σ' pc lv x) :
    Y Δ G μ Qr Qe k n σ pc lv (As.reverse ++ st) :=
  y_callS cx hC mv w hnp hst hfr hlo hmc hms d (fun v σ' h => by obtain ⟨r, rfl, h⟩ := h; exact kr r σ' h) kt
theorem y_sL (cx : Cx Δ G μ) {i np : Nat} (As : List Value) {Q : Int64 → Sg → Prop} (hC : Ct (g_l G) Δ ν As σ (qL Q) Re) (mv : MS ν np) (w : Kw (.methodLink (m_own μ) i (m_y ν))) (hnp : As.length = np)
    (hst : (st.map fun v => v.category).sum ≤ 12) (hfr : m_fr ν + 1 ≤ m_fr μ) (hlo : 12 + (m_nL ν + 11) + m_lo ν ≤ m_lo μ) (hmc : k + m_mc ν ≤ m_mc μ) (hms : n + m_ms ν ≤ m_ms μ) (d : decode (m_cc μ) pc = .ok (.invokestatic i, 3))
    (kr : ∀ (r : Int64) (σ' : Sg), Q r σ' → Y Δ G μ Qr Qe (k + m_mc ν) (n + m_ms ν) σ' (pc + 3) lv (.long r :: st)) (kt : ∀ (x : Nat) (σ' : Sg), Re x σ' → Yt Δ G μ Qr Qe (k + m_mc ν) (n + m_ms ν) σ' pc lv x) :
    Y Δ G μ Qr Qe k n σ pc lv (As.reverse ++ st) :=
  y_callS cx hC mv w hnp hst hfr hlo hmc hms d (fun v σ' h => by obtain ⟨r, rfl, h⟩ := h; exact kr r σ' h) kt
theorem y_sV (cx : Cx Δ G μ) {i np : Nat} (As : List Value) {Q : Sg → Prop} (hC : Ct (g_l G) Δ ν As σ (qV Q) Re) (mv : MS ν np) (w : Kw (.methodLink (m_own μ) i (m_y ν))) (hnp : As.length = np)
    (hst : (st.map fun v => v.category).sum ≤ 12) (hfr : m_fr ν + 1 ≤ m_fr μ) (hlo : 12 + (m_nL ν + 11) + m_lo ν ≤ m_lo μ) (hmc : k + m_mc ν ≤ m_mc μ) (hms : n + m_ms ν ≤ m_ms μ) (d : decode (m_cc μ) pc = .ok (.invokestatic i, 3))
    (kr : ∀ (σ' : Sg), Q σ' → Y Δ G μ Qr Qe (k + m_mc ν) (n + m_ms ν) σ' (pc + 3) lv st) (kt : ∀ (x : Nat) (σ' : Sg), Re x σ' → Yt Δ G μ Qr Qe (k + m_mc ν) (n + m_ms ν) σ' pc lv x) :
    Y Δ G μ Qr Qe k n σ pc lv (As.reverse ++ st) :=
  y_callS cx hC mv w hnp hst hfr hlo hmc hms d (fun v σ' h => by obtain ⟨rfl, h⟩ := h; exact kr σ' h) kt
/-- the two exceptions that are made once -/
theorem ex_bad (cx : Cx Δ G μ) {H : Heap} (hP : Wd Δ σ H) : Exc Δ 0 (Δ.1 3) (g_s G) H := by
  obtain ⟨fs, hfs⟩ := (oc_3 Δ).2 (σ 3)
  exact ⟨fun _ => rfl, fun h => absurd h (by decide), va_recv cx.2.2.2.2.2.2.1.2.1 hP (ci := 2) (q0 := 3) ck_Bd.1 ((ws_get (by decide)).trans (by rw [hfs]))⟩
theorem ex_end (cx : Cx Δ G μ) {H : Heap} (hP : Wd Δ σ H) : Exc Δ 1 (Δ.1 4) (g_s G) H := by
  obtain ⟨fs, hfs⟩ := (oc_4 Δ).2 (σ 4)
  exact ⟨fun h => absurd h (by decide), fun _ => rfl, va_recv cx.2.2.2.2.2.2.1.2.1 hP (ci := 3) (q0 := 4) ck_En.1 ((ws_get (by decide)).trans (by rw [hfs]))⟩
end YD

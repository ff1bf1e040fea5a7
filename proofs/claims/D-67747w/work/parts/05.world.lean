/-! rows over the world: fields, arrays -/
/-- a class of the world as the tables have it -/
def CK (ci : Nat) (C : String) (T : u_T) (N : Nat) (ty0 : Nat → FieldType) : Prop := classes[ci]? = some (C, T, N) ∧ ((u_ws C T N).all (fun w => decide (w ∈ lw_tbl) && goodWord w) = true) ∧ (∀ k, k < N → parseFieldDescriptor (T k).2.2.1 = some (ty0 k)) ∧ (∀ a, a < N → ∀ b, b < N → a ≠ b → (T a).2.1 ≠ (T b).2.1)
theorem CK.words {ci : Nat} {C : String} {T : u_T} {N : Nat} {ty0 : Nat → FieldType} (h : CK ci C T N ty0) {s : State} (hk : Wk s) (args : Array Value) : ∀ w ∈ u_ws C T N, w.before args s = true := by
  intro w hw
  have h1 := List.all_eq_true.mp h.2.1 w hw
  simp only [Bool.and_eq_true, decide_eq_true_eq] at h1
  exact hk.at h1.1 (gw_of h1.2) args
theorem ck_GM : CK 0 R_GM F_GM 26 t_GM := ⟨rfl, i_GM, t_GM_ok, n_GM⟩
theorem ck_Tx : CK 1 R_Tx F_Tx 12 t_Tx := ⟨rfl, i_Tx, t_Tx_ok, n_Tx⟩
theorem ck_Bd : CK 2 R_Bd F_Bd 8 t_Bd := ⟨rfl, i_Bd, t_Bd_ok, n_Bd⟩
theorem ck_En : CK 3 R_En F_En 8 t_En := ⟨rfl, i_En, t_En_ok, n_En⟩
theorem ck_Md : CK 4 R_Md F_Md 45 t_Md := ⟨rfl, i_Md, t_Md_ok, n_Md⟩
/-- field j of the object cell c holds v -/
def FV (Δ : Ly) (c ci j : Nat) (v : Value) (f : Nat → Int32) : Prop := ∃ fs : List Value, ent Δ c f = .inr (ci, fs) ∧ fs[j]? = some v
/-- field j of the object cell c holds the int at place j -/
def PV (Δ : Ly) (c ci j : Nat) : Prop := ∀ (f : Nat → Int32) (v : Int32), ∃ fs : List Value, ent Δ c f = .inr (ci, fs) ∧ j < fs.length ∧ ent Δ c (upd f j v) = .inr (ci, fs.set j (.int v))
/-- the cell c is an array of the kind t (0 int, 1 byte, 2 boolean) of n places -/
def AV (Δ : Ly) (c t n : Nat) : Prop := c < 88 ∧ ∀ f : Nat → Int32, ent Δ c f = .inl (Δ.2.2.1 t, n, .inl f)
section YW
variable {Δ : Ly} {G : Gm} {μ : Mi} {Qr : Option Value → Sg → Prop} {Qe : Nat → Sg → Prop} {k n : Nat} {σ : Sg} {pc : Nat} {lv : List (Nat × Value)} {st : List Value}
theorem y_get (cx : Cx Δ G μ) {c ci j i : Nat} {C : String} {T : u_T} {N : Nat} {ty0 : Nat → FieldType} {v : Value} (hc : c < 88) (ck : CK ci C T N ty0) (w : Kw (.fieldLink (m_own μ) i (T j).1 (T j).2.1 (T j).2.2.1)) (hj : j < N) (hv : FV Δ c ci j v (σ c)) (d : decode (m_cc μ) pc = .ok (.getfield i, 3))
    (h : Y Δ G μ Qr Qe k n σ (pc + 3) lv (v :: st)) : Y Δ G μ Qr Qe k n σ pc lv (.ref (Δ.1 c) :: st) := by
  intro H locs ls hP hS hl
  obtain ⟨fs, h1, h2⟩ := hv
  have hK := cx.2.2.2.2.2.2.1
  exact va_get (D := Δ.2.1) (ci := ci) (C := C) (T := T) (N := N) (ref := (T j).1) cx.1 cx.2.1 (ck.words hK.1 (g_a G)) (fun _ h => h) cx.2.2.2.2.2.1 hK.2.1 hP c ((ws_get hc).trans (by rw [h1])) ck.1 j hj (w.at hK.1) (fun _ h => h) h2 d (h H locs ls hP hS hl)
theorem y_getN (cx : Cx Δ G μ) {c ci j i : Nat} {C host : String} {T : u_T} {N : Nat} {ty0 : Nat → FieldType} {v : Value} (hc : c < 88) (ck : CK ci C T N ty0) (w : Kw (.fieldLinkNest (m_own μ) i (T j).1 (T j).2.1 (T j).2.2.1 host)) (hj : j < N) (hv : FV Δ c ci j v (σ c)) (d : decode (m_cc μ) pc = .ok (.getfield i, 3))
    (h : Y Δ G μ Qr Qe k n σ (pc + 3) lv (v :: st)) : Y Δ G μ Qr Qe k n σ pc lv (.ref (Δ.1 c) :: st) := by
  intro H locs ls hP hS hl
  obtain ⟨fs, h1, h2⟩ := hv
  have hK := cx.2.2.2.2.2.2.1
  exact va_getN (D := Δ.2.1) (ci := ci) (C := C) (T := T) (N := N) (ref := (T j).1) (host := host) cx.1 cx.2.1 (ck.words hK.1 (g_a G)) (fun _ h => h) cx.2.2.2.2.2.1 hK.2.1 hP c ((ws_get hc).trans (by rw [h1])) ck.1 j hj (w.at hK.1) (fun _ h => h) h2 d (h H locs ls hP hS hl)
theorem y_put (cx : Cx Δ G μ) {c ci j i : Nat} {C : String} {T : u_T} {N : Nat} {ty0 : Nat → FieldType} {ty : FieldType} {v : Int32} (hc : c < 88) (ck : CK ci C T N ty0) (w : Kw (.fieldLink (m_own μ) i (T j).1 (T j).2.1 (T j).2.2.1)) (hj : j < N) (hfin : (T j).2.2.2 = false) (hd : parseFieldDescriptor (T j).2.2.1 = some ty) (hn : narrow ty (.int v) = .int v) (hfit : fits ty (.int v) = true) (hv : PV Δ c ci j) (d : decode (m_cc μ) pc = .ok (.putfield i, 3))
    (h : Y Δ G μ Qr Qe k n (up σ c j v) (pc + 3) lv st) : Y Δ G μ Qr Qe k n σ pc lv (.int v :: .ref (Δ.1 c) :: st) := by
  intro H locs ls hP hS hl
  obtain ⟨fs, h1, h2, h3⟩ := hv (σ c) v
  have hK := cx.2.2.2.2.2.2.1
  refine va_put (D := Δ.2.1) (ci := ci) (C := C) (T := T) (N := N) (ref := (T j).1) cx.1 cx.2.1 (ck.words hK.1 (g_a G)) (fun _ h => h) ty0 ck.2.2.1 ck.2.2.2 cx.2.2.2.2.2.1 hK.2.1 hP (ws_D hK.2.2.1 σ _) hS c ((ws_get hc).trans (by rw [h1])) ck.1 j hj (w.at hK.1) (fun _ h => h) hfin hd hn hfit h2 d (fun H1 locs1 hP1 _ hS1 => ?_)
  rw [← h3, ws_set hc] at hP1
  exact h H1 locs1 ls hP1 hS1 hl
theorem y_putN (cx : Cx Δ G μ) {c ci j i : Nat} {C host : String} {T : u_T} {N : Nat} {ty0 : Nat → FieldType} {ty : FieldType} {v : Int32} (hc : c < 88) (ck : CK ci C T N ty0) (w : Kw (.fieldLinkNest (m_own μ) i (T j).1 (T j).2.1 (T j).2.2.1 host)) (hj : j < N) (hfin : (T j).2.2.2 = false) (hd : parseFieldDescriptor (T j).2.2.1 = some ty) (hn : narrow ty (.int v) = .int v) (hfit : fits ty (.int v) = true) (hv : PV Δ c ci j) (d : decode (m_cc μ) pc = .ok (.putfield i, 3))
    (h : Y Δ G μ Qr Qe k n (up σ c j v) (pc + 3) lv st) : Y Δ G μ Qr Qe k n σ pc lv (.int v :: .ref (Δ.1 c) :: st) := by
  intro H locs ls hP hS hl
  obtain ⟨fs, h1, h2, h3⟩ := hv (σ c) v
  have hK := cx.2.2.2.2.2.2.1
  refine va_putN (D := Δ.2.1) (ci := ci) (C := C) (T := T) (N := N) (ref := (T j).1) (host := host) cx.1 cx.2.1 (ck.words hK.1 (g_a G)) (fun _ h => h) ty0 ck.2.2.1 ck.2.2.2 cx.2.2.2.2.2.1 hK.2.1 hP (ws_D hK.2.2.1 σ _) hS c ((ws_get hc).trans (by rw [h1])) ck.1 j hj (w.at hK.1) (fun _ h => h) hfin hd hn hfit h2 d (fun H1 locs1 hP1 _ hS1 => ?_)
  rw [← h3, ws_set hc] at hP1
  exact h H1 locs1 ls hP1 hS1 hl
theorem y_iald (cx : Cx Δ G μ) {c N : Nat} {i : Int32} (hc : AV Δ c 0 N) (hi : vp_in i N) (d : decode (m_cc μ) pc = .ok (.iaload, 1)) (h : Y Δ G μ Qr Qe k n σ (pc + 1) lv (.int (σ c i.toNatClampNeg) :: st)) : Y Δ G μ Qr Qe k n σ pc lv (.int i :: .ref (Δ.1 c) :: st) := by
  intro H locs ls hP hS hl
  exact va_iald (D := Δ.2.1) cx.1 cx.2.1 cx.2.2.2.2.2.2.1.2.1 hP c 0 ((ws_get hc.1).trans (by rw [hc.2])) rfl hi d (h H locs ls hP hS hl)
theorem y_bald (cx : Cx Δ G μ) {c N : Nat} {i : Int32} (hc : AV Δ c 1 N) (hi : vp_in i N) (d : decode (m_cc μ) pc = .ok (.baload, 1)) (h : Y Δ G μ Qr Qe k n σ (pc + 1) lv (.int (σ c i.toNatClampNeg) :: st)) : Y Δ G μ Qr Qe k n σ pc lv (.int i :: .ref (Δ.1 c) :: st) := by
  intro H locs ls hP hS hl
  exact va_bald (D := Δ.2.1) cx.1 cx.2.1 cx.2.2.2.2.2.2.1.2.1 hP c 1 ((ws_get hc.1).trans (by rw [hc.2])) rfl hi d (h H locs ls hP hS hl)
theorem y_zald (cx : Cx Δ G μ) {c N : Nat} {i : Int32} (hc : AV Δ c 2 N) (hi : vp_in i N) (d : decode (m_cc μ) pc = .ok (.baload, 1)) (h : Y Δ G μ Qr Qe k n σ (pc + 1) lv (.int (σ c i.toNatClampNeg) :: st)) : Y Δ G μ Qr Qe k n σ pc lv (.int i :: .ref (Δ.1 c) :: st) := by
  intro H locs ls hP hS hl
  exact va_zald (D := Δ.2.1) cx.1 cx.2.1 cx.2.2.2.2.2.2.1.2.1 hP c 2 ((ws_get hc.1).trans (by rw [hc.2])) rfl hi d (h H locs ls hP hS hl)
theorem y_iast (cx : Cx Δ G μ) {c N : Nat} {i x : Int32} (hc : AV Δ c 0 N) (hi : vp_in i N) (d : decode (m_cc μ) pc = .ok (.iastore, 1)) (h : Y Δ G μ Qr Qe k n (up σ c i.toNatClampNeg x) (pc + 1) lv st) : Y Δ G μ Qr Qe k n σ pc lv (.int x :: .int i :: .ref (Δ.1 c) :: st) := by
  intro H locs ls hP hS hl
  refine va_iast (D := Δ.2.1) cx.1 cx.2.1 cx.2.2.2.2.2.2.1.2.1 hP (ws_D cx.2.2.2.2.2.2.1.2.2.1 σ _) hS c 0 ((ws_get hc.1).trans (by rw [hc.2])) rfl hi d (fun H1 locs1 hP1 _ hS1 => ?_)
  rw [← hc.2, ws_set hc.1] at hP1
  exact h H1 locs1 ls hP1 hS1 hl
theorem y_bast (cx : Cx Δ G μ) {c N : Nat} {i x : Int32} (hc : AV Δ c 1 N) (hi : vp_in i N) (d : decode (m_cc μ) pc = .ok (.bastore, 1)) (h : Y Δ G μ Qr Qe k n (up σ c i.toNatClampNeg x.toInt8.toInt32) (pc + 1) lv st) : Y Δ G μ Qr Qe k n σ pc lv (.int x :: .int i :: .ref (Δ.1 c) :: st) := by
  intro H locs ls hP hS hl
  refine va_bast (D := Δ.2.1) cx.1 cx.2.1 cx.2.2.2.2.2.2.1.2.1 hP (ws_D cx.2.2.2.2.2.2.1.2.2.1 σ _) hS c 1 ((ws_get hc.1).trans (by rw [hc.2])) rfl hi d (fun H1 locs1 hP1 _ hS1 => ?_)
  rw [← hc.2, ws_set hc.1, vp_nar_byte] at hP1
  exact h H1 locs1 ls hP1 hS1 hl
theorem y_zast (cx : Cx Δ G μ) {c N : Nat} {i x : Int32} (hc : AV Δ c 2 N) (hi : vp_in i N) (d : decode (m_cc μ) pc = .ok (.bastore, 1)) (h : Y Δ G μ Qr Qe k n (up σ c i.toNatClampNeg (vp_nar .boolean x)) (pc + 1) lv st) : Y Δ G μ Qr Qe k n σ pc lv (.int x :: .int i :: .ref (Δ.1 c) :: st) := by
  intro H locs ls hP hS hl
  refine va_zast (D := Δ.2.1) cx.1 cx.2.1 cx.2.2.2.2.2.2.1.2.1 hP (ws_D cx.2.2.2.2.2.2.1.2.2.1 σ _) hS c 2 ((ws_get hc.1).trans (by rw [hc.2])) rfl hi d (fun H1 locs1 hP1 _ hS1 => ?_)
  rw [← hc.2, ws_set hc.1] at hP1
  exact h H1 locs1 ls hP1 hS1 hl
/-- a row of a table of rows: cell c, its rows lie from base on -/
theorem y_aald (cx : Cx Δ G μ) {c base N : Nat} {i : Int32} (hc : c < 88 ∧ ∀ f : Nat → Int32, ent Δ c f = .inl (Δ.2.2.1 4, N, .inr (.inr (.inr (.inr (fun j => some (Δ.1 (base + j)))))))) (hi : vp_in i N) (d : decode (m_cc μ) pc = .ok (.aaload, 1)) (h : Y Δ G μ Qr Qe k n σ (pc + 1) lv (.ref (Δ.1 (base + i.toNatClampNeg)) :: st)) : Y Δ G μ Qr Qe k n σ pc lv (.int i :: .ref (Δ.1 c) :: st) := by
  intro H locs ls hP hS hl
  have hlt : i.toNatClampNeg < N := Nat.not_le.mp fun q => hi (Or.inr q)
  have ha := hP c _ (ws_get hc.1)
  rw [hc.2] at ha
  exact W.aald (v := .ref (Δ.1 (base + i.toNatClampNeg))) (ty := .array .int) cx.1 cx.2.1 ha ((cx.2.2.2.2.2.2.1.2.1.2 4 _ rfl).1 N (fun j => va_rf (some (Δ.1 (base + j))))) rfl (fun q => by cases q) (by show ¬ (i < 0 ∨ (arrV _ _ _).slots.size ≤ _); rw [arrV_size]; exact hi) (by show (arrV _ _ _).slots[_]? = _; rw [arrV_read _ _ hlt]; rfl) rfl rfl d (h H locs ls hP hS hl)
end YW
theorem av_num {Δ : Ly} {i : Nat} (h : i < 4) : AV Δ (14 + i) 0 3000 := by
  refine ⟨by omega, ?_⟩
  rcases (show i = 0 ∨ i = 1 ∨ i = 2 ∨ i = 3 by omega) with rfl | rfl | rfl | rfl <;> exact fun _ => rfl
theorem av_stand {Δ : Ly} {b : Nat} (h1 : 18 ≤ b) (h2 : b < 34) : AV Δ b 0 16 := by
  refine ⟨by omega, ?_⟩
  rcases (show b = 18 ∨ b = 19 ∨ b = 20 ∨ b = 21 ∨ b = 22 ∨ b = 23 ∨ b = 24 ∨ b = 25 ∨ b = 26 ∨ b = 27 ∨ b = 28 ∨ b = 29 ∨ b = 30 ∨ b = 31 ∨ b = 32 ∨ b = 33 by omega) with rfl | rfl | rfl | rfl | rfl | rfl | rfl | rfl | rfl | rfl | rfl | rfl | rfl | rfl | rfl | rfl <;> exact fun _ => rfl

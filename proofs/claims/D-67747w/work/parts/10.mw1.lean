def mi_m_thrown : Mi := ("GuardedMovesModel", prog_6_method_2_code, 1, [], (some .int), 0, 0, 0, 0, ⟨"GuardedMovesModel", "thrown", "()I"⟩)
theorem d_m_thrown_0 : decode prog_6_method_2_code 0 = .ok (.aload_n 0, 1) := by decide +kernel
theorem d_m_thrown_1 : decode prog_6_method_2_code 1 = .ok (.getfield 102, 3) := by decide +kernel
theorem d_m_thrown_4 : decode prog_6_method_2_code 4 = .ok (.ireturn, 1) := by decide +kernel
theorem kc_m_thrown : Kw (m_w (mi_m_thrown )) := ⟨(in_t4 (List.mem_of_getElem? (i := 167) rfl)), rfl⟩
theorem mv_m_thrown : MV (mi_m_thrown ) "GuardedMovesModel" 0 := ⟨kw_885, kw_886, kc_m_thrown , kw_7, ⟨⟨(by show ("GuardedMovesModel" : String) ≠ "java/lang/invoke/MethodHandle"; decide), (by show ("GuardedMovesModel" : String) ≠ "java/lang/invoke/VarHandle"; decide)⟩, (by show (parseMethodDescriptor "()I").map (fun d => d.parameters.length) = some 0; decide +kernel)⟩⟩
def w_m_thrown (σ : Sg) (Q : Int32 → Sg → Prop) : Prop := Q (σ 58 0) σ
theorem b_m_thrown {Δ : Ly} {G : Gm} {Q : Int32 → Sg → Prop} (cx : Cx Δ G mi_m_thrown) (σ : Sg) (h : w_m_thrown σ Q) : Y Δ G mi_m_thrown (qI Q) noE 0 0 σ 0 [(0, .ref (Δ.1 58))] [] := by
  unfold w_m_thrown at h
  refine y_aload_n cx (pc := 0) d_m_thrown_0 rfl 0 rfl ?_
  refine y_get cx (pc := 1) (j := 0) (v := .int (σ 58 0)) (le_b rfl) ck_Md kw_748 (le_b rfl) (gf_58_0 Δ _) d_m_thrown_1 ?_
  exact y_iret cx (pc := 4) rfl d_m_thrown_4 (le_b rfl) (le_b rfl) h
theorem c_m_thrown {l : Launch} (hfl : l.flags = flags0) (Δ : Ly) (σ : Sg) (Q : Int32 → Sg → Prop) (h : w_m_thrown σ Q) : Ct l Δ mi_m_thrown [.ref (Δ.1 58)] σ (qI Q) noE :=
  Ct.of hfl (by show plainFor ⟨"GuardedMovesModel", "thrown", "()I"⟩ = true; decide +kernel) rfl (le_b rfl) (fun G hl cx => b_m_thrown cx σ h)
def mi_m_isIn : Mi := ("GuardedMovesModel", prog_6_method_3_code, 6, [], (some .boolean), 0, 0, 0, 0, ⟨"GuardedMovesModel", "isIn", "(JJJ)Z"⟩)
theorem d_m_isIn_0 : decode prog_6_method_3_code 0 = .ok (.lload_n 0, 1) := by decide +kernel
theorem d_m_isIn_1 : decode prog_6_method_3_code 1 = .ok (.lload_n 2, 1) := by decide +kernel
theorem d_m_isIn_2 : decode prog_6_method_3_code 2 = .ok (.lcmp, 1) := by decide +kernel
theorem d_m_isIn_3 : decode prog_6_method_3_code 3 = .ok (.ifCond .lt 14, 3) := by decide +kernel
theorem d_m_isIn_6 : decode prog_6_method_3_code 6 = .ok (.lload_n 0, 1) := by decide +kernel
theorem d_m_isIn_7 : decode prog_6_method_3_code 7 = .ok (.lload 4, 2) := by decide +kernel
theorem d_m_isIn_9 : decode prog_6_method_3_code 9 = .ok (.lcmp, 1) := by decide +kernel
theorem d_m_isIn_10 : decode prog_6_method_3_code 10 = .ok (.ifCond .gt 7, 3) := by decide +kernel
theorem d_m_isIn_13 : decode prog_6_method_3_code 13 = .ok (.iconst 1, 1) := by decide +kernel
theorem d_m_isIn_14 : decode prog_6_method_3_code 14 = .ok (.goto 4, 3) := by decide +kernel
theorem d_m_isIn_17 : decode prog_6_method_3_code 17 = .ok (.iconst 0, 1) := by decide +kernel
theorem d_m_isIn_18 : decode prog_6_method_3_code 18 = .ok (.ireturn, 1) := by decide +kernel
theorem kc_m_isIn : Kw (m_w (mi_m_isIn )) := ⟨(in_t4 (List.mem_of_getElem? (i := 175) rfl)), rfl⟩
theorem mv_m_isIn : MS mi_m_isIn 3 := ⟨kw_894, kc_m_isIn, kw_7, ⟨⟨(by show ("GuardedMovesModel" : String) ≠ "java/lang/invoke/MethodHandle"; decide), (by show ("GuardedMovesModel" : String) ≠ "java/lang/invoke/VarHandle"; decide)⟩, (by show (parseMethodDescriptor "(JJJ)Z").map (fun d => d.parameters.length) = some 3; decide +kernel)⟩⟩
def w_m_isIn_18 (Q : Int32 → Sg → Prop) (s0 : Int32) (σ : Sg) : Prop := bz s0 ∧ (Q s0 σ)
theorem b_m_isIn_18 {Δ : Ly} {G : Gm} {Q : Int32 → Sg → Prop} (cx : Cx Δ G mi_m_isIn) : ∀ (s0 : Int32) (σ : Sg), w_m_isIn_18 Q s0 σ → Y Δ G mi_m_isIn (qI Q) noE 0 0 σ 18 [] [.int s0] := by
  intro s0 σ h
  unfold w_m_isIn_18 at h
  obtain ⟨hb, h⟩ := h
  exact y_zret cx (pc := 18) rfl hb d_m_isIn_18 (le_b rfl) (le_b rfl) h
def w_m_isIn_17 (Q : Int32 → Sg → Prop) (σ : Sg) : Prop := w_m_isIn_18 Q 0 σ
theorem b_m_isIn_17 {Δ : Ly} {G : Gm} {Q : Int32 → Sg → Prop} (cx : Cx Δ G mi_m_isIn) : ∀ (σ : Sg), w_m_isIn_17 Q σ → Y Δ G mi_m_isIn (qI Q) noE 0 0 σ 17 [] [] := by
  intro σ h
  unfold w_m_isIn_17 at h
  refine y_iconst cx (pc := 17) ic_0 d_m_isIn_17 ?_
  exact b_m_isIn_18 cx 0 σ h
def w_m_isIn (p1 : Int64) (p2 : Int64) (p3 : Int64) (σ : Sg) (Q : Int32 → Sg → Prop) : Prop := (p1 < p2 → (w_m_isIn_17 Q σ)) ∧ (¬ p1 < p2 → ((p3 < p1 → (w_m_isIn_17 Q σ)) ∧ (¬ p3 < p1 → (w_m_isIn_18 Q 1 σ))))
theorem b_m_isIn {Δ : Ly} {G : Gm} {Q : Int32 → Sg → Prop} (cx : Cx Δ G mi_m_isIn) (p1 : Int64) (p2 : Int64) (p3 : Int64) (σ : Sg) (h : w_m_isIn p1 p2 p3 σ Q) : Y Δ G mi_m_isIn (qI Q) noE 0 0 σ 0 [(0, .long p1), (2, .long p2), (4, .long p3)] [] := by
  unfold w_m_isIn at h
  refine y_lload_n cx (pc := 0) d_m_isIn_0 rfl 0 rfl ?_
  refine y_lload_n cx (pc := 1) d_m_isIn_1 rfl 1 rfl ?_
  refine y_lcmp_lt cx (pc := 2) (tgt := 17) d_m_isIn_2 d_m_isIn_3 (by decide) (fun hc => ?_) (fun hc => ?_)
  · replace h := h.1 hc
    refine y_sub [] rfl ?_
    exact b_m_isIn_17 cx σ h
  · replace h := h.2 hc
    refine y_lload_n cx (pc := 6) d_m_isIn_6 rfl 0 rfl ?_
    refine y_lload cx (pc := 7) d_m_isIn_7 2 rfl ?_
    refine y_lcmp_gt cx (pc := 9) (tgt := 17) d_m_isIn_9 d_m_isIn_10 (by decide) (fun hc => ?_) (fun hc => ?_)
    · replace h := h.1 hc
      refine y_sub [] rfl ?_
      exact b_m_isIn_17 cx σ h
    · replace h := h.2 hc
      refine y_iconst cx (pc := 13) ic_1 d_m_isIn_13 ?_
      refine y_goto cx (pc := 14) (tgt := 18) d_m_isIn_14 (by decide) ?_
      refine y_sub [] rfl ?_
      exact b_m_isIn_18 cx 1 σ h
theorem c_m_isIn {l : Launch} (hfl : l.flags = flags0) (Δ : Ly) (p1 : Int64) (p2 : Int64) (p3 : Int64) (σ : Sg) (Q : Int32 → Sg → Prop) (h : w_m_isIn p1 p2 p3 σ Q) : Ct l Δ mi_m_isIn [.long p1, .long p2, .long p3] σ (qI Q) noE :=
  Ct.of hfl (by show plainFor ⟨"GuardedMovesModel", "isIn", "(JJJ)Z"⟩ = true; decide +kernel) rfl (le_b rfl) (fun G hl cx => b_m_isIn cx p1 p2 p3 σ h)
def mi_m_may : Mi := ("GuardedMovesModel", prog_6_method_4_code, 3, [], (some .boolean), 0, 0, 0, 0, ⟨"GuardedMovesModel", "may", "(ZZ)Z"⟩)
theorem d_m_may_0 : decode prog_6_method_4_code 0 = .ok (.aload_n 0, 1) := by decide +kernel
theorem d_m_may_1 : decode prog_6_method_4_code 1 = .ok (.iload_n 1, 1) := by decide +kernel
theorem d_m_may_2 : decode prog_6_method_4_code 2 = .ok (.ifCond .ne 7, 3) := by decide +kernel
theorem d_m_may_5 : decode prog_6_method_4_code 5 = .ok (.iconst 1, 1) := by decide +kernel
theorem d_m_may_6 : decode prog_6_method_4_code 6 = .ok (.goto 12, 3) := by decide +kernel
theorem d_m_may_9 : decode prog_6_method_4_code 9 = .ok (.iload_n 2, 1) := by decide +kernel
theorem d_m_may_10 : decode prog_6_method_4_code 10 = .ok (.ifCond .ne 7, 3) := by decide +kernel
theorem d_m_may_13 : decode prog_6_method_4_code 13 = .ok (.iconst 2, 1) := by decide +kernel
theorem d_m_may_14 : decode prog_6_method_4_code 14 = .ok (.goto 4, 3) := by decide +kernel
theorem d_m_may_17 : decode prog_6_method_4_code 17 = .ok (.iconst 0, 1) := by decide +kernel
theorem d_m_may_18 : decode prog_6_method_4_code 18 = .ok (.putfield 102, 3) := by decide +kernel
theorem d_m_may_21 : decode prog_6_method_4_code 21 = .ok (.aload_n 0, 1) := by decide +kernel
theorem d_m_may_22 : decode prog_6_method_4_code 22 = .ok (.getfield 102, 3) := by decide +kernel
theorem d_m_may_25 : decode prog_6_method_4_code 25 = .ok (.ifCond .ne 7, 3) := by decide +kernel
theorem d_m_may_28 : decode prog_6_method_4_code 28 = .ok (.iconst 1, 1) := by decide +kernel
theorem d_m_may_29 : decode prog_6_method_4_code 29 = .ok (.goto 4, 3) := by decide +kernel
theorem d_m_may_32 : decode prog_6_method_4_code 32 = .ok (.iconst 0, 1) := by decide +kernel
theorem d_m_may_33 : decode prog_6_method_4_code 33 = .ok (.ireturn, 1) := by decide +kernel
theorem kc_m_may : Kw (m_w (mi_m_may )) := ⟨(in_t4 (List.mem_of_getElem? (i := 179) rfl)), rfl⟩
theorem mv_m_may : MV (mi_m_may ) "GuardedMovesModel" 2 := ⟨kw_898, ks_44, kc_m_may , kw_7, ⟨⟨(by show ("GuardedMovesModel" : String) ≠ "java/lang/invoke/MethodHandle"; decide), (by show ("GuardedMovesModel" : String) ≠ "java/lang/invoke/VarHandle"; decide)⟩, (by show (parseMethodDescriptor "(ZZ)Z").map (fun d => d.parameters.length) = some 2; decide +kernel)⟩⟩
def w_m_may_33 (Q : Int32 → Sg → Prop) (s0 : Int32) (σ : Sg) : Prop := bz s0 ∧ (Q s0 σ)
theorem b_m_may_33 {Δ : Ly} {G : Gm} {Q : Int32 → Sg → Prop} (cx : Cx Δ G mi_m_may) : ∀ (s0 : Int32) (σ : Sg), w_m_may_33 Q s0 σ → Y Δ G mi_m_may (qI Q) noE 0 0 σ 33 [] [.int s0] := by
  intro s0 σ h
  unfold w_m_may_33 at h
  obtain ⟨hb, h⟩ := h
  exact y_zret cx (pc := 33) rfl hb d_m_may_33 (le_b rfl) (le_b rfl) h
def w_m_may_18 (Q : Int32 → Sg → Prop) (s0 : Int32) (σ : Sg) : Prop := (¬ s0 = 0 → (w_m_may_33 Q 0 (up σ 58 0 s0))) ∧ (s0 = 0 → (w_m_may_33 Q 1 (up σ 58 0 s0)))
theorem b_m_may_18 {Δ : Ly} {G : Gm} {Q : Int32 → Sg → Prop} (cx : Cx Δ G mi_m_may) : ∀ (s0 : Int32) (σ : Sg), w_m_may_18 Q s0 σ → Y Δ G mi_m_may (qI Q) noE 0 0 σ 18 [(0, .ref (Δ.1 58))] [.int s0, .ref (Δ.1 58)] := by
  intro s0 σ h
  unfold w_m_may_18 at h
  refine y_put cx (pc := 18) (j := 0) (ty := .int) (le_b rfl) ck_Md kw_748 (le_b rfl) rfl (t_Md_ok 0 (le_b rfl)) rfl rfl (pf_58_0 Δ) d_m_may_18 ?_
  refine y_aload_n cx (pc := 21) d_m_may_21 rfl 0 rfl ?_
  refine y_get cx (pc := 22) (j := 0) (v := .int s0) (le_b rfl) ck_Md kw_748 (le_b rfl) (gf_58_0 Δ _) d_m_may_22 ?_
  refine y_if_ne cx (pc := 25) (tgt := 32) d_m_may_25 (by decide) (fun hc => ?_) (fun hc => ?_)
  · replace h := h.1 hc
    refine y_iconst cx (pc := 32) ic_0 d_m_may_32 ?_
    refine y_sub [] rfl ?_
    exact b_m_may_33 cx 0 (up σ 58 0 s0) h
  · replace h := h.2 hc
    refine y_iconst cx (pc := 28) ic_1 d_m_may_28 ?_
    refine y_goto cx (pc := 29) (tgt := 33) d_m_may_29 (by decide) ?_
    refine y_sub [] rfl ?_
    exact b_m_may_33 cx 1 (up σ 58 0 s0) h
def w_m_may (p1 : Int32) (p2 : Int32) (σ : Sg) (Q : Int32 → Sg → Prop) : Prop := (¬ p1 = 0 → ((¬ p2 = 0 → (w_m_may_18 Q 0 σ)) ∧ (p2 = 0 → (w_m_may_18 Q 2 σ)))) ∧ (p1 = 0 → (w_m_may_18 Q 1 σ))
theorem b_m_may {Δ : Ly} {G : Gm} {Q : Int32 → Sg → Prop} (cx : Cx Δ G mi_m_may) (p1 : Int32) (p2 : Int32) (σ : Sg) (h : w_m_may p1 p2 σ Q) : Y Δ G mi_m_may (qI Q) noE 0 0 σ 0 [(0, .ref (Δ.1 58)), (1, .int p1), (2, .int p2)] [] := by
  unfold w_m_may at h
  refine y_aload_n cx (pc := 0) d_m_may_0 rfl 0 rfl ?_
  refine y_iload_n cx (pc := 1) d_m_may_1 rfl 1 rfl ?_
  refine y_if_ne cx (pc := 2) (tgt := 9) d_m_may_2 (by decide) (fun hc => ?_) (fun hc => ?_)
  · replace h := h.1 hc
    refine y_iload_n cx (pc := 9) d_m_may_9 rfl 2 rfl ?_
    refine y_if_ne cx (pc := 10) (tgt := 17) d_m_may_10 (by decide) (fun hc => ?_) (fun hc => ?_)
    · replace h := h.1 hc
      refine y_iconst cx (pc := 17) ic_0 d_m_may_17 ?_
      refine y_sub [0] rfl ?_
      exact b_m_may_18 cx 0 σ h
    · replace h := h.2 hc
      refine y_iconst cx (pc := 13) ic_2 d_m_may_13 ?_
      refine y_goto cx (pc := 14) (tgt := 18) d_m_may_14 (by decide) ?_
      refine y_sub [0] rfl ?_
      exact b_m_may_18 cx 2 σ h
  · replace h := h.2 hc
    refine y_iconst cx (pc := 5) ic_1 d_m_may_5 ?_
    refine y_goto cx (pc := 6) (tgt := 18) d_m_may_6 (by decide) ?_
    refine y_sub [0] rfl ?_
    exact b_m_may_18 cx 1 σ h
theorem c_m_may {l : Launch} (hfl : l.flags = flags0) (Δ : Ly) (p1 : Int32) (p2 : Int32) (σ : Sg) (Q : Int32 → Sg → Prop) (h : w_m_may p1 p2 σ Q) : Ct l Δ mi_m_may [.ref (Δ.1 58), .int p1, .int p2] σ (qI Q) noE :=
  Ct.of hfl (by show plainFor ⟨"GuardedMovesModel", "may", "(ZZ)Z"⟩ = true; decide +kernel) rfl (le_b rfl) (fun G hl cx => b_m_may cx p1 p2 σ h)
def mi_m_variable : Mi := ("GuardedMovesModel", prog_6_method_5_code, 3, [], none, 1, 29, 0, 0, ⟨"GuardedMovesModel", "variable", "(II)V"⟩)
theorem d_m_variable_0 : decode prog_6_method_5_code 0 = .ok (.aload_n 0, 1) := by decide +kernel
theorem d_m_variable_1 : decode prog_6_method_5_code 1 = .ok (.iload_n 1, 1) := by decide +kernel
theorem d_m_variable_2 : decode prog_6_method_5_code 2 = .ok (.i2l, 1) := by decide +kernel
theorem d_m_variable_3 : decode prog_6_method_5_code 3 = .ok (.lconst 0, 1) := by decide +kernel
theorem d_m_variable_4 : decode prog_6_method_5_code 4 = .ok (.ldc2_w 105, 3) := by decide +kernel
theorem d_m_variable_7 : decode prog_6_method_5_code 7 = .ok (.invokestatic 107, 3) := by decide +kernel
theorem d_m_variable_10 : decode prog_6_method_5_code 10 = .ok (.iconst 1, 1) := by decide +kernel
theorem d_m_variable_11 : decode prog_6_method_5_code 11 = .ok (.invokevirtual 111, 3) := by decide +kernel
theorem d_m_variable_14 : decode prog_6_method_5_code 14 = .ok (.ifCond .eq 10, 3) := by decide +kernel
theorem d_m_variable_17 : decode prog_6_method_5_code 17 = .ok (.aload_n 0, 1) := by decide +kernel
theorem d_m_variable_18 : decode prog_6_method_5_code 18 = .ok (.getfield 7, 3) := by decide +kernel
theorem d_m_variable_21 : decode prog_6_method_5_code 21 = .ok (.iload_n 1, 1) := by decide +kernel
theorem d_m_variable_22 : decode prog_6_method_5_code 22 = .ok (.iload_n 2, 1) := by decide +kernel
theorem d_m_variable_23 : decode prog_6_method_5_code 23 = .ok (.iastore, 1) := by decide +kernel
theorem d_m_variable_24 : decode prog_6_method_5_code 24 = .ok (.return_, 1) := by decide +kernel
theorem kc_m_variable : Kw (m_w (mi_m_variable )) := ⟨(in_t4 (List.mem_of_getElem? (i := 171) rfl)), rfl⟩
theorem mv_m_variable : MV (mi_m_variable ) "GuardedMovesModel" 2 := ⟨kw_889, kw_890, kc_m_variable , kw_7, ⟨⟨(by show ("GuardedMovesModel" : String) ≠ "java/lang/invoke/MethodHandle"; decide), (by show ("GuardedMovesModel" : String) ≠ "java/lang/invoke/VarHandle"; decide)⟩, (by show (parseMethodDescriptor "(II)V").map (fun d => d.parameters.length) = some 2; decide +kernel)⟩⟩
def w_m_variable_24 (Q : Sg → Prop) (σ : Sg) : Prop := Q σ
theorem b_m_variable_24 {Δ : Ly} {G : Gm} {Q : Sg → Prop} (cx : Cx Δ G mi_m_variable) : ∀ (σ : Sg), w_m_variable_24 Q σ → Y Δ G mi_m_variable (qV Q) noE 0 0 σ 24 [] [] := by
  intro σ h
  unfold w_m_variable_24 at h
  exact y_vret cx (pc := 24) rfl d_m_variable_24 (le_b rfl) (le_b rfl) h
def w_m_variable (p1 : Int32) (p2 : Int32) (σ : Sg) (Q : Sg → Prop) : Prop := w_m_isIn (p1.toInt64) 0 15 σ (fun x1 σ2 => w_m_may x1 1 σ2 (fun x3 σ4 => (x3 = 0 → (w_m_variable_24 Q σ4)) ∧ (¬ x3 = 0 → (vp_in p1 16 ∧ (w_m_variable_24 Q (up σ4 59 (p1.toNatClampNeg) p2))))))
theorem b_m_variable {Δ : Ly} {G : Gm} {Q : Sg → Prop} (cx : Cx Δ G mi_m_variable) (p1 : Int32) (p2 : Int32) (σ : Sg) (h : w_m_variable p1 p2 σ Q) : Y Δ G mi_m_variable (qV Q) noE 0 0 σ 0 [(0, .ref (Δ.1 58)), (1, .int p1), (2, .int p2)] [] := by
  unfold w_m_variable at h
  refine y_aload_n cx (pc := 0) d_m_variable_0 rfl 0 rfl ?_
  refine y_iload_n cx (pc := 1) d_m_variable_1 rfl 1 rfl ?_
  refine y_i2l cx (pc := 2) d_m_variable_2 ?_
  refine y_lconst cx (pc := 3) (v := 0) lc_0 d_m_variable_3 ?_
  refine y_ldc2 cx (pc := 4) kw_892 d_m_variable_4 ?_
  refine y_sI cx (pc := 7) (st := [.ref (Δ.1 58)]) [.long (p1.toInt64), .long 0, .long 15] (c_m_isIn cx.fl Δ (p1.toInt64) 0 15 _ _ h) mv_m_isIn kw_893 rfl (le_b rfl) (le_b rfl) (le_b rfl) (le_b rfl) (le_b rfl) d_m_variable_7 (fun x1 σ2 h => ?_) (fun x σ2 h => yt_no h)
  refine y_iconst cx (pc := 10) ic_1 d_m_variable_10 ?_
  refine y_vI cx (pc := 11) (st := []) [.int x1, .int 1] (c_m_may cx.fl Δ x1 1 _ _ h) mv_m_may kw_896 (oc_58 Δ) ck_Md rfl (le_b rfl) (le_b rfl) (le_b rfl) (le_b rfl) (le_b rfl) d_m_variable_11 (fun x3 σ4 h => ?_) (fun x σ4 h => yt_no h)
  refine y_if_eq cx (pc := 14) (tgt := 24) d_m_variable_14 (by decide) (fun hc => ?_) (fun hc => ?_)
  · replace h := h.1 hc
    refine y_sub [] rfl ?_
    exact b_m_variable_24 cx σ4 h
  · replace h := h.2 hc
    refine y_aload_n cx (pc := 17) d_m_variable_17 rfl 0 rfl ?_
    refine y_get cx (pc := 18) (j := 1) (v := .ref (Δ.1 59)) (le_b rfl) ck_Md kw_749 (le_b rfl) (gf_58_1 Δ _) d_m_variable_18 ?_
    refine y_iload_n cx (pc := 21) d_m_variable_21 rfl 1 rfl ?_
    refine y_iload_n cx (pc := 22) d_m_variable_22 rfl 2 rfl ?_
    obtain ⟨h0, h⟩ := h
    refine y_iast cx (pc := 23) ⟨(le_b rfl), fun _ => rfl⟩ h0 d_m_variable_23 ?_
    refine y_sub [] rfl ?_
    exact b_m_variable_24 cx (up σ4 59 (p1.toNatClampNeg) p2) h
theorem c_m_variable {l : Launch} (hfl : l.flags = flags0) (Δ : Ly) (p1 : Int32) (p2 : Int32) (σ : Sg) (Q : Sg → Prop) (h : w_m_variable p1 p2 σ Q) : Ct l Δ mi_m_variable [.ref (Δ.1 58), .int p1, .int p2] σ (qV Q) noE :=
  Ct.of hfl (by show plainFor ⟨"GuardedMovesModel", "variable", "(II)V"⟩ = true; decide +kernel) rfl (le_b rfl) (fun G hl cx => b_m_variable cx p1 p2 σ h)
def mi_m_word : Mi := ("GuardedMovesModel", prog_6_method_6_code, 3, [], none, 1, 29, 0, 0, ⟨"GuardedMovesModel", "word", "(II)V"⟩)
theorem d_m_word_0 : decode prog_6_method_6_code 0 = .ok (.aload_n 0, 1) := by decide +kernel
theorem d_m_word_1 : decode prog_6_method_6_code 1 = .ok (.iload_n 1, 1) := by decide +kernel
theorem d_m_word_2 : decode prog_6_method_6_code 2 = .ok (.i2l, 1) := by decide +kernel
theorem d_m_word_3 : decode prog_6_method_6_code 3 = .ok (.lconst 0, 1) := by decide +kernel
theorem d_m_word_4 : decode prog_6_method_6_code 4 = .ok (.ldc2_w 115, 3) := by decide +kernel
theorem d_m_word_7 : decode prog_6_method_6_code 7 = .ok (.invokestatic 107, 3) := by decide +kernel
theorem d_m_word_10 : decode prog_6_method_6_code 10 = .ok (.iconst 1, 1) := by decide +kernel
theorem d_m_word_11 : decode prog_6_method_6_code 11 = .ok (.invokevirtual 111, 3) := by decide +kernel
theorem d_m_word_14 : decode prog_6_method_6_code 14 = .ok (.ifCond .eq 10, 3) := by decide +kernel
theorem d_m_word_17 : decode prog_6_method_6_code 17 = .ok (.aload_n 0, 1) := by decide +kernel
theorem d_m_word_18 : decode prog_6_method_6_code 18 = .ok (.getfield 13, 3) := by decide +kernel
theorem d_m_word_21 : decode prog_6_method_6_code 21 = .ok (.iload_n 1, 1) := by decide +kernel
theorem d_m_word_22 : decode prog_6_method_6_code 22 = .ok (.iload_n 2, 1) := by decide +kernel
theorem d_m_word_23 : decode prog_6_method_6_code 23 = .ok (.iastore, 1) := by decide +kernel
theorem d_m_word_24 : decode prog_6_method_6_code 24 = .ok (.return_, 1) := by decide +kernel
theorem kc_m_word : Kw (m_w (mi_m_word )) := ⟨(in_t4 (List.mem_of_getElem? (i := 183) rfl)), rfl⟩
theorem mv_m_word : MV (mi_m_word ) "GuardedMovesModel" 2 := ⟨kw_901, kw_902, kc_m_word , kw_7, ⟨⟨(by show ("GuardedMovesModel" : String) ≠ "java/lang/invoke/MethodHandle"; decide), (by show ("GuardedMovesModel" : String) ≠ "java/lang/invoke/VarHandle"; decide)⟩, (by show (parseMethodDescriptor "(II)V").map (fun d => d.parameters.length) = some 2; decide +kernel)⟩⟩
def w_m_word_24 (Q : Sg → Prop) (σ : Sg) : Prop := Q σ
theorem b_m_word_24 {Δ : Ly} {G : Gm} {Q : Sg → Prop} (cx : Cx Δ G mi_m_word) : ∀ (σ : Sg), w_m_word_24 Q σ → Y Δ G mi_m_word (qV Q) noE 0 0 σ 24 [] [] := by
  intro σ h
  unfold w_m_word_24 at h
  exact y_vret cx (pc := 24) rfl d_m_word_24 (le_b rfl) (le_b rfl) h
def w_m_word (p1 : Int32) (p2 : Int32) (σ : Sg) (Q : Sg → Prop) : Prop := w_m_isIn (p1.toInt64) 0 31 σ (fun x1 σ2 => w_m_may x1 1 σ2 (fun x3 σ4 => (x3 = 0 → (w_m_word_24 Q σ4)) ∧ (¬ x3 = 0 → (vp_in p1 32 ∧ (w_m_word_24 Q (up σ4 60 (p1.toNatClampNeg) p2))))))
theorem b_m_word {Δ : Ly} {G : Gm} {Q : Sg → Prop} (cx : Cx Δ G mi_m_word) (p1 : Int32) (p2 : Int32) (σ : Sg) (h : w_m_word p1 p2 σ Q) : Y Δ G mi_m_word (qV Q) noE 0 0 σ 0 [(0, .ref (Δ.1 58)), (1, .int p1), (2, .int p2)] [] := by
  unfold w_m_word at h
  refine y_aload_n cx (pc := 0) d_m_word_0 rfl 0 rfl ?_
  refine y_iload_n cx (pc := 1) d_m_word_1 rfl 1 rfl ?_
  refine y_i2l cx (pc := 2) d_m_word_2 ?_
  refine y_lconst cx (pc := 3) (v := 0) lc_0 d_m_word_3 ?_
  refine y_ldc2 cx (pc := 4) kw_904 d_m_word_4 ?_
  refine y_sI cx (pc := 7) (st := [.ref (Δ.1 58)]) [.long (p1.toInt64), .long 0, .long 31] (c_m_isIn cx.fl Δ (p1.toInt64) 0 31 _ _ h) mv_m_isIn kw_893 rfl (le_b rfl) (le_b rfl) (le_b rfl) (le_b rfl) (le_b rfl) d_m_word_7 (fun x1 σ2 h => ?_) (fun x σ2 h => yt_no h)
  refine y_iconst cx (pc := 10) ic_1 d_m_word_10 ?_
  refine y_vI cx (pc := 11) (st := []) [.int x1, .int 1] (c_m_may cx.fl Δ x1 1 _ _ h) mv_m_may kw_896 (oc_58 Δ) ck_Md rfl (le_b rfl) (le_b rfl) (le_b rfl) (le_b rfl) (le_b rfl) d_m_word_11 (fun x3 σ4 h => ?_) (fun x σ4 h => yt_no h)
  refine y_if_eq cx (pc := 14) (tgt := 24) d_m_word_14 (by decide) (fun hc => ?_) (fun hc => ?_)
  · replace h := h.1 hc
    refine y_sub [] rfl ?_
    exact b_m_word_24 cx σ4 h
  · replace h := h.2 hc
    refine y_aload_n cx (pc := 17) d_m_word_17 rfl 0 rfl ?_
    refine y_get cx (pc := 18) (j := 2) (v := .ref (Δ.1 60)) (le_b rfl) ck_Md kw_750 (le_b rfl) (gf_58_2 Δ _) d_m_word_18 ?_
    refine y_iload_n cx (pc := 21) d_m_word_21 rfl 1 rfl ?_
    refine y_iload_n cx (pc := 22) d_m_word_22 rfl 2 rfl ?_
    obtain ⟨h0, h⟩ := h
    refine y_iast cx (pc := 23) ⟨(le_b rfl), fun _ => rfl⟩ h0 d_m_word_23 ?_
    refine y_sub [] rfl ?_
    exact b_m_word_24 cx (up σ4 60 (p1.toNatClampNeg) p2) h
theorem c_m_word {l : Launch} (hfl : l.flags = flags0) (Δ : Ly) (p1 : Int32) (p2 : Int32) (σ : Sg) (Q : Sg → Prop) (h : w_m_word p1 p2 σ Q) : Ct l Δ mi_m_word [.ref (Δ.1 58), .int p1, .int p2] σ (qV Q) noE :=
  Ct.of hfl (by show plainFor ⟨"GuardedMovesModel", "word", "(II)V"⟩ = true; decide +kernel) rfl (le_b rfl) (fun G hl cx => b_m_word cx p1 p2 σ h)
def mi_m_feed : Mi := ("GuardedMovesModel", prog_6_method_7_code, 5, [], (some .int), 1, 29, 0, 0, ⟨"GuardedMovesModel", "feed", "(JI)I"⟩)
theorem d_m_feed_0 : decode prog_6_method_7_code 0 = .ok (.aload_n 0, 1) := by decide +kernel
theorem d_m_feed_1 : decode prog_6_method_7_code 1 = .ok (.iload_n 3, 1) := by decide +kernel
theorem d_m_feed_2 : decode prog_6_method_7_code 2 = .ok (.i2l, 1) := by decide +kernel
theorem d_m_feed_3 : decode prog_6_method_7_code 3 = .ok (.lconst 1, 1) := by decide +kernel
theorem d_m_feed_4 : decode prog_6_method_7_code 4 = .ok (.ldc2_w 117, 3) := by decide +kernel
theorem d_m_feed_7 : decode prog_6_method_7_code 7 = .ok (.invokestatic 107, 3) := by decide +kernel
theorem d_m_feed_10 : decode prog_6_method_7_code 10 = .ok (.aload_n 0, 1) := by decide +kernel
theorem d_m_feed_11 : decode prog_6_method_7_code 11 = .ok (.getfield 119, 3) := by decide +kernel
theorem d_m_feed_14 : decode prog_6_method_7_code 14 = .ok (.iload_n 3, 1) := by decide +kernel
theorem d_m_feed_15 : decode prog_6_method_7_code 15 = .ok (.iadd, 1) := by decide +kernel
theorem d_m_feed_16 : decode prog_6_method_7_code 16 = .ok (.sipush 600, 3) := by decide +kernel
theorem d_m_feed_19 : decode prog_6_method_7_code 19 = .ok (.if_icmp .gt 7, 3) := by decide +kernel
theorem d_m_feed_22 : decode prog_6_method_7_code 22 = .ok (.iconst 1, 1) := by decide +kernel
theorem d_m_feed_23 : decode prog_6_method_7_code 23 = .ok (.goto 4, 3) := by decide +kernel
theorem d_m_feed_26 : decode prog_6_method_7_code 26 = .ok (.iconst 0, 1) := by decide +kernel
theorem d_m_feed_27 : decode prog_6_method_7_code 27 = .ok (.invokevirtual 111, 3) := by decide +kernel
theorem d_m_feed_30 : decode prog_6_method_7_code 30 = .ok (.ifCond .ne 5, 3) := by decide +kernel
theorem d_m_feed_33 : decode prog_6_method_7_code 33 = .ok (.iconst 0, 1) := by decide +kernel
theorem d_m_feed_34 : decode prog_6_method_7_code 34 = .ok (.ireturn, 1) := by decide +kernel
theorem d_m_feed_35 : decode prog_6_method_7_code 35 = .ok (.iload_n 3, 1) := by decide +kernel
theorem d_m_feed_36 : decode prog_6_method_7_code 36 = .ok (.iconst 1, 1) := by decide +kernel
theorem d_m_feed_37 : decode prog_6_method_7_code 37 = .ok (.isub, 1) := by decide +kernel
theorem d_m_feed_38 : decode prog_6_method_7_code 38 = .ok (.istore 4, 2) := by decide +kernel
theorem d_m_feed_40 : decode prog_6_method_7_code 40 = .ok (.iload 4, 2) := by decide +kernel
theorem d_m_feed_42 : decode prog_6_method_7_code 42 = .ok (.ifCond .lt 40, 3) := by decide +kernel
theorem d_m_feed_45 : decode prog_6_method_7_code 45 = .ok (.aload_n 0, 1) := by decide +kernel
theorem d_m_feed_46 : decode prog_6_method_7_code 46 = .ok (.getfield 16, 3) := by decide +kernel
theorem d_m_feed_49 : decode prog_6_method_7_code 49 = .ok (.aload_n 0, 1) := by decide +kernel
theorem d_m_feed_50 : decode prog_6_method_7_code 50 = .ok (.getfield 119, 3) := by decide +kernel
theorem d_m_feed_53 : decode prog_6_method_7_code 53 = .ok (.lload_n 1, 1) := by decide +kernel
theorem d_m_feed_54 : decode prog_6_method_7_code 54 = .ok (.bipush 8, 2) := by decide +kernel
theorem d_m_feed_56 : decode prog_6_method_7_code 56 = .ok (.iload 4, 2) := by decide +kernel
theorem d_m_feed_58 : decode prog_6_method_7_code 58 = .ok (.imul, 1) := by decide +kernel
theorem d_m_feed_59 : decode prog_6_method_7_code 59 = .ok (.lshr, 1) := by decide +kernel
theorem d_m_feed_60 : decode prog_6_method_7_code 60 = .ok (.ldc2_w 122, 3) := by decide +kernel
theorem d_m_feed_63 : decode prog_6_method_7_code 63 = .ok (.land, 1) := by decide +kernel
theorem d_m_feed_64 : decode prog_6_method_7_code 64 = .ok (.l2i, 1) := by decide +kernel
theorem d_m_feed_65 : decode prog_6_method_7_code 65 = .ok (.iastore, 1) := by decide +kernel
theorem d_m_feed_66 : decode prog_6_method_7_code 66 = .ok (.aload_n 0, 1) := by decide +kernel
theorem d_m_feed_67 : decode prog_6_method_7_code 67 = .ok (.dup, 1) := by decide +kernel
theorem d_m_feed_68 : decode prog_6_method_7_code 68 = .ok (.getfield 119, 3) := by decide +kernel
theorem d_m_feed_71 : decode prog_6_method_7_code 71 = .ok (.iconst 1, 1) := by decide +kernel
theorem d_m_feed_72 : decode prog_6_method_7_code 72 = .ok (.iadd, 1) := by decide +kernel
theorem d_m_feed_73 : decode prog_6_method_7_code 73 = .ok (.putfield 119, 3) := by decide +kernel
theorem d_m_feed_76 : decode prog_6_method_7_code 76 = .ok (.iinc 4 (-1), 3) := by decide +kernel
theorem d_m_feed_79 : decode prog_6_method_7_code 79 = .ok (.goto (-39), 3) := by decide +kernel
theorem d_m_feed_82 : decode prog_6_method_7_code 82 = .ok (.aload_n 0, 1) := by decide +kernel
theorem d_m_feed_83 : decode prog_6_method_7_code 83 = .ok (.getfield 119, 3) := by decide +kernel
theorem d_m_feed_86 : decode prog_6_method_7_code 86 = .ok (.ireturn, 1) := by decide +kernel
theorem kc_m_feed : Kw (m_w (mi_m_feed )) := ⟨(in_t4 (List.mem_of_getElem? (i := 188) rfl)), rfl⟩
theorem mv_m_feed : MV (mi_m_feed ) "GuardedMovesModel" 2 := ⟨kw_906, kw_907, kc_m_feed , kw_7, ⟨⟨(by show ("GuardedMovesModel" : String) ≠ "java/lang/invoke/MethodHandle"; decide), (by show ("GuardedMovesModel" : String) ≠ "java/lang/invoke/VarHandle"; decide)⟩, (by show (parseMethodDescriptor "(JI)I").map (fun d => d.parameters.length) = some 2; decide +kernel)⟩⟩
def w_m_feed_40 (Q : Int32 → Sg → Prop) : Nat → Int64 → Int32 → Sg → Prop
  | 0, _, _, _ => False
  | n + 1, v1, v4, σ => (v4 < 0 → (Q (σ 58 4) σ)) ∧ (¬ v4 < 0 → (vp_in (σ 58 4) 600 ∧ (∀ x1 : Int32, x1 = v4 + (-1) → ((w_m_feed_40 Q n) v1 x1 (up (up σ 61 ((σ 58 4).toNatClampNeg) (((v1 >>> ((8 * v4).toInt64 &&& 63)) &&& 255).toInt32)) 58 4 ((σ 58 4) + 1))))))
theorem b_m_feed_40 {Δ : Ly} {G : Gm} {Q : Int32 → Sg → Prop} (cx : Cx Δ G mi_m_feed) : ∀ (n : Nat) (v1 : Int64) (v4 : Int32) (σ : Sg), w_m_feed_40 Q n v1 v4 σ → Y Δ G mi_m_feed (qI Q) noE 0 0 σ 40 [(0, .ref (Δ.1 58)), (1, .long v1), (4, .int v4)] [] := by
  intro n
  induction n with
  | zero => intro v1 v4 σ h; exact h.elim
  | succ n ih =>
    intro v1 v4 σ h
    unfold w_m_feed_40 at h
    refine y_iload cx (pc := 40) d_m_feed_40 2 rfl ?_
    refine y_if_lt cx (pc := 42) (tgt := 82) d_m_feed_42 (by decide) (fun hc => ?_) (fun hc => ?_)
    · replace h := h.1 hc
      refine y_aload_n cx (pc := 82) d_m_feed_82 rfl 0 rfl ?_
      refine y_get cx (pc := 83) (j := 4) (v := .int (σ 58 4)) (le_b rfl) ck_Md kw_752 (le_b rfl) (gf_58_4 Δ _) d_m_feed_83 ?_
      exact y_iret cx (pc := 86) rfl d_m_feed_86 (le_b rfl) (le_b rfl) h
    · replace h := h.2 hc
      refine y_aload_n cx (pc := 45) d_m_feed_45 rfl 0 rfl ?_
      refine y_get cx (pc := 46) (j := 3) (v := .ref (Δ.1 61)) (le_b rfl) ck_Md kw_751 (le_b rfl) (gf_58_3 Δ _) d_m_feed_46 ?_
      refine y_aload_n cx (pc := 49) d_m_feed_49 rfl 0 rfl ?_
      refine y_get cx (pc := 50) (j := 4) (v := .int (σ 58 4)) (le_b rfl) ck_Md kw_752 (le_b rfl) (gf_58_4 Δ _) d_m_feed_50 ?_
      refine y_lload_n cx (pc := 53) d_m_feed_53 rfl 1 rfl ?_
      refine y_bipush cx (pc := 54) bp_8 d_m_feed_54 ?_
      refine y_iload cx (pc := 56) d_m_feed_56 2 rfl ?_
      refine y_imul cx (pc := 58) d_m_feed_58 ?_
      refine y_lshr cx (pc := 59) d_m_feed_59 ?_
      refine y_ldc2 cx (pc := 60) kw_910 d_m_feed_60 ?_
      refine y_land cx (pc := 63) d_m_feed_63 ?_
      refine y_l2i cx (pc := 64) d_m_feed_64 ?_
      obtain ⟨h0, h⟩ := h
      refine y_iast cx (pc := 65) ⟨(le_b rfl), fun _ => rfl⟩ h0 d_m_feed_65 ?_
      refine y_aload_n cx (pc := 66) d_m_feed_66 rfl 0 rfl ?_
      refine y_dup cx (pc := 67) rfl d_m_feed_67 ?_
      refine y_get cx (pc := 68) (j := 4) (v := .int (σ 58 4)) (le_b rfl) ck_Md kw_752 (le_b rfl) (gf_58_4 Δ _) d_m_feed_68 ?_
      refine y_iconst cx (pc := 71) ic_1 d_m_feed_71 ?_
      refine y_iadd cx (pc := 72) d_m_feed_72 ?_
      refine y_put cx (pc := 73) (j := 4) (ty := .int) (le_b rfl) ck_Md kw_752 (le_b rfl) rfl (t_Md_ok 4 (le_b rfl)) rfl rfl (pf_58_4 Δ) d_m_feed_73 ?_
      obtain ⟨x1, ex1⟩ : ∃ y : Int32, y = v4 + (-1) := ⟨_, rfl⟩
      replace h := h x1 ex1
      refine y_iinc (v := x1) (lv' := [(4, .int x1), (0, .ref (Δ.1 58)), (1, .long v1)]) cx (pc := 76) d_m_feed_76 (j := 2) rfl (by rw [ex1]; rfl) (le_b rfl) rfl ?_
      refine y_goto cx (pc := 79) (tgt := 40) d_m_feed_79 (by decide) ?_
      refine y_sub [1, 2, 0] rfl ?_
      exact ih v1 x1 (up (up σ 61 ((σ 58 4).toNatClampNeg) (((v1 >>> ((8 * v4).toInt64 &&& 63)) &&& 255).toInt32)) 58 4 ((σ 58 4) + 1)) h
def w_m_feed_27 (Q : Int32 → Sg → Prop) (v1 : Int64) (v3 : Int32) (s0 : Int32) (s1 : Int32) (σ : Sg) : Prop := w_m_may s1 s0 σ (fun x1 σ2 => (¬ x1 = 0 → (∀ x3 : Int32, x3 = v3 - 1 → (∃ q40, w_m_feed_40 Q q40 v1 x3 σ2))) ∧ (x1 = 0 → (Q 0 σ2)))
theorem b_m_feed_27 {Δ : Ly} {G : Gm} {Q : Int32 → Sg → Prop} (cx : Cx Δ G mi_m_feed) : ∀ (v1 : Int64) (v3 : Int32) (s0 : Int32) (s1 : Int32) (σ : Sg), w_m_feed_27 Q v1 v3 s0 s1 σ → Y Δ G mi_m_feed (qI Q) noE 0 0 σ 27 [(0, .ref (Δ.1 58)), (1, .long v1), (3, .int v3)] [.int s0, .int s1, .ref (Δ.1 58)] := by
  intro v1 v3 s0 s1 σ h
  unfold w_m_feed_27 at h
  refine y_vI cx (pc := 27) (st := []) [.int s1, .int s0] (c_m_may cx.fl Δ s1 s0 _ _ h) mv_m_may kw_896 (oc_58 Δ) ck_Md rfl (le_b rfl) (le_b rfl) (le_b rfl) (le_b rfl) (le_b rfl) d_m_feed_27 (fun x1 σ2 h => ?_) (fun x σ2 h => yt_no h)
  refine y_if_ne cx (pc := 30) (tgt := 35) d_m_feed_30 (by decide) (fun hc => ?_) (fun hc => ?_)
  · replace h := h.1 hc
    refine y_iload_n cx (pc := 35) d_m_feed_35 rfl 2 rfl ?_
    refine y_iconst cx (pc := 36) ic_1 d_m_feed_36 ?_
    refine y_isub cx (pc := 37) d_m_feed_37 ?_
    refine y_topi (fun x3 ex3 => ?_)
    replace h := h x3 ex3
    refine y_istore (lv' := [(4, .int x3), (0, .ref (Δ.1 58)), (1, .long v1), (3, .int v3)]) cx (pc := 38) d_m_feed_38 (le_b rfl) rfl ?_
    refine y_sub [1, 2, 0] rfl ?_
    obtain ⟨n, h⟩ := h
    exact b_m_feed_40 cx n v1 x3 σ2 h
  · replace h := h.2 hc
    refine y_iconst cx (pc := 33) ic_0 d_m_feed_33 ?_
    exact y_iret cx (pc := 34) rfl d_m_feed_34 (le_b rfl) (le_b rfl) h
def w_m_feed (p1 : Int64) (p2 : Int32) (σ : Sg) (Q : Int32 → Sg → Prop) : Prop := w_m_isIn (p2.toInt64) 1 8 σ (fun x1 σ2 => (600 < ((σ2 58 4) + p2) → (w_m_feed_27 Q p1 p2 0 x1 σ2)) ∧ (¬ 600 < ((σ2 58 4) + p2) → (w_m_feed_27 Q p1 p2 1 x1 σ2)))
theorem b_m_feed {Δ : Ly} {G : Gm} {Q : Int32 → Sg → Prop} (cx : Cx Δ G mi_m_feed) (p1 : Int64) (p2 : Int32) (σ : Sg) (h : w_m_feed p1 p2 σ Q) : Y Δ G mi_m_feed (qI Q) noE 0 0 σ 0 [(0, .ref (Δ.1 58)), (1, .long p1), (3, .int p2)] [] := by
  unfold w_m_feed at h
  refine y_aload_n cx (pc := 0) d_m_feed_0 rfl 0 rfl ?_
  refine y_iload_n cx (pc := 1) d_m_feed_1 rfl 2 rfl ?_
  refine y_i2l cx (pc := 2) d_m_feed_2 ?_
  refine y_lconst cx (pc := 3) (v := 1) lc_1 d_m_feed_3 ?_
  refine y_ldc2 cx (pc := 4) kw_909 d_m_feed_4 ?_
  refine y_sI cx (pc := 7) (st := [.ref (Δ.1 58)]) [.long (p2.toInt64), .long 1, .long 8] (c_m_isIn cx.fl Δ (p2.toInt64) 1 8 _ _ h) mv_m_isIn kw_893 rfl (le_b rfl) (le_b rfl) (le_b rfl) (le_b rfl) (le_b rfl) d_m_feed_7 (fun x1 σ2 h => ?_) (fun x σ2 h => yt_no h)
  refine y_aload_n cx (pc := 10) d_m_feed_10 rfl 0 rfl ?_
  refine y_get cx (pc := 11) (j := 4) (v := .int (σ2 58 4)) (le_b rfl) ck_Md kw_752 (le_b rfl) (gf_58_4 Δ _) d_m_feed_11 ?_
  refine y_iload_n cx (pc := 14) d_m_feed_14 rfl 2 rfl ?_
  refine y_iadd cx (pc := 15) d_m_feed_15 ?_
  refine y_sipush cx (pc := 16) sp_600 d_m_feed_16 ?_
  refine y_icmp_gt cx (pc := 19) (tgt := 26) d_m_feed_19 (by decide) (fun hc => ?_) (fun hc => ?_)
  · replace h := h.1 hc
    refine y_iconst cx (pc := 26) ic_0 d_m_feed_26 ?_
    exact b_m_feed_27 cx p1 p2 0 x1 σ2 h
  · replace h := h.2 hc
    refine y_iconst cx (pc := 22) ic_1 d_m_feed_22 ?_
    refine y_goto cx (pc := 23) (tgt := 27) d_m_feed_23 (by decide) ?_
    exact b_m_feed_27 cx p1 p2 1 x1 σ2 h
theorem c_m_feed {l : Launch} (hfl : l.flags = flags0) (Δ : Ly) (p1 : Int64) (p2 : Int32) (σ : Sg) (Q : Int32 → Sg → Prop) (h : w_m_feed p1 p2 σ Q) : Ct l Δ mi_m_feed [.ref (Δ.1 58), .long p1, .int p2] σ (qI Q) noE :=
  Ct.of hfl (by show plainFor ⟨"GuardedMovesModel", "feed", "(JI)I"⟩ = true; decide +kernel) rfl (le_b rfl) (fun G hl cx => b_m_feed cx p1 p2 σ h)
def mi_m_next : Mi := ("GuardedMovesModel", prog_6_method_9_code, 1, [], (some .int), 0, 0, 0, 0, ⟨"GuardedMovesModel", "next", "()I"⟩)
theorem d_m_next_0 : decode prog_6_method_9_code 0 = .ok (.aload_n 0, 1) := by decide +kernel
theorem d_m_next_1 : decode prog_6_method_9_code 1 = .ok (.getfield 130, 3) := by decide +kernel
theorem d_m_next_4 : decode prog_6_method_9_code 4 = .ok (.aload_n 0, 1) := by decide +kernel
theorem d_m_next_5 : decode prog_6_method_9_code 5 = .ok (.getfield 119, 3) := by decide +kernel
theorem d_m_next_8 : decode prog_6_method_9_code 8 = .ok (.if_icmp .ge 44, 3) := by decide +kernel
theorem d_m_next_11 : decode prog_6_method_9_code 11 = .ok (.aload_n 0, 1) := by decide +kernel
theorem d_m_next_12 : decode prog_6_method_9_code 12 = .ok (.getfield 16, 3) := by decide +kernel
theorem d_m_next_15 : decode prog_6_method_9_code 15 = .ok (.aload_n 0, 1) := by decide +kernel
theorem d_m_next_16 : decode prog_6_method_9_code 16 = .ok (.getfield 130, 3) := by decide +kernel
theorem d_m_next_19 : decode prog_6_method_9_code 19 = .ok (.iaload, 1) := by decide +kernel
theorem d_m_next_20 : decode prog_6_method_9_code 20 = .ok (.bipush 32, 2) := by decide +kernel
theorem d_m_next_22 : decode prog_6_method_9_code 22 = .ok (.if_icmp .eq 17, 3) := by decide +kernel
theorem d_m_next_25 : decode prog_6_method_9_code 25 = .ok (.aload_n 0, 1) := by decide +kernel
theorem d_m_next_26 : decode prog_6_method_9_code 26 = .ok (.getfield 16, 3) := by decide +kernel
theorem d_m_next_29 : decode prog_6_method_9_code 29 = .ok (.aload_n 0, 1) := by decide +kernel
theorem d_m_next_30 : decode prog_6_method_9_code 30 = .ok (.getfield 130, 3) := by decide +kernel
theorem d_m_next_33 : decode prog_6_method_9_code 33 = .ok (.iaload, 1) := by decide +kernel
theorem d_m_next_34 : decode prog_6_method_9_code 34 = .ok (.bipush 10, 2) := by decide +kernel
theorem d_m_next_36 : decode prog_6_method_9_code 36 = .ok (.if_icmp .ne 16, 3) := by decide +kernel
theorem d_m_next_39 : decode prog_6_method_9_code 39 = .ok (.aload_n 0, 1) := by decide +kernel
theorem d_m_next_40 : decode prog_6_method_9_code 40 = .ok (.dup, 1) := by decide +kernel
theorem d_m_next_41 : decode prog_6_method_9_code 41 = .ok (.getfield 130, 3) := by decide +kernel
theorem d_m_next_44 : decode prog_6_method_9_code 44 = .ok (.iconst 1, 1) := by decide +kernel
theorem d_m_next_45 : decode prog_6_method_9_code 45 = .ok (.iadd, 1) := by decide +kernel
theorem d_m_next_46 : decode prog_6_method_9_code 46 = .ok (.putfield 130, 3) := by decide +kernel
theorem d_m_next_49 : decode prog_6_method_9_code 49 = .ok (.goto (-49), 3) := by decide +kernel
theorem d_m_next_52 : decode prog_6_method_9_code 52 = .ok (.aload_n 0, 1) := by decide +kernel
theorem d_m_next_53 : decode prog_6_method_9_code 53 = .ok (.getfield 130, 3) := by decide +kernel
theorem d_m_next_56 : decode prog_6_method_9_code 56 = .ok (.aload_n 0, 1) := by decide +kernel
theorem d_m_next_57 : decode prog_6_method_9_code 57 = .ok (.getfield 119, 3) := by decide +kernel
theorem d_m_next_60 : decode prog_6_method_9_code 60 = .ok (.if_icmp .ge 15, 3) := by decide +kernel
theorem d_m_next_63 : decode prog_6_method_9_code 63 = .ok (.aload_n 0, 1) := by decide +kernel
theorem d_m_next_64 : decode prog_6_method_9_code 64 = .ok (.getfield 16, 3) := by decide +kernel
theorem d_m_next_67 : decode prog_6_method_9_code 67 = .ok (.aload_n 0, 1) := by decide +kernel
theorem d_m_next_68 : decode prog_6_method_9_code 68 = .ok (.getfield 130, 3) := by decide +kernel
theorem d_m_next_71 : decode prog_6_method_9_code 71 = .ok (.iaload, 1) := by decide +kernel
theorem d_m_next_72 : decode prog_6_method_9_code 72 = .ok (.goto 4, 3) := by decide +kernel
theorem d_m_next_75 : decode prog_6_method_9_code 75 = .ok (.iconst (-1), 1) := by decide +kernel
theorem d_m_next_76 : decode prog_6_method_9_code 76 = .ok (.ireturn, 1) := by decide +kernel
theorem kc_m_next : Kw (m_w (mi_m_next )) := ⟨(in_t4 (List.mem_of_getElem? (i := 198) rfl)), rfl⟩
theorem mv_m_next : MV (mi_m_next ) "GuardedMovesModel" 0 := ⟨kw_917, ks_45, kc_m_next , kw_7, ⟨⟨(by show ("GuardedMovesModel" : String) ≠ "java/lang/invoke/MethodHandle"; decide), (by show ("GuardedMovesModel" : String) ≠ "java/lang/invoke/VarHandle"; decide)⟩, (by show (parseMethodDescriptor "()I").map (fun d => d.parameters.length) = some 0; decide +kernel)⟩⟩
def w_m_next_76 (Q : Int32 → Sg → Prop) (s0 : Int32) (σ : Sg) : Prop := Q s0 σ
theorem b_m_next_76 {Δ : Ly} {G : Gm} {Q : Int32 → Sg → Prop} (cx : Cx Δ G mi_m_next) : ∀ (s0 : Int32) (σ : Sg), w_m_next_76 Q s0 σ → Y Δ G mi_m_next (qI Q) noE 0 0 σ 76 [] [.int s0] := by
  intro s0 σ h
  unfold w_m_next_76 at h
  exact y_iret cx (pc := 76) rfl d_m_next_76 (le_b rfl) (le_b rfl) h
def w_m_next_52 (Q : Int32 → Sg → Prop) (σ : Sg) : Prop := ((σ 58 4) ≤ (σ 58 5) → (w_m_next_76 Q (-1) σ)) ∧ (¬ (σ 58 4) ≤ (σ 58 5) → (vp_in (σ 58 5) 600 ∧ (w_m_next_76 Q (σ 61 ((σ 58 5).toNatClampNeg)) σ)))
theorem b_m_next_52 {Δ : Ly} {G : Gm} {Q : Int32 → Sg → Prop} (cx : Cx Δ G mi_m_next) : ∀ (σ : Sg), w_m_next_52 Q σ → Y Δ G mi_m_next (qI Q) noE 0 0 σ 52 [(0, .ref (Δ.1 58))] [] := by
  intro σ h
  unfold w_m_next_52 at h
  refine y_aload_n cx (pc := 52) d_m_next_52 rfl 0 rfl ?_
  refine y_get cx (pc := 53) (j := 5) (v := .int (σ 58 5)) (le_b rfl) ck_Md kw_753 (le_b rfl) (gf_58_5 Δ _) d_m_next_53 ?_
  refine y_aload_n cx (pc := 56) d_m_next_56 rfl 0 rfl ?_
  refine y_get cx (pc := 57) (j := 4) (v := .int (σ 58 4)) (le_b rfl) ck_Md kw_752 (le_b rfl) (gf_58_4 Δ _) d_m_next_57 ?_
  refine y_icmp_ge cx (pc := 60) (tgt := 75) d_m_next_60 (by decide) (fun hc => ?_) (fun hc => ?_)
  · replace h := h.1 hc
    refine y_iconst cx (pc := 75) ic_m1 d_m_next_75 ?_
    refine y_sub [] rfl ?_
    exact b_m_next_76 cx (-1) σ h
  · replace h := h.2 hc
    refine y_aload_n cx (pc := 63) d_m_next_63 rfl 0 rfl ?_
    refine y_get cx (pc := 64) (j := 3) (v := .ref (Δ.1 61)) (le_b rfl) ck_Md kw_751 (le_b rfl) (gf_58_3 Δ _) d_m_next_64 ?_
    refine y_aload_n cx (pc := 67) d_m_next_67 rfl 0 rfl ?_
    refine y_get cx (pc := 68) (j := 5) (v := .int (σ 58 5)) (le_b rfl) ck_Md kw_753 (le_b rfl) (gf_58_5 Δ _) d_m_next_68 ?_
    obtain ⟨h0, h⟩ := h
    refine y_iald cx (pc := 71) ⟨(le_b rfl), fun _ => rfl⟩ h0 d_m_next_71 ?_
    refine y_goto cx (pc := 72) (tgt := 76) d_m_next_72 (by decide) ?_
    refine y_sub [] rfl ?_
    exact b_m_next_76 cx (σ 61 ((σ 58 5).toNatClampNeg)) σ h
def w_m_next_39 (K0 : Sg → Prop) (Q : Int32 → Sg → Prop) (σ : Sg) : Prop := K0 (up σ 58 5 ((σ 58 5) + 1))
theorem b_m_next_39 {Δ : Ly} {G : Gm} {K0 : Sg → Prop} {Q : Int32 → Sg → Prop} (cx : Cx Δ G mi_m_next) (hK0 : ∀ (σ : Sg), K0 σ → Y Δ G mi_m_next (qI Q) noE 0 0 σ 0 [(0, .ref (Δ.1 58))] []) : ∀ (σ : Sg), w_m_next_39 K0 Q σ → Y Δ G mi_m_next (qI Q) noE 0 0 σ 39 [(0, .ref (Δ.1 58))] [] := by
  intro σ h
  unfold w_m_next_39 at h
  refine y_aload_n cx (pc := 39) d_m_next_39 rfl 0 rfl ?_
  refine y_dup cx (pc := 40) rfl d_m_next_40 ?_
  refine y_get cx (pc := 41) (j := 5) (v := .int (σ 58 5)) (le_b rfl) ck_Md kw_753 (le_b rfl) (gf_58_5 Δ _) d_m_next_41 ?_
  refine y_iconst cx (pc := 44) ic_1 d_m_next_44 ?_
  refine y_iadd cx (pc := 45) d_m_next_45 ?_
  refine y_put cx (pc := 46) (j := 5) (ty := .int) (le_b rfl) ck_Md kw_753 (le_b rfl) rfl (t_Md_ok 5 (le_b rfl)) rfl rfl (pf_58_5 Δ) d_m_next_46 ?_
  refine y_goto cx (pc := 49) (tgt := 0) d_m_next_49 (by decide) ?_
  exact hK0 (up σ 58 5 ((σ 58 5) + 1)) h
def w_m_next_0 (Q : Int32 → Sg → Prop) : Nat → Sg → Prop
  | 0, _ => False
  | n + 1, σ => ((σ 58 4) ≤ (σ 58 5) → (w_m_next_52 Q σ)) ∧ (¬ (σ 58 4) ≤ (σ 58 5) → (vp_in (σ 58 5) 600 ∧ (((σ 61 ((σ 58 5).toNatClampNeg)) = 32 → (w_m_next_39 (w_m_next_0 Q n) Q σ)) ∧ (¬ (σ 61 ((σ 58 5).toNatClampNeg)) = 32 → (vp_in (σ 58 5) 600 ∧ ((¬ (σ 61 ((σ 58 5).toNatClampNeg)) = 10 → (w_m_next_52 Q σ)) ∧ ((σ 61 ((σ 58 5).toNatClampNeg)) = 10 → (w_m_next_39 (w_m_next_0 Q n) Q σ))))))))
theorem b_m_next_0 {Δ : Ly} {G : Gm} {Q : Int32 → Sg → Prop} (cx : Cx Δ G mi_m_next) : ∀ (n : Nat) (σ : Sg), w_m_next_0 Q n σ → Y Δ G mi_m_next (qI Q) noE 0 0 σ 0 [(0, .ref (Δ.1 58))] [] := by
  intro n
  induction n with
  | zero => intro σ h; exact h.elim
  | succ n ih =>
    intro σ h
    unfold w_m_next_0 at h
    refine y_aload_n cx (pc := 0) d_m_next_0 rfl 0 rfl ?_
    refine y_get cx (pc := 1) (j := 5) (v := .int (σ 58 5)) (le_b rfl) ck_Md kw_753 (le_b rfl) (gf_58_5 Δ _) d_m_next_1 ?_
    refine y_aload_n cx (pc := 4) d_m_next_4 rfl 0 rfl ?_
    refine y_get cx (pc := 5) (j := 4) (v := .int (σ 58 4)) (le_b rfl) ck_Md kw_752 (le_b rfl) (gf_58_4 Δ _) d_m_next_5 ?_
    refine y_icmp_ge cx (pc := 8) (tgt := 52) d_m_next_8 (by decide) (fun hc => ?_) (fun hc => ?_)
    · replace h := h.1 hc
      exact b_m_next_52 cx σ h
    · replace h := h.2 hc
      refine y_aload_n cx (pc := 11) d_m_next_11 rfl 0 rfl ?_
      refine y_get cx (pc := 12) (j := 3) (v := .ref (Δ.1 61)) (le_b rfl) ck_Md kw_751 (le_b rfl) (gf_58_3 Δ _) d_m_next_12 ?_
      refine y_aload_n cx (pc := 15) d_m_next_15 rfl 0 rfl ?_
      refine y_get cx (pc := 16) (j := 5) (v := .int (σ 58 5)) (le_b rfl) ck_Md kw_753 (le_b rfl) (gf_58_5 Δ _) d_m_next_16 ?_
      obtain ⟨h0, h⟩ := h
      refine y_iald cx (pc := 19) ⟨(le_b rfl), fun _ => rfl⟩ h0 d_m_next_19 ?_
      refine y_bipush cx (pc := 20) bp_32 d_m_next_20 ?_
      refine y_icmp_eq cx (pc := 22) (tgt := 39) d_m_next_22 (by decide) (fun hc => ?_) (fun hc => ?_)
      · replace h := h.1 hc
        exact b_m_next_39 cx ih σ h
      · replace h := h.2 hc
        refine y_aload_n cx (pc := 25) d_m_next_25 rfl 0 rfl ?_
        refine y_get cx (pc := 26) (j := 3) (v := .ref (Δ.1 61)) (le_b rfl) ck_Md kw_751 (le_b rfl) (gf_58_3 Δ _) d_m_next_26 ?_
        refine y_aload_n cx (pc := 29) d_m_next_29 rfl 0 rfl ?_
        refine y_get cx (pc := 30) (j := 5) (v := .int (σ 58 5)) (le_b rfl) ck_Md kw_753 (le_b rfl) (gf_58_5 Δ _) d_m_next_30 ?_
        obtain ⟨h0, h⟩ := h
        refine y_iald cx (pc := 33) ⟨(le_b rfl), fun _ => rfl⟩ h0 d_m_next_33 ?_
        refine y_bipush cx (pc := 34) bp_10 d_m_next_34 ?_
        refine y_icmp_ne cx (pc := 36) (tgt := 52) d_m_next_36 (by decide) (fun hc => ?_) (fun hc => ?_)
        · replace h := h.1 hc
          exact b_m_next_52 cx σ h
        · replace h := h.2 hc
          exact b_m_next_39 cx ih σ h
def w_m_next (σ : Sg) (Q : Int32 → Sg → Prop) : Prop := ∃ q0, w_m_next_0 Q q0 σ
theorem b_m_next {Δ : Ly} {G : Gm} {Q : Int32 → Sg → Prop} (cx : Cx Δ G mi_m_next) (σ : Sg) (h : w_m_next σ Q) : Y Δ G mi_m_next (qI Q) noE 0 0 σ 0 [(0, .ref (Δ.1 58))] [] := by
  unfold w_m_next at h
  obtain ⟨n, h⟩ := h
  exact b_m_next_0 cx n σ h
theorem c_m_next {l : Launch} (hfl : l.flags = flags0) (Δ : Ly) (σ : Sg) (Q : Int32 → Sg → Prop) (h : w_m_next σ Q) : Ct l Δ mi_m_next [.ref (Δ.1 58)] σ (qI Q) noE :=
  Ct.of hfl (by show plainFor ⟨"GuardedMovesModel", "next", "()I"⟩ = true; decide +kernel) rfl (le_b rfl) (fun G hl cx => b_m_next cx σ h)
def mi_m_closeSide : Mi := ("GuardedMovesModel", prog_6_method_20_code, 2, [], none, 1, 24, 0, 0, ⟨"GuardedMovesModel", "closeSide", "()V"⟩)
theorem d_m_closeSide_0 : decode prog_6_method_20_code 0 = .ok (.aload_n 0, 1) := by decide +kernel
theorem d_m_closeSide_1 : decode prog_6_method_20_code 1 = .ok (.getfield 37, 3) := by decide +kernel
theorem d_m_closeSide_4 : decode prog_6_method_20_code 4 = .ok (.aload_n 0, 1) := by decide +kernel
theorem d_m_closeSide_5 : decode prog_6_method_20_code 5 = .ok (.getfield 177, 3) := by decide +kernel
theorem d_m_closeSide_8 : decode prog_6_method_20_code 8 = .ok (.iconst 1, 1) := by decide +kernel
theorem d_m_closeSide_9 : decode prog_6_method_20_code 9 = .ok (.isub, 1) := by decide +kernel
theorem d_m_closeSide_10 : decode prog_6_method_20_code 10 = .ok (.iaload, 1) := by decide +kernel
theorem d_m_closeSide_11 : decode prog_6_method_20_code 11 = .ok (.istore_n 1, 1) := by decide +kernel
theorem d_m_closeSide_12 : decode prog_6_method_20_code 12 = .ok (.aload_n 0, 1) := by decide +kernel
theorem d_m_closeSide_13 : decode prog_6_method_20_code 13 = .ok (.dup, 1) := by decide +kernel
theorem d_m_closeSide_14 : decode prog_6_method_20_code 14 = .ok (.getfield 130, 3) := by decide +kernel
theorem d_m_closeSide_17 : decode prog_6_method_20_code 17 = .ok (.iconst 1, 1) := by decide +kernel
theorem d_m_closeSide_18 : decode prog_6_method_20_code 18 = .ok (.iadd, 1) := by decide +kernel
theorem d_m_closeSide_19 : decode prog_6_method_20_code 19 = .ok (.putfield 130, 3) := by decide +kernel
theorem d_m_closeSide_22 : decode prog_6_method_20_code 22 = .ok (.aload_n 0, 1) := by decide +kernel
theorem d_m_closeSide_23 : decode prog_6_method_20_code 23 = .ok (.getfield 28, 3) := by decide +kernel
theorem d_m_closeSide_26 : decode prog_6_method_20_code 26 = .ok (.iload_n 1, 1) := by decide +kernel
theorem d_m_closeSide_27 : decode prog_6_method_20_code 27 = .ok (.aload_n 0, 1) := by decide +kernel
theorem d_m_closeSide_28 : decode prog_6_method_20_code 28 = .ok (.getfield 174, 3) := by decide +kernel
theorem d_m_closeSide_31 : decode prog_6_method_20_code 31 = .ok (.iastore, 1) := by decide +kernel
theorem d_m_closeSide_32 : decode prog_6_method_20_code 32 = .ok (.aload_n 0, 1) := by decide +kernel
theorem d_m_closeSide_33 : decode prog_6_method_20_code 33 = .ok (.getfield 40, 3) := by decide +kernel
theorem d_m_closeSide_36 : decode prog_6_method_20_code 36 = .ok (.aload_n 0, 1) := by decide +kernel
theorem d_m_closeSide_37 : decode prog_6_method_20_code 37 = .ok (.getfield 177, 3) := by decide +kernel
theorem d_m_closeSide_40 : decode prog_6_method_20_code 40 = .ok (.iconst 1, 1) := by decide +kernel
theorem d_m_closeSide_41 : decode prog_6_method_20_code 41 = .ok (.isub, 1) := by decide +kernel
theorem d_m_closeSide_42 : decode prog_6_method_20_code 42 = .ok (.baload, 1) := by decide +kernel
theorem d_m_closeSide_43 : decode prog_6_method_20_code 43 = .ok (.ifCond .ne 45, 3) := by decide +kernel
theorem d_m_closeSide_46 : decode prog_6_method_20_code 46 = .ok (.aload_n 0, 1) := by decide +kernel
theorem d_m_closeSide_47 : decode prog_6_method_20_code 47 = .ok (.getfield 25, 3) := by decide +kernel
theorem d_m_closeSide_50 : decode prog_6_method_20_code 50 = .ok (.iload_n 1, 1) := by decide +kernel
theorem d_m_closeSide_51 : decode prog_6_method_20_code 51 = .ok (.aload_n 0, 1) := by decide +kernel
theorem d_m_closeSide_52 : decode prog_6_method_20_code 52 = .ok (.getfield 174, 3) := by decide +kernel
theorem d_m_closeSide_55 : decode prog_6_method_20_code 55 = .ok (.iastore, 1) := by decide +kernel
theorem d_m_closeSide_56 : decode prog_6_method_20_code 56 = .ok (.aload_n 0, 1) := by decide +kernel
theorem d_m_closeSide_57 : decode prog_6_method_20_code 57 = .ok (.invokevirtual 133, 3) := by decide +kernel
theorem d_m_closeSide_60 : decode prog_6_method_20_code 60 = .ok (.bipush 123, 2) := by decide +kernel
theorem d_m_closeSide_62 : decode prog_6_method_20_code 62 = .ok (.if_icmp .ne 26, 3) := by decide +kernel
theorem d_m_closeSide_65 : decode prog_6_method_20_code 65 = .ok (.aload_n 0, 1) := by decide +kernel
theorem d_m_closeSide_66 : decode prog_6_method_20_code 66 = .ok (.dup, 1) := by decide +kernel
theorem d_m_closeSide_67 : decode prog_6_method_20_code 67 = .ok (.getfield 130, 3) := by decide +kernel
theorem d_m_closeSide_70 : decode prog_6_method_20_code 70 = .ok (.iconst 1, 1) := by decide +kernel
theorem d_m_closeSide_71 : decode prog_6_method_20_code 71 = .ok (.iadd, 1) := by decide +kernel
theorem d_m_closeSide_72 : decode prog_6_method_20_code 72 = .ok (.putfield 130, 3) := by decide +kernel
theorem d_m_closeSide_75 : decode prog_6_method_20_code 75 = .ok (.aload_n 0, 1) := by decide +kernel
theorem d_m_closeSide_76 : decode prog_6_method_20_code 76 = .ok (.getfield 40, 3) := by decide +kernel
theorem d_m_closeSide_79 : decode prog_6_method_20_code 79 = .ok (.aload_n 0, 1) := by decide +kernel
theorem d_m_closeSide_80 : decode prog_6_method_20_code 80 = .ok (.getfield 177, 3) := by decide +kernel
theorem d_m_closeSide_83 : decode prog_6_method_20_code 83 = .ok (.iconst 1, 1) := by decide +kernel
theorem d_m_closeSide_84 : decode prog_6_method_20_code 84 = .ok (.isub, 1) := by decide +kernel
theorem d_m_closeSide_85 : decode prog_6_method_20_code 85 = .ok (.iconst 1, 1) := by decide +kernel
theorem d_m_closeSide_86 : decode prog_6_method_20_code 86 = .ok (.bastore, 1) := by decide +kernel
theorem d_m_closeSide_87 : decode prog_6_method_20_code 87 = .ok (.return_, 1) := by decide +kernel
theorem d_m_closeSide_88 : decode prog_6_method_20_code 88 = .ok (.aload_n 0, 1) := by decide +kernel
theorem d_m_closeSide_89 : decode prog_6_method_20_code 89 = .ok (.dup, 1) := by decide +kernel
theorem d_m_closeSide_90 : decode prog_6_method_20_code 90 = .ok (.getfield 177, 3) := by decide +kernel
theorem d_m_closeSide_93 : decode prog_6_method_20_code 93 = .ok (.iconst 1, 1) := by decide +kernel
theorem d_m_closeSide_94 : decode prog_6_method_20_code 94 = .ok (.isub, 1) := by decide +kernel
theorem d_m_closeSide_95 : decode prog_6_method_20_code 95 = .ok (.putfield 177, 3) := by decide +kernel
theorem d_m_closeSide_98 : decode prog_6_method_20_code 98 = .ok (.return_, 1) := by decide +kernel
theorem kc_m_closeSide : Kw (m_w (mi_m_closeSide )) := ⟨(in_t4 (List.mem_of_getElem? (i := 202) rfl)), rfl⟩
theorem mv_m_closeSide : MV (mi_m_closeSide ) "GuardedMovesModel" 0 := ⟨kw_921, ks_46, kc_m_closeSide , kw_7, ⟨⟨(by show ("GuardedMovesModel" : String) ≠ "java/lang/invoke/MethodHandle"; decide), (by show ("GuardedMovesModel" : String) ≠ "java/lang/invoke/VarHandle"; decide)⟩, (by show (parseMethodDescriptor "()V").map (fun d => d.parameters.length) = some 0; decide +kernel)⟩⟩
def w_m_closeSide_88 (Q : Sg → Prop) (σ : Sg) : Prop := Q (up σ 58 18 ((σ 58 18) - 1))
theorem b_m_closeSide_88 {Δ : Ly} {G : Gm} {Q : Sg → Prop} (cx : Cx Δ G mi_m_closeSide) : ∀ (σ : Sg), w_m_closeSide_88 Q σ → Y Δ G mi_m_closeSide (qV Q) noE 0 0 σ 88 [(0, .ref (Δ.1 58))] [] := by
  intro σ h
  unfold w_m_closeSide_88 at h
  refine y_aload_n cx (pc := 88) d_m_closeSide_88 rfl 0 rfl ?_
  refine y_dup cx (pc := 89) rfl d_m_closeSide_89 ?_
  refine y_get cx (pc := 90) (j := 18) (v := .int (σ 58 18)) (le_b rfl) ck_Md kw_766 (le_b rfl) (gf_58_18 Δ _) d_m_closeSide_90 ?_
  refine y_iconst cx (pc := 93) ic_1 d_m_closeSide_93 ?_
  refine y_isub cx (pc := 94) d_m_closeSide_94 ?_
  refine y_put cx (pc := 95) (j := 18) (ty := .int) (le_b rfl) ck_Md kw_766 (le_b rfl) rfl (t_Md_ok 18 (le_b rfl)) rfl rfl (pf_58_18 Δ) d_m_closeSide_95 ?_
  exact y_vret cx (pc := 98) rfl d_m_closeSide_98 (le_b rfl) (le_b rfl) h
def w_m_closeSide (σ : Sg) (Q : Sg → Prop) : Prop := vp_in ((σ 58 18) - 1) 7 ∧ (∀ x1 : Int32, x1 = σ 68 (((σ 58 18) - 1).toNatClampNeg) → (vp_in x1 60 ∧ (vp_in ((σ 58 18) - 1) 7 ∧ ((¬ (σ 69 (((σ 58 18) - 1).toNatClampNeg)) = 0 → (w_m_closeSide_88 Q (up (up σ 58 5 ((σ 58 5) + 1)) 65 (x1.toNatClampNeg) (σ 58 8)))) ∧ ((σ 69 (((σ 58 18) - 1).toNatClampNeg)) = 0 → (vp_in x1 60 ∧ (w_m_next (up (up (up σ 58 5 ((σ 58 5) + 1)) 65 (x1.toNatClampNeg) (σ 58 8)) 64 (x1.toNatClampNeg) (σ 58 8)) (fun x2 σ3 => (¬ x2 = 123 → (w_m_closeSide_88 Q σ3)) ∧ (x2 = 123 → (vp_in ((σ3 58 18) - 1) 7 ∧ (Q (up (up σ3 58 5 ((σ3 58 5) + 1)) 69 (((σ3 58 18) - 1).toNatClampNeg) 1))))))))))))
theorem b_m_closeSide {Δ : Ly} {G : Gm} {Q : Sg → Prop} (cx : Cx Δ G mi_m_closeSide) (σ : Sg) (h : w_m_closeSide σ Q) : Y Δ G mi_m_closeSide (qV Q) noE 0 0 σ 0 [(0, .ref (Δ.1 58))] [] := by
  unfold w_m_closeSide at h
  refine y_aload_n cx (pc := 0) d_m_closeSide_0 rfl 0 rfl ?_
  refine y_get cx (pc := 1) (j := 16) (v := .ref (Δ.1 68)) (le_b rfl) ck_Md kw_764 (le_b rfl) (gf_58_16 Δ _) d_m_closeSide_1 ?_
  refine y_aload_n cx (pc := 4) d_m_closeSide_4 rfl 0 rfl ?_
  refine y_get cx (pc := 5) (j := 18) (v := .int (σ 58 18)) (le_b rfl) ck_Md kw_766 (le_b rfl) (gf_58_18 Δ _) d_m_closeSide_5 ?_
  refine y_iconst cx (pc := 8) ic_1 d_m_closeSide_8 ?_
  refine y_isub cx (pc := 9) d_m_closeSide_9 ?_
  obtain ⟨h0, h⟩ := h
  refine y_iald cx (pc := 10) ⟨(le_b rfl), fun _ => rfl⟩ h0 d_m_closeSide_10 ?_
  refine y_topi (fun x1 ex1 => ?_)
  replace h := h x1 ex1
  refine y_istore_n (lv' := [(1, .int x1), (0, .ref (Δ.1 58))]) cx (pc := 11) d_m_closeSide_11 rfl (le_b rfl) rfl ?_
  refine y_aload_n cx (pc := 12) d_m_closeSide_12 rfl 1 rfl ?_
  refine y_dup cx (pc := 13) rfl d_m_closeSide_13 ?_
  refine y_get cx (pc := 14) (j := 5) (v := .int (σ 58 5)) (le_b rfl) ck_Md kw_753 (le_b rfl) (gf_58_5 Δ _) d_m_closeSide_14 ?_
  refine y_iconst cx (pc := 17) ic_1 d_m_closeSide_17 ?_
  refine y_iadd cx (pc := 18) d_m_closeSide_18 ?_
  refine y_put cx (pc := 19) (j := 5) (ty := .int) (le_b rfl) ck_Md kw_753 (le_b rfl) rfl (t_Md_ok 5 (le_b rfl)) rfl rfl (pf_58_5 Δ) d_m_closeSide_19 ?_
  refine y_aload_n cx (pc := 22) d_m_closeSide_22 rfl 1 rfl ?_
  refine y_get cx (pc := 23) (j := 13) (v := .ref (Δ.1 65)) (le_b rfl) ck_Md kw_761 (le_b rfl) (gf_58_13 Δ _) d_m_closeSide_23 ?_
  refine y_iload_n cx (pc := 26) d_m_closeSide_26 rfl 0 rfl ?_
  refine y_aload_n cx (pc := 27) d_m_closeSide_27 rfl 1 rfl ?_
  refine y_get cx (pc := 28) (j := 8) (v := .int (σ 58 8)) (le_b rfl) ck_Md kw_756 (le_b rfl) (gf_58_8 Δ _) d_m_closeSide_28 ?_
  obtain ⟨h0, h⟩ := h
  refine y_iast cx (pc := 31) ⟨(le_b rfl), fun _ => rfl⟩ h0 d_m_closeSide_31 ?_
  refine y_aload_n cx (pc := 32) d_m_closeSide_32 rfl 1 rfl ?_
  refine y_get cx (pc := 33) (j := 17) (v := .ref (Δ.1 69)) (le_b rfl) ck_Md kw_765 (le_b rfl) (gf_58_17 Δ _) d_m_closeSide_33 ?_
  refine y_aload_n cx (pc := 36) d_m_closeSide_36 rfl 1 rfl ?_
  refine y_get cx (pc := 37) (j := 18) (v := .int (σ 58 18)) (le_b rfl) ck_Md kw_766 (le_b rfl) (gf_58_18 Δ _) d_m_closeSide_37 ?_
  refine y_iconst cx (pc := 40) ic_1 d_m_closeSide_40 ?_
  refine y_isub cx (pc := 41) d_m_closeSide_41 ?_
  obtain ⟨h0, h⟩ := h
  refine y_zald cx (pc := 42) ⟨(le_b rfl), fun _ => rfl⟩ h0 d_m_closeSide_42 ?_
  refine y_if_ne cx (pc := 43) (tgt := 88) d_m_closeSide_43 (by decide) (fun hc => ?_) (fun hc => ?_)
  · replace h := h.1 hc
    refine y_sub [1] rfl ?_
    exact b_m_closeSide_88 cx (up (up σ 58 5 ((σ 58 5) + 1)) 65 (x1.toNatClampNeg) (σ 58 8)) h
  · replace h := h.2 hc
    refine y_aload_n cx (pc := 46) d_m_closeSide_46 rfl 1 rfl ?_
    refine y_get cx (pc := 47) (j := 12) (v := .ref (Δ.1 64)) (le_b rfl) ck_Md kw_760 (le_b rfl) (gf_58_12 Δ _) d_m_closeSide_47 ?_
    refine y_iload_n cx (pc := 50) d_m_closeSide_50 rfl 0 rfl ?_
    refine y_aload_n cx (pc := 51) d_m_closeSide_51 rfl 1 rfl ?_
    refine y_get cx (pc := 52) (j := 8) (v := .int (σ 58 8)) (le_b rfl) ck_Md kw_756 (le_b rfl) (gf_58_8 Δ _) d_m_closeSide_52 ?_
    obtain ⟨h0, h⟩ := h
    refine y_iast cx (pc := 55) ⟨(le_b rfl), fun _ => rfl⟩ h0 d_m_closeSide_55 ?_
    refine y_aload_n cx (pc := 56) d_m_closeSide_56 rfl 1 rfl ?_
    refine y_vI cx (pc := 57) (st := []) [] (c_m_next cx.fl Δ _ _ h) mv_m_next kw_915 (oc_58 Δ) ck_Md rfl (le_b rfl) (le_b rfl) (le_b rfl) (le_b rfl) (le_b rfl) d_m_closeSide_57 (fun x2 σ3 h => ?_) (fun x σ3 h => yt_no h)
    refine y_bipush cx (pc := 60) bp_123 d_m_closeSide_60 ?_
    refine y_icmp_ne cx (pc := 62) (tgt := 88) d_m_closeSide_62 (by decide) (fun hc => ?_) (fun hc => ?_)
    · replace h := h.1 hc
      refine y_sub [1] rfl ?_
      exact b_m_closeSide_88 cx σ3 h
    · replace h := h.2 hc
      refine y_aload_n cx (pc := 65) d_m_closeSide_65 rfl 1 rfl ?_
      refine y_dup cx (pc := 66) rfl d_m_closeSide_66 ?_
      refine y_get cx (pc := 67) (j := 5) (v := .int (σ3 58 5)) (le_b rfl) ck_Md kw_753 (le_b rfl) (gf_58_5 Δ _) d_m_closeSide_67 ?_
      refine y_iconst cx (pc := 70) ic_1 d_m_closeSide_70 ?_
      refine y_iadd cx (pc := 71) d_m_closeSide_71 ?_
      refine y_put cx (pc := 72) (j := 5) (ty := .int) (le_b rfl) ck_Md kw_753 (le_b rfl) rfl (t_Md_ok 5 (le_b rfl)) rfl rfl (pf_58_5 Δ) d_m_closeSide_72 ?_
      refine y_aload_n cx (pc := 75) d_m_closeSide_75 rfl 1 rfl ?_
      refine y_get cx (pc := 76) (j := 17) (v := .ref (Δ.1 69)) (le_b rfl) ck_Md kw_765 (le_b rfl) (gf_58_17 Δ _) d_m_closeSide_76 ?_
      refine y_aload_n cx (pc := 79) d_m_closeSide_79 rfl 1 rfl ?_
      refine y_get cx (pc := 80) (j := 18) (v := .int (σ3 58 18)) (le_b rfl) ck_Md kw_766 (le_b rfl) (gf_58_18 Δ _) d_m_closeSide_80 ?_
      refine y_iconst cx (pc := 83) ic_1 d_m_closeSide_83 ?_
      refine y_isub cx (pc := 84) d_m_closeSide_84 ?_
      refine y_iconst cx (pc := 85) ic_1 d_m_closeSide_85 ?_
      obtain ⟨h0, h⟩ := h
      refine y_zastB cx (pc := 86) ⟨(le_b rfl), fun _ => rfl⟩ h0 bz_1 d_m_closeSide_86 ?_
      exact y_vret cx (pc := 87) rfl d_m_closeSide_87 (le_b rfl) (le_b rfl) h
theorem c_m_closeSide {l : Launch} (hfl : l.flags = flags0) (Δ : Ly) (σ : Sg) (Q : Sg → Prop) (h : w_m_closeSide σ Q) : Ct l Δ mi_m_closeSide [.ref (Δ.1 58)] σ (qV Q) noE :=
  Ct.of hfl (by show plainFor ⟨"GuardedMovesModel", "closeSide", "()V"⟩ = true; decide +kernel) rfl (le_b rfl) (fun G hl cx => b_m_closeSide cx σ h)
def mi_m_fail : Mi := ("GuardedMovesModel", prog_6_method_8_code, 3, [], none, 0, 0, 0, 0, ⟨"GuardedMovesModel", "fail", "(II)V"⟩)
theorem d_m_fail_0 : decode prog_6_method_8_code 0 = .ok (.aload_n 0, 1) := by decide +kernel
theorem d_m_fail_1 : decode prog_6_method_8_code 1 = .ok (.getfield 124, 3) := by decide +kernel
theorem d_m_fail_4 : decode prog_6_method_8_code 4 = .ok (.ifCond .ne 13, 3) := by decide +kernel
theorem d_m_fail_7 : decode prog_6_method_8_code 7 = .ok (.aload_n 0, 1) := by decide +kernel
theorem d_m_fail_8 : decode prog_6_method_8_code 8 = .ok (.iload_n 1, 1) := by decide +kernel
theorem d_m_fail_9 : decode prog_6_method_8_code 9 = .ok (.putfield 124, 3) := by decide +kernel
theorem d_m_fail_12 : decode prog_6_method_8_code 12 = .ok (.aload_n 0, 1) := by decide +kernel
theorem d_m_fail_13 : decode prog_6_method_8_code 13 = .ok (.iload_n 2, 1) := by decide +kernel
theorem d_m_fail_14 : decode prog_6_method_8_code 14 = .ok (.putfield 127, 3) := by decide +kernel
theorem d_m_fail_17 : decode prog_6_method_8_code 17 = .ok (.return_, 1) := by decide +kernel
theorem kc_m_fail : Kw (m_w (mi_m_fail )) := ⟨(in_t4 (List.mem_of_getElem? (i := 213) rfl)), rfl⟩
theorem mv_m_fail : MV (mi_m_fail ) "GuardedMovesModel" 2 := ⟨kw_932, ks_48, kc_m_fail , kw_7, ⟨⟨(by show ("GuardedMovesModel" : String) ≠ "java/lang/invoke/MethodHandle"; decide), (by show ("GuardedMovesModel" : String) ≠ "java/lang/invoke/VarHandle"; decide)⟩, (by show (parseMethodDescriptor "(II)V").map (fun d => d.parameters.length) = some 2; decide +kernel)⟩⟩
def w_m_fail_17 (Q : Sg → Prop) (σ : Sg) : Prop := Q σ
theorem b_m_fail_17 {Δ : Ly} {G : Gm} {Q : Sg → Prop} (cx : Cx Δ G mi_m_fail) : ∀ (σ : Sg), w_m_fail_17 Q σ → Y Δ G mi_m_fail (qV Q) noE 0 0 σ 17 [] [] := by
  intro σ h
  unfold w_m_fail_17 at h
  exact y_vret cx (pc := 17) rfl d_m_fail_17 (le_b rfl) (le_b rfl) h
def w_m_fail (p1 : Int32) (p2 : Int32) (σ : Sg) (Q : Sg → Prop) : Prop := (¬ (σ 58 6) = 0 → (w_m_fail_17 Q σ)) ∧ ((σ 58 6) = 0 → (w_m_fail_17 Q (up (up σ 58 6 p1) 58 7 p2)))
theorem b_m_fail {Δ : Ly} {G : Gm} {Q : Sg → Prop} (cx : Cx Δ G mi_m_fail) (p1 : Int32) (p2 : Int32) (σ : Sg) (h : w_m_fail p1 p2 σ Q) : Y Δ G mi_m_fail (qV Q) noE 0 0 σ 0 [(0, .ref (Δ.1 58)), (1, .int p1), (2, .int p2)] [] := by
  unfold w_m_fail at h
  refine y_aload_n cx (pc := 0) d_m_fail_0 rfl 0 rfl ?_
  refine y_get cx (pc := 1) (j := 6) (v := .int (σ 58 6)) (le_b rfl) ck_Md kw_754 (le_b rfl) (gf_58_6 Δ _) d_m_fail_1 ?_
  refine y_if_ne cx (pc := 4) (tgt := 17) d_m_fail_4 (by decide) (fun hc => ?_) (fun hc => ?_)
  · replace h := h.1 hc
    refine y_sub [] rfl ?_
    exact b_m_fail_17 cx σ h
  · replace h := h.2 hc
    refine y_aload_n cx (pc := 7) d_m_fail_7 rfl 0 rfl ?_
    refine y_iload_n cx (pc := 8) d_m_fail_8 rfl 1 rfl ?_
    refine y_put cx (pc := 9) (j := 6) (ty := .int) (le_b rfl) ck_Md kw_754 (le_b rfl) rfl (t_Md_ok 6 (le_b rfl)) rfl rfl (pf_58_6 Δ) d_m_fail_9 ?_
    refine y_aload_n cx (pc := 12) d_m_fail_12 rfl 0 rfl ?_
    refine y_iload_n cx (pc := 13) d_m_fail_13 rfl 2 rfl ?_
    refine y_put cx (pc := 14) (j := 7) (ty := .int) (le_b rfl) ck_Md kw_755 (le_b rfl) rfl (t_Md_ok 7 (le_b rfl)) rfl rfl (pf_58_7 Δ) d_m_fail_14 ?_
    refine y_sub [] rfl ?_
    exact b_m_fail_17 cx (up (up σ 58 6 p1) 58 7 p2) h
theorem c_m_fail {l : Launch} (hfl : l.flags = flags0) (Δ : Ly) (p1 : Int32) (p2 : Int32) (σ : Sg) (Q : Sg → Prop) (h : w_m_fail p1 p2 σ Q) : Ct l Δ mi_m_fail [.ref (Δ.1 58), .int p1, .int p2] σ (qV Q) noE :=
  Ct.of hfl (by show plainFor ⟨"GuardedMovesModel", "fail", "(II)V"⟩ = true; decide +kernel) rfl (le_b rfl) (fun G hl cx => b_m_fail cx p1 p2 σ h)
def mi_m_isVariable : Mi := ("GuardedMovesModel", prog_6_method_11_code, 1, [], (some .boolean), 0, 0, 0, 0, ⟨"GuardedMovesModel", "isVariable", "(I)Z"⟩)
theorem d_m_isVariable_0 : decode prog_6_method_11_code 0 = .ok (.iload_n 0, 1) := by decide +kernel
theorem d_m_isVariable_1 : decode prog_6_method_11_code 1 = .ok (.bipush 97, 2) := by decide +kernel
theorem d_m_isVariable_3 : decode prog_6_method_11_code 3 = .ok (.if_icmp .lt 13, 3) := by decide +kernel
theorem d_m_isVariable_6 : decode prog_6_method_11_code 6 = .ok (.iload_n 0, 1) := by decide +kernel
theorem d_m_isVariable_7 : decode prog_6_method_11_code 7 = .ok (.bipush 112, 2) := by decide +kernel
theorem d_m_isVariable_9 : decode prog_6_method_11_code 9 = .ok (.if_icmp .gt 7, 3) := by decide +kernel
theorem d_m_isVariable_12 : decode prog_6_method_11_code 12 = .ok (.iconst 1, 1) := by decide +kernel
theorem d_m_isVariable_13 : decode prog_6_method_11_code 13 = .ok (.goto 4, 3) := by decide +kernel
theorem d_m_isVariable_16 : decode prog_6_method_11_code 16 = .ok (.iconst 0, 1) := by decide +kernel
theorem d_m_isVariable_17 : decode prog_6_method_11_code 17 = .ok (.ireturn, 1) := by decide +kernel
theorem kc_m_isVariable : Kw (m_w (mi_m_isVariable )) := ⟨(in_t4 (List.mem_of_getElem? (i := 209) rfl)), rfl⟩
theorem mv_m_isVariable : MS mi_m_isVariable 1 := ⟨kw_928, kc_m_isVariable, kw_7, ⟨⟨(by show ("GuardedMovesModel" : String) ≠ "java/lang/invoke/MethodHandle"; decide), (by show ("GuardedMovesModel" : String) ≠ "java/lang/invoke/VarHandle"; decide)⟩, (by show (parseMethodDescriptor "(I)Z").map (fun d => d.parameters.length) = some 1; decide +kernel)⟩⟩
def w_m_isVariable_17 (Q : Int32 → Sg → Prop) (s0 : Int32) (σ : Sg) : Prop := bz s0 ∧ (Q s0 σ)
theorem b_m_isVariable_17 {Δ : Ly} {G : Gm} {Q : Int32 → Sg → Prop} (cx : Cx Δ G mi_m_isVariable) : ∀ (s0 : Int32) (σ : Sg), w_m_isVariable_17 Q s0 σ → Y Δ G mi_m_isVariable (qI Q) noE 0 0 σ 17 [] [.int s0] := by
  intro s0 σ h
  unfold w_m_isVariable_17 at h
  obtain ⟨hb, h⟩ := h
  exact y_zret cx (pc := 17) rfl hb d_m_isVariable_17 (le_b rfl) (le_b rfl) h
def w_m_isVariable_16 (Q : Int32 → Sg → Prop) (σ : Sg) : Prop := w_m_isVariable_17 Q 0 σ
theorem b_m_isVariable_16 {Δ : Ly} {G : Gm} {Q : Int32 → Sg → Prop} (cx : Cx Δ G mi_m_isVariable) : ∀ (σ : Sg), w_m_isVariable_16 Q σ → Y Δ G mi_m_isVariable (qI Q) noE 0 0 σ 16 [] [] := by
  intro σ h
  unfold w_m_isVariable_16 at h
  refine y_iconst cx (pc := 16) ic_0 d_m_isVariable_16 ?_
  exact b_m_isVariable_17 cx 0 σ h
def w_m_isVariable (p1 : Int32) (σ : Sg) (Q : Int32 → Sg → Prop) : Prop := (p1 < 97 → (w_m_isVariable_16 Q σ)) ∧ (¬ p1 < 97 → ((112 < p1 → (w_m_isVariable_16 Q σ)) ∧ (¬ 112 < p1 → (w_m_isVariable_17 Q 1 σ))))
theorem b_m_isVariable {Δ : Ly} {G : Gm} {Q : Int32 → Sg → Prop} (cx : Cx Δ G mi_m_isVariable) (p1 : Int32) (σ : Sg) (h : w_m_isVariable p1 σ Q) : Y Δ G mi_m_isVariable (qI Q) noE 0 0 σ 0 [(0, .int p1)] [] := by
  unfold w_m_isVariable at h
  refine y_iload_n cx (pc := 0) d_m_isVariable_0 rfl 0 rfl ?_
  refine y_bipush cx (pc := 1) bp_97 d_m_isVariable_1 ?_
  refine y_icmp_lt cx (pc := 3) (tgt := 16) d_m_isVariable_3 (by decide) (fun hc => ?_) (fun hc => ?_)
  · replace h := h.1 hc
    refine y_sub [] rfl ?_
    exact b_m_isVariable_16 cx σ h
  · replace h := h.2 hc
    refine y_iload_n cx (pc := 6) d_m_isVariable_6 rfl 0 rfl ?_
    refine y_bipush cx (pc := 7) bp_112 d_m_isVariable_7 ?_
    refine y_icmp_gt cx (pc := 9) (tgt := 16) d_m_isVariable_9 (by decide) (fun hc => ?_) (fun hc => ?_)
    · replace h := h.1 hc
      refine y_sub [] rfl ?_
      exact b_m_isVariable_16 cx σ h
    · replace h := h.2 hc
      refine y_iconst cx (pc := 12) ic_1 d_m_isVariable_12 ?_
      refine y_goto cx (pc := 13) (tgt := 17) d_m_isVariable_13 (by decide) ?_
      refine y_sub [] rfl ?_
      exact b_m_isVariable_17 cx 1 σ h
theorem c_m_isVariable {l : Launch} (hfl : l.flags = flags0) (Δ : Ly) (p1 : Int32) (σ : Sg) (Q : Int32 → Sg → Prop) (h : w_m_isVariable p1 σ Q) : Ct l Δ mi_m_isVariable [.int p1] σ (qI Q) noE :=
  Ct.of hfl (by show plainFor ⟨"GuardedMovesModel", "isVariable", "(I)Z"⟩ = true; decide +kernel) rfl (le_b rfl) (fun G hl cx => b_m_isVariable cx p1 σ h)
def mi_m_opOf : Mi := ("GuardedMovesModel", prog_6_method_15_code, 1, [], (some .int), 0, 0, 0, 0, ⟨"GuardedMovesModel", "opOf", "(I)I"⟩)
theorem d_m_opOf_0 : decode prog_6_method_15_code 0 = .ok (.iload_n 0, 1) := by decide +kernel
theorem d_m_opOf_1 : decode prog_6_method_15_code 1 = .ok (.bipush 43, 2) := by decide +kernel
theorem d_m_opOf_3 : decode prog_6_method_15_code 3 = .ok (.if_icmp .ne 7, 3) := by decide +kernel
theorem d_m_opOf_6 : decode prog_6_method_15_code 6 = .ok (.iconst 2, 1) := by decide +kernel
theorem d_m_opOf_7 : decode prog_6_method_15_code 7 = .ok (.goto 78, 3) := by decide +kernel
theorem d_m_opOf_10 : decode prog_6_method_15_code 10 = .ok (.iload_n 0, 1) := by decide +kernel
theorem d_m_opOf_11 : decode prog_6_method_15_code 11 = .ok (.bipush 45, 2) := by decide +kernel
theorem d_m_opOf_13 : decode prog_6_method_15_code 13 = .ok (.if_icmp .ne 7, 3) := by decide +kernel
theorem d_m_opOf_16 : decode prog_6_method_15_code 16 = .ok (.iconst 3, 1) := by decide +kernel
theorem d_m_opOf_17 : decode prog_6_method_15_code 17 = .ok (.goto 68, 3) := by decide +kernel
theorem d_m_opOf_20 : decode prog_6_method_15_code 20 = .ok (.iload_n 0, 1) := by decide +kernel
theorem d_m_opOf_21 : decode prog_6_method_15_code 21 = .ok (.bipush 42, 2) := by decide +kernel
theorem d_m_opOf_23 : decode prog_6_method_15_code 23 = .ok (.if_icmp .ne 7, 3) := by decide +kernel
theorem d_m_opOf_26 : decode prog_6_method_15_code 26 = .ok (.iconst 4, 1) := by decide +kernel
theorem d_m_opOf_27 : decode prog_6_method_15_code 27 = .ok (.goto 58, 3) := by decide +kernel
theorem d_m_opOf_30 : decode prog_6_method_15_code 30 = .ok (.iload_n 0, 1) := by decide +kernel
theorem d_m_opOf_31 : decode prog_6_method_15_code 31 = .ok (.bipush 47, 2) := by decide +kernel
theorem d_m_opOf_33 : decode prog_6_method_15_code 33 = .ok (.if_icmp .ne 7, 3) := by decide +kernel
theorem d_m_opOf_36 : decode prog_6_method_15_code 36 = .ok (.iconst 5, 1) := by decide +kernel
theorem d_m_opOf_37 : decode prog_6_method_15_code 37 = .ok (.goto 48, 3) := by decide +kernel
theorem d_m_opOf_40 : decode prog_6_method_15_code 40 = .ok (.iload_n 0, 1) := by decide +kernel
theorem d_m_opOf_41 : decode prog_6_method_15_code 41 = .ok (.bipush 37, 2) := by decide +kernel
theorem d_m_opOf_43 : decode prog_6_method_15_code 43 = .ok (.if_icmp .ne 8, 3) := by decide +kernel
theorem d_m_opOf_46 : decode prog_6_method_15_code 46 = .ok (.bipush 6, 2) := by decide +kernel
theorem d_m_opOf_48 : decode prog_6_method_15_code 48 = .ok (.goto 37, 3) := by decide +kernel
theorem d_m_opOf_51 : decode prog_6_method_15_code 51 = .ok (.iload_n 0, 1) := by decide +kernel
theorem d_m_opOf_52 : decode prog_6_method_15_code 52 = .ok (.bipush 38, 2) := by decide +kernel
theorem d_m_opOf_54 : decode prog_6_method_15_code 54 = .ok (.if_icmp .ne 8, 3) := by decide +kernel
theorem d_m_opOf_57 : decode prog_6_method_15_code 57 = .ok (.bipush 7, 2) := by decide +kernel
theorem d_m_opOf_59 : decode prog_6_method_15_code 59 = .ok (.goto 26, 3) := by decide +kernel
theorem d_m_opOf_62 : decode prog_6_method_15_code 62 = .ok (.iload_n 0, 1) := by decide +kernel
theorem d_m_opOf_63 : decode prog_6_method_15_code 63 = .ok (.bipush 124, 2) := by decide +kernel
theorem d_m_opOf_65 : decode prog_6_method_15_code 65 = .ok (.if_icmp .ne 8, 3) := by decide +kernel
theorem d_m_opOf_68 : decode prog_6_method_15_code 68 = .ok (.bipush 8, 2) := by decide +kernel
theorem d_m_opOf_70 : decode prog_6_method_15_code 70 = .ok (.goto 15, 3) := by decide +kernel
theorem d_m_opOf_73 : decode prog_6_method_15_code 73 = .ok (.iload_n 0, 1) := by decide +kernel
theorem d_m_opOf_74 : decode prog_6_method_15_code 74 = .ok (.bipush 94, 2) := by decide +kernel
theorem d_m_opOf_76 : decode prog_6_method_15_code 76 = .ok (.if_icmp .ne 8, 3) := by decide +kernel
theorem d_m_opOf_79 : decode prog_6_method_15_code 79 = .ok (.bipush 9, 2) := by decide +kernel
theorem d_m_opOf_81 : decode prog_6_method_15_code 81 = .ok (.goto 4, 3) := by decide +kernel
theorem d_m_opOf_84 : decode prog_6_method_15_code 84 = .ok (.iconst (-1), 1) := by decide +kernel
theorem d_m_opOf_85 : decode prog_6_method_15_code 85 = .ok (.ireturn, 1) := by decide +kernel
theorem kc_m_opOf : Kw (m_w (mi_m_opOf )) := ⟨(in_t4 (List.mem_of_getElem? (i := 239) rfl)), rfl⟩
theorem mv_m_opOf : MS mi_m_opOf 1 := ⟨kw_958, kc_m_opOf, kw_7, ⟨⟨(by show ("GuardedMovesModel" : String) ≠ "java/lang/invoke/MethodHandle"; decide), (by show ("GuardedMovesModel" : String) ≠ "java/lang/invoke/VarHandle"; decide)⟩, (by show (parseMethodDescriptor "(I)I").map (fun d => d.parameters.length) = some 1; decide +kernel)⟩⟩
def w_m_opOf_85 (Q : Int32 → Sg → Prop) (s0 : Int32) (σ : Sg) : Prop := Q s0 σ
theorem b_m_opOf_85 {Δ : Ly} {G : Gm} {Q : Int32 → Sg → Prop} (cx : Cx Δ G mi_m_opOf) : ∀ (s0 : Int32) (σ : Sg), w_m_opOf_85 Q s0 σ → Y Δ G mi_m_opOf (qI Q) noE 0 0 σ 85 [] [.int s0] := by
  intro s0 σ h
  unfold w_m_opOf_85 at h
  exact y_iret cx (pc := 85) rfl d_m_opOf_85 (le_b rfl) (le_b rfl) h
def w_m_opOf (p1 : Int32) (σ : Sg) (Q : Int32 → Sg → Prop) : Prop := (¬ p1 = 43 → ((¬ p1 = 45 → ((¬ p1 = 42 → ((¬ p1 = 47 → ((¬ p1 = 37 → ((¬ p1 = 38 → ((¬ p1 = 124 → ((¬ p1 = 94 → (w_m_opOf_85 Q (-1) σ)) ∧ (p1 = 94 → (w_m_opOf_85 Q 9 σ)))) ∧ (p1 = 124 → (w_m_opOf_85 Q 8 σ)))) ∧ (p1 = 38 → (w_m_opOf_85 Q 7 σ)))) ∧ (p1 = 37 → (w_m_opOf_85 Q 6 σ)))) ∧ (p1 = 47 → (w_m_opOf_85 Q 5 σ)))) ∧ (p1 = 42 → (w_m_opOf_85 Q 4 σ)))) ∧ (p1 = 45 → (w_m_opOf_85 Q 3 σ)))) ∧ (p1 = 43 → (w_m_opOf_85 Q 2 σ))
theorem b_m_opOf {Δ : Ly} {G : Gm} {Q : Int32 → Sg → Prop} (cx : Cx Δ G mi_m_opOf) (p1 : Int32) (σ : Sg) (h : w_m_opOf p1 σ Q) : Y Δ G mi_m_opOf (qI Q) noE 0 0 σ 0 [(0, .int p1)] [] := by
  unfold w_m_opOf at h
  refine y_iload_n cx (pc := 0) d_m_opOf_0 rfl 0 rfl ?_
  refine y_bipush cx (pc := 1) bp_43 d_m_opOf_1 ?_
  refine y_icmp_ne cx (pc := 3) (tgt := 10) d_m_opOf_3 (by decide) (fun hc => ?_) (fun hc => ?_)
  · replace h := h.1 hc
    refine y_iload_n cx (pc := 10) d_m_opOf_10 rfl 0 rfl ?_
    refine y_bipush cx (pc := 11) bp_45 d_m_opOf_11 ?_
    refine y_icmp_ne cx (pc := 13) (tgt := 20) d_m_opOf_13 (by decide) (fun hc => ?_) (fun hc => ?_)
    · replace h := h.1 hc
      refine y_iload_n cx (pc := 20) d_m_opOf_20 rfl 0 rfl ?_
      refine y_bipush cx (pc := 21) bp_42 d_m_opOf_21 ?_
      refine y_icmp_ne cx (pc := 23) (tgt := 30) d_m_opOf_23 (by decide) (fun hc => ?_) (fun hc => ?_)
      · replace h := h.1 hc
        refine y_iload_n cx (pc := 30) d_m_opOf_30 rfl 0 rfl ?_
        refine y_bipush cx (pc := 31) bp_47 d_m_opOf_31 ?_
        refine y_icmp_ne cx (pc := 33) (tgt := 40) d_m_opOf_33 (by decide) (fun hc => ?_) (fun hc => ?_)
        · replace h := h.1 hc
          refine y_iload_n cx (pc := 40) d_m_opOf_40 rfl 0 rfl ?_
          refine y_bipush cx (pc := 41) bp_37 d_m_opOf_41 ?_
          refine y_icmp_ne cx (pc := 43) (tgt := 51) d_m_opOf_43 (by decide) (fun hc => ?_) (fun hc => ?_)
          · replace h := h.1 hc
            refine y_iload_n cx (pc := 51) d_m_opOf_51 rfl 0 rfl ?_
            refine y_bipush cx (pc := 52) bp_38 d_m_opOf_52 ?_
            refine y_icmp_ne cx (pc := 54) (tgt := 62) d_m_opOf_54 (by decide) (fun hc => ?_) (fun hc => ?_)
            · replace h := h.1 hc
              refine y_iload_n cx (pc := 62) d_m_opOf_62 rfl 0 rfl ?_
              refine y_bipush cx (pc := 63) bp_124 d_m_opOf_63 ?_
              refine y_icmp_ne cx (pc := 65) (tgt := 73) d_m_opOf_65 (by decide) (fun hc => ?_) (fun hc => ?_)
              · replace h := h.1 hc
                refine y_iload_n cx (pc := 73) d_m_opOf_73 rfl 0 rfl ?_
                refine y_bipush cx (pc := 74) bp_94 d_m_opOf_74 ?_
                refine y_icmp_ne cx (pc := 76) (tgt := 84) d_m_opOf_76 (by decide) (fun hc => ?_) (fun hc => ?_)
                · replace h := h.1 hc
                  refine y_iconst cx (pc := 84) ic_m1 d_m_opOf_84 ?_
                  refine y_sub [] rfl ?_
                  exact b_m_opOf_85 cx (-1) σ h
                · replace h := h.2 hc
                  refine y_bipush cx (pc := 79) bp_9 d_m_opOf_79 ?_
                  refine y_goto cx (pc := 81) (tgt := 85) d_m_opOf_81 (by decide) ?_
                  refine y_sub [] rfl ?_
                  exact b_m_opOf_85 cx 9 σ h
              · replace h := h.2 hc
                refine y_bipush cx (pc := 68) bp_8 d_m_opOf_68 ?_
                refine y_goto cx (pc := 70) (tgt := 85) d_m_opOf_70 (by decide) ?_
                refine y_sub [] rfl ?_
                exact b_m_opOf_85 cx 8 σ h
            · replace h := h.2 hc
              refine y_bipush cx (pc := 57) bp_7 d_m_opOf_57 ?_
              refine y_goto cx (pc := 59) (tgt := 85) d_m_opOf_59 (by decide) ?_
              refine y_sub [] rfl ?_
              exact b_m_opOf_85 cx 7 σ h
          · replace h := h.2 hc
            refine y_bipush cx (pc := 46) bp_6 d_m_opOf_46 ?_
            refine y_goto cx (pc := 48) (tgt := 85) d_m_opOf_48 (by decide) ?_
            refine y_sub [] rfl ?_
            exact b_m_opOf_85 cx 6 σ h
        · replace h := h.2 hc
          refine y_iconst cx (pc := 36) ic_5 d_m_opOf_36 ?_
          refine y_goto cx (pc := 37) (tgt := 85) d_m_opOf_37 (by decide) ?_
          refine y_sub [] rfl ?_
          exact b_m_opOf_85 cx 5 σ h
      · replace h := h.2 hc
        refine y_iconst cx (pc := 26) ic_4 d_m_opOf_26 ?_
        refine y_goto cx (pc := 27) (tgt := 85) d_m_opOf_27 (by decide) ?_
        refine y_sub [] rfl ?_
        exact b_m_opOf_85 cx 4 σ h
    · replace h := h.2 hc
      refine y_iconst cx (pc := 16) ic_3 d_m_opOf_16 ?_
      refine y_goto cx (pc := 17) (tgt := 85) d_m_opOf_17 (by decide) ?_
      refine y_sub [] rfl ?_
      exact b_m_opOf_85 cx 3 σ h
  · replace h := h.2 hc
    refine y_iconst cx (pc := 6) ic_2 d_m_opOf_6 ?_
    refine y_goto cx (pc := 7) (tgt := 85) d_m_opOf_7 (by decide) ?_
    refine y_sub [] rfl ?_
    exact b_m_opOf_85 cx 2 σ h
theorem c_m_opOf {l : Launch} (hfl : l.flags = flags0) (Δ : Ly) (p1 : Int32) (σ : Sg) (Q : Int32 → Sg → Prop) (h : w_m_opOf p1 σ Q) : Ct l Δ mi_m_opOf [.int p1] σ (qI Q) noE :=
  Ct.of hfl (by show plainFor ⟨"GuardedMovesModel", "opOf", "(I)I"⟩ = true; decide +kernel) rfl (le_b rfl) (fun G hl cx => b_m_opOf cx p1 σ h)
def mi_m_isFigure : Mi := ("GuardedMovesModel", prog_6_method_12_code, 1, [], (some .boolean), 0, 0, 0, 0, ⟨"GuardedMovesModel", "isFigure", "(I)Z"⟩)
theorem d_m_isFigure_0 : decode prog_6_method_12_code 0 = .ok (.iload_n 0, 1) := by decide +kernel
theorem d_m_isFigure_1 : decode prog_6_method_12_code 1 = .ok (.bipush 48, 2) := by decide +kernel
theorem d_m_isFigure_3 : decode prog_6_method_12_code 3 = .ok (.if_icmp .lt 13, 3) := by decide +kernel
theorem d_m_isFigure_6 : decode prog_6_method_12_code 6 = .ok (.iload_n 0, 1) := by decide +kernel
theorem d_m_isFigure_7 : decode prog_6_method_12_code 7 = .ok (.bipush 57, 2) := by decide +kernel
theorem d_m_isFigure_9 : decode prog_6_method_12_code 9 = .ok (.if_icmp .gt 7, 3) := by decide +kernel
theorem d_m_isFigure_12 : decode prog_6_method_12_code 12 = .ok (.iconst 1, 1) := by decide +kernel
theorem d_m_isFigure_13 : decode prog_6_method_12_code 13 = .ok (.goto 4, 3) := by decide +kernel
theorem d_m_isFigure_16 : decode prog_6_method_12_code 16 = .ok (.iconst 0, 1) := by decide +kernel
theorem d_m_isFigure_17 : decode prog_6_method_12_code 17 = .ok (.ireturn, 1) := by decide +kernel
theorem kc_m_isFigure : Kw (m_w (mi_m_isFigure )) := ⟨(in_t4 (List.mem_of_getElem? (i := 232) rfl)), rfl⟩
theorem mv_m_isFigure : MS mi_m_isFigure 1 := ⟨kw_951, kc_m_isFigure, kw_7, ⟨⟨(by show ("GuardedMovesModel" : String) ≠ "java/lang/invoke/MethodHandle"; decide), (by show ("GuardedMovesModel" : String) ≠ "java/lang/invoke/VarHandle"; decide)⟩, (by show (parseMethodDescriptor "(I)Z").map (fun d => d.parameters.length) = some 1; decide +kernel)⟩⟩
def w_m_isFigure_17 (Q : Int32 → Sg → Prop) (s0 : Int32) (σ : Sg) : Prop := bz s0 ∧ (Q s0 σ)
theorem b_m_isFigure_17 {Δ : Ly} {G : Gm} {Q : Int32 → Sg → Prop} (cx : Cx Δ G mi_m_isFigure) : ∀ (s0 : Int32) (σ : Sg), w_m_isFigure_17 Q s0 σ → Y Δ G mi_m_isFigure (qI Q) noE 0 0 σ 17 [] [.int s0] := by
  intro s0 σ h
  unfold w_m_isFigure_17 at h
  obtain ⟨hb, h⟩ := h
  exact y_zret cx (pc := 17) rfl hb d_m_isFigure_17 (le_b rfl) (le_b rfl) h
def w_m_isFigure_16 (Q : Int32 → Sg → Prop) (σ : Sg) : Prop := w_m_isFigure_17 Q 0 σ
theorem b_m_isFigure_16 {Δ : Ly} {G : Gm} {Q : Int32 → Sg → Prop} (cx : Cx Δ G mi_m_isFigure) : ∀ (σ : Sg), w_m_isFigure_16 Q σ → Y Δ G mi_m_isFigure (qI Q) noE 0 0 σ 16 [] [] := by
  intro σ h
  unfold w_m_isFigure_16 at h
  refine y_iconst cx (pc := 16) ic_0 d_m_isFigure_16 ?_
  exact b_m_isFigure_17 cx 0 σ h
def w_m_isFigure (p1 : Int32) (σ : Sg) (Q : Int32 → Sg → Prop) : Prop := (p1 < 48 → (w_m_isFigure_16 Q σ)) ∧ (¬ p1 < 48 → ((57 < p1 → (w_m_isFigure_16 Q σ)) ∧ (¬ 57 < p1 → (w_m_isFigure_17 Q 1 σ))))
theorem b_m_isFigure {Δ : Ly} {G : Gm} {Q : Int32 → Sg → Prop} (cx : Cx Δ G mi_m_isFigure) (p1 : Int32) (σ : Sg) (h : w_m_isFigure p1 σ Q) : Y Δ G mi_m_isFigure (qI Q) noE 0 0 σ 0 [(0, .int p1)] [] := by
  unfold w_m_isFigure at h
  refine y_iload_n cx (pc := 0) d_m_isFigure_0 rfl 0 rfl ?_
  refine y_bipush cx (pc := 1) bp_48 d_m_isFigure_1 ?_
  refine y_icmp_lt cx (pc := 3) (tgt := 16) d_m_isFigure_3 (by decide) (fun hc => ?_) (fun hc => ?_)
  · replace h := h.1 hc
    refine y_sub [] rfl ?_
    exact b_m_isFigure_16 cx σ h
  · replace h := h.2 hc
    refine y_iload_n cx (pc := 6) d_m_isFigure_6 rfl 0 rfl ?_
    refine y_bipush cx (pc := 7) bp_57 d_m_isFigure_7 ?_
    refine y_icmp_gt cx (pc := 9) (tgt := 16) d_m_isFigure_9 (by decide) (fun hc => ?_) (fun hc => ?_)
    · replace h := h.1 hc
      refine y_sub [] rfl ?_
      exact b_m_isFigure_16 cx σ h
    · replace h := h.2 hc
      refine y_iconst cx (pc := 12) ic_1 d_m_isFigure_12 ?_
      refine y_goto cx (pc := 13) (tgt := 17) d_m_isFigure_13 (by decide) ?_
      refine y_sub [] rfl ?_
      exact b_m_isFigure_17 cx 1 σ h
theorem c_m_isFigure {l : Launch} (hfl : l.flags = flags0) (Δ : Ly) (p1 : Int32) (σ : Sg) (Q : Int32 → Sg → Prop) (h : w_m_isFigure p1 σ Q) : Ct l Δ mi_m_isFigure [.int p1] σ (qI Q) noE :=
  Ct.of hfl (by show plainFor ⟨"GuardedMovesModel", "isFigure", "(I)Z"⟩ = true; decide +kernel) rfl (le_b rfl) (fun G hl cx => b_m_isFigure cx p1 σ h)
def mi_m_readNumber : Mi := ("GuardedMovesModel", prog_6_method_13_code, 7, [], none, 1, 26, 0, 0, ⟨"GuardedMovesModel", "readNumber", "(IIZ)V"⟩)
theorem d_m_readNumber_0 : decode prog_6_method_13_code 0 = .ok (.aload_n 0, 1) := by decide +kernel
theorem d_m_readNumber_1 : decode prog_6_method_13_code 1 = .ok (.getfield 130, 3) := by decide +kernel
theorem d_m_readNumber_4 : decode prog_6_method_13_code 4 = .ok (.istore 4, 2) := by decide +kernel
theorem d_m_readNumber_6 : decode prog_6_method_13_code 6 = .ok (.lconst 0, 1) := by decide +kernel
theorem d_m_readNumber_7 : decode prog_6_method_13_code 7 = .ok (.lstore 5, 2) := by decide +kernel
theorem d_m_readNumber_9 : decode prog_6_method_13_code 9 = .ok (.aload_n 0, 1) := by decide +kernel
theorem d_m_readNumber_10 : decode prog_6_method_13_code 10 = .ok (.getfield 130, 3) := by decide +kernel
theorem d_m_readNumber_13 : decode prog_6_method_13_code 13 = .ok (.aload_n 0, 1) := by decide +kernel
theorem d_m_readNumber_14 : decode prog_6_method_13_code 14 = .ok (.getfield 119, 3) := by decide +kernel
theorem d_m_readNumber_17 : decode prog_6_method_13_code 17 = .ok (.if_icmp .ge 68, 3) := by decide +kernel
theorem d_m_readNumber_20 : decode prog_6_method_13_code 20 = .ok (.aload_n 0, 1) := by decide +kernel
theorem d_m_readNumber_21 : decode prog_6_method_13_code 21 = .ok (.getfield 16, 3) := by decide +kernel
theorem d_m_readNumber_24 : decode prog_6_method_13_code 24 = .ok (.aload_n 0, 1) := by decide +kernel
theorem d_m_readNumber_25 : decode prog_6_method_13_code 25 = .ok (.getfield 130, 3) := by decide +kernel
theorem d_m_readNumber_28 : decode prog_6_method_13_code 28 = .ok (.iaload, 1) := by decide +kernel
theorem d_m_readNumber_29 : decode prog_6_method_13_code 29 = .ok (.invokestatic 141, 3) := by decide +kernel
theorem d_m_readNumber_32 : decode prog_6_method_13_code 32 = .ok (.ifCond .eq 53, 3) := by decide +kernel
theorem d_m_readNumber_35 : decode prog_6_method_13_code 35 = .ok (.lload 5, 2) := by decide +kernel
theorem d_m_readNumber_37 : decode prog_6_method_13_code 37 = .ok (.ldc2_w 145, 3) := by decide +kernel
theorem d_m_readNumber_40 : decode prog_6_method_13_code 40 = .ok (.lcmp, 1) := by decide +kernel
theorem d_m_readNumber_41 : decode prog_6_method_13_code 41 = .ok (.ifCond .le 8, 3) := by decide +kernel
theorem d_m_readNumber_44 : decode prog_6_method_13_code 44 = .ok (.lload 5, 2) := by decide +kernel
theorem d_m_readNumber_46 : decode prog_6_method_13_code 46 = .ok (.goto 24, 3) := by decide +kernel
theorem d_m_readNumber_49 : decode prog_6_method_13_code 49 = .ok (.ldc2_w 147, 3) := by decide +kernel
theorem d_m_readNumber_52 : decode prog_6_method_13_code 52 = .ok (.lload 5, 2) := by decide +kernel
theorem d_m_readNumber_54 : decode prog_6_method_13_code 54 = .ok (.lmul, 1) := by decide +kernel
theorem d_m_readNumber_55 : decode prog_6_method_13_code 55 = .ok (.aload_n 0, 1) := by decide +kernel
theorem d_m_readNumber_56 : decode prog_6_method_13_code 56 = .ok (.getfield 16, 3) := by decide +kernel
theorem d_m_readNumber_59 : decode prog_6_method_13_code 59 = .ok (.aload_n 0, 1) := by decide +kernel
theorem d_m_readNumber_60 : decode prog_6_method_13_code 60 = .ok (.getfield 130, 3) := by decide +kernel
theorem d_m_readNumber_63 : decode prog_6_method_13_code 63 = .ok (.iaload, 1) := by decide +kernel
theorem d_m_readNumber_64 : decode prog_6_method_13_code 64 = .ok (.i2l, 1) := by decide +kernel
theorem d_m_readNumber_65 : decode prog_6_method_13_code 65 = .ok (.ladd, 1) := by decide +kernel
theorem d_m_readNumber_66 : decode prog_6_method_13_code 66 = .ok (.ldc2_w 149, 3) := by decide +kernel
theorem d_m_readNumber_69 : decode prog_6_method_13_code 69 = .ok (.lsub, 1) := by decide +kernel
theorem d_m_readNumber_70 : decode prog_6_method_13_code 70 = .ok (.lstore 5, 2) := by decide +kernel
theorem d_m_readNumber_72 : decode prog_6_method_13_code 72 = .ok (.aload_n 0, 1) := by decide +kernel
theorem d_m_readNumber_73 : decode prog_6_method_13_code 73 = .ok (.dup, 1) := by decide +kernel
theorem d_m_readNumber_74 : decode prog_6_method_13_code 74 = .ok (.getfield 130, 3) := by decide +kernel
theorem d_m_readNumber_77 : decode prog_6_method_13_code 77 = .ok (.iconst 1, 1) := by decide +kernel
theorem d_m_readNumber_78 : decode prog_6_method_13_code 78 = .ok (.iadd, 1) := by decide +kernel
theorem d_m_readNumber_79 : decode prog_6_method_13_code 79 = .ok (.putfield 130, 3) := by decide +kernel
theorem d_m_readNumber_82 : decode prog_6_method_13_code 82 = .ok (.goto (-73), 3) := by decide +kernel
theorem d_m_readNumber_85 : decode prog_6_method_13_code 85 = .ok (.aload_n 0, 1) := by decide +kernel
theorem d_m_readNumber_86 : decode prog_6_method_13_code 86 = .ok (.getfield 130, 3) := by decide +kernel
theorem d_m_readNumber_89 : decode prog_6_method_13_code 89 = .ok (.iload 4, 2) := by decide +kernel
theorem d_m_readNumber_91 : decode prog_6_method_13_code 91 = .ok (.if_icmp .ne 15, 3) := by decide +kernel
theorem d_m_readNumber_94 : decode prog_6_method_13_code 94 = .ok (.aload_n 0, 1) := by decide +kernel
theorem d_m_readNumber_95 : decode prog_6_method_13_code 95 = .ok (.iconst 1, 1) := by decide +kernel
theorem d_m_readNumber_96 : decode prog_6_method_13_code 96 = .ok (.aload_n 0, 1) := by decide +kernel
theorem d_m_readNumber_97 : decode prog_6_method_13_code 97 = .ok (.getfield 130, 3) := by decide +kernel
theorem d_m_readNumber_100 : decode prog_6_method_13_code 100 = .ok (.invokevirtual 137, 3) := by decide +kernel
theorem d_m_readNumber_103 : decode prog_6_method_13_code 103 = .ok (.goto 19, 3) := by decide +kernel
theorem d_m_readNumber_106 : decode prog_6_method_13_code 106 = .ok (.lload 5, 2) := by decide +kernel
theorem d_m_readNumber_108 : decode prog_6_method_13_code 108 = .ok (.ldc2_w 151, 3) := by decide +kernel
theorem d_m_readNumber_111 : decode prog_6_method_13_code 111 = .ok (.lcmp, 1) := by decide +kernel
theorem d_m_readNumber_112 : decode prog_6_method_13_code 112 = .ok (.ifCond .le 10, 3) := by decide +kernel
theorem d_m_readNumber_115 : decode prog_6_method_13_code 115 = .ok (.aload_n 0, 1) := by decide +kernel
theorem d_m_readNumber_116 : decode prog_6_method_13_code 116 = .ok (.iconst 2, 1) := by decide +kernel
theorem d_m_readNumber_117 : decode prog_6_method_13_code 117 = .ok (.iload 4, 2) := by decide +kernel
theorem d_m_readNumber_119 : decode prog_6_method_13_code 119 = .ok (.invokevirtual 137, 3) := by decide +kernel
theorem d_m_readNumber_122 : decode prog_6_method_13_code 122 = .ok (.aload_n 0, 1) := by decide +kernel
theorem d_m_readNumber_123 : decode prog_6_method_13_code 123 = .ok (.getfield 19, 3) := by decide +kernel
theorem d_m_readNumber_126 : decode prog_6_method_13_code 126 = .ok (.bipush 9, 2) := by decide +kernel
theorem d_m_readNumber_128 : decode prog_6_method_13_code 128 = .ok (.iload_n 1, 1) := by decide +kernel
theorem d_m_readNumber_129 : decode prog_6_method_13_code 129 = .ok (.imul, 1) := by decide +kernel
theorem d_m_readNumber_130 : decode prog_6_method_13_code 130 = .ok (.iload_n 2, 1) := by decide +kernel
theorem d_m_readNumber_131 : decode prog_6_method_13_code 131 = .ok (.iadd, 1) := by decide +kernel
theorem d_m_readNumber_132 : decode prog_6_method_13_code 132 = .ok (.iconst 0, 1) := by decide +kernel
theorem d_m_readNumber_133 : decode prog_6_method_13_code 133 = .ok (.iastore, 1) := by decide +kernel
theorem d_m_readNumber_134 : decode prog_6_method_13_code 134 = .ok (.aload_n 0, 1) := by decide +kernel
theorem d_m_readNumber_135 : decode prog_6_method_13_code 135 = .ok (.getfield 19, 3) := by decide +kernel
theorem d_m_readNumber_138 : decode prog_6_method_13_code 138 = .ok (.bipush 9, 2) := by decide +kernel
theorem d_m_readNumber_140 : decode prog_6_method_13_code 140 = .ok (.iload_n 1, 1) := by decide +kernel
theorem d_m_readNumber_141 : decode prog_6_method_13_code 141 = .ok (.imul, 1) := by decide +kernel
theorem d_m_readNumber_142 : decode prog_6_method_13_code 142 = .ok (.iload_n 2, 1) := by decide +kernel
theorem d_m_readNumber_143 : decode prog_6_method_13_code 143 = .ok (.iadd, 1) := by decide +kernel
theorem d_m_readNumber_144 : decode prog_6_method_13_code 144 = .ok (.iconst 1, 1) := by decide +kernel
theorem d_m_readNumber_145 : decode prog_6_method_13_code 145 = .ok (.iadd, 1) := by decide +kernel
theorem d_m_readNumber_146 : decode prog_6_method_13_code 146 = .ok (.iload_n 3, 1) := by decide +kernel
theorem d_m_readNumber_147 : decode prog_6_method_13_code 147 = .ok (.ifCond .eq 9, 3) := by decide +kernel
theorem d_m_readNumber_150 : decode prog_6_method_13_code 150 = .ok (.lload 5, 2) := by decide +kernel
theorem d_m_readNumber_152 : decode prog_6_method_13_code 152 = .ok (.lneg, 1) := by decide +kernel
theorem d_m_readNumber_153 : decode prog_6_method_13_code 153 = .ok (.goto 5, 3) := by decide +kernel
theorem d_m_readNumber_156 : decode prog_6_method_13_code 156 = .ok (.lload 5, 2) := by decide +kernel
theorem d_m_readNumber_158 : decode prog_6_method_13_code 158 = .ok (.l2i, 1) := by decide +kernel
theorem d_m_readNumber_159 : decode prog_6_method_13_code 159 = .ok (.iastore, 1) := by decide +kernel
theorem d_m_readNumber_160 : decode prog_6_method_13_code 160 = .ok (.return_, 1) := by decide +kernel
theorem kc_m_readNumber : Kw (m_w (mi_m_readNumber )) := ⟨(in_t4 (List.mem_of_getElem? (i := 229) rfl)), rfl⟩
theorem mv_m_readNumber : MV (mi_m_readNumber ) "GuardedMovesModel" 3 := ⟨kw_948, ks_52, kc_m_readNumber , kw_7, ⟨⟨(by show ("GuardedMovesModel" : String) ≠ "java/lang/invoke/MethodHandle"; decide), (by show ("GuardedMovesModel" : String) ≠ "java/lang/invoke/VarHandle"; decide)⟩, (by show (parseMethodDescriptor "(IIZ)V").map (fun d => d.parameters.length) = some 3; decide +kernel)⟩⟩
def w_m_readNumber_158 (Q : Sg → Prop) (s0 : Int64) (s1 : Int32) (σ : Sg) : Prop := vp_in s1 540 ∧ (Q (up σ 62 (s1.toNatClampNeg) (s0.toInt32)))
theorem b_m_readNumber_158 {Δ : Ly} {G : Gm} {Q : Sg → Prop} (cx : Cx Δ G mi_m_readNumber) : ∀ (s0 : Int64) (s1 : Int32) (σ : Sg), w_m_readNumber_158 Q s0 s1 σ → Y Δ G mi_m_readNumber (qV Q) noE 0 0 σ 158 [] [.long s0, .int s1, .ref (Δ.1 62)] := by
  intro s0 s1 σ h
  unfold w_m_readNumber_158 at h
  refine y_l2i cx (pc := 158) d_m_readNumber_158 ?_
  obtain ⟨h0, h⟩ := h
  refine y_iast cx (pc := 159) ⟨(le_b rfl), fun _ => rfl⟩ h0 d_m_readNumber_159 ?_
  exact y_vret cx (pc := 160) rfl d_m_readNumber_160 (le_b rfl) (le_b rfl) h
def w_m_readNumber_122 (Q : Sg → Prop) (v1 : Int32) (v2 : Int32) (v3 : Int32) (v5 : Int64) (σ : Sg) : Prop := vp_in ((9 * v1) + v2) 540 ∧ ((v3 = 0 → (w_m_readNumber_158 Q v5 (((9 * v1) + v2) + 1) (up σ 62 (((9 * v1) + v2).toNatClampNeg) 0))) ∧ (¬ v3 = 0 → (w_m_readNumber_158 Q (-v5) (((9 * v1) + v2) + 1) (up σ 62 (((9 * v1) + v2).toNatClampNeg) 0))))
theorem b_m_readNumber_122 {Δ : Ly} {G : Gm} {Q : Sg → Prop} (cx : Cx Δ G mi_m_readNumber) : ∀ (v1 : Int32) (v2 : Int32) (v3 : Int32) (v5 : Int64) (σ : Sg), w_m_readNumber_122 Q v1 v2 v3 v5 σ → Y Δ G mi_m_readNumber (qV Q) noE 0 0 σ 122 [(0, .ref (Δ.1 58)), (1, .int v1), (2, .int v2), (3, .int v3), (5, .long v5)] [] := by
  intro v1 v2 v3 v5 σ h
  unfold w_m_readNumber_122 at h
  refine y_aload_n cx (pc := 122) d_m_readNumber_122 rfl 0 rfl ?_
  refine y_get cx (pc := 123) (j := 10) (v := .ref (Δ.1 62)) (le_b rfl) ck_Md kw_758 (le_b rfl) (gf_58_10 Δ _) d_m_readNumber_123 ?_
  refine y_bipush cx (pc := 126) bp_9 d_m_readNumber_126 ?_
  refine y_iload_n cx (pc := 128) d_m_readNumber_128 rfl 1 rfl ?_
  refine y_imul cx (pc := 129) d_m_readNumber_129 ?_
  refine y_iload_n cx (pc := 130) d_m_readNumber_130 rfl 2 rfl ?_
  refine y_iadd cx (pc := 131) d_m_readNumber_131 ?_
  refine y_iconst cx (pc := 132) ic_0 d_m_readNumber_132 ?_
  obtain ⟨h0, h⟩ := h
  refine y_iast cx (pc := 133) ⟨(le_b rfl), fun _ => rfl⟩ h0 d_m_readNumber_133 ?_
  refine y_aload_n cx (pc := 134) d_m_readNumber_134 rfl 0 rfl ?_
  refine y_get cx (pc := 135) (j := 10) (v := .ref (Δ.1 62)) (le_b rfl) ck_Md kw_758 (le_b rfl) (gf_58_10 Δ _) d_m_readNumber_135 ?_
  refine y_bipush cx (pc := 138) bp_9 d_m_readNumber_138 ?_
  refine y_iload_n cx (pc := 140) d_m_readNumber_140 rfl 1 rfl ?_
  refine y_imul cx (pc := 141) d_m_readNumber_141 ?_
  refine y_iload_n cx (pc := 142) d_m_readNumber_142 rfl 2 rfl ?_
  refine y_iadd cx (pc := 143) d_m_readNumber_143 ?_
  refine y_iconst cx (pc := 144) ic_1 d_m_readNumber_144 ?_
  refine y_iadd cx (pc := 145) d_m_readNumber_145 ?_
  refine y_iload_n cx (pc := 146) d_m_readNumber_146 rfl 3 rfl ?_
  refine y_if_eq cx (pc := 147) (tgt := 156) d_m_readNumber_147 (by decide) (fun hc => ?_) (fun hc => ?_)
  · replace h := h.1 hc
    refine y_lload cx (pc := 156) d_m_readNumber_156 4 rfl ?_
    refine y_sub [] rfl ?_
    exact b_m_readNumber_158 cx v5 (((9 * v1) + v2) + 1) (up σ 62 (((9 * v1) + v2).toNatClampNeg) 0) h
  · replace h := h.2 hc
    refine y_lload cx (pc := 150) d_m_readNumber_150 4 rfl ?_
    refine y_lneg cx (pc := 152) d_m_readNumber_152 ?_
    refine y_goto cx (pc := 153) (tgt := 158) d_m_readNumber_153 (by decide) ?_
    refine y_sub [] rfl ?_
    exact b_m_readNumber_158 cx (-v5) (((9 * v1) + v2) + 1) (up σ 62 (((9 * v1) + v2).toNatClampNeg) 0) h
def w_m_readNumber_85 (Q : Sg → Prop) (v1 : Int32) (v2 : Int32) (v3 : Int32) (v4 : Int32) (v5 : Int64) (σ : Sg) : Prop := (¬ (σ 58 5) = v4 → ((v5 ≤ 2147483647 → (w_m_readNumber_122 Q v1 v2 v3 v5 σ)) ∧ (¬ v5 ≤ 2147483647 → (w_m_fail 2 v4 σ (fun σ1 => w_m_readNumber_122 Q v1 v2 v3 v5 σ1))))) ∧ ((σ 58 5) = v4 → (w_m_fail 1 (σ 58 5) σ (fun σ2 => w_m_readNumber_122 Q v1 v2 v3 v5 σ2)))
theorem b_m_readNumber_85 {Δ : Ly} {G : Gm} {Q : Sg → Prop} (cx : Cx Δ G mi_m_readNumber) : ∀ (v1 : Int32) (v2 : Int32) (v3 : Int32) (v4 : Int32) (v5 : Int64) (σ : Sg), w_m_readNumber_85 Q v1 v2 v3 v4 v5 σ → Y Δ G mi_m_readNumber (qV Q) noE 0 0 σ 85 [(0, .ref (Δ.1 58)), (1, .int v1), (2, .int v2), (3, .int v3), (4, .int v4), (5, .long v5)] [] := by
  intro v1 v2 v3 v4 v5 σ h
  unfold w_m_readNumber_85 at h
  refine y_aload_n cx (pc := 85) d_m_readNumber_85 rfl 0 rfl ?_
  refine y_get cx (pc := 86) (j := 5) (v := .int (σ 58 5)) (le_b rfl) ck_Md kw_753 (le_b rfl) (gf_58_5 Δ _) d_m_readNumber_86 ?_
  refine y_iload cx (pc := 89) d_m_readNumber_89 4 rfl ?_
  refine y_icmp_ne cx (pc := 91) (tgt := 106) d_m_readNumber_91 (by decide) (fun hc => ?_) (fun hc => ?_)
  · replace h := h.1 hc
    refine y_lload cx (pc := 106) d_m_readNumber_106 5 rfl ?_
    refine y_ldc2 cx (pc := 108) kw_956 d_m_readNumber_108 ?_
    refine y_lcmp_le cx (pc := 111) (tgt := 122) d_m_readNumber_111 d_m_readNumber_112 (by decide) (fun hc => ?_) (fun hc => ?_)
    · replace h := h.1 hc
      refine y_sub [0, 1, 2, 3, 5] rfl ?_
      exact b_m_readNumber_122 cx v1 v2 v3 v5 σ h
    · replace h := h.2 hc
      refine y_aload_n cx (pc := 115) d_m_readNumber_115 rfl 0 rfl ?_
      refine y_iconst cx (pc := 116) ic_2 d_m_readNumber_116 ?_
      refine y_iload cx (pc := 117) d_m_readNumber_117 4 rfl ?_
      refine y_vV cx (pc := 119) (st := []) [.int 2, .int v4] (c_m_fail cx.fl Δ 2 v4 _ _ h) mv_m_fail kw_930 (oc_58 Δ) ck_Md rfl (le_b rfl) (le_b rfl) (le_b rfl) (le_b rfl) (le_b rfl) d_m_readNumber_119 (fun σ1 h => ?_) (fun x σ1 h => yt_no h)
      refine y_sub [0, 1, 2, 3, 5] rfl ?_
      exact b_m_readNumber_122 cx v1 v2 v3 v5 σ1 h
  · replace h := h.2 hc
    refine y_aload_n cx (pc := 94) d_m_readNumber_94 rfl 0 rfl ?_
    refine y_iconst cx (pc := 95) ic_1 d_m_readNumber_95 ?_
    refine y_aload_n cx (pc := 96) d_m_readNumber_96 rfl 0 rfl ?_
    refine y_get cx (pc := 97) (j := 5) (v := .int (σ 58 5)) (le_b rfl) ck_Md kw_753 (le_b rfl) (gf_58_5 Δ _) d_m_readNumber_97 ?_
    refine y_vV cx (pc := 100) (st := []) [.int 1, .int (σ 58 5)] (c_m_fail cx.fl Δ 1 (σ 58 5) _ _ h) mv_m_fail kw_930 (oc_58 Δ) ck_Md rfl (le_b rfl) (le_b rfl) (le_b rfl) (le_b rfl) (le_b rfl) d_m_readNumber_100 (fun σ2 h => ?_) (fun x σ2 h => yt_no h)
    refine y_goto cx (pc := 103) (tgt := 122) d_m_readNumber_103 (by decide) ?_
    refine y_sub [0, 1, 2, 3, 5] rfl ?_
    exact b_m_readNumber_122 cx v1 v2 v3 v5 σ2 h
def w_m_readNumber_70 (K9 : Int32 → Int32 → Int32 → Int32 → Int64 → Sg → Prop) (Q : Sg → Prop) (v1 : Int32) (v2 : Int32) (v3 : Int32) (v4 : Int32) (s0 : Int64) (σ : Sg) : Prop := K9 v1 v2 v3 v4 s0 (up σ 58 5 ((σ 58 5) + 1))
theorem b_m_readNumber_70 {Δ : Ly} {G : Gm} {K9 : Int32 → Int32 → Int32 → Int32 → Int64 → Sg → Prop} {Q : Sg → Prop} (cx : Cx Δ G mi_m_readNumber) (hK9 : ∀ (v1 : Int32) (v2 : Int32) (v3 : Int32) (v4 : Int32) (v5 : Int64) (σ : Sg), K9 v1 v2 v3 v4 v5 σ → Y Δ G mi_m_readNumber (qV Q) noE 0 0 σ 9 [(0, .ref (Δ.1 58)), (1, .int v1), (2, .int v2), (3, .int v3), (4, .int v4), (5, .long v5)] []) : ∀ (v1 : Int32) (v2 : Int32) (v3 : Int32) (v4 : Int32) (s0 : Int64) (σ : Sg), w_m_readNumber_70 K9 Q v1 v2 v3 v4 s0 σ → Y Δ G mi_m_readNumber (qV Q) noE 0 0 σ 70 [(0, .ref (Δ.1 58)), (1, .int v1), (2, .int v2), (3, .int v3), (4, .int v4)] [.long s0] := by
  intro v1 v2 v3 v4 s0 σ h
  unfold w_m_readNumber_70 at h
  refine y_lstore (lv' := [(5, .long s0), (0, .ref (Δ.1 58)), (1, .int v1), (2, .int v2), (3, .int v3), (4, .int v4)]) cx (pc := 70) d_m_readNumber_70 (le_b rfl) rfl ?_
  refine y_aload_n cx (pc := 72) d_m_readNumber_72 rfl 1 rfl ?_
  refine y_dup cx (pc := 73) rfl d_m_readNumber_73 ?_
  refine y_get cx (pc := 74) (j := 5) (v := .int (σ 58 5)) (le_b rfl) ck_Md kw_753 (le_b rfl) (gf_58_5 Δ _) d_m_readNumber_74 ?_
  refine y_iconst cx (pc := 77) ic_1 d_m_readNumber_77 ?_
  refine y_iadd cx (pc := 78) d_m_readNumber_78 ?_
  refine y_put cx (pc := 79) (j := 5) (ty := .int) (le_b rfl) ck_Md kw_753 (le_b rfl) rfl (t_Md_ok 5 (le_b rfl)) rfl rfl (pf_58_5 Δ) d_m_readNumber_79 ?_
  refine y_goto cx (pc := 82) (tgt := 9) d_m_readNumber_82 (by decide) ?_
  refine y_sub [1, 2, 3, 4, 5, 0] rfl ?_
  exact hK9 v1 v2 v3 v4 s0 (up σ 58 5 ((σ 58 5) + 1)) h
def w_m_readNumber_9 (Q : Sg → Prop) : Nat → Int32 → Int32 → Int32 → Int32 → Int64 → Sg → Prop
  | 0, _, _, _, _, _, _ => False
  | n + 1, v1, v2, v3, v4, v5, σ => ((σ 58 4) ≤ (σ 58 5) → (w_m_readNumber_85 Q v1 v2 v3 v4 v5 σ)) ∧ (¬ (σ 58 4) ≤ (σ 58 5) → (vp_in (σ 58 5) 600 ∧ (w_m_isFigure (σ 61 ((σ 58 5).toNatClampNeg)) σ (fun x1 σ2 => (x1 = 0 → (w_m_readNumber_85 Q v1 v2 v3 v4 v5 σ2)) ∧ (¬ x1 = 0 → ((v5 ≤ 4000000000 → (vp_in (σ2 58 5) 600 ∧ (w_m_readNumber_70 (w_m_readNumber_9 Q n) Q v1 v2 v3 v4 (((10 * v5) + ((σ2 61 ((σ2 58 5).toNatClampNeg)).toInt64)) - 48) σ2))) ∧ (¬ v5 ≤ 4000000000 → (w_m_readNumber_70 (w_m_readNumber_9 Q n) Q v1 v2 v3 v4 v5 σ2))))))))
theorem b_m_readNumber_9 {Δ : Ly} {G : Gm} {Q : Sg → Prop} (cx : Cx Δ G mi_m_readNumber) : ∀ (n : Nat) (v1 : Int32) (v2 : Int32) (v3 : Int32) (v4 : Int32) (v5 : Int64) (σ : Sg), w_m_readNumber_9 Q n v1 v2 v3 v4 v5 σ → Y Δ G mi_m_readNumber (qV Q) noE 0 0 σ 9 [(0, .ref (Δ.1 58)), (1, .int v1), (2, .int v2), (3, .int v3), (4, .int v4), (5, .long v5)] [] := by
  intro n
  induction n with
  | zero => intro v1 v2 v3 v4 v5 σ h; exact h.elim
  | succ n ih =>
    intro v1 v2 v3 v4 v5 σ h
    unfold w_m_readNumber_9 at h
    refine y_aload_n cx (pc := 9) d_m_readNumber_9 rfl 0 rfl ?_
    refine y_get cx (pc := 10) (j := 5) (v := .int (σ 58 5)) (le_b rfl) ck_Md kw_753 (le_b rfl) (gf_58_5 Δ _) d_m_readNumber_10 ?_
    refine y_aload_n cx (pc := 13) d_m_readNumber_13 rfl 0 rfl ?_
    refine y_get cx (pc := 14) (j := 4) (v := .int (σ 58 4)) (le_b rfl) ck_Md kw_752 (le_b rfl) (gf_58_4 Δ _) d_m_readNumber_14 ?_
    refine y_icmp_ge cx (pc := 17) (tgt := 85) d_m_readNumber_17 (by decide) (fun hc => ?_) (fun hc => ?_)
    · replace h := h.1 hc
      exact b_m_readNumber_85 cx v1 v2 v3 v4 v5 σ h
    · replace h := h.2 hc
      refine y_aload_n cx (pc := 20) d_m_readNumber_20 rfl 0 rfl ?_
      refine y_get cx (pc := 21) (j := 3) (v := .ref (Δ.1 61)) (le_b rfl) ck_Md kw_751 (le_b rfl) (gf_58_3 Δ _) d_m_readNumber_21 ?_
      refine y_aload_n cx (pc := 24) d_m_readNumber_24 rfl 0 rfl ?_
      refine y_get cx (pc := 25) (j := 5) (v := .int (σ 58 5)) (le_b rfl) ck_Md kw_753 (le_b rfl) (gf_58_5 Δ _) d_m_readNumber_25 ?_
      obtain ⟨h0, h⟩ := h
      refine y_iald cx (pc := 28) ⟨(le_b rfl), fun _ => rfl⟩ h0 d_m_readNumber_28 ?_
      refine y_sI cx (pc := 29) (st := []) [.int (σ 61 ((σ 58 5).toNatClampNeg))] (c_m_isFigure cx.fl Δ (σ 61 ((σ 58 5).toNatClampNeg)) _ _ h) mv_m_isFigure kw_950 rfl (le_b rfl) (le_b rfl) (le_b rfl) (le_b rfl) (le_b rfl) d_m_readNumber_29 (fun x1 σ2 h => ?_) (fun x σ2 h => yt_no h)
      refine y_if_eq cx (pc := 32) (tgt := 85) d_m_readNumber_32 (by decide) (fun hc => ?_) (fun hc => ?_)
      · replace h := h.1 hc
        exact b_m_readNumber_85 cx v1 v2 v3 v4 v5 σ2 h
      · replace h := h.2 hc
        refine y_lload cx (pc := 35) d_m_readNumber_35 5 rfl ?_
        refine y_ldc2 cx (pc := 37) kw_953 d_m_readNumber_37 ?_
        refine y_lcmp_le cx (pc := 40) (tgt := 49) d_m_readNumber_40 d_m_readNumber_41 (by decide) (fun hc => ?_) (fun hc => ?_)
        · replace h := h.1 hc
          refine y_ldc2 cx (pc := 49) kw_954 d_m_readNumber_49 ?_
          refine y_lload cx (pc := 52) d_m_readNumber_52 5 rfl ?_
          refine y_lmul cx (pc := 54) d_m_readNumber_54 ?_
          refine y_aload_n cx (pc := 55) d_m_readNumber_55 rfl 0 rfl ?_
          refine y_get cx (pc := 56) (j := 3) (v := .ref (Δ.1 61)) (le_b rfl) ck_Md kw_751 (le_b rfl) (gf_58_3 Δ _) d_m_readNumber_56 ?_
          refine y_aload_n cx (pc := 59) d_m_readNumber_59 rfl 0 rfl ?_
          refine y_get cx (pc := 60) (j := 5) (v := .int (σ2 58 5)) (le_b rfl) ck_Md kw_753 (le_b rfl) (gf_58_5 Δ _) d_m_readNumber_60 ?_
          obtain ⟨h0, h⟩ := h
          refine y_iald cx (pc := 63) ⟨(le_b rfl), fun _ => rfl⟩ h0 d_m_readNumber_63 ?_
          refine y_i2l cx (pc := 64) d_m_readNumber_64 ?_
          refine y_ladd cx (pc := 65) d_m_readNumber_65 ?_
          refine y_ldc2 cx (pc := 66) kw_955 d_m_readNumber_66 ?_
          refine y_lsub cx (pc := 69) d_m_readNumber_69 ?_
          refine y_sub [0, 1, 2, 3, 4] rfl ?_
          exact b_m_readNumber_70 cx ih v1 v2 v3 v4 (((10 * v5) + ((σ2 61 ((σ2 58 5).toNatClampNeg)).toInt64)) - 48) σ2 h
        · replace h := h.2 hc
          refine y_lload cx (pc := 44) d_m_readNumber_44 5 rfl ?_
          refine y_goto cx (pc := 46) (tgt := 70) d_m_readNumber_46 (by decide) ?_
          refine y_sub [0, 1, 2, 3, 4] rfl ?_
          exact b_m_readNumber_70 cx ih v1 v2 v3 v4 v5 σ2 h
def w_m_readNumber (p1 : Int32) (p2 : Int32) (p3 : Int32) (σ : Sg) (Q : Sg → Prop) : Prop := ∀ x1 : Int32, x1 = σ 58 5 → (∃ q9, w_m_readNumber_9 Q q9 p1 p2 p3 x1 0 σ)
theorem b_m_readNumber {Δ : Ly} {G : Gm} {Q : Sg → Prop} (cx : Cx Δ G mi_m_readNumber) (p1 : Int32) (p2 : Int32) (p3 : Int32) (σ : Sg) (h : w_m_readNumber p1 p2 p3 σ Q) : Y Δ G mi_m_readNumber (qV Q) noE 0 0 σ 0 [(0, .ref (Δ.1 58)), (1, .int p1), (2, .int p2), (3, .int p3)] [] := by
  unfold w_m_readNumber at h
  refine y_aload_n cx (pc := 0) d_m_readNumber_0 rfl 0 rfl ?_
  refine y_get cx (pc := 1) (j := 5) (v := .int (σ 58 5)) (le_b rfl) ck_Md kw_753 (le_b rfl) (gf_58_5 Δ _) d_m_readNumber_1 ?_
  refine y_topi (fun x1 ex1 => ?_)
  replace h := h x1 ex1
  refine y_istore (lv' := [(4, .int x1), (0, .ref (Δ.1 58)), (1, .int p1), (2, .int p2), (3, .int p3)]) cx (pc := 4) d_m_readNumber_4 (le_b rfl) rfl ?_
  refine y_lconst cx (pc := 6) (v := 0) lc_0 d_m_readNumber_6 ?_
  refine y_lstore (lv' := [(5, .long 0), (4, .int x1), (0, .ref (Δ.1 58)), (1, .int p1), (2, .int p2), (3, .int p3)]) cx (pc := 7) d_m_readNumber_7 (le_b rfl) rfl ?_
  refine y_sub [2, 3, 4, 5, 1, 0] rfl ?_
  obtain ⟨n, h⟩ := h
  exact b_m_readNumber_9 cx n p1 p2 p3 x1 0 σ h
theorem c_m_readNumber {l : Launch} (hfl : l.flags = flags0) (Δ : Ly) (p1 : Int32) (p2 : Int32) (p3 : Int32) (σ : Sg) (Q : Sg → Prop) (h : w_m_readNumber p1 p2 p3 σ Q) : Ct l Δ mi_m_readNumber [.ref (Δ.1 58), .int p1, .int p2, .int p3] σ (qV Q) noE :=
  Ct.of hfl (by show plainFor ⟨"GuardedMovesModel", "readNumber", "(IIZ)V"⟩ = true; decide +kernel) rfl (le_b rfl) (fun G hl cx => b_m_readNumber cx p1 p2 p3 σ h)

def mi_m_harmless : Mi := ("GuardedMovesModel", prog_6_method_33_code, 6, [], (some .int), 2, 57, 0, 0, ⟨"GuardedMovesModel", "harmless", "(II)I"⟩)
theorem d_m_harmless_0 : decode prog_6_method_33_code 0 = .ok (.aload_n 0, 1) := by decide +kernel
theorem d_m_harmless_1 : decode prog_6_method_33_code 1 = .ok (.iload_n 2, 1) := by decide +kernel
theorem d_m_harmless_2 : decode prog_6_method_33_code 2 = .ok (.invokevirtual 216, 3) := by decide +kernel
theorem d_m_harmless_5 : decode prog_6_method_33_code 5 = .ok (.istore_n 3, 1) := by decide +kernel
theorem d_m_harmless_6 : decode prog_6_method_33_code 6 = .ok (.aload_n 0, 1) := by decide +kernel
theorem d_m_harmless_7 : decode prog_6_method_33_code 7 = .ok (.invokevirtual 205, 3) := by decide +kernel
theorem d_m_harmless_10 : decode prog_6_method_33_code 10 = .ok (.istore 4, 2) := by decide +kernel
theorem d_m_harmless_12 : decode prog_6_method_33_code 12 = .ok (.aload_n 0, 1) := by decide +kernel
theorem d_m_harmless_13 : decode prog_6_method_33_code 13 = .ok (.bipush 13, 2) := by decide +kernel
theorem d_m_harmless_15 : decode prog_6_method_33_code 15 = .ok (.iload 4, 2) := by decide +kernel
theorem d_m_harmless_17 : decode prog_6_method_33_code 17 = .ok (.aload_n 0, 1) := by decide +kernel
theorem d_m_harmless_18 : decode prog_6_method_33_code 18 = .ok (.getfield 69, 3) := by decide +kernel
theorem d_m_harmless_21 : decode prog_6_method_33_code 21 = .ok (.aload_n 0, 1) := by decide +kernel
theorem d_m_harmless_22 : decode prog_6_method_33_code 22 = .ok (.getfield 219, 3) := by decide +kernel
theorem d_m_harmless_25 : decode prog_6_method_33_code 25 = .ok (.iconst 1, 1) := by decide +kernel
theorem d_m_harmless_26 : decode prog_6_method_33_code 26 = .ok (.isub, 1) := by decide +kernel
theorem d_m_harmless_27 : decode prog_6_method_33_code 27 = .ok (.iaload, 1) := by decide +kernel
theorem d_m_harmless_28 : decode prog_6_method_33_code 28 = .ok (.iload_n 1, 1) := by decide +kernel
theorem d_m_harmless_29 : decode prog_6_method_33_code 29 = .ok (.iload_n 3, 1) := by decide +kernel
theorem d_m_harmless_30 : decode prog_6_method_33_code 30 = .ok (.invokevirtual 208, 3) := by decide +kernel
theorem d_m_harmless_33 : decode prog_6_method_33_code 33 = .ok (.istore 5, 2) := by decide +kernel
theorem d_m_harmless_35 : decode prog_6_method_33_code 35 = .ok (.iload 4, 2) := by decide +kernel
theorem d_m_harmless_37 : decode prog_6_method_33_code 37 = .ok (.ireturn, 1) := by decide +kernel
theorem kc_m_harmless : Kw (m_w (mi_m_harmless )) := ⟨(in_t5 (List.mem_of_getElem? (i := 75) rfl)), rfl⟩
theorem mv_m_harmless : MV (mi_m_harmless ) "GuardedMovesModel" 2 := ⟨kw_1034, ks_68, kc_m_harmless , kw_7, ⟨⟨(by show ("GuardedMovesModel" : String) ≠ "java/lang/invoke/MethodHandle"; decide), (by show ("GuardedMovesModel" : String) ≠ "java/lang/invoke/VarHandle"; decide)⟩, (by show (parseMethodDescriptor "(II)I").map (fun d => d.parameters.length) = some 2; decide +kernel)⟩⟩
def w_m_harmless (p1 : Int32) (p2 : Int32) (σ : Sg) (Q : Int32 → Sg → Prop) : Prop := w_m_setNew p2 σ (fun x1 σ2 => w_m_fresh1 σ2 (fun x3 σ4 => vp_in ((σ4 58 26) - 1) 8 ∧ (w_m_emit 13 x3 (σ4 77 (((σ4 58 26) - 1).toNatClampNeg)) p1 x1 σ4 (fun x5 σ6 => Q x3 σ6))))
theorem b_m_harmless {Δ : Ly} {G : Gm} {Q : Int32 → Sg → Prop} (cx : Cx Δ G mi_m_harmless) (p1 : Int32) (p2 : Int32) (σ : Sg) (h : w_m_harmless p1 p2 σ Q) : Y Δ G mi_m_harmless (qI Q) noE 0 0 σ 0 [(0, .ref (Δ.1 58)), (1, .int p1), (2, .int p2)] [] := by
  unfold w_m_harmless at h
  refine y_aload_n cx (pc := 0) d_m_harmless_0 rfl 0 rfl ?_
  refine y_iload_n cx (pc := 1) d_m_harmless_1 rfl 2 rfl ?_
  refine y_vI cx (pc := 2) (st := []) [.int p2] (c_m_setNew cx.fl Δ p2 _ _ h) mv_m_setNew kw_1008 (oc_58 Δ) ck_Md rfl (le_b rfl) (le_b rfl) (le_b rfl) (le_b rfl) (le_b rfl) d_m_harmless_2 (fun x1 σ2 h => ?_) (fun x σ2 h => yt_no h)
  refine y_istore_n (lv' := [(3, .int x1), (0, .ref (Δ.1 58)), (1, .int p1), (2, .int p2)]) cx (pc := 5) d_m_harmless_5 rfl (le_b rfl) rfl ?_
  refine y_aload_n cx (pc := 6) d_m_harmless_6 rfl 1 rfl ?_
  refine y_vI cx (pc := 7) (st := []) [] (c_m_fresh1 cx.fl Δ _ _ h) mv_m_fresh1 kw_992 (oc_58 Δ) ck_Md rfl (le_b rfl) (le_b rfl) (le_b rfl) (le_b rfl) (le_b rfl) d_m_harmless_7 (fun x3 σ4 h => ?_) (fun x σ4 h => yt_no h)
  refine y_istore (lv' := [(4, .int x3), (3, .int x1), (0, .ref (Δ.1 58)), (1, .int p1), (2, .int p2)]) cx (pc := 10) d_m_harmless_10 (le_b rfl) rfl ?_
  refine y_aload_n cx (pc := 12) d_m_harmless_12 rfl 2 rfl ?_
  refine y_bipush cx (pc := 13) bp_13 d_m_harmless_13 ?_
  refine y_iload cx (pc := 15) d_m_harmless_15 0 rfl ?_
  refine y_aload_n cx (pc := 17) d_m_harmless_17 rfl 2 rfl ?_
  refine y_get cx (pc := 18) (j := 31) (v := .ref (Δ.1 77)) (le_b rfl) ck_Md kw_779 (le_b rfl) (gf_58_31 Δ _) d_m_harmless_18 ?_
  refine y_aload_n cx (pc := 21) d_m_harmless_21 rfl 2 rfl ?_
  refine y_get cx (pc := 22) (j := 26) (v := .int (σ4 58 26)) (le_b rfl) ck_Md kw_774 (le_b rfl) (gf_58_26 Δ _) d_m_harmless_22 ?_
  refine y_iconst cx (pc := 25) ic_1 d_m_harmless_25 ?_
  refine y_isub cx (pc := 26) d_m_harmless_26 ?_
  obtain ⟨h0, h⟩ := h
  refine y_iald cx (pc := 27) ⟨(le_b rfl), fun _ => rfl⟩ h0 d_m_harmless_27 ?_
  refine y_iload_n cx (pc := 28) d_m_harmless_28 rfl 3 rfl ?_
  refine y_iload_n cx (pc := 29) d_m_harmless_29 rfl 1 rfl ?_
  refine y_vI cx (pc := 30) (st := []) [.int 13, .int x3, .int (σ4 77 (((σ4 58 26) - 1).toNatClampNeg)), .int p1, .int x1] (c_m_emit cx.fl Δ 13 x3 (σ4 77 (((σ4 58 26) - 1).toNatClampNeg)) p1 x1 _ _ h) mv_m_emit kw_996 (oc_58 Δ) ck_Md rfl (le_b rfl) (le_b rfl) (le_b rfl) (le_b rfl) (le_b rfl) d_m_harmless_30 (fun x5 σ6 h => ?_) (fun x σ6 h => yt_no h)
  refine y_istore (lv' := [(5, .int x5), (4, .int x3), (3, .int x1), (0, .ref (Δ.1 58)), (1, .int p1), (2, .int p2)]) cx (pc := 33) d_m_harmless_33 (le_b rfl) rfl ?_
  refine y_iload cx (pc := 35) d_m_harmless_35 1 rfl ?_
  exact y_iret cx (pc := 37) rfl d_m_harmless_37 (le_b rfl) (le_b rfl) h
theorem c_m_harmless {l : Launch} (hfl : l.flags = flags0) (Δ : Ly) (p1 : Int32) (p2 : Int32) (σ : Sg) (Q : Int32 → Sg → Prop) (h : w_m_harmless p1 p2 σ Q) : Ct l Δ mi_m_harmless [.ref (Δ.1 58), .int p1, .int p2] σ (qI Q) noE :=
  Ct.of hfl (by show plainFor ⟨"GuardedMovesModel", "harmless", "(II)I"⟩ = true; decide +kernel) rfl (le_b rfl) (fun G hl cx => b_m_harmless cx p1 p2 σ h)
def mi_m_isPlainIndex : Mi := ("GuardedMovesModel", prog_6_method_34_code, 2, [], (some .boolean), 1, 29, 0, 0, ⟨"GuardedMovesModel", "isPlainIndex", "(I)Z"⟩)
theorem d_m_isPlainIndex_0 : decode prog_6_method_34_code 0 = .ok (.aload_n 0, 1) := by decide +kernel
theorem d_m_isPlainIndex_1 : decode prog_6_method_34_code 1 = .ok (.iload_n 1, 1) := by decide +kernel
theorem d_m_isPlainIndex_2 : decode prog_6_method_34_code 2 = .ok (.iconst 3, 1) := by decide +kernel
theorem d_m_isPlainIndex_3 : decode prog_6_method_34_code 3 = .ok (.invokevirtual 212, 3) := by decide +kernel
theorem d_m_isPlainIndex_6 : decode prog_6_method_34_code 6 = .ok (.ifCond .ne 24, 3) := by decide +kernel
theorem d_m_isPlainIndex_9 : decode prog_6_method_34_code 9 = .ok (.aload_n 0, 1) := by decide +kernel
theorem d_m_isPlainIndex_10 : decode prog_6_method_34_code 10 = .ok (.iload_n 1, 1) := by decide +kernel
theorem d_m_isPlainIndex_11 : decode prog_6_method_34_code 11 = .ok (.iconst 4, 1) := by decide +kernel
theorem d_m_isPlainIndex_12 : decode prog_6_method_34_code 12 = .ok (.invokevirtual 212, 3) := by decide +kernel
theorem d_m_isPlainIndex_15 : decode prog_6_method_34_code 15 = .ok (.i2l, 1) := by decide +kernel
theorem d_m_isPlainIndex_16 : decode prog_6_method_34_code 16 = .ok (.lconst 0, 1) := by decide +kernel
theorem d_m_isPlainIndex_17 : decode prog_6_method_34_code 17 = .ok (.ldc2_w 115, 3) := by decide +kernel
theorem d_m_isPlainIndex_20 : decode prog_6_method_34_code 20 = .ok (.invokestatic 107, 3) := by decide +kernel
theorem d_m_isPlainIndex_23 : decode prog_6_method_34_code 23 = .ok (.ifCond .eq 7, 3) := by decide +kernel
theorem d_m_isPlainIndex_26 : decode prog_6_method_34_code 26 = .ok (.iconst 1, 1) := by decide +kernel
theorem d_m_isPlainIndex_27 : decode prog_6_method_34_code 27 = .ok (.goto 4, 3) := by decide +kernel
theorem d_m_isPlainIndex_30 : decode prog_6_method_34_code 30 = .ok (.iconst 0, 1) := by decide +kernel
theorem d_m_isPlainIndex_31 : decode prog_6_method_34_code 31 = .ok (.ireturn, 1) := by decide +kernel
theorem kc_m_isPlainIndex : Kw (m_w (mi_m_isPlainIndex )) := ⟨(in_t5 (List.mem_of_getElem? (i := 79) rfl)), rfl⟩
theorem mv_m_isPlainIndex : MV (mi_m_isPlainIndex ) "GuardedMovesModel" 1 := ⟨kw_1038, ks_69, kc_m_isPlainIndex , kw_7, ⟨⟨(by show ("GuardedMovesModel" : String) ≠ "java/lang/invoke/MethodHandle"; decide), (by show ("GuardedMovesModel" : String) ≠ "java/lang/invoke/VarHandle"; decide)⟩, (by show (parseMethodDescriptor "(I)Z").map (fun d => d.parameters.length) = some 1; decide +kernel)⟩⟩
def w_m_isPlainIndex_31 (Q : Int32 → Sg → Prop) (s0 : Int32) (σ : Sg) : Prop := bz s0 ∧ (Q s0 σ)
theorem b_m_isPlainIndex_31 {Δ : Ly} {G : Gm} {Q : Int32 → Sg → Prop} (cx : Cx Δ G mi_m_isPlainIndex) : ∀ (s0 : Int32) (σ : Sg), w_m_isPlainIndex_31 Q s0 σ → Y Δ G mi_m_isPlainIndex (qI Q) noE 0 0 σ 31 [] [.int s0] := by
  intro s0 σ h
  unfold w_m_isPlainIndex_31 at h
  obtain ⟨hb, h⟩ := h
  exact y_zret cx (pc := 31) rfl hb d_m_isPlainIndex_31 (le_b rfl) (le_b rfl) h
def w_m_isPlainIndex_30 (Q : Int32 → Sg → Prop) (σ : Sg) : Prop := w_m_isPlainIndex_31 Q 0 σ
theorem b_m_isPlainIndex_30 {Δ : Ly} {G : Gm} {Q : Int32 → Sg → Prop} (cx : Cx Δ G mi_m_isPlainIndex) : ∀ (σ : Sg), w_m_isPlainIndex_30 Q σ → Y Δ G mi_m_isPlainIndex (qI Q) noE 0 0 σ 30 [] [] := by
  intro σ h
  unfold w_m_isPlainIndex_30 at h
  refine y_iconst cx (pc := 30) ic_0 d_m_isPlainIndex_30 ?_
  exact b_m_isPlainIndex_31 cx 0 σ h
def w_m_isPlainIndex (p1 : Int32) (σ : Sg) (Q : Int32 → Sg → Prop) : Prop := w_m_of p1 3 σ (fun x1 σ2 => (¬ x1 = 0 → (w_m_isPlainIndex_30 Q σ2)) ∧ (x1 = 0 → (w_m_of p1 4 σ2 (fun x3 σ4 => w_m_isIn (x3.toInt64) 0 31 σ4 (fun x5 σ6 => (x5 = 0 → (w_m_isPlainIndex_30 Q σ6)) ∧ (¬ x5 = 0 → (w_m_isPlainIndex_31 Q 1 σ6)))))))
theorem b_m_isPlainIndex {Δ : Ly} {G : Gm} {Q : Int32 → Sg → Prop} (cx : Cx Δ G mi_m_isPlainIndex) (p1 : Int32) (σ : Sg) (h : w_m_isPlainIndex p1 σ Q) : Y Δ G mi_m_isPlainIndex (qI Q) noE 0 0 σ 0 [(0, .ref (Δ.1 58)), (1, .int p1)] [] := by
  unfold w_m_isPlainIndex at h
  refine y_aload_n cx (pc := 0) d_m_isPlainIndex_0 rfl 0 rfl ?_
  refine y_iload_n cx (pc := 1) d_m_isPlainIndex_1 rfl 1 rfl ?_
  refine y_iconst cx (pc := 2) ic_3 d_m_isPlainIndex_2 ?_
  refine y_vI cx (pc := 3) (st := []) [.int p1, .int 3] (c_m_of cx.fl Δ p1 3 _ _ h) mv_m_of kw_976 (oc_58 Δ) ck_Md rfl (le_b rfl) (le_b rfl) (le_b rfl) (le_b rfl) (le_b rfl) d_m_isPlainIndex_3 (fun x1 σ2 h => ?_) (fun x σ2 h => yt_no h)
  refine y_if_ne cx (pc := 6) (tgt := 30) d_m_isPlainIndex_6 (by decide) (fun hc => ?_) (fun hc => ?_)
  · replace h := h.1 hc
    refine y_sub [] rfl ?_
    exact b_m_isPlainIndex_30 cx σ2 h
  · replace h := h.2 hc
    refine y_aload_n cx (pc := 9) d_m_isPlainIndex_9 rfl 0 rfl ?_
    refine y_iload_n cx (pc := 10) d_m_isPlainIndex_10 rfl 1 rfl ?_
    refine y_iconst cx (pc := 11) ic_4 d_m_isPlainIndex_11 ?_
    refine y_vI cx (pc := 12) (st := []) [.int p1, .int 4] (c_m_of cx.fl Δ p1 4 _ _ h) mv_m_of kw_976 (oc_58 Δ) ck_Md rfl (le_b rfl) (le_b rfl) (le_b rfl) (le_b rfl) (le_b rfl) d_m_isPlainIndex_12 (fun x3 σ4 h => ?_) (fun x σ4 h => yt_no h)
    refine y_i2l cx (pc := 15) d_m_isPlainIndex_15 ?_
    refine y_lconst cx (pc := 16) (v := 0) lc_0 d_m_isPlainIndex_16 ?_
    refine y_ldc2 cx (pc := 17) kw_904 d_m_isPlainIndex_17 ?_
    refine y_sI cx (pc := 20) (st := []) [.long (x3.toInt64), .long 0, .long 31] (c_m_isIn cx.fl Δ (x3.toInt64) 0 31 _ _ h) mv_m_isIn kw_893 rfl (le_b rfl) (le_b rfl) (le_b rfl) (le_b rfl) (le_b rfl) d_m_isPlainIndex_20 (fun x5 σ6 h => ?_) (fun x σ6 h => yt_no h)
    refine y_if_eq cx (pc := 23) (tgt := 30) d_m_isPlainIndex_23 (by decide) (fun hc => ?_) (fun hc => ?_)
    · replace h := h.1 hc
      refine y_sub [] rfl ?_
      exact b_m_isPlainIndex_30 cx σ6 h
    · replace h := h.2 hc
      refine y_iconst cx (pc := 26) ic_1 d_m_isPlainIndex_26 ?_
      refine y_goto cx (pc := 27) (tgt := 31) d_m_isPlainIndex_27 (by decide) ?_
      refine y_sub [] rfl ?_
      exact b_m_isPlainIndex_31 cx 1 σ6 h
theorem c_m_isPlainIndex {l : Launch} (hfl : l.flags = flags0) (Δ : Ly) (p1 : Int32) (σ : Sg) (Q : Int32 → Sg → Prop) (h : w_m_isPlainIndex p1 σ Q) : Ct l Δ mi_m_isPlainIndex [.ref (Δ.1 58), .int p1] σ (qI Q) noE :=
  Ct.of hfl (by show plainFor ⟨"GuardedMovesModel", "isPlainIndex", "(I)Z"⟩ = true; decide +kernel) rfl (le_b rfl) (fun G hl cx => b_m_isPlainIndex cx p1 σ h)
def mi_m_target : Mi := ("GuardedMovesModel", prog_6_method_35_code, 3, [], (some .int), 1, 26, 0, 0, ⟨"GuardedMovesModel", "target", "(I)I"⟩)
theorem d_m_target_0 : decode prog_6_method_35_code 0 = .ok (.aload_n 0, 1) := by decide +kernel
theorem d_m_target_1 : decode prog_6_method_35_code 1 = .ok (.iload_n 1, 1) := by decide +kernel
theorem d_m_target_2 : decode prog_6_method_35_code 2 = .ok (.iconst 1, 1) := by decide +kernel
theorem d_m_target_3 : decode prog_6_method_35_code 3 = .ok (.invokevirtual 212, 3) := by decide +kernel
theorem d_m_target_6 : decode prog_6_method_35_code 6 = .ok (.istore_n 2, 1) := by decide +kernel
theorem d_m_target_7 : decode prog_6_method_35_code 7 = .ok (.aload_n 0, 1) := by decide +kernel
theorem d_m_target_8 : decode prog_6_method_35_code 8 = .ok (.invokevirtual 228, 3) := by decide +kernel
theorem d_m_target_11 : decode prog_6_method_35_code 11 = .ok (.ifCond .ne 5, 3) := by decide +kernel
theorem d_m_target_14 : decode prog_6_method_35_code 14 = .ok (.iload_n 2, 1) := by decide +kernel
theorem d_m_target_15 : decode prog_6_method_35_code 15 = .ok (.ireturn, 1) := by decide +kernel
theorem d_m_target_16 : decode prog_6_method_35_code 16 = .ok (.aload_n 0, 1) := by decide +kernel
theorem d_m_target_17 : decode prog_6_method_35_code 17 = .ok (.getfield 54, 3) := by decide +kernel
theorem d_m_target_20 : decode prog_6_method_35_code 20 = .ok (.iload_n 2, 1) := by decide +kernel
theorem d_m_target_21 : decode prog_6_method_35_code 21 = .ok (.aload_n 0, 1) := by decide +kernel
theorem d_m_target_22 : decode prog_6_method_35_code 22 = .ok (.invokevirtual 205, 3) := by decide +kernel
theorem d_m_target_25 : decode prog_6_method_35_code 25 = .ok (.iastore, 1) := by decide +kernel
theorem d_m_target_26 : decode prog_6_method_35_code 26 = .ok (.aload_n 0, 1) := by decide +kernel
theorem d_m_target_27 : decode prog_6_method_35_code 27 = .ok (.getfield 54, 3) := by decide +kernel
theorem d_m_target_30 : decode prog_6_method_35_code 30 = .ok (.iload_n 2, 1) := by decide +kernel
theorem d_m_target_31 : decode prog_6_method_35_code 31 = .ok (.iaload, 1) := by decide +kernel
theorem d_m_target_32 : decode prog_6_method_35_code 32 = .ok (.ireturn, 1) := by decide +kernel
theorem kc_m_target : Kw (m_w (mi_m_target )) := ⟨(in_t5 (List.mem_of_getElem? (i := 67) rfl)), rfl⟩
theorem mv_m_target : MV (mi_m_target ) "GuardedMovesModel" 1 := ⟨kw_1026, ks_66, kc_m_target , kw_7, ⟨⟨(by show ("GuardedMovesModel" : String) ≠ "java/lang/invoke/MethodHandle"; decide), (by show ("GuardedMovesModel" : String) ≠ "java/lang/invoke/VarHandle"; decide)⟩, (by show (parseMethodDescriptor "(I)I").map (fun d => d.parameters.length) = some 1; decide +kernel)⟩⟩
def w_m_target (p1 : Int32) (σ : Sg) (Q : Int32 → Sg → Prop) : Prop := w_m_of p1 1 σ (fun x1 σ2 => w_m_isOnSide σ2 (fun x3 σ4 => (¬ x3 = 0 → (w_m_fresh1 σ4 (fun x5 σ6 => vp_in x1 16 ∧ (vp_in x1 16 ∧ (Q ((up σ6 72 (x1.toNatClampNeg) x5) 72 (x1.toNatClampNeg)) (up σ6 72 (x1.toNatClampNeg) x5)))))) ∧ (x3 = 0 → (Q x1 σ4))))
theorem b_m_target {Δ : Ly} {G : Gm} {Q : Int32 → Sg → Prop} (cx : Cx Δ G mi_m_target) (p1 : Int32) (σ : Sg) (h : w_m_target p1 σ Q) : Y Δ G mi_m_target (qI Q) noE 0 0 σ 0 [(0, .ref (Δ.1 58)), (1, .int p1)] [] := by
  unfold w_m_target at h
  refine y_aload_n cx (pc := 0) d_m_target_0 rfl 0 rfl ?_
  refine y_iload_n cx (pc := 1) d_m_target_1 rfl 1 rfl ?_
  refine y_iconst cx (pc := 2) ic_1 d_m_target_2 ?_
  refine y_vI cx (pc := 3) (st := []) [.int p1, .int 1] (c_m_of cx.fl Δ p1 1 _ _ h) mv_m_of kw_976 (oc_58 Δ) ck_Md rfl (le_b rfl) (le_b rfl) (le_b rfl) (le_b rfl) (le_b rfl) d_m_target_3 (fun x1 σ2 h => ?_) (fun x σ2 h => yt_no h)
  refine y_istore_n (lv' := [(2, .int x1), (0, .ref (Δ.1 58)), (1, .int p1)]) cx (pc := 6) d_m_target_6 rfl (le_b rfl) rfl ?_
  refine y_aload_n cx (pc := 7) d_m_target_7 rfl 1 rfl ?_
  refine y_vI cx (pc := 8) (st := []) [] (c_m_isOnSide cx.fl Δ _ _ h) mv_m_isOnSide kw_1000 (oc_58 Δ) ck_Md rfl (le_b rfl) (le_b rfl) (le_b rfl) (le_b rfl) (le_b rfl) d_m_target_8 (fun x3 σ4 h => ?_) (fun x σ4 h => yt_no h)
  refine y_if_ne cx (pc := 11) (tgt := 16) d_m_target_11 (by decide) (fun hc => ?_) (fun hc => ?_)
  · replace h := h.1 hc
    refine y_aload_n cx (pc := 16) d_m_target_16 rfl 1 rfl ?_
    refine y_get cx (pc := 17) (j := 25) (v := .ref (Δ.1 72)) (le_b rfl) ck_Md kw_773 (le_b rfl) (gf_58_25 Δ _) d_m_target_17 ?_
    refine y_iload_n cx (pc := 20) d_m_target_20 rfl 0 rfl ?_
    refine y_aload_n cx (pc := 21) d_m_target_21 rfl 1 rfl ?_
    refine y_vI cx (pc := 22) (st := [.int x1, .ref (Δ.1 72)]) [] (c_m_fresh1 cx.fl Δ _ _ h) mv_m_fresh1 kw_992 (oc_58 Δ) ck_Md rfl (le_b rfl) (le_b rfl) (le_b rfl) (le_b rfl) (le_b rfl) d_m_target_22 (fun x5 σ6 h => ?_) (fun x σ6 h => yt_no h)
    obtain ⟨h0, h⟩ := h
    refine y_iast cx (pc := 25) ⟨(le_b rfl), fun _ => rfl⟩ h0 d_m_target_25 ?_
    refine y_aload_n cx (pc := 26) d_m_target_26 rfl 1 rfl ?_
    refine y_get cx (pc := 27) (j := 25) (v := .ref (Δ.1 72)) (le_b rfl) ck_Md kw_773 (le_b rfl) (gf_58_25 Δ _) d_m_target_27 ?_
    refine y_iload_n cx (pc := 30) d_m_target_30 rfl 0 rfl ?_
    obtain ⟨h0, h⟩ := h
    refine y_iald cx (pc := 31) ⟨(le_b rfl), fun _ => rfl⟩ h0 d_m_target_31 ?_
    exact y_iret cx (pc := 32) rfl d_m_target_32 (le_b rfl) (le_b rfl) h
  · replace h := h.2 hc
    refine y_iload_n cx (pc := 14) d_m_target_14 rfl 0 rfl ?_
    exact y_iret cx (pc := 15) rfl d_m_target_15 (le_b rfl) (le_b rfl) h
theorem c_m_target {l : Launch} (hfl : l.flags = flags0) (Δ : Ly) (p1 : Int32) (σ : Sg) (Q : Int32 → Sg → Prop) (h : w_m_target p1 σ Q) : Ct l Δ mi_m_target [.ref (Δ.1 58), .int p1] σ (qI Q) noE :=
  Ct.of hfl (by show plainFor ⟨"GuardedMovesModel", "target", "(I)I"⟩ = true; decide +kernel) rfl (le_b rfl) (fun G hl cx => b_m_target cx p1 σ h)
def mi_m_lowerSet : Mi := ("GuardedMovesModel", prog_6_method_36_code, 5, [], none, 2, 52, 0, 0, ⟨"GuardedMovesModel", "lowerSet", "(I)V"⟩)
theorem d_m_lowerSet_0 : decode prog_6_method_36_code 0 = .ok (.aload_n 0, 1) := by decide +kernel
theorem d_m_lowerSet_1 : decode prog_6_method_36_code 1 = .ok (.iload_n 1, 1) := by decide +kernel
theorem d_m_lowerSet_2 : decode prog_6_method_36_code 2 = .ok (.iconst 3, 1) := by decide +kernel
theorem d_m_lowerSet_3 : decode prog_6_method_36_code 3 = .ok (.invokevirtual 212, 3) := by decide +kernel
theorem d_m_lowerSet_6 : decode prog_6_method_36_code 6 = .ok (.iconst 1, 1) := by decide +kernel
theorem d_m_lowerSet_7 : decode prog_6_method_36_code 7 = .ok (.if_icmp .ne 7, 3) := by decide +kernel
theorem d_m_lowerSet_10 : decode prog_6_method_36_code 10 = .ok (.iconst 1, 1) := by decide +kernel
theorem d_m_lowerSet_11 : decode prog_6_method_36_code 11 = .ok (.goto 4, 3) := by decide +kernel
theorem d_m_lowerSet_14 : decode prog_6_method_36_code 14 = .ok (.iconst 0, 1) := by decide +kernel
theorem d_m_lowerSet_15 : decode prog_6_method_36_code 15 = .ok (.istore_n 2, 1) := by decide +kernel
theorem d_m_lowerSet_16 : decode prog_6_method_36_code 16 = .ok (.iload_n 2, 1) := by decide +kernel
theorem d_m_lowerSet_17 : decode prog_6_method_36_code 17 = .ok (.ifCond .eq 35, 3) := by decide +kernel
theorem d_m_lowerSet_20 : decode prog_6_method_36_code 20 = .ok (.aload_n 0, 1) := by decide +kernel
theorem d_m_lowerSet_21 : decode prog_6_method_36_code 21 = .ok (.invokevirtual 228, 3) := by decide +kernel
theorem d_m_lowerSet_24 : decode prog_6_method_36_code 24 = .ok (.ifCond .eq 28, 3) := by decide +kernel
theorem d_m_lowerSet_27 : decode prog_6_method_36_code 27 = .ok (.aload_n 0, 1) := by decide +kernel
theorem d_m_lowerSet_28 : decode prog_6_method_36_code 28 = .ok (.getfield 54, 3) := by decide +kernel
theorem d_m_lowerSet_31 : decode prog_6_method_36_code 31 = .ok (.aload_n 0, 1) := by decide +kernel
theorem d_m_lowerSet_32 : decode prog_6_method_36_code 32 = .ok (.iload_n 1, 1) := by decide +kernel
theorem d_m_lowerSet_33 : decode prog_6_method_36_code 33 = .ok (.iconst 1, 1) := by decide +kernel
theorem d_m_lowerSet_34 : decode prog_6_method_36_code 34 = .ok (.invokevirtual 212, 3) := by decide +kernel
theorem d_m_lowerSet_37 : decode prog_6_method_36_code 37 = .ok (.aload_n 0, 1) := by decide +kernel
theorem d_m_lowerSet_38 : decode prog_6_method_36_code 38 = .ok (.getfield 54, 3) := by decide +kernel
theorem d_m_lowerSet_41 : decode prog_6_method_36_code 41 = .ok (.aload_n 0, 1) := by decide +kernel
theorem d_m_lowerSet_42 : decode prog_6_method_36_code 42 = .ok (.iload_n 1, 1) := by decide +kernel
theorem d_m_lowerSet_43 : decode prog_6_method_36_code 43 = .ok (.iconst 4, 1) := by decide +kernel
theorem d_m_lowerSet_44 : decode prog_6_method_36_code 44 = .ok (.invokevirtual 212, 3) := by decide +kernel
theorem d_m_lowerSet_47 : decode prog_6_method_36_code 47 = .ok (.iaload, 1) := by decide +kernel
theorem d_m_lowerSet_48 : decode prog_6_method_36_code 48 = .ok (.iastore, 1) := by decide +kernel
theorem d_m_lowerSet_49 : decode prog_6_method_36_code 49 = .ok (.goto 57, 3) := by decide +kernel
theorem d_m_lowerSet_52 : decode prog_6_method_36_code 52 = .ok (.iload_n 2, 1) := by decide +kernel
theorem d_m_lowerSet_53 : decode prog_6_method_36_code 53 = .ok (.ifCond .eq 31, 3) := by decide +kernel
theorem d_m_lowerSet_56 : decode prog_6_method_36_code 56 = .ok (.aload_n 0, 1) := by decide +kernel
theorem d_m_lowerSet_57 : decode prog_6_method_36_code 57 = .ok (.iconst 1, 1) := by decide +kernel
theorem d_m_lowerSet_58 : decode prog_6_method_36_code 58 = .ok (.aload_n 0, 1) := by decide +kernel
theorem d_m_lowerSet_59 : decode prog_6_method_36_code 59 = .ok (.iload_n 1, 1) := by decide +kernel
theorem d_m_lowerSet_60 : decode prog_6_method_36_code 60 = .ok (.iconst 1, 1) := by decide +kernel
theorem d_m_lowerSet_61 : decode prog_6_method_36_code 61 = .ok (.invokevirtual 212, 3) := by decide +kernel
theorem d_m_lowerSet_64 : decode prog_6_method_36_code 64 = .ok (.aload_n 0, 1) := by decide +kernel
theorem d_m_lowerSet_65 : decode prog_6_method_36_code 65 = .ok (.getfield 54, 3) := by decide +kernel
theorem d_m_lowerSet_68 : decode prog_6_method_36_code 68 = .ok (.aload_n 0, 1) := by decide +kernel
theorem d_m_lowerSet_69 : decode prog_6_method_36_code 69 = .ok (.iload_n 1, 1) := by decide +kernel
theorem d_m_lowerSet_70 : decode prog_6_method_36_code 70 = .ok (.iconst 4, 1) := by decide +kernel
theorem d_m_lowerSet_71 : decode prog_6_method_36_code 71 = .ok (.invokevirtual 212, 3) := by decide +kernel
theorem d_m_lowerSet_74 : decode prog_6_method_36_code 74 = .ok (.iaload, 1) := by decide +kernel
theorem d_m_lowerSet_75 : decode prog_6_method_36_code 75 = .ok (.iconst 0, 1) := by decide +kernel
theorem d_m_lowerSet_76 : decode prog_6_method_36_code 76 = .ok (.iconst 0, 1) := by decide +kernel
theorem d_m_lowerSet_77 : decode prog_6_method_36_code 77 = .ok (.invokevirtual 208, 3) := by decide +kernel
theorem d_m_lowerSet_80 : decode prog_6_method_36_code 80 = .ok (.istore_n 3, 1) := by decide +kernel
theorem d_m_lowerSet_81 : decode prog_6_method_36_code 81 = .ok (.goto 25, 3) := by decide +kernel
theorem d_m_lowerSet_84 : decode prog_6_method_36_code 84 = .ok (.aload_n 0, 1) := by decide +kernel
theorem d_m_lowerSet_85 : decode prog_6_method_36_code 85 = .ok (.iload_n 1, 1) := by decide +kernel
theorem d_m_lowerSet_86 : decode prog_6_method_36_code 86 = .ok (.invokevirtual 232, 3) := by decide +kernel
theorem d_m_lowerSet_89 : decode prog_6_method_36_code 89 = .ok (.istore_n 3, 1) := by decide +kernel
theorem d_m_lowerSet_90 : decode prog_6_method_36_code 90 = .ok (.aload_n 0, 1) := by decide +kernel
theorem d_m_lowerSet_91 : decode prog_6_method_36_code 91 = .ok (.iconst 0, 1) := by decide +kernel
theorem d_m_lowerSet_92 : decode prog_6_method_36_code 92 = .ok (.iload_n 3, 1) := by decide +kernel
theorem d_m_lowerSet_93 : decode prog_6_method_36_code 93 = .ok (.aload_n 0, 1) := by decide +kernel
theorem d_m_lowerSet_94 : decode prog_6_method_36_code 94 = .ok (.iload_n 1, 1) := by decide +kernel
theorem d_m_lowerSet_95 : decode prog_6_method_36_code 95 = .ok (.iconst 4, 1) := by decide +kernel
theorem d_m_lowerSet_96 : decode prog_6_method_36_code 96 = .ok (.invokevirtual 212, 3) := by decide +kernel
theorem d_m_lowerSet_99 : decode prog_6_method_36_code 99 = .ok (.iconst 0, 1) := by decide +kernel
theorem d_m_lowerSet_100 : decode prog_6_method_36_code 100 = .ok (.iconst 0, 1) := by decide +kernel
theorem d_m_lowerSet_101 : decode prog_6_method_36_code 101 = .ok (.invokevirtual 208, 3) := by decide +kernel
theorem d_m_lowerSet_104 : decode prog_6_method_36_code 104 = .ok (.istore 4, 2) := by decide +kernel
theorem d_m_lowerSet_106 : decode prog_6_method_36_code 106 = .ok (.return_, 1) := by decide +kernel
theorem kc_m_lowerSet : Kw (m_w (mi_m_lowerSet )) := ⟨(in_t5 (List.mem_of_getElem? (i := 63) rfl)), rfl⟩
theorem mv_m_lowerSet : MV (mi_m_lowerSet ) "GuardedMovesModel" 1 := ⟨kw_1022, ks_65, kc_m_lowerSet , kw_7, ⟨⟨(by show ("GuardedMovesModel" : String) ≠ "java/lang/invoke/MethodHandle"; decide), (by show ("GuardedMovesModel" : String) ≠ "java/lang/invoke/VarHandle"; decide)⟩, (by show (parseMethodDescriptor "(I)V").map (fun d => d.parameters.length) = some 1; decide +kernel)⟩⟩
def w_m_lowerSet_106 (Q : Sg → Prop) (σ : Sg) : Prop := Q σ
theorem b_m_lowerSet_106 {Δ : Ly} {G : Gm} {Q : Sg → Prop} (cx : Cx Δ G mi_m_lowerSet) : ∀ (σ : Sg), w_m_lowerSet_106 Q σ → Y Δ G mi_m_lowerSet (qV Q) noE 0 0 σ 106 [] [] := by
  intro σ h
  unfold w_m_lowerSet_106 at h
  exact y_vret cx (pc := 106) rfl d_m_lowerSet_106 (le_b rfl) (le_b rfl) h
def w_m_lowerSet_52 (Q : Sg → Prop) (v1 : Int32) (v2 : Int32) (σ : Sg) : Prop := (v2 = 0 → (w_m_target v1 σ (fun x1 σ2 => w_m_of v1 4 σ2 (fun x3 σ4 => w_m_emit 0 x1 x3 0 0 σ4 (fun x5 σ6 => w_m_lowerSet_106 Q σ6))))) ∧ (¬ v2 = 0 → (w_m_of v1 1 σ (fun x7 σ8 => w_m_of v1 4 σ8 (fun x9 σ10 => vp_in x9 16 ∧ (w_m_emit 1 x7 (σ10 72 (x9.toNatClampNeg)) 0 0 σ10 (fun x11 σ12 => w_m_lowerSet_106 Q σ12))))))
theorem b_m_lowerSet_52 {Δ : Ly} {G : Gm} {Q : Sg → Prop} (cx : Cx Δ G mi_m_lowerSet) : ∀ (v1 : Int32) (v2 : Int32) (σ : Sg), w_m_lowerSet_52 Q v1 v2 σ → Y Δ G mi_m_lowerSet (qV Q) noE 0 0 σ 52 [(0, .ref (Δ.1 58)), (1, .int v1), (2, .int v2)] [] := by
  intro v1 v2 σ h
  unfold w_m_lowerSet_52 at h
  refine y_iload_n cx (pc := 52) d_m_lowerSet_52 rfl 2 rfl ?_
  refine y_if_eq cx (pc := 53) (tgt := 84) d_m_lowerSet_53 (by decide) (fun hc => ?_) (fun hc => ?_)
  · replace h := h.1 hc
    refine y_aload_n cx (pc := 84) d_m_lowerSet_84 rfl 0 rfl ?_
    refine y_iload_n cx (pc := 85) d_m_lowerSet_85 rfl 1 rfl ?_
    refine y_vI cx (pc := 86) (st := []) [.int v1] (c_m_target cx.fl Δ v1 _ _ h) mv_m_target kw_1024 (oc_58 Δ) ck_Md rfl (le_b rfl) (le_b rfl) (le_b rfl) (le_b rfl) (le_b rfl) d_m_lowerSet_86 (fun x1 σ2 h => ?_) (fun x σ2 h => yt_no h)
    refine y_istore_n (lv' := [(3, .int x1), (0, .ref (Δ.1 58)), (1, .int v1), (2, .int v2)]) cx (pc := 89) d_m_lowerSet_89 rfl (le_b rfl) rfl ?_
    refine y_aload_n cx (pc := 90) d_m_lowerSet_90 rfl 1 rfl ?_
    refine y_iconst cx (pc := 91) ic_0 d_m_lowerSet_91 ?_
    refine y_iload_n cx (pc := 92) d_m_lowerSet_92 rfl 0 rfl ?_
    refine y_aload_n cx (pc := 93) d_m_lowerSet_93 rfl 1 rfl ?_
    refine y_iload_n cx (pc := 94) d_m_lowerSet_94 rfl 2 rfl ?_
    refine y_iconst cx (pc := 95) ic_4 d_m_lowerSet_95 ?_
    refine y_vI cx (pc := 96) (st := [.int x1, .int 0, .ref (Δ.1 58)]) [.int v1, .int 4] (c_m_of cx.fl Δ v1 4 _ _ h) mv_m_of kw_976 (oc_58 Δ) ck_Md rfl (le_b rfl) (le_b rfl) (le_b rfl) (le_b rfl) (le_b rfl) d_m_lowerSet_96 (fun x3 σ4 h => ?_) (fun x σ4 h => yt_no h)
    refine y_iconst cx (pc := 99) ic_0 d_m_lowerSet_99 ?_
    refine y_iconst cx (pc := 100) ic_0 d_m_lowerSet_100 ?_
    refine y_vI cx (pc := 101) (st := []) [.int 0, .int x1, .int x3, .int 0, .int 0] (c_m_emit cx.fl Δ 0 x1 x3 0 0 _ _ h) mv_m_emit kw_996 (oc_58 Δ) ck_Md rfl (le_b rfl) (le_b rfl) (le_b rfl) (le_b rfl) (le_b rfl) d_m_lowerSet_101 (fun x5 σ6 h => ?_) (fun x σ6 h => yt_no h)
    refine y_istore (lv' := [(4, .int x5), (3, .int x1), (0, .ref (Δ.1 58)), (1, .int v1), (2, .int v2)]) cx (pc := 104) d_m_lowerSet_104 (le_b rfl) rfl ?_
    refine y_sub [] rfl ?_
    exact b_m_lowerSet_106 cx σ6 h
  · replace h := h.2 hc
    refine y_aload_n cx (pc := 56) d_m_lowerSet_56 rfl 0 rfl ?_
    refine y_iconst cx (pc := 57) ic_1 d_m_lowerSet_57 ?_
    refine y_aload_n cx (pc := 58) d_m_lowerSet_58 rfl 0 rfl ?_
    refine y_iload_n cx (pc := 59) d_m_lowerSet_59 rfl 1 rfl ?_
    refine y_iconst cx (pc := 60) ic_1 d_m_lowerSet_60 ?_
    refine y_vI cx (pc := 61) (st := [.int 1, .ref (Δ.1 58)]) [.int v1, .int 1] (c_m_of cx.fl Δ v1 1 _ _ h) mv_m_of kw_976 (oc_58 Δ) ck_Md rfl (le_b rfl) (le_b rfl) (le_b rfl) (le_b rfl) (le_b rfl) d_m_lowerSet_61 (fun x7 σ8 h => ?_) (fun x σ8 h => yt_no h)
    refine y_aload_n cx (pc := 64) d_m_lowerSet_64 rfl 0 rfl ?_
    refine y_get cx (pc := 65) (j := 25) (v := .ref (Δ.1 72)) (le_b rfl) ck_Md kw_773 (le_b rfl) (gf_58_25 Δ _) d_m_lowerSet_65 ?_
    refine y_aload_n cx (pc := 68) d_m_lowerSet_68 rfl 0 rfl ?_
    refine y_iload_n cx (pc := 69) d_m_lowerSet_69 rfl 1 rfl ?_
    refine y_iconst cx (pc := 70) ic_4 d_m_lowerSet_70 ?_
    refine y_vI cx (pc := 71) (st := [.ref (Δ.1 72), .int x7, .int 1, .ref (Δ.1 58)]) [.int v1, .int 4] (c_m_of cx.fl Δ v1 4 _ _ h) mv_m_of kw_976 (oc_58 Δ) ck_Md rfl (le_b rfl) (le_b rfl) (le_b rfl) (le_b rfl) (le_b rfl) d_m_lowerSet_71 (fun x9 σ10 h => ?_) (fun x σ10 h => yt_no h)
    obtain ⟨h0, h⟩ := h
    refine y_iald cx (pc := 74) ⟨(le_b rfl), fun _ => rfl⟩ h0 d_m_lowerSet_74 ?_
    refine y_iconst cx (pc := 75) ic_0 d_m_lowerSet_75 ?_
    refine y_iconst cx (pc := 76) ic_0 d_m_lowerSet_76 ?_
    refine y_vI cx (pc := 77) (st := []) [.int 1, .int x7, .int (σ10 72 (x9.toNatClampNeg)), .int 0, .int 0] (c_m_emit cx.fl Δ 1 x7 (σ10 72 (x9.toNatClampNeg)) 0 0 _ _ h) mv_m_emit kw_996 (oc_58 Δ) ck_Md rfl (le_b rfl) (le_b rfl) (le_b rfl) (le_b rfl) (le_b rfl) d_m_lowerSet_77 (fun x11 σ12 h => ?_) (fun x σ12 h => yt_no h)
    refine y_istore_n (lv' := [(3, .int x11), (0, .ref (Δ.1 58)), (1, .int v1), (2, .int v2)]) cx (pc := 80) d_m_lowerSet_80 rfl (le_b rfl) rfl ?_
    refine y_goto cx (pc := 81) (tgt := 106) d_m_lowerSet_81 (by decide) ?_
    refine y_sub [] rfl ?_
    exact b_m_lowerSet_106 cx σ12 h
def w_m_lowerSet_15 (Q : Sg → Prop) (v1 : Int32) (s0 : Int32) (σ : Sg) : Prop := (s0 = 0 → (w_m_lowerSet_52 Q v1 s0 σ)) ∧ (¬ s0 = 0 → (w_m_isOnSide σ (fun x1 σ2 => (x1 = 0 → (w_m_lowerSet_52 Q v1 s0 σ2)) ∧ (¬ x1 = 0 → (w_m_of v1 1 σ2 (fun x3 σ4 => w_m_of v1 4 σ4 (fun x5 σ6 => vp_in x5 16 ∧ (vp_in x3 16 ∧ (w_m_lowerSet_106 Q (up σ6 72 (x3.toNatClampNeg) (σ6 72 (x5.toNatClampNeg))))))))))))
theorem b_m_lowerSet_15 {Δ : Ly} {G : Gm} {Q : Sg → Prop} (cx : Cx Δ G mi_m_lowerSet) : ∀ (v1 : Int32) (s0 : Int32) (σ : Sg), w_m_lowerSet_15 Q v1 s0 σ → Y Δ G mi_m_lowerSet (qV Q) noE 0 0 σ 15 [(0, .ref (Δ.1 58)), (1, .int v1)] [.int s0] := by
  intro v1 s0 σ h
  unfold w_m_lowerSet_15 at h
  refine y_istore_n (lv' := [(2, .int s0), (0, .ref (Δ.1 58)), (1, .int v1)]) cx (pc := 15) d_m_lowerSet_15 rfl (le_b rfl) rfl ?_
  refine y_iload_n cx (pc := 16) d_m_lowerSet_16 rfl 0 rfl ?_
  refine y_if_eq cx (pc := 17) (tgt := 52) d_m_lowerSet_17 (by decide) (fun hc => ?_) (fun hc => ?_)
  · replace h := h.1 hc
    refine y_sub [1, 2, 0] rfl ?_
    exact b_m_lowerSet_52 cx v1 s0 σ h
  · replace h := h.2 hc
    refine y_aload_n cx (pc := 20) d_m_lowerSet_20 rfl 1 rfl ?_
    refine y_vI cx (pc := 21) (st := []) [] (c_m_isOnSide cx.fl Δ _ _ h) mv_m_isOnSide kw_1000 (oc_58 Δ) ck_Md rfl (le_b rfl) (le_b rfl) (le_b rfl) (le_b rfl) (le_b rfl) d_m_lowerSet_21 (fun x1 σ2 h => ?_) (fun x σ2 h => yt_no h)
    refine y_if_eq cx (pc := 24) (tgt := 52) d_m_lowerSet_24 (by decide) (fun hc => ?_) (fun hc => ?_)
    · replace h := h.1 hc
      refine y_sub [1, 2, 0] rfl ?_
      exact b_m_lowerSet_52 cx v1 s0 σ2 h
    · replace h := h.2 hc
      refine y_aload_n cx (pc := 27) d_m_lowerSet_27 rfl 1 rfl ?_
      refine y_get cx (pc := 28) (j := 25) (v := .ref (Δ.1 72)) (le_b rfl) ck_Md kw_773 (le_b rfl) (gf_58_25 Δ _) d_m_lowerSet_28 ?_
      refine y_aload_n cx (pc := 31) d_m_lowerSet_31 rfl 1 rfl ?_
      refine y_iload_n cx (pc := 32) d_m_lowerSet_32 rfl 2 rfl ?_
      refine y_iconst cx (pc := 33) ic_1 d_m_lowerSet_33 ?_
      refine y_vI cx (pc := 34) (st := [.ref (Δ.1 72)]) [.int v1, .int 1] (c_m_of cx.fl Δ v1 1 _ _ h) mv_m_of kw_976 (oc_58 Δ) ck_Md rfl (le_b rfl) (le_b rfl) (le_b rfl) (le_b rfl) (le_b rfl) d_m_lowerSet_34 (fun x3 σ4 h => ?_) (fun x σ4 h => yt_no h)
      refine y_aload_n cx (pc := 37) d_m_lowerSet_37 rfl 1 rfl ?_
      refine y_get cx (pc := 38) (j := 25) (v := .ref (Δ.1 72)) (le_b rfl) ck_Md kw_773 (le_b rfl) (gf_58_25 Δ _) d_m_lowerSet_38 ?_
      refine y_aload_n cx (pc := 41) d_m_lowerSet_41 rfl 1 rfl ?_
      refine y_iload_n cx (pc := 42) d_m_lowerSet_42 rfl 2 rfl ?_
      refine y_iconst cx (pc := 43) ic_4 d_m_lowerSet_43 ?_
      refine y_vI cx (pc := 44) (st := [.ref (Δ.1 72), .int x3, .ref (Δ.1 72)]) [.int v1, .int 4] (c_m_of cx.fl Δ v1 4 _ _ h) mv_m_of kw_976 (oc_58 Δ) ck_Md rfl (le_b rfl) (le_b rfl) (le_b rfl) (le_b rfl) (le_b rfl) d_m_lowerSet_44 (fun x5 σ6 h => ?_) (fun x σ6 h => yt_no h)
      obtain ⟨h0, h⟩ := h
      refine y_iald cx (pc := 47) ⟨(le_b rfl), fun _ => rfl⟩ h0 d_m_lowerSet_47 ?_
      obtain ⟨h0, h⟩ := h
      refine y_iast cx (pc := 48) ⟨(le_b rfl), fun _ => rfl⟩ h0 d_m_lowerSet_48 ?_
      refine y_goto cx (pc := 49) (tgt := 106) d_m_lowerSet_49 (by decide) ?_
      refine y_sub [] rfl ?_
      exact b_m_lowerSet_106 cx (up σ6 72 (x3.toNatClampNeg) (σ6 72 (x5.toNatClampNeg))) h
def w_m_lowerSet (p1 : Int32) (σ : Sg) (Q : Sg → Prop) : Prop := w_m_of p1 3 σ (fun x1 σ2 => (¬ x1 = 1 → (w_m_lowerSet_15 Q p1 0 σ2)) ∧ (x1 = 1 → (w_m_lowerSet_15 Q p1 1 σ2)))
theorem b_m_lowerSet {Δ : Ly} {G : Gm} {Q : Sg → Prop} (cx : Cx Δ G mi_m_lowerSet) (p1 : Int32) (σ : Sg) (h : w_m_lowerSet p1 σ Q) : Y Δ G mi_m_lowerSet (qV Q) noE 0 0 σ 0 [(0, .ref (Δ.1 58)), (1, .int p1)] [] := by
  unfold w_m_lowerSet at h
  refine y_aload_n cx (pc := 0) d_m_lowerSet_0 rfl 0 rfl ?_
  refine y_iload_n cx (pc := 1) d_m_lowerSet_1 rfl 1 rfl ?_
  refine y_iconst cx (pc := 2) ic_3 d_m_lowerSet_2 ?_
  refine y_vI cx (pc := 3) (st := []) [.int p1, .int 3] (c_m_of cx.fl Δ p1 3 _ _ h) mv_m_of kw_976 (oc_58 Δ) ck_Md rfl (le_b rfl) (le_b rfl) (le_b rfl) (le_b rfl) (le_b rfl) d_m_lowerSet_3 (fun x1 σ2 h => ?_) (fun x σ2 h => yt_no h)
  refine y_iconst cx (pc := 6) ic_1 d_m_lowerSet_6 ?_
  refine y_icmp_ne cx (pc := 7) (tgt := 14) d_m_lowerSet_7 (by decide) (fun hc => ?_) (fun hc => ?_)
  · replace h := h.1 hc
    refine y_iconst cx (pc := 14) ic_0 d_m_lowerSet_14 ?_
    exact b_m_lowerSet_15 cx p1 0 σ2 h
  · replace h := h.2 hc
    refine y_iconst cx (pc := 10) ic_1 d_m_lowerSet_10 ?_
    refine y_goto cx (pc := 11) (tgt := 15) d_m_lowerSet_11 (by decide) ?_
    exact b_m_lowerSet_15 cx p1 1 σ2 h
theorem c_m_lowerSet {l : Launch} (hfl : l.flags = flags0) (Δ : Ly) (p1 : Int32) (σ : Sg) (Q : Sg → Prop) (h : w_m_lowerSet p1 σ Q) : Ct l Δ mi_m_lowerSet [.ref (Δ.1 58), .int p1] σ (qV Q) noE :=
  Ct.of hfl (by show plainFor ⟨"GuardedMovesModel", "lowerSet", "(I)V"⟩ = true; decide +kernel) rfl (le_b rfl) (fun G hl cx => b_m_lowerSet cx p1 σ h)
def mi_m_lowerStore : Mi := ("GuardedMovesModel", prog_6_method_38_code, 9, [], none, 3, 86, 0, 0, ⟨"GuardedMovesModel", "lowerStore", "(III)V"⟩)
theorem d_m_lowerStore_0 : decode prog_6_method_38_code 0 = .ok (.iload_n 2, 1) := by decide +kernel
theorem d_m_lowerStore_1 : decode prog_6_method_38_code 1 = .ok (.istore 4, 2) := by decide +kernel
theorem d_m_lowerStore_3 : decode prog_6_method_38_code 3 = .ok (.iload_n 3, 1) := by decide +kernel
theorem d_m_lowerStore_4 : decode prog_6_method_38_code 4 = .ok (.istore 5, 2) := by decide +kernel
theorem d_m_lowerStore_6 : decode prog_6_method_38_code 6 = .ok (.aload_n 0, 1) := by decide +kernel
theorem d_m_lowerStore_7 : decode prog_6_method_38_code 7 = .ok (.invokevirtual 228, 3) := by decide +kernel
theorem d_m_lowerStore_10 : decode prog_6_method_38_code 10 = .ok (.ifCond .eq 80, 3) := by decide +kernel
theorem d_m_lowerStore_13 : decode prog_6_method_38_code 13 = .ok (.aload_n 0, 1) := by decide +kernel
theorem d_m_lowerStore_14 : decode prog_6_method_38_code 14 = .ok (.iload_n 1, 1) := by decide +kernel
theorem d_m_lowerStore_15 : decode prog_6_method_38_code 15 = .ok (.invokevirtual 241, 3) := by decide +kernel
theorem d_m_lowerStore_18 : decode prog_6_method_38_code 18 = .ok (.ifCond .eq 8, 3) := by decide +kernel
theorem d_m_lowerStore_21 : decode prog_6_method_38_code 21 = .ok (.iload 4, 2) := by decide +kernel
theorem d_m_lowerStore_23 : decode prog_6_method_38_code 23 = .ok (.goto 10, 3) := by decide +kernel
theorem d_m_lowerStore_26 : decode prog_6_method_38_code 26 = .ok (.aload_n 0, 1) := by decide +kernel
theorem d_m_lowerStore_27 : decode prog_6_method_38_code 27 = .ok (.iload 4, 2) := by decide +kernel
theorem d_m_lowerStore_29 : decode prog_6_method_38_code 29 = .ok (.iconst 0, 1) := by decide +kernel
theorem d_m_lowerStore_30 : decode prog_6_method_38_code 30 = .ok (.invokevirtual 238, 3) := by decide +kernel
theorem d_m_lowerStore_33 : decode prog_6_method_38_code 33 = .ok (.istore 4, 2) := by decide +kernel
theorem d_m_lowerStore_35 : decode prog_6_method_38_code 35 = .ok (.aload_n 0, 1) := by decide +kernel
theorem d_m_lowerStore_36 : decode prog_6_method_38_code 36 = .ok (.invokevirtual 205, 3) := by decide +kernel
theorem d_m_lowerStore_39 : decode prog_6_method_38_code 39 = .ok (.istore 7, 2) := by decide +kernel
theorem d_m_lowerStore_41 : decode prog_6_method_38_code 41 = .ok (.aload_n 0, 1) := by decide +kernel
theorem d_m_lowerStore_42 : decode prog_6_method_38_code 42 = .ok (.bipush 14, 2) := by decide +kernel
theorem d_m_lowerStore_44 : decode prog_6_method_38_code 44 = .ok (.iload 7, 2) := by decide +kernel
theorem d_m_lowerStore_46 : decode prog_6_method_38_code 46 = .ok (.iload 4, 2) := by decide +kernel
theorem d_m_lowerStore_48 : decode prog_6_method_38_code 48 = .ok (.iconst 0, 1) := by decide +kernel
theorem d_m_lowerStore_49 : decode prog_6_method_38_code 49 = .ok (.iconst 0, 1) := by decide +kernel
theorem d_m_lowerStore_50 : decode prog_6_method_38_code 50 = .ok (.invokevirtual 208, 3) := by decide +kernel
theorem d_m_lowerStore_53 : decode prog_6_method_38_code 53 = .ok (.istore 6, 2) := by decide +kernel
theorem d_m_lowerStore_55 : decode prog_6_method_38_code 55 = .ok (.aload_n 0, 1) := by decide +kernel
theorem d_m_lowerStore_56 : decode prog_6_method_38_code 56 = .ok (.invokevirtual 205, 3) := by decide +kernel
theorem d_m_lowerStore_59 : decode prog_6_method_38_code 59 = .ok (.istore 8, 2) := by decide +kernel
theorem d_m_lowerStore_61 : decode prog_6_method_38_code 61 = .ok (.aload_n 0, 1) := by decide +kernel
theorem d_m_lowerStore_62 : decode prog_6_method_38_code 62 = .ok (.bipush 13, 2) := by decide +kernel
theorem d_m_lowerStore_64 : decode prog_6_method_38_code 64 = .ok (.iload 8, 2) := by decide +kernel
theorem d_m_lowerStore_66 : decode prog_6_method_38_code 66 = .ok (.aload_n 0, 1) := by decide +kernel
theorem d_m_lowerStore_67 : decode prog_6_method_38_code 67 = .ok (.getfield 69, 3) := by decide +kernel
theorem d_m_lowerStore_70 : decode prog_6_method_38_code 70 = .ok (.aload_n 0, 1) := by decide +kernel
theorem d_m_lowerStore_71 : decode prog_6_method_38_code 71 = .ok (.getfield 219, 3) := by decide +kernel
theorem d_m_lowerStore_74 : decode prog_6_method_38_code 74 = .ok (.iconst 1, 1) := by decide +kernel
theorem d_m_lowerStore_75 : decode prog_6_method_38_code 75 = .ok (.isub, 1) := by decide +kernel
theorem d_m_lowerStore_76 : decode prog_6_method_38_code 76 = .ok (.iaload, 1) := by decide +kernel
theorem d_m_lowerStore_77 : decode prog_6_method_38_code 77 = .ok (.iload 5, 2) := by decide +kernel
theorem d_m_lowerStore_79 : decode prog_6_method_38_code 79 = .ok (.iload 7, 2) := by decide +kernel
theorem d_m_lowerStore_81 : decode prog_6_method_38_code 81 = .ok (.invokevirtual 208, 3) := by decide +kernel
theorem d_m_lowerStore_84 : decode prog_6_method_38_code 84 = .ok (.istore 6, 2) := by decide +kernel
theorem d_m_lowerStore_86 : decode prog_6_method_38_code 86 = .ok (.iload 8, 2) := by decide +kernel
theorem d_m_lowerStore_88 : decode prog_6_method_38_code 88 = .ok (.istore 5, 2) := by decide +kernel
theorem d_m_lowerStore_90 : decode prog_6_method_38_code 90 = .ok (.aload_n 0, 1) := by decide +kernel
theorem d_m_lowerStore_91 : decode prog_6_method_38_code 91 = .ok (.bipush 15, 2) := by decide +kernel
theorem d_m_lowerStore_93 : decode prog_6_method_38_code 93 = .ok (.iload 4, 2) := by decide +kernel
theorem d_m_lowerStore_95 : decode prog_6_method_38_code 95 = .ok (.iload 5, 2) := by decide +kernel
theorem d_m_lowerStore_97 : decode prog_6_method_38_code 97 = .ok (.iconst 0, 1) := by decide +kernel
theorem d_m_lowerStore_98 : decode prog_6_method_38_code 98 = .ok (.iconst 0, 1) := by decide +kernel
theorem d_m_lowerStore_99 : decode prog_6_method_38_code 99 = .ok (.invokevirtual 208, 3) := by decide +kernel
theorem d_m_lowerStore_102 : decode prog_6_method_38_code 102 = .ok (.istore 6, 2) := by decide +kernel
theorem d_m_lowerStore_104 : decode prog_6_method_38_code 104 = .ok (.return_, 1) := by decide +kernel
theorem kc_m_lowerStore : Kw (m_w (mi_m_lowerStore )) := ⟨(in_t5 (List.mem_of_getElem? (i := 83) rfl)), rfl⟩
theorem mv_m_lowerStore : MV (mi_m_lowerStore ) "GuardedMovesModel" 3 := ⟨kw_1042, ks_70, kc_m_lowerStore , kw_7, ⟨⟨(by show ("GuardedMovesModel" : String) ≠ "java/lang/invoke/MethodHandle"; decide), (by show ("GuardedMovesModel" : String) ≠ "java/lang/invoke/VarHandle"; decide)⟩, (by show (parseMethodDescriptor "(III)V").map (fun d => d.parameters.length) = some 3; decide +kernel)⟩⟩
def w_m_lowerStore_90 (Q : Sg → Prop) (v4 : Int32) (v5 : Int32) (σ : Sg) : Prop := w_m_emit 15 v4 v5 0 0 σ (fun x1 σ2 => Q σ2)
theorem b_m_lowerStore_90 {Δ : Ly} {G : Gm} {Q : Sg → Prop} (cx : Cx Δ G mi_m_lowerStore) : ∀ (v4 : Int32) (v5 : Int32) (σ : Sg), w_m_lowerStore_90 Q v4 v5 σ → Y Δ G mi_m_lowerStore (qV Q) noE 0 0 σ 90 [(0, .ref (Δ.1 58)), (4, .int v4), (5, .int v5)] [] := by
  intro v4 v5 σ h
  unfold w_m_lowerStore_90 at h
  refine y_aload_n cx (pc := 90) d_m_lowerStore_90 rfl 0 rfl ?_
  refine y_bipush cx (pc := 91) bp_15 d_m_lowerStore_91 ?_
  refine y_iload cx (pc := 93) d_m_lowerStore_93 1 rfl ?_
  refine y_iload cx (pc := 95) d_m_lowerStore_95 2 rfl ?_
  refine y_iconst cx (pc := 97) ic_0 d_m_lowerStore_97 ?_
  refine y_iconst cx (pc := 98) ic_0 d_m_lowerStore_98 ?_
  refine y_vI cx (pc := 99) (st := []) [.int 15, .int v4, .int v5, .int 0, .int 0] (c_m_emit cx.fl Δ 15 v4 v5 0 0 _ _ h) mv_m_emit kw_996 (oc_58 Δ) ck_Md rfl (le_b rfl) (le_b rfl) (le_b rfl) (le_b rfl) (le_b rfl) d_m_lowerStore_99 (fun x1 σ2 h => ?_) (fun x σ2 h => yt_no h)
  refine y_istore (lv' := [(6, .int x1), (0, .ref (Δ.1 58)), (4, .int v4), (5, .int v5)]) cx (pc := 102) d_m_lowerStore_102 (le_b rfl) rfl ?_
  exact y_vret cx (pc := 104) rfl d_m_lowerStore_104 (le_b rfl) (le_b rfl) h
def w_m_lowerStore_33 (Q : Sg → Prop) (v5 : Int32) (s0 : Int32) (σ : Sg) : Prop := w_m_fresh1 σ (fun x1 σ2 => w_m_emit 14 x1 s0 0 0 σ2 (fun x3 σ4 => w_m_fresh1 σ4 (fun x5 σ6 => vp_in ((σ6 58 26) - 1) 8 ∧ (w_m_emit 13 x5 (σ6 77 (((σ6 58 26) - 1).toNatClampNeg)) v5 x1 σ6 (fun x7 σ8 => w_m_lowerStore_90 Q s0 x5 σ8)))))
theorem b_m_lowerStore_33 {Δ : Ly} {G : Gm} {Q : Sg → Prop} (cx : Cx Δ G mi_m_lowerStore) : ∀ (v5 : Int32) (s0 : Int32) (σ : Sg), w_m_lowerStore_33 Q v5 s0 σ → Y Δ G mi_m_lowerStore (qV Q) noE 0 0 σ 33 [(0, .ref (Δ.1 58)), (5, .int v5)] [.int s0] := by
  intro v5 s0 σ h
  unfold w_m_lowerStore_33 at h
  refine y_istore (lv' := [(4, .int s0), (0, .ref (Δ.1 58)), (5, .int v5)]) cx (pc := 33) d_m_lowerStore_33 (le_b rfl) rfl ?_
  refine y_aload_n cx (pc := 35) d_m_lowerStore_35 rfl 1 rfl ?_
  refine y_vI cx (pc := 36) (st := []) [] (c_m_fresh1 cx.fl Δ _ _ h) mv_m_fresh1 kw_992 (oc_58 Δ) ck_Md rfl (le_b rfl) (le_b rfl) (le_b rfl) (le_b rfl) (le_b rfl) d_m_lowerStore_36 (fun x1 σ2 h => ?_) (fun x σ2 h => yt_no h)
  refine y_istore (lv' := [(7, .int x1), (4, .int s0), (0, .ref (Δ.1 58)), (5, .int v5)]) cx (pc := 39) d_m_lowerStore_39 (le_b rfl) rfl ?_
  refine y_aload_n cx (pc := 41) d_m_lowerStore_41 rfl 2 rfl ?_
  refine y_bipush cx (pc := 42) bp_14 d_m_lowerStore_42 ?_
  refine y_iload cx (pc := 44) d_m_lowerStore_44 0 rfl ?_
  refine y_iload cx (pc := 46) d_m_lowerStore_46 1 rfl ?_
  refine y_iconst cx (pc := 48) ic_0 d_m_lowerStore_48 ?_
  refine y_iconst cx (pc := 49) ic_0 d_m_lowerStore_49 ?_
  refine y_vI cx (pc := 50) (st := []) [.int 14, .int x1, .int s0, .int 0, .int 0] (c_m_emit cx.fl Δ 14 x1 s0 0 0 _ _ h) mv_m_emit kw_996 (oc_58 Δ) ck_Md rfl (le_b rfl) (le_b rfl) (le_b rfl) (le_b rfl) (le_b rfl) d_m_lowerStore_50 (fun x3 σ4 h => ?_) (fun x σ4 h => yt_no h)
  refine y_istore (lv' := [(6, .int x3), (7, .int x1), (4, .int s0), (0, .ref (Δ.1 58)), (5, .int v5)]) cx (pc := 53) d_m_lowerStore_53 (le_b rfl) rfl ?_
  refine y_aload_n cx (pc := 55) d_m_lowerStore_55 rfl 3 rfl ?_
  refine y_vI cx (pc := 56) (st := []) [] (c_m_fresh1 cx.fl Δ _ _ h) mv_m_fresh1 kw_992 (oc_58 Δ) ck_Md rfl (le_b rfl) (le_b rfl) (le_b rfl) (le_b rfl) (le_b rfl) d_m_lowerStore_56 (fun x5 σ6 h => ?_) (fun x σ6 h => yt_no h)
  refine y_istore (lv' := [(8, .int x5), (6, .int x3), (7, .int x1), (4, .int s0), (0, .ref (Δ.1 58)), (5, .int v5)]) cx (pc := 59) d_m_lowerStore_59 (le_b rfl) rfl ?_
  refine y_aload_n cx (pc := 61) d_m_lowerStore_61 rfl 4 rfl ?_
  refine y_bipush cx (pc := 62) bp_13 d_m_lowerStore_62 ?_
  refine y_iload cx (pc := 64) d_m_lowerStore_64 0 rfl ?_
  refine y_aload_n cx (pc := 66) d_m_lowerStore_66 rfl 4 rfl ?_
  refine y_get cx (pc := 67) (j := 31) (v := .ref (Δ.1 77)) (le_b rfl) ck_Md kw_779 (le_b rfl) (gf_58_31 Δ _) d_m_lowerStore_67 ?_
  refine y_aload_n cx (pc := 70) d_m_lowerStore_70 rfl 4 rfl ?_
  refine y_get cx (pc := 71) (j := 26) (v := .int (σ6 58 26)) (le_b rfl) ck_Md kw_774 (le_b rfl) (gf_58_26 Δ _) d_m_lowerStore_71 ?_
  refine y_iconst cx (pc := 74) ic_1 d_m_lowerStore_74 ?_
  refine y_isub cx (pc := 75) d_m_lowerStore_75 ?_
  obtain ⟨h0, h⟩ := h
  refine y_iald cx (pc := 76) ⟨(le_b rfl), fun _ => rfl⟩ h0 d_m_lowerStore_76 ?_
  refine y_iload cx (pc := 77) d_m_lowerStore_77 5 rfl ?_
  refine y_iload cx (pc := 79) d_m_lowerStore_79 2 rfl ?_
  refine y_vI cx (pc := 81) (st := []) [.int 13, .int x5, .int (σ6 77 (((σ6 58 26) - 1).toNatClampNeg)), .int v5, .int x1] (c_m_emit cx.fl Δ 13 x5 (σ6 77 (((σ6 58 26) - 1).toNatClampNeg)) v5 x1 _ _ h) mv_m_emit kw_996 (oc_58 Δ) ck_Md rfl (le_b rfl) (le_b rfl) (le_b rfl) (le_b rfl) (le_b rfl) d_m_lowerStore_81 (fun x7 σ8 h => ?_) (fun x σ8 h => yt_no h)
  refine y_istore (lv' := [(6, .int x7), (8, .int x5), (7, .int x1), (4, .int s0), (0, .ref (Δ.1 58)), (5, .int v5)]) cx (pc := 84) d_m_lowerStore_84 (le_b rfl) rfl ?_
  refine y_iload cx (pc := 86) d_m_lowerStore_86 1 rfl ?_
  refine y_istore (lv' := [(5, .int x5), (6, .int x7), (8, .int x5), (7, .int x1), (4, .int s0), (0, .ref (Δ.1 58))]) cx (pc := 88) d_m_lowerStore_88 (le_b rfl) rfl ?_
  refine y_sub [5, 4, 0] rfl ?_
  exact b_m_lowerStore_90 cx s0 x5 σ8 h
def w_m_lowerStore (p1 : Int32) (p2 : Int32) (p3 : Int32) (σ : Sg) (Q : Sg → Prop) : Prop := w_m_isOnSide σ (fun x1 σ2 => (x1 = 0 → (w_m_lowerStore_90 Q p2 p3 σ2)) ∧ (¬ x1 = 0 → (w_m_isPlainIndex p1 σ2 (fun x3 σ4 => (x3 = 0 → (w_m_harmless p2 0 σ4 (fun x5 σ6 => w_m_lowerStore_33 Q p3 x5 σ6))) ∧ (¬ x3 = 0 → (w_m_lowerStore_33 Q p3 p2 σ4))))))
theorem b_m_lowerStore {Δ : Ly} {G : Gm} {Q : Sg → Prop} (cx : Cx Δ G mi_m_lowerStore) (p1 : Int32) (p2 : Int32) (p3 : Int32) (σ : Sg) (h : w_m_lowerStore p1 p2 p3 σ Q) : Y Δ G mi_m_lowerStore (qV Q) noE 0 0 σ 0 [(0, .ref (Δ.1 58)), (1, .int p1), (2, .int p2), (3, .int p3)] [] := by
  unfold w_m_lowerStore at h
  refine y_iload_n cx (pc := 0) d_m_lowerStore_0 rfl 2 rfl ?_
  refine y_istore (lv' := [(4, .int p2), (0, .ref (Δ.1 58)), (1, .int p1), (2, .int p2), (3, .int p3)]) cx (pc := 1) d_m_lowerStore_1 (le_b rfl) rfl ?_
  refine y_iload_n cx (pc := 3) d_m_lowerStore_3 rfl 4 rfl ?_
  refine y_istore (lv' := [(5, .int p3), (4, .int p2), (0, .ref (Δ.1 58)), (1, .int p1), (2, .int p2), (3, .int p3)]) cx (pc := 4) d_m_lowerStore_4 (le_b rfl) rfl ?_
  refine y_aload_n cx (pc := 6) d_m_lowerStore_6 rfl 2 rfl ?_
  refine y_vI cx (pc := 7) (st := []) [] (c_m_isOnSide cx.fl Δ _ _ h) mv_m_isOnSide kw_1000 (oc_58 Δ) ck_Md rfl (le_b rfl) (le_b rfl) (le_b rfl) (le_b rfl) (le_b rfl) d_m_lowerStore_7 (fun x1 σ2 h => ?_) (fun x σ2 h => yt_no h)
  refine y_if_eq cx (pc := 10) (tgt := 90) d_m_lowerStore_10 (by decide) (fun hc => ?_) (fun hc => ?_)
  · replace h := h.1 hc
    refine y_sub [2, 1, 0] rfl ?_
    exact b_m_lowerStore_90 cx p2 p3 σ2 h
  · replace h := h.2 hc
    refine y_aload_n cx (pc := 13) d_m_lowerStore_13 rfl 2 rfl ?_
    refine y_iload_n cx (pc := 14) d_m_lowerStore_14 rfl 3 rfl ?_
    refine y_vI cx (pc := 15) (st := []) [.int p1] (c_m_isPlainIndex cx.fl Δ p1 _ _ h) mv_m_isPlainIndex kw_1036 (oc_58 Δ) ck_Md rfl (le_b rfl) (le_b rfl) (le_b rfl) (le_b rfl) (le_b rfl) d_m_lowerStore_15 (fun x3 σ4 h => ?_) (fun x σ4 h => yt_no h)
    refine y_if_eq cx (pc := 18) (tgt := 26) d_m_lowerStore_18 (by decide) (fun hc => ?_) (fun hc => ?_)
    · replace h := h.1 hc
      refine y_aload_n cx (pc := 26) d_m_lowerStore_26 rfl 2 rfl ?_
      refine y_iload cx (pc := 27) d_m_lowerStore_27 1 rfl ?_
      refine y_iconst cx (pc := 29) ic_0 d_m_lowerStore_29 ?_
      refine y_vI cx (pc := 30) (st := []) [.int p2, .int 0] (c_m_harmless cx.fl Δ p2 0 _ _ h) mv_m_harmless kw_1032 (oc_58 Δ) ck_Md rfl (le_b rfl) (le_b rfl) (le_b rfl) (le_b rfl) (le_b rfl) d_m_lowerStore_30 (fun x5 σ6 h => ?_) (fun x σ6 h => yt_no h)
      refine y_sub [2, 0] rfl ?_
      exact b_m_lowerStore_33 cx p3 x5 σ6 h
    · replace h := h.2 hc
      refine y_iload cx (pc := 21) d_m_lowerStore_21 1 rfl ?_
      refine y_goto cx (pc := 23) (tgt := 33) d_m_lowerStore_23 (by decide) ?_
      refine y_sub [2, 0] rfl ?_
      exact b_m_lowerStore_33 cx p3 p2 σ4 h
theorem c_m_lowerStore {l : Launch} (hfl : l.flags = flags0) (Δ : Ly) (p1 : Int32) (p2 : Int32) (p3 : Int32) (σ : Sg) (Q : Sg → Prop) (h : w_m_lowerStore p1 p2 p3 σ Q) : Ct l Δ mi_m_lowerStore [.ref (Δ.1 58), .int p1, .int p2, .int p3] σ (qV Q) noE :=
  Ct.of hfl (by show plainFor ⟨"GuardedMovesModel", "lowerStore", "(III)V"⟩ = true; decide +kernel) rfl (le_b rfl) (fun G hl cx => b_m_lowerStore cx p1 p2 p3 σ h)
def mi_m_lowerOne : Mi := ("GuardedMovesModel", prog_6_method_37_code, 8, [], none, 4, 118, 0, 0, ⟨"GuardedMovesModel", "lowerOne", "(I)V"⟩)
theorem d_m_lowerOne_0 : decode prog_6_method_37_code 0 = .ok (.aload_n 0, 1) := by decide +kernel
theorem d_m_lowerOne_1 : decode prog_6_method_37_code 1 = .ok (.iload_n 1, 1) := by decide +kernel
theorem d_m_lowerOne_2 : decode prog_6_method_37_code 2 = .ok (.putfield 202, 3) := by decide +kernel
theorem d_m_lowerOne_5 : decode prog_6_method_37_code 5 = .ok (.aload_n 0, 1) := by decide +kernel
theorem d_m_lowerOne_6 : decode prog_6_method_37_code 6 = .ok (.iload_n 1, 1) := by decide +kernel
theorem d_m_lowerOne_7 : decode prog_6_method_37_code 7 = .ok (.iconst 0, 1) := by decide +kernel
theorem d_m_lowerOne_8 : decode prog_6_method_37_code 8 = .ok (.invokevirtual 212, 3) := by decide +kernel
theorem d_m_lowerOne_11 : decode prog_6_method_37_code 11 = .ok (.tableswitch 255 0 4 #[33, 41, 153, 209, 233], 33) := by decide +kernel
theorem d_m_lowerOne_44 : decode prog_6_method_37_code 44 = .ok (.aload_n 0, 1) := by decide +kernel
theorem d_m_lowerOne_45 : decode prog_6_method_37_code 45 = .ok (.iload_n 1, 1) := by decide +kernel
theorem d_m_lowerOne_46 : decode prog_6_method_37_code 46 = .ok (.invokevirtual 235, 3) := by decide +kernel
theorem d_m_lowerOne_49 : decode prog_6_method_37_code 49 = .ok (.goto 222, 3) := by decide +kernel
theorem d_m_lowerOne_52 : decode prog_6_method_37_code 52 = .ok (.aload_n 0, 1) := by decide +kernel
theorem d_m_lowerOne_53 : decode prog_6_method_37_code 53 = .ok (.iload_n 1, 1) := by decide +kernel
theorem d_m_lowerOne_54 : decode prog_6_method_37_code 54 = .ok (.iconst 3, 1) := by decide +kernel
theorem d_m_lowerOne_55 : decode prog_6_method_37_code 55 = .ok (.invokevirtual 222, 3) := by decide +kernel
theorem d_m_lowerOne_58 : decode prog_6_method_37_code 58 = .ok (.istore_n 2, 1) := by decide +kernel
theorem d_m_lowerOne_59 : decode prog_6_method_37_code 59 = .ok (.aload_n 0, 1) := by decide +kernel
theorem d_m_lowerOne_60 : decode prog_6_method_37_code 60 = .ok (.iload_n 1, 1) := by decide +kernel
theorem d_m_lowerOne_61 : decode prog_6_method_37_code 61 = .ok (.iconst 5, 1) := by decide +kernel
theorem d_m_lowerOne_62 : decode prog_6_method_37_code 62 = .ok (.invokevirtual 222, 3) := by decide +kernel
theorem d_m_lowerOne_65 : decode prog_6_method_37_code 65 = .ok (.istore_n 3, 1) := by decide +kernel
theorem d_m_lowerOne_66 : decode prog_6_method_37_code 66 = .ok (.aload_n 0, 1) := by decide +kernel
theorem d_m_lowerOne_67 : decode prog_6_method_37_code 67 = .ok (.iload_n 1, 1) := by decide +kernel
theorem d_m_lowerOne_68 : decode prog_6_method_37_code 68 = .ok (.iconst 2, 1) := by decide +kernel
theorem d_m_lowerOne_69 : decode prog_6_method_37_code 69 = .ok (.invokevirtual 212, 3) := by decide +kernel
theorem d_m_lowerOne_72 : decode prog_6_method_37_code 72 = .ok (.iconst 5, 1) := by decide +kernel
theorem d_m_lowerOne_73 : decode prog_6_method_37_code 73 = .ok (.if_icmp .eq 14, 3) := by decide +kernel
theorem d_m_lowerOne_76 : decode prog_6_method_37_code 76 = .ok (.aload_n 0, 1) := by decide +kernel
theorem d_m_lowerOne_77 : decode prog_6_method_37_code 77 = .ok (.iload_n 1, 1) := by decide +kernel
theorem d_m_lowerOne_78 : decode prog_6_method_37_code 78 = .ok (.iconst 2, 1) := by decide +kernel
theorem d_m_lowerOne_79 : decode prog_6_method_37_code 79 = .ok (.invokevirtual 212, 3) := by decide +kernel
theorem d_m_lowerOne_82 : decode prog_6_method_37_code 82 = .ok (.bipush 6, 2) := by decide +kernel
theorem d_m_lowerOne_84 : decode prog_6_method_37_code 84 = .ok (.if_icmp .ne 27, 3) := by decide +kernel
theorem d_m_lowerOne_87 : decode prog_6_method_37_code 87 = .ok (.aload_n 0, 1) := by decide +kernel
theorem d_m_lowerOne_88 : decode prog_6_method_37_code 88 = .ok (.iload_n 1, 1) := by decide +kernel
theorem d_m_lowerOne_89 : decode prog_6_method_37_code 89 = .ok (.iconst 5, 1) := by decide +kernel
theorem d_m_lowerOne_90 : decode prog_6_method_37_code 90 = .ok (.invokevirtual 212, 3) := by decide +kernel
theorem d_m_lowerOne_93 : decode prog_6_method_37_code 93 = .ok (.iconst 1, 1) := by decide +kernel
theorem d_m_lowerOne_94 : decode prog_6_method_37_code 94 = .ok (.if_icmp .eq 13, 3) := by decide +kernel
theorem d_m_lowerOne_97 : decode prog_6_method_37_code 97 = .ok (.aload_n 0, 1) := by decide +kernel
theorem d_m_lowerOne_98 : decode prog_6_method_37_code 98 = .ok (.iload_n 1, 1) := by decide +kernel
theorem d_m_lowerOne_99 : decode prog_6_method_37_code 99 = .ok (.bipush 6, 2) := by decide +kernel
theorem d_m_lowerOne_101 : decode prog_6_method_37_code 101 = .ok (.invokevirtual 212, 3) := by decide +kernel
theorem d_m_lowerOne_104 : decode prog_6_method_37_code 104 = .ok (.ifCond .ne 7, 3) := by decide +kernel
theorem d_m_lowerOne_107 : decode prog_6_method_37_code 107 = .ok (.iconst 1, 1) := by decide +kernel
theorem d_m_lowerOne_108 : decode prog_6_method_37_code 108 = .ok (.goto 4, 3) := by decide +kernel
theorem d_m_lowerOne_111 : decode prog_6_method_37_code 111 = .ok (.iconst 0, 1) := by decide +kernel
theorem d_m_lowerOne_112 : decode prog_6_method_37_code 112 = .ok (.istore 5, 2) := by decide +kernel
theorem d_m_lowerOne_114 : decode prog_6_method_37_code 114 = .ok (.aload_n 0, 1) := by decide +kernel
theorem d_m_lowerOne_115 : decode prog_6_method_37_code 115 = .ok (.invokevirtual 228, 3) := by decide +kernel
theorem d_m_lowerOne_118 : decode prog_6_method_37_code 118 = .ok (.ifCond .eq 17, 3) := by decide +kernel
theorem d_m_lowerOne_121 : decode prog_6_method_37_code 121 = .ok (.iload 5, 2) := by decide +kernel
theorem d_m_lowerOne_123 : decode prog_6_method_37_code 123 = .ok (.ifCond .eq 12, 3) := by decide +kernel
theorem d_m_lowerOne_126 : decode prog_6_method_37_code 126 = .ok (.aload_n 0, 1) := by decide +kernel
theorem d_m_lowerOne_127 : decode prog_6_method_37_code 127 = .ok (.iload_n 3, 1) := by decide +kernel
theorem d_m_lowerOne_128 : decode prog_6_method_37_code 128 = .ok (.iconst 1, 1) := by decide +kernel
theorem d_m_lowerOne_129 : decode prog_6_method_37_code 129 = .ok (.invokevirtual 238, 3) := by decide +kernel
theorem d_m_lowerOne_132 : decode prog_6_method_37_code 132 = .ok (.goto 4, 3) := by decide +kernel
theorem d_m_lowerOne_135 : decode prog_6_method_37_code 135 = .ok (.iload_n 3, 1) := by decide +kernel
theorem d_m_lowerOne_136 : decode prog_6_method_37_code 136 = .ok (.istore_n 3, 1) := by decide +kernel
theorem d_m_lowerOne_137 : decode prog_6_method_37_code 137 = .ok (.aload_n 0, 1) := by decide +kernel
theorem d_m_lowerOne_138 : decode prog_6_method_37_code 138 = .ok (.iload_n 1, 1) := by decide +kernel
theorem d_m_lowerOne_139 : decode prog_6_method_37_code 139 = .ok (.invokevirtual 232, 3) := by decide +kernel
theorem d_m_lowerOne_142 : decode prog_6_method_37_code 142 = .ok (.istore 6, 2) := by decide +kernel
theorem d_m_lowerOne_144 : decode prog_6_method_37_code 144 = .ok (.aload_n 0, 1) := by decide +kernel
theorem d_m_lowerOne_145 : decode prog_6_method_37_code 145 = .ok (.aload_n 0, 1) := by decide +kernel
theorem d_m_lowerOne_146 : decode prog_6_method_37_code 146 = .ok (.iload_n 1, 1) := by decide +kernel
theorem d_m_lowerOne_147 : decode prog_6_method_37_code 147 = .ok (.iconst 2, 1) := by decide +kernel
theorem d_m_lowerOne_148 : decode prog_6_method_37_code 148 = .ok (.invokevirtual 212, 3) := by decide +kernel
theorem d_m_lowerOne_151 : decode prog_6_method_37_code 151 = .ok (.iload 6, 2) := by decide +kernel
theorem d_m_lowerOne_153 : decode prog_6_method_37_code 153 = .ok (.iload_n 2, 1) := by decide +kernel
theorem d_m_lowerOne_154 : decode prog_6_method_37_code 154 = .ok (.iload_n 3, 1) := by decide +kernel
theorem d_m_lowerOne_155 : decode prog_6_method_37_code 155 = .ok (.iconst 0, 1) := by decide +kernel
theorem d_m_lowerOne_156 : decode prog_6_method_37_code 156 = .ok (.invokevirtual 208, 3) := by decide +kernel
theorem d_m_lowerOne_159 : decode prog_6_method_37_code 159 = .ok (.istore 4, 2) := by decide +kernel
theorem d_m_lowerOne_161 : decode prog_6_method_37_code 161 = .ok (.goto 110, 3) := by decide +kernel
theorem d_m_lowerOne_164 : decode prog_6_method_37_code 164 = .ok (.aload_n 0, 1) := by decide +kernel
theorem d_m_lowerOne_165 : decode prog_6_method_37_code 165 = .ok (.iload_n 1, 1) := by decide +kernel
theorem d_m_lowerOne_166 : decode prog_6_method_37_code 166 = .ok (.iconst 3, 1) := by decide +kernel
theorem d_m_lowerOne_167 : decode prog_6_method_37_code 167 = .ok (.invokevirtual 222, 3) := by decide +kernel
theorem d_m_lowerOne_170 : decode prog_6_method_37_code 170 = .ok (.istore_n 2, 1) := by decide +kernel
theorem d_m_lowerOne_171 : decode prog_6_method_37_code 171 = .ok (.aload_n 0, 1) := by decide +kernel
theorem d_m_lowerOne_172 : decode prog_6_method_37_code 172 = .ok (.invokevirtual 228, 3) := by decide +kernel
theorem d_m_lowerOne_175 : decode prog_6_method_37_code 175 = .ok (.ifCond .eq 20, 3) := by decide +kernel
theorem d_m_lowerOne_178 : decode prog_6_method_37_code 178 = .ok (.aload_n 0, 1) := by decide +kernel
theorem d_m_lowerOne_179 : decode prog_6_method_37_code 179 = .ok (.iload_n 1, 1) := by decide +kernel
theorem d_m_lowerOne_180 : decode prog_6_method_37_code 180 = .ok (.invokevirtual 241, 3) := by decide +kernel
theorem d_m_lowerOne_183 : decode prog_6_method_37_code 183 = .ok (.ifCond .ne 12, 3) := by decide +kernel
theorem d_m_lowerOne_186 : decode prog_6_method_37_code 186 = .ok (.aload_n 0, 1) := by decide +kernel
theorem d_m_lowerOne_187 : decode prog_6_method_37_code 187 = .ok (.iload_n 2, 1) := by decide +kernel
theorem d_m_lowerOne_188 : decode prog_6_method_37_code 188 = .ok (.iconst 0, 1) := by decide +kernel
theorem d_m_lowerOne_189 : decode prog_6_method_37_code 189 = .ok (.invokevirtual 238, 3) := by decide +kernel
theorem d_m_lowerOne_192 : decode prog_6_method_37_code 192 = .ok (.goto 4, 3) := by decide +kernel
theorem d_m_lowerOne_195 : decode prog_6_method_37_code 195 = .ok (.iload_n 2, 1) := by decide +kernel
theorem d_m_lowerOne_196 : decode prog_6_method_37_code 196 = .ok (.istore_n 2, 1) := by decide +kernel
theorem d_m_lowerOne_197 : decode prog_6_method_37_code 197 = .ok (.aload_n 0, 1) := by decide +kernel
theorem d_m_lowerOne_198 : decode prog_6_method_37_code 198 = .ok (.iload_n 1, 1) := by decide +kernel
theorem d_m_lowerOne_199 : decode prog_6_method_37_code 199 = .ok (.invokevirtual 232, 3) := by decide +kernel
theorem d_m_lowerOne_202 : decode prog_6_method_37_code 202 = .ok (.istore 7, 2) := by decide +kernel
theorem d_m_lowerOne_204 : decode prog_6_method_37_code 204 = .ok (.aload_n 0, 1) := by decide +kernel
theorem d_m_lowerOne_205 : decode prog_6_method_37_code 205 = .ok (.bipush 14, 2) := by decide +kernel
theorem d_m_lowerOne_207 : decode prog_6_method_37_code 207 = .ok (.iload 7, 2) := by decide +kernel
theorem d_m_lowerOne_209 : decode prog_6_method_37_code 209 = .ok (.iload_n 2, 1) := by decide +kernel
theorem d_m_lowerOne_210 : decode prog_6_method_37_code 210 = .ok (.iconst 0, 1) := by decide +kernel
theorem d_m_lowerOne_211 : decode prog_6_method_37_code 211 = .ok (.iconst 0, 1) := by decide +kernel
theorem d_m_lowerOne_212 : decode prog_6_method_37_code 212 = .ok (.invokevirtual 208, 3) := by decide +kernel
theorem d_m_lowerOne_215 : decode prog_6_method_37_code 215 = .ok (.istore 4, 2) := by decide +kernel
theorem d_m_lowerOne_217 : decode prog_6_method_37_code 217 = .ok (.goto 54, 3) := by decide +kernel
theorem d_m_lowerOne_220 : decode prog_6_method_37_code 220 = .ok (.aload_n 0, 1) := by decide +kernel
theorem d_m_lowerOne_221 : decode prog_6_method_37_code 221 = .ok (.iload_n 1, 1) := by decide +kernel
theorem d_m_lowerOne_222 : decode prog_6_method_37_code 222 = .ok (.iconst 3, 1) := by decide +kernel
theorem d_m_lowerOne_223 : decode prog_6_method_37_code 223 = .ok (.invokevirtual 222, 3) := by decide +kernel
theorem d_m_lowerOne_226 : decode prog_6_method_37_code 226 = .ok (.istore_n 2, 1) := by decide +kernel
theorem d_m_lowerOne_227 : decode prog_6_method_37_code 227 = .ok (.aload_n 0, 1) := by decide +kernel
theorem d_m_lowerOne_228 : decode prog_6_method_37_code 228 = .ok (.iload_n 1, 1) := by decide +kernel
theorem d_m_lowerOne_229 : decode prog_6_method_37_code 229 = .ok (.iconst 5, 1) := by decide +kernel
theorem d_m_lowerOne_230 : decode prog_6_method_37_code 230 = .ok (.invokevirtual 222, 3) := by decide +kernel
theorem d_m_lowerOne_233 : decode prog_6_method_37_code 233 = .ok (.istore_n 3, 1) := by decide +kernel
theorem d_m_lowerOne_234 : decode prog_6_method_37_code 234 = .ok (.aload_n 0, 1) := by decide +kernel
theorem d_m_lowerOne_235 : decode prog_6_method_37_code 235 = .ok (.iload_n 1, 1) := by decide +kernel
theorem d_m_lowerOne_236 : decode prog_6_method_37_code 236 = .ok (.iload_n 2, 1) := by decide +kernel
theorem d_m_lowerOne_237 : decode prog_6_method_37_code 237 = .ok (.iload_n 3, 1) := by decide +kernel
theorem d_m_lowerOne_238 : decode prog_6_method_37_code 238 = .ok (.invokevirtual 244, 3) := by decide +kernel
theorem d_m_lowerOne_241 : decode prog_6_method_37_code 241 = .ok (.goto 30, 3) := by decide +kernel
theorem d_m_lowerOne_244 : decode prog_6_method_37_code 244 = .ok (.aload_n 0, 1) := by decide +kernel
theorem d_m_lowerOne_245 : decode prog_6_method_37_code 245 = .ok (.iload_n 1, 1) := by decide +kernel
theorem d_m_lowerOne_246 : decode prog_6_method_37_code 246 = .ok (.iconst 3, 1) := by decide +kernel
theorem d_m_lowerOne_247 : decode prog_6_method_37_code 247 = .ok (.invokevirtual 222, 3) := by decide +kernel
theorem d_m_lowerOne_250 : decode prog_6_method_37_code 250 = .ok (.istore_n 2, 1) := by decide +kernel
theorem d_m_lowerOne_251 : decode prog_6_method_37_code 251 = .ok (.aload_n 0, 1) := by decide +kernel
theorem d_m_lowerOne_252 : decode prog_6_method_37_code 252 = .ok (.bipush 18, 2) := by decide +kernel
theorem d_m_lowerOne_254 : decode prog_6_method_37_code 254 = .ok (.iload_n 2, 1) := by decide +kernel
theorem d_m_lowerOne_255 : decode prog_6_method_37_code 255 = .ok (.iconst 0, 1) := by decide +kernel
theorem d_m_lowerOne_256 : decode prog_6_method_37_code 256 = .ok (.iconst 0, 1) := by decide +kernel
theorem d_m_lowerOne_257 : decode prog_6_method_37_code 257 = .ok (.iconst 0, 1) := by decide +kernel
theorem d_m_lowerOne_258 : decode prog_6_method_37_code 258 = .ok (.invokevirtual 208, 3) := by decide +kernel
theorem d_m_lowerOne_261 : decode prog_6_method_37_code 261 = .ok (.istore 4, 2) := by decide +kernel
theorem d_m_lowerOne_263 : decode prog_6_method_37_code 263 = .ok (.goto 8, 3) := by decide +kernel
theorem d_m_lowerOne_266 : decode prog_6_method_37_code 266 = .ok (.aload_n 0, 1) := by decide +kernel
theorem d_m_lowerOne_267 : decode prog_6_method_37_code 267 = .ok (.iload_n 1, 1) := by decide +kernel
theorem d_m_lowerOne_268 : decode prog_6_method_37_code 268 = .ok (.invokevirtual 248, 3) := by decide +kernel
theorem d_m_lowerOne_271 : decode prog_6_method_37_code 271 = .ok (.return_, 1) := by decide +kernel
theorem kc_m_lowerOne : Kw (m_w (mi_m_lowerOne )) := ⟨(in_t5 (List.mem_of_getElem? (i := 59) rfl)), rfl⟩
theorem mv_m_lowerOne : MV (mi_m_lowerOne ) "GuardedMovesModel" 1 := ⟨kw_1018, ks_64, kc_m_lowerOne , kw_7, ⟨⟨(by show ("GuardedMovesModel" : String) ≠ "java/lang/invoke/MethodHandle"; decide), (by show ("GuardedMovesModel" : String) ≠ "java/lang/invoke/VarHandle"; decide)⟩, (by show (parseMethodDescriptor "(I)V").map (fun d => d.parameters.length) = some 1; decide +kernel)⟩⟩
def w_m_lowerOne_271 (Q : Sg → Prop) (σ : Sg) : Prop := Q σ
theorem b_m_lowerOne_271 {Δ : Ly} {G : Gm} {Q : Sg → Prop} (cx : Cx Δ G mi_m_lowerOne) : ∀ (σ : Sg), w_m_lowerOne_271 Q σ → Y Δ G mi_m_lowerOne (qV Q) noE 0 0 σ 271 [] [] := by
  intro σ h
  unfold w_m_lowerOne_271 at h
  exact y_vret cx (pc := 271) rfl d_m_lowerOne_271 (le_b rfl) (le_b rfl) h
def w_m_lowerOne_136 (Q : Sg → Prop) (v1 : Int32) (v2 : Int32) (s0 : Int32) (σ : Sg) : Prop := w_m_target v1 σ (fun x1 σ2 => w_m_of v1 2 σ2 (fun x3 σ4 => w_m_emit x3 x1 v2 s0 0 σ4 (fun x5 σ6 => w_m_lowerOne_271 Q σ6)))
theorem b_m_lowerOne_136 {Δ : Ly} {G : Gm} {Q : Sg → Prop} (cx : Cx Δ G mi_m_lowerOne) : ∀ (v1 : Int32) (v2 : Int32) (s0 : Int32) (σ : Sg), w_m_lowerOne_136 Q v1 v2 s0 σ → Y Δ G mi_m_lowerOne (qV Q) noE 0 0 σ 136 [(0, .ref (Δ.1 58)), (1, .int v1), (2, .int v2)] [.int s0] := by
  intro v1 v2 s0 σ h
  unfold w_m_lowerOne_136 at h
  refine y_istore_n (lv' := [(3, .int s0), (0, .ref (Δ.1 58)), (1, .int v1), (2, .int v2)]) cx (pc := 136) d_m_lowerOne_136 rfl (le_b rfl) rfl ?_
  refine y_aload_n cx (pc := 137) d_m_lowerOne_137 rfl 1 rfl ?_
  refine y_iload_n cx (pc := 138) d_m_lowerOne_138 rfl 2 rfl ?_
  refine y_vI cx (pc := 139) (st := []) [.int v1] (c_m_target cx.fl Δ v1 _ _ h) mv_m_target kw_1024 (oc_58 Δ) ck_Md rfl (le_b rfl) (le_b rfl) (le_b rfl) (le_b rfl) (le_b rfl) d_m_lowerOne_139 (fun x1 σ2 h => ?_) (fun x σ2 h => yt_no h)
  refine y_istore (lv' := [(6, .int x1), (3, .int s0), (0, .ref (Δ.1 58)), (1, .int v1), (2, .int v2)]) cx (pc := 142) d_m_lowerOne_142 (le_b rfl) rfl ?_
  refine y_aload_n cx (pc := 144) d_m_lowerOne_144 rfl 2 rfl ?_
  refine y_aload_n cx (pc := 145) d_m_lowerOne_145 rfl 2 rfl ?_
  refine y_iload_n cx (pc := 146) d_m_lowerOne_146 rfl 3 rfl ?_
  refine y_iconst cx (pc := 147) ic_2 d_m_lowerOne_147 ?_
  refine y_vI cx (pc := 148) (st := [.ref (Δ.1 58)]) [.int v1, .int 2] (c_m_of cx.fl Δ v1 2 _ _ h) mv_m_of kw_976 (oc_58 Δ) ck_Md rfl (le_b rfl) (le_b rfl) (le_b rfl) (le_b rfl) (le_b rfl) d_m_lowerOne_148 (fun x3 σ4 h => ?_) (fun x σ4 h => yt_no h)
  refine y_iload cx (pc := 151) d_m_lowerOne_151 0 rfl ?_
  refine y_iload_n cx (pc := 153) d_m_lowerOne_153 rfl 4 rfl ?_
  refine y_iload_n cx (pc := 154) d_m_lowerOne_154 rfl 1 rfl ?_
  refine y_iconst cx (pc := 155) ic_0 d_m_lowerOne_155 ?_
  refine y_vI cx (pc := 156) (st := []) [.int x3, .int x1, .int v2, .int s0, .int 0] (c_m_emit cx.fl Δ x3 x1 v2 s0 0 _ _ h) mv_m_emit kw_996 (oc_58 Δ) ck_Md rfl (le_b rfl) (le_b rfl) (le_b rfl) (le_b rfl) (le_b rfl) d_m_lowerOne_156 (fun x5 σ6 h => ?_) (fun x σ6 h => yt_no h)
  refine y_istore (lv' := [(4, .int x5), (6, .int x1), (3, .int s0), (0, .ref (Δ.1 58)), (1, .int v1), (2, .int v2)]) cx (pc := 159) d_m_lowerOne_159 (le_b rfl) rfl ?_
  refine y_goto cx (pc := 161) (tgt := 271) d_m_lowerOne_161 (by decide) ?_
  refine y_sub [] rfl ?_
  exact b_m_lowerOne_271 cx σ6 h
def w_m_lowerOne_135 (Q : Sg → Prop) (v1 : Int32) (v2 : Int32) (v3 : Int32) (σ : Sg) : Prop := w_m_lowerOne_136 Q v1 v2 v3 σ
theorem b_m_lowerOne_135 {Δ : Ly} {G : Gm} {Q : Sg → Prop} (cx : Cx Δ G mi_m_lowerOne) : ∀ (v1 : Int32) (v2 : Int32) (v3 : Int32) (σ : Sg), w_m_lowerOne_135 Q v1 v2 v3 σ → Y Δ G mi_m_lowerOne (qV Q) noE 0 0 σ 135 [(0, .ref (Δ.1 58)), (1, .int v1), (2, .int v2), (3, .int v3)] [] := by
  intro v1 v2 v3 σ h
  unfold w_m_lowerOne_135 at h
  refine y_iload_n cx (pc := 135) d_m_lowerOne_135 rfl 3 rfl ?_
  refine y_sub [0, 1, 2] rfl ?_
  exact b_m_lowerOne_136 cx v1 v2 v3 σ h
def w_m_lowerOne_112 (Q : Sg → Prop) (v1 : Int32) (v2 : Int32) (v3 : Int32) (s0 : Int32) (σ : Sg) : Prop := w_m_isOnSide σ (fun x1 σ2 => (x1 = 0 → (w_m_lowerOne_135 Q v1 v2 v3 σ2)) ∧ (¬ x1 = 0 → ((s0 = 0 → (w_m_lowerOne_135 Q v1 v2 v3 σ2)) ∧ (¬ s0 = 0 → (w_m_harmless v3 1 σ2 (fun x3 σ4 => w_m_lowerOne_136 Q v1 v2 x3 σ4))))))
theorem b_m_lowerOne_112 {Δ : Ly} {G : Gm} {Q : Sg → Prop} (cx : Cx Δ G mi_m_lowerOne) : ∀ (v1 : Int32) (v2 : Int32) (v3 : Int32) (s0 : Int32) (σ : Sg), w_m_lowerOne_112 Q v1 v2 v3 s0 σ → Y Δ G mi_m_lowerOne (qV Q) noE 0 0 σ 112 [(0, .ref (Δ.1 58)), (1, .int v1), (2, .int v2), (3, .int v3)] [.int s0] := by
  intro v1 v2 v3 s0 σ h
  unfold w_m_lowerOne_112 at h
  refine y_istore (lv' := [(5, .int s0), (0, .ref (Δ.1 58)), (1, .int v1), (2, .int v2), (3, .int v3)]) cx (pc := 112) d_m_lowerOne_112 (le_b rfl) rfl ?_
  refine y_aload_n cx (pc := 114) d_m_lowerOne_114 rfl 1 rfl ?_
  refine y_vI cx (pc := 115) (st := []) [] (c_m_isOnSide cx.fl Δ _ _ h) mv_m_isOnSide kw_1000 (oc_58 Δ) ck_Md rfl (le_b rfl) (le_b rfl) (le_b rfl) (le_b rfl) (le_b rfl) d_m_lowerOne_115 (fun x1 σ2 h => ?_) (fun x σ2 h => yt_no h)
  refine y_if_eq cx (pc := 118) (tgt := 135) d_m_lowerOne_118 (by decide) (fun hc => ?_) (fun hc => ?_)
  · replace h := h.1 hc
    refine y_sub [1, 2, 3, 4] rfl ?_
    exact b_m_lowerOne_135 cx v1 v2 v3 σ2 h
  · replace h := h.2 hc
    refine y_iload cx (pc := 121) d_m_lowerOne_121 0 rfl ?_
    refine y_if_eq cx (pc := 123) (tgt := 135) d_m_lowerOne_123 (by decide) (fun hc => ?_) (fun hc => ?_)
    · replace h := h.1 hc
      refine y_sub [1, 2, 3, 4] rfl ?_
      exact b_m_lowerOne_135 cx v1 v2 v3 σ2 h
    · replace h := h.2 hc
      refine y_aload_n cx (pc := 126) d_m_lowerOne_126 rfl 1 rfl ?_
      refine y_iload_n cx (pc := 127) d_m_lowerOne_127 rfl 4 rfl ?_
      refine y_iconst cx (pc := 128) ic_1 d_m_lowerOne_128 ?_
      refine y_vI cx (pc := 129) (st := []) [.int v3, .int 1] (c_m_harmless cx.fl Δ v3 1 _ _ h) mv_m_harmless kw_1032 (oc_58 Δ) ck_Md rfl (le_b rfl) (le_b rfl) (le_b rfl) (le_b rfl) (le_b rfl) d_m_lowerOne_129 (fun x3 σ4 h => ?_) (fun x σ4 h => yt_no h)
      refine y_goto cx (pc := 132) (tgt := 136) d_m_lowerOne_132 (by decide) ?_
      refine y_sub [1, 2, 3] rfl ?_
      exact b_m_lowerOne_136 cx v1 v2 x3 σ4 h
def w_m_lowerOne_111 (Q : Sg → Prop) (v1 : Int32) (v2 : Int32) (v3 : Int32) (σ : Sg) : Prop := w_m_lowerOne_112 Q v1 v2 v3 0 σ
theorem b_m_lowerOne_111 {Δ : Ly} {G : Gm} {Q : Sg → Prop} (cx : Cx Δ G mi_m_lowerOne) : ∀ (v1 : Int32) (v2 : Int32) (v3 : Int32) (σ : Sg), w_m_lowerOne_111 Q v1 v2 v3 σ → Y Δ G mi_m_lowerOne (qV Q) noE 0 0 σ 111 [(0, .ref (Δ.1 58)), (1, .int v1), (2, .int v2), (3, .int v3)] [] := by
  intro v1 v2 v3 σ h
  unfold w_m_lowerOne_111 at h
  refine y_iconst cx (pc := 111) ic_0 d_m_lowerOne_111 ?_
  exact b_m_lowerOne_112 cx v1 v2 v3 0 σ h
def w_m_lowerOne_107 (Q : Sg → Prop) (v1 : Int32) (v2 : Int32) (v3 : Int32) (σ : Sg) : Prop := w_m_lowerOne_112 Q v1 v2 v3 1 σ
theorem b_m_lowerOne_107 {Δ : Ly} {G : Gm} {Q : Sg → Prop} (cx : Cx Δ G mi_m_lowerOne) : ∀ (v1 : Int32) (v2 : Int32) (v3 : Int32) (σ : Sg), w_m_lowerOne_107 Q v1 v2 v3 σ → Y Δ G mi_m_lowerOne (qV Q) noE 0 0 σ 107 [(0, .ref (Δ.1 58)), (1, .int v1), (2, .int v2), (3, .int v3)] [] := by
  intro v1 v2 v3 σ h
  unfold w_m_lowerOne_107 at h
  refine y_iconst cx (pc := 107) ic_1 d_m_lowerOne_107 ?_
  refine y_goto cx (pc := 108) (tgt := 112) d_m_lowerOne_108 (by decide) ?_
  exact b_m_lowerOne_112 cx v1 v2 v3 1 σ h
def w_m_lowerOne_87 (Q : Sg → Prop) (v1 : Int32) (v2 : Int32) (v3 : Int32) (σ : Sg) : Prop := w_m_of v1 5 σ (fun x1 σ2 => (x1 = 1 → (w_m_lowerOne_107 Q v1 v2 v3 σ2)) ∧ (¬ x1 = 1 → (w_m_of v1 6 σ2 (fun x3 σ4 => (¬ x3 = 0 → (w_m_lowerOne_111 Q v1 v2 v3 σ4)) ∧ (x3 = 0 → (w_m_lowerOne_107 Q v1 v2 v3 σ4))))))
theorem b_m_lowerOne_87 {Δ : Ly} {G : Gm} {Q : Sg → Prop} (cx : Cx Δ G mi_m_lowerOne) : ∀ (v1 : Int32) (v2 : Int32) (v3 : Int32) (σ : Sg), w_m_lowerOne_87 Q v1 v2 v3 σ → Y Δ G mi_m_lowerOne (qV Q) noE 0 0 σ 87 [(0, .ref (Δ.1 58)), (1, .int v1), (2, .int v2), (3, .int v3)] [] := by
  intro v1 v2 v3 σ h
  unfold w_m_lowerOne_87 at h
  refine y_aload_n cx (pc := 87) d_m_lowerOne_87 rfl 0 rfl ?_
  refine y_iload_n cx (pc := 88) d_m_lowerOne_88 rfl 1 rfl ?_
  refine y_iconst cx (pc := 89) ic_5 d_m_lowerOne_89 ?_
  refine y_vI cx (pc := 90) (st := []) [.int v1, .int 5] (c_m_of cx.fl Δ v1 5 _ _ h) mv_m_of kw_976 (oc_58 Δ) ck_Md rfl (le_b rfl) (le_b rfl) (le_b rfl) (le_b rfl) (le_b rfl) d_m_lowerOne_90 (fun x1 σ2 h => ?_) (fun x σ2 h => yt_no h)
  refine y_iconst cx (pc := 93) ic_1 d_m_lowerOne_93 ?_
  refine y_icmp_eq cx (pc := 94) (tgt := 107) d_m_lowerOne_94 (by decide) (fun hc => ?_) (fun hc => ?_)
  · replace h := h.1 hc
    exact b_m_lowerOne_107 cx v1 v2 v3 σ2 h
  · replace h := h.2 hc
    refine y_aload_n cx (pc := 97) d_m_lowerOne_97 rfl 0 rfl ?_
    refine y_iload_n cx (pc := 98) d_m_lowerOne_98 rfl 1 rfl ?_
    refine y_bipush cx (pc := 99) bp_6 d_m_lowerOne_99 ?_
    refine y_vI cx (pc := 101) (st := []) [.int v1, .int 6] (c_m_of cx.fl Δ v1 6 _ _ h) mv_m_of kw_976 (oc_58 Δ) ck_Md rfl (le_b rfl) (le_b rfl) (le_b rfl) (le_b rfl) (le_b rfl) d_m_lowerOne_101 (fun x3 σ4 h => ?_) (fun x σ4 h => yt_no h)
    refine y_if_ne cx (pc := 104) (tgt := 111) d_m_lowerOne_104 (by decide) (fun hc => ?_) (fun hc => ?_)
    · replace h := h.1 hc
      exact b_m_lowerOne_111 cx v1 v2 v3 σ4 h
    · replace h := h.2 hc
      exact b_m_lowerOne_107 cx v1 v2 v3 σ4 h
def w_m_lowerOne_196 (Q : Sg → Prop) (v1 : Int32) (s0 : Int32) (σ : Sg) : Prop := w_m_target v1 σ (fun x1 σ2 => w_m_emit 14 x1 s0 0 0 σ2 (fun x3 σ4 => w_m_lowerOne_271 Q σ4))
theorem b_m_lowerOne_196 {Δ : Ly} {G : Gm} {Q : Sg → Prop} (cx : Cx Δ G mi_m_lowerOne) : ∀ (v1 : Int32) (s0 : Int32) (σ : Sg), w_m_lowerOne_196 Q v1 s0 σ → Y Δ G mi_m_lowerOne (qV Q) noE 0 0 σ 196 [(0, .ref (Δ.1 58)), (1, .int v1)] [.int s0] := by
  intro v1 s0 σ h
  unfold w_m_lowerOne_196 at h
  refine y_istore_n (lv' := [(2, .int s0), (0, .ref (Δ.1 58)), (1, .int v1)]) cx (pc := 196) d_m_lowerOne_196 rfl (le_b rfl) rfl ?_
  refine y_aload_n cx (pc := 197) d_m_lowerOne_197 rfl 1 rfl ?_
  refine y_iload_n cx (pc := 198) d_m_lowerOne_198 rfl 2 rfl ?_
  refine y_vI cx (pc := 199) (st := []) [.int v1] (c_m_target cx.fl Δ v1 _ _ h) mv_m_target kw_1024 (oc_58 Δ) ck_Md rfl (le_b rfl) (le_b rfl) (le_b rfl) (le_b rfl) (le_b rfl) d_m_lowerOne_199 (fun x1 σ2 h => ?_) (fun x σ2 h => yt_no h)
  refine y_istore (lv' := [(7, .int x1), (2, .int s0), (0, .ref (Δ.1 58)), (1, .int v1)]) cx (pc := 202) d_m_lowerOne_202 (le_b rfl) rfl ?_
  refine y_aload_n cx (pc := 204) d_m_lowerOne_204 rfl 2 rfl ?_
  refine y_bipush cx (pc := 205) bp_14 d_m_lowerOne_205 ?_
  refine y_iload cx (pc := 207) d_m_lowerOne_207 0 rfl ?_
  refine y_iload_n cx (pc := 209) d_m_lowerOne_209 rfl 1 rfl ?_
  refine y_iconst cx (pc := 210) ic_0 d_m_lowerOne_210 ?_
  refine y_iconst cx (pc := 211) ic_0 d_m_lowerOne_211 ?_
  refine y_vI cx (pc := 212) (st := []) [.int 14, .int x1, .int s0, .int 0, .int 0] (c_m_emit cx.fl Δ 14 x1 s0 0 0 _ _ h) mv_m_emit kw_996 (oc_58 Δ) ck_Md rfl (le_b rfl) (le_b rfl) (le_b rfl) (le_b rfl) (le_b rfl) d_m_lowerOne_212 (fun x3 σ4 h => ?_) (fun x σ4 h => yt_no h)
  refine y_istore (lv' := [(4, .int x3), (7, .int x1), (2, .int s0), (0, .ref (Δ.1 58)), (1, .int v1)]) cx (pc := 215) d_m_lowerOne_215 (le_b rfl) rfl ?_
  refine y_goto cx (pc := 217) (tgt := 271) d_m_lowerOne_217 (by decide) ?_
  refine y_sub [] rfl ?_
  exact b_m_lowerOne_271 cx σ4 h
def w_m_lowerOne_195 (Q : Sg → Prop) (v1 : Int32) (v2 : Int32) (σ : Sg) : Prop := w_m_lowerOne_196 Q v1 v2 σ
theorem b_m_lowerOne_195 {Δ : Ly} {G : Gm} {Q : Sg → Prop} (cx : Cx Δ G mi_m_lowerOne) : ∀ (v1 : Int32) (v2 : Int32) (σ : Sg), w_m_lowerOne_195 Q v1 v2 σ → Y Δ G mi_m_lowerOne (qV Q) noE 0 0 σ 195 [(0, .ref (Δ.1 58)), (1, .int v1), (2, .int v2)] [] := by
  intro v1 v2 σ h
  unfold w_m_lowerOne_195 at h
  refine y_iload_n cx (pc := 195) d_m_lowerOne_195 rfl 2 rfl ?_
  refine y_sub [0, 1] rfl ?_
  exact b_m_lowerOne_196 cx v1 v2 σ h
def w_m_lowerOne (p1 : Int32) (σ : Sg) (Q : Sg → Prop) : Prop := w_m_of p1 0 (up σ 58 24 p1) (fun x1 σ2 => (x1 = 0 → (w_m_lowerSet p1 σ2 (fun σ3 => w_m_lowerOne_271 Q σ3))) ∧ (¬ x1 = 0 → ((x1 = 1 → (w_m_value p1 3 σ2 (fun x4 σ5 => w_m_value p1 5 σ5 (fun x6 σ7 => w_m_of p1 2 σ7 (fun x8 σ9 => (x8 = 5 → (w_m_lowerOne_87 Q p1 x4 x6 σ9)) ∧ (¬ x8 = 5 → (w_m_of p1 2 σ9 (fun x10 σ11 => (¬ x10 = 6 → (w_m_lowerOne_111 Q p1 x4 x6 σ11)) ∧ (x10 = 6 → (w_m_lowerOne_87 Q p1 x4 x6 σ11)))))))))) ∧ (¬ x1 = 1 → ((x1 = 2 → (w_m_value p1 3 σ2 (fun x12 σ13 => w_m_isOnSide σ13 (fun x14 σ15 => (x14 = 0 → (w_m_lowerOne_195 Q p1 x12 σ15)) ∧ (¬ x14 = 0 → (w_m_isPlainIndex p1 σ15 (fun x16 σ17 => (¬ x16 = 0 → (w_m_lowerOne_195 Q p1 x12 σ17)) ∧ (x16 = 0 → (w_m_harmless x12 0 σ17 (fun x18 σ19 => w_m_lowerOne_196 Q p1 x18 σ19)))))))))) ∧ (¬ x1 = 2 → ((x1 = 3 → (w_m_value p1 3 σ2 (fun x20 σ21 => w_m_value p1 5 σ21 (fun x22 σ23 => w_m_lowerStore p1 x20 x22 σ23 (fun σ24 => w_m_lowerOne_271 Q σ24))))) ∧ (¬ x1 = 3 → ((x1 = 4 → (w_m_value p1 3 σ2 (fun x25 σ26 => w_m_emit 18 x25 0 0 0 σ26 (fun x27 σ28 => w_m_lowerOne_271 Q σ28)))) ∧ (¬ x1 = 4 → (w_m_beginTest p1 σ2 (fun σ29 => w_m_lowerOne_271 Q σ29))))))))))))
theorem b_m_lowerOne {Δ : Ly} {G : Gm} {Q : Sg → Prop} (cx : Cx Δ G mi_m_lowerOne) (p1 : Int32) (σ : Sg) (h : w_m_lowerOne p1 σ Q) : Y Δ G mi_m_lowerOne (qV Q) noE 0 0 σ 0 [(0, .ref (Δ.1 58)), (1, .int p1)] [] := by
  unfold w_m_lowerOne at h
  refine y_aload_n cx (pc := 0) d_m_lowerOne_0 rfl 0 rfl ?_
  refine y_iload_n cx (pc := 1) d_m_lowerOne_1 rfl 1 rfl ?_
  refine y_put cx (pc := 2) (j := 24) (ty := .int) (le_b rfl) ck_Md kw_772 (le_b rfl) rfl (t_Md_ok 24 (le_b rfl)) rfl rfl (pf_58_24 Δ) d_m_lowerOne_2 ?_
  refine y_aload_n cx (pc := 5) d_m_lowerOne_5 rfl 0 rfl ?_
  refine y_iload_n cx (pc := 6) d_m_lowerOne_6 rfl 1 rfl ?_
  refine y_iconst cx (pc := 7) ic_0 d_m_lowerOne_7 ?_
  refine y_vI cx (pc := 8) (st := []) [.int p1, .int 0] (c_m_of cx.fl Δ p1 0 _ _ h) mv_m_of kw_976 (oc_58 Δ) ck_Md rfl (le_b rfl) (le_b rfl) (le_b rfl) (le_b rfl) (le_b rfl) d_m_lowerOne_8 (fun x1 σ2 h => ?_) (fun x σ2 h => yt_no h)
  by_cases hc0 : x1 = 0
  · replace h := h.1 hc0
    refine y_tIn cx (pc := 11) (tgt := 44) (c := 0) d_m_lowerOne_11 hc0 (by decide) (by decide) rfl (by decide) ?_
    refine y_aload_n cx (pc := 44) d_m_lowerOne_44 rfl 0 rfl ?_
    refine y_iload_n cx (pc := 45) d_m_lowerOne_45 rfl 1 rfl ?_
    refine y_vV cx (pc := 46) (st := []) [.int p1] (c_m_lowerSet cx.fl Δ p1 _ _ h) mv_m_lowerSet kw_1020 (oc_58 Δ) ck_Md rfl (le_b rfl) (le_b rfl) (le_b rfl) (le_b rfl) (le_b rfl) d_m_lowerOne_46 (fun σ3 h => ?_) (fun x σ3 h => yt_no h)
    refine y_goto cx (pc := 49) (tgt := 271) d_m_lowerOne_49 (by decide) ?_
    refine y_sub [] rfl ?_
    exact b_m_lowerOne_271 cx σ3 h
  replace h := h.2 hc0
  by_cases hc1 : x1 = 1
  · replace h := h.1 hc1
    refine y_tIn cx (pc := 11) (tgt := 52) (c := 1) d_m_lowerOne_11 hc1 (by decide) (by decide) rfl (by decide) ?_
    refine y_aload_n cx (pc := 52) d_m_lowerOne_52 rfl 0 rfl ?_
    refine y_iload_n cx (pc := 53) d_m_lowerOne_53 rfl 1 rfl ?_
    refine y_iconst cx (pc := 54) ic_3 d_m_lowerOne_54 ?_
    refine y_vI cx (pc := 55) (st := []) [.int p1, .int 3] (c_m_value cx.fl Δ p1 3 _ _ h) mv_m_value kw_1028 (oc_58 Δ) ck_Md rfl (le_b rfl) (le_b rfl) (le_b rfl) (le_b rfl) (le_b rfl) d_m_lowerOne_55 (fun x4 σ5 h => ?_) (fun x σ5 h => yt_no h)
    refine y_istore_n (lv' := [(2, .int x4), (0, .ref (Δ.1 58)), (1, .int p1)]) cx (pc := 58) d_m_lowerOne_58 rfl (le_b rfl) rfl ?_
    refine y_aload_n cx (pc := 59) d_m_lowerOne_59 rfl 1 rfl ?_
    refine y_iload_n cx (pc := 60) d_m_lowerOne_60 rfl 2 rfl ?_
    refine y_iconst cx (pc := 61) ic_5 d_m_lowerOne_61 ?_
    refine y_vI cx (pc := 62) (st := []) [.int p1, .int 5] (c_m_value cx.fl Δ p1 5 _ _ h) mv_m_value kw_1028 (oc_58 Δ) ck_Md rfl (le_b rfl) (le_b rfl) (le_b rfl) (le_b rfl) (le_b rfl) d_m_lowerOne_62 (fun x6 σ7 h => ?_) (fun x σ7 h => yt_no h)
    refine y_istore_n (lv' := [(3, .int x6), (2, .int x4), (0, .ref (Δ.1 58)), (1, .int p1)]) cx (pc := 65) d_m_lowerOne_65 rfl (le_b rfl) rfl ?_
    refine y_aload_n cx (pc := 66) d_m_lowerOne_66 rfl 2 rfl ?_
    refine y_iload_n cx (pc := 67) d_m_lowerOne_67 rfl 3 rfl ?_
    refine y_iconst cx (pc := 68) ic_2 d_m_lowerOne_68 ?_
    refine y_vI cx (pc := 69) (st := []) [.int p1, .int 2] (c_m_of cx.fl Δ p1 2 _ _ h) mv_m_of kw_976 (oc_58 Δ) ck_Md rfl (le_b rfl) (le_b rfl) (le_b rfl) (le_b rfl) (le_b rfl) d_m_lowerOne_69 (fun x8 σ9 h => ?_) (fun x σ9 h => yt_no h)
    refine y_iconst cx (pc := 72) ic_5 d_m_lowerOne_72 ?_
    refine y_icmp_eq cx (pc := 73) (tgt := 87) d_m_lowerOne_73 (by decide) (fun hc => ?_) (fun hc => ?_)
    · replace h := h.1 hc
      refine y_sub [2, 3, 1, 0] rfl ?_
      exact b_m_lowerOne_87 cx p1 x4 x6 σ9 h
    · replace h := h.2 hc
      refine y_aload_n cx (pc := 76) d_m_lowerOne_76 rfl 2 rfl ?_
      refine y_iload_n cx (pc := 77) d_m_lowerOne_77 rfl 3 rfl ?_
      refine y_iconst cx (pc := 78) ic_2 d_m_lowerOne_78 ?_
      refine y_vI cx (pc := 79) (st := []) [.int p1, .int 2] (c_m_of cx.fl Δ p1 2 _ _ h) mv_m_of kw_976 (oc_58 Δ) ck_Md rfl (le_b rfl) (le_b rfl) (le_b rfl) (le_b rfl) (le_b rfl) d_m_lowerOne_79 (fun x10 σ11 h => ?_) (fun x σ11 h => yt_no h)
      refine y_bipush cx (pc := 82) bp_6 d_m_lowerOne_82 ?_
      refine y_icmp_ne cx (pc := 84) (tgt := 111) d_m_lowerOne_84 (by decide) (fun hc => ?_) (fun hc => ?_)
      · replace h := h.1 hc
        refine y_sub [2, 3, 1, 0] rfl ?_
        exact b_m_lowerOne_111 cx p1 x4 x6 σ11 h
      · replace h := h.2 hc
        refine y_sub [2, 3, 1, 0] rfl ?_
        exact b_m_lowerOne_87 cx p1 x4 x6 σ11 h
  replace h := h.2 hc1
  by_cases hc2 : x1 = 2
  · replace h := h.1 hc2
    refine y_tIn cx (pc := 11) (tgt := 164) (c := 2) d_m_lowerOne_11 hc2 (by decide) (by decide) rfl (by decide) ?_
    refine y_aload_n cx (pc := 164) d_m_lowerOne_164 rfl 0 rfl ?_
    refine y_iload_n cx (pc := 165) d_m_lowerOne_165 rfl 1 rfl ?_
    refine y_iconst cx (pc := 166) ic_3 d_m_lowerOne_166 ?_
    refine y_vI cx (pc := 167) (st := []) [.int p1, .int 3] (c_m_value cx.fl Δ p1 3 _ _ h) mv_m_value kw_1028 (oc_58 Δ) ck_Md rfl (le_b rfl) (le_b rfl) (le_b rfl) (le_b rfl) (le_b rfl) d_m_lowerOne_167 (fun x12 σ13 h => ?_) (fun x σ13 h => yt_no h)
    refine y_istore_n (lv' := [(2, .int x12), (0, .ref (Δ.1 58)), (1, .int p1)]) cx (pc := 170) d_m_lowerOne_170 rfl (le_b rfl) rfl ?_
    refine y_aload_n cx (pc := 171) d_m_lowerOne_171 rfl 1 rfl ?_
    refine y_vI cx (pc := 172) (st := []) [] (c_m_isOnSide cx.fl Δ _ _ h) mv_m_isOnSide kw_1000 (oc_58 Δ) ck_Md rfl (le_b rfl) (le_b rfl) (le_b rfl) (le_b rfl) (le_b rfl) d_m_lowerOne_172 (fun x14 σ15 h => ?_) (fun x σ15 h => yt_no h)
    refine y_if_eq cx (pc := 175) (tgt := 195) d_m_lowerOne_175 (by decide) (fun hc => ?_) (fun hc => ?_)
    · replace h := h.1 hc
      refine y_sub [1, 2, 0] rfl ?_
      exact b_m_lowerOne_195 cx p1 x12 σ15 h
    · replace h := h.2 hc
      refine y_aload_n cx (pc := 178) d_m_lowerOne_178 rfl 1 rfl ?_
      refine y_iload_n cx (pc := 179) d_m_lowerOne_179 rfl 2 rfl ?_
      refine y_vI cx (pc := 180) (st := []) [.int p1] (c_m_isPlainIndex cx.fl Δ p1 _ _ h) mv_m_isPlainIndex kw_1036 (oc_58 Δ) ck_Md rfl (le_b rfl) (le_b rfl) (le_b rfl) (le_b rfl) (le_b rfl) d_m_lowerOne_180 (fun x16 σ17 h => ?_) (fun x σ17 h => yt_no h)
      refine y_if_ne cx (pc := 183) (tgt := 195) d_m_lowerOne_183 (by decide) (fun hc => ?_) (fun hc => ?_)
      · replace h := h.1 hc
        refine y_sub [1, 2, 0] rfl ?_
        exact b_m_lowerOne_195 cx p1 x12 σ17 h
      · replace h := h.2 hc
        refine y_aload_n cx (pc := 186) d_m_lowerOne_186 rfl 1 rfl ?_
        refine y_iload_n cx (pc := 187) d_m_lowerOne_187 rfl 0 rfl ?_
        refine y_iconst cx (pc := 188) ic_0 d_m_lowerOne_188 ?_
        refine y_vI cx (pc := 189) (st := []) [.int x12, .int 0] (c_m_harmless cx.fl Δ x12 0 _ _ h) mv_m_harmless kw_1032 (oc_58 Δ) ck_Md rfl (le_b rfl) (le_b rfl) (le_b rfl) (le_b rfl) (le_b rfl) d_m_lowerOne_189 (fun x18 σ19 h => ?_) (fun x σ19 h => yt_no h)
        refine y_goto cx (pc := 192) (tgt := 196) d_m_lowerOne_192 (by decide) ?_
        refine y_sub [1, 2] rfl ?_
        exact b_m_lowerOne_196 cx p1 x18 σ19 h
  replace h := h.2 hc2
  by_cases hc3 : x1 = 3
  · replace h := h.1 hc3
    refine y_tIn cx (pc := 11) (tgt := 220) (c := 3) d_m_lowerOne_11 hc3 (by decide) (by decide) rfl (by decide) ?_
    refine y_aload_n cx (pc := 220) d_m_lowerOne_220 rfl 0 rfl ?_
    refine y_iload_n cx (pc := 221) d_m_lowerOne_221 rfl 1 rfl ?_
    refine y_iconst cx (pc := 222) ic_3 d_m_lowerOne_222 ?_
    refine y_vI cx (pc := 223) (st := []) [.int p1, .int 3] (c_m_value cx.fl Δ p1 3 _ _ h) mv_m_value kw_1028 (oc_58 Δ) ck_Md rfl (le_b rfl) (le_b rfl) (le_b rfl) (le_b rfl) (le_b rfl) d_m_lowerOne_223 (fun x20 σ21 h => ?_) (fun x σ21 h => yt_no h)
    refine y_istore_n (lv' := [(2, .int x20), (0, .ref (Δ.1 58)), (1, .int p1)]) cx (pc := 226) d_m_lowerOne_226 rfl (le_b rfl) rfl ?_
    refine y_aload_n cx (pc := 227) d_m_lowerOne_227 rfl 1 rfl ?_
    refine y_iload_n cx (pc := 228) d_m_lowerOne_228 rfl 2 rfl ?_
    refine y_iconst cx (pc := 229) ic_5 d_m_lowerOne_229 ?_
    refine y_vI cx (pc := 230) (st := []) [.int p1, .int 5] (c_m_value cx.fl Δ p1 5 _ _ h) mv_m_value kw_1028 (oc_58 Δ) ck_Md rfl (le_b rfl) (le_b rfl) (le_b rfl) (le_b rfl) (le_b rfl) d_m_lowerOne_230 (fun x22 σ23 h => ?_) (fun x σ23 h => yt_no h)
    refine y_istore_n (lv' := [(3, .int x22), (2, .int x20), (0, .ref (Δ.1 58)), (1, .int p1)]) cx (pc := 233) d_m_lowerOne_233 rfl (le_b rfl) rfl ?_
    refine y_aload_n cx (pc := 234) d_m_lowerOne_234 rfl 2 rfl ?_
    refine y_iload_n cx (pc := 235) d_m_lowerOne_235 rfl 3 rfl ?_
    refine y_iload_n cx (pc := 236) d_m_lowerOne_236 rfl 1 rfl ?_
    refine y_iload_n cx (pc := 237) d_m_lowerOne_237 rfl 0 rfl ?_
    refine y_vV cx (pc := 238) (st := []) [.int p1, .int x20, .int x22] (c_m_lowerStore cx.fl Δ p1 x20 x22 _ _ h) mv_m_lowerStore kw_1040 (oc_58 Δ) ck_Md rfl (le_b rfl) (le_b rfl) (le_b rfl) (le_b rfl) (le_b rfl) d_m_lowerOne_238 (fun σ24 h => ?_) (fun x σ24 h => yt_no h)
    refine y_goto cx (pc := 241) (tgt := 271) d_m_lowerOne_241 (by decide) ?_
    refine y_sub [] rfl ?_
    exact b_m_lowerOne_271 cx σ24 h
  replace h := h.2 hc3
  by_cases hc4 : x1 = 4
  · replace h := h.1 hc4
    refine y_tIn cx (pc := 11) (tgt := 244) (c := 4) d_m_lowerOne_11 hc4 (by decide) (by decide) rfl (by decide) ?_
    refine y_aload_n cx (pc := 244) d_m_lowerOne_244 rfl 0 rfl ?_
    refine y_iload_n cx (pc := 245) d_m_lowerOne_245 rfl 1 rfl ?_
    refine y_iconst cx (pc := 246) ic_3 d_m_lowerOne_246 ?_
    refine y_vI cx (pc := 247) (st := []) [.int p1, .int 3] (c_m_value cx.fl Δ p1 3 _ _ h) mv_m_value kw_1028 (oc_58 Δ) ck_Md rfl (le_b rfl) (le_b rfl) (le_b rfl) (le_b rfl) (le_b rfl) d_m_lowerOne_247 (fun x25 σ26 h => ?_) (fun x σ26 h => yt_no h)
    refine y_istore_n (lv' := [(2, .int x25), (0, .ref (Δ.1 58)), (1, .int p1)]) cx (pc := 250) d_m_lowerOne_250 rfl (le_b rfl) rfl ?_
    refine y_aload_n cx (pc := 251) d_m_lowerOne_251 rfl 1 rfl ?_
    refine y_bipush cx (pc := 252) bp_18 d_m_lowerOne_252 ?_
    refine y_iload_n cx (pc := 254) d_m_lowerOne_254 rfl 0 rfl ?_
    refine y_iconst cx (pc := 255) ic_0 d_m_lowerOne_255 ?_
    refine y_iconst cx (pc := 256) ic_0 d_m_lowerOne_256 ?_
    refine y_iconst cx (pc := 257) ic_0 d_m_lowerOne_257 ?_
    refine y_vI cx (pc := 258) (st := []) [.int 18, .int x25, .int 0, .int 0, .int 0] (c_m_emit cx.fl Δ 18 x25 0 0 0 _ _ h) mv_m_emit kw_996 (oc_58 Δ) ck_Md rfl (le_b rfl) (le_b rfl) (le_b rfl) (le_b rfl) (le_b rfl) d_m_lowerOne_258 (fun x27 σ28 h => ?_) (fun x σ28 h => yt_no h)
    refine y_istore (lv' := [(4, .int x27), (2, .int x25), (0, .ref (Δ.1 58)), (1, .int p1)]) cx (pc := 261) d_m_lowerOne_261 (le_b rfl) rfl ?_
    refine y_goto cx (pc := 263) (tgt := 271) d_m_lowerOne_263 (by decide) ?_
    refine y_sub [] rfl ?_
    exact b_m_lowerOne_271 cx σ28 h
  replace h := h.2 hc4
  refine y_tOut cx (pc := 11) (tgt := 266) d_m_lowerOne_11 (by have z0 := lv_neT hc0 (show (0 : Int32).toInt = 0 from rfl); have z1 := lv_neT hc1 (show (1 : Int32).toInt = 1 from rfl); have z2 := lv_neT hc2 (show (2 : Int32).toInt = 2 from rfl); have z3 := lv_neT hc3 (show (3 : Int32).toInt = 3 from rfl); have z4 := lv_neT hc4 (show (4 : Int32).toInt = 4 from rfl); omega) (by decide) ?_
  refine y_aload_n cx (pc := 266) d_m_lowerOne_266 rfl 0 rfl ?_
  refine y_iload_n cx (pc := 267) d_m_lowerOne_267 rfl 1 rfl ?_
  refine y_vV cx (pc := 268) (st := []) [.int p1] (c_m_beginTest cx.fl Δ p1 _ _ h) mv_m_beginTest kw_1044 (oc_58 Δ) ck_Md rfl (le_b rfl) (le_b rfl) (le_b rfl) (le_b rfl) (le_b rfl) d_m_lowerOne_268 (fun σ29 h => ?_) (fun x σ29 h => yt_no h)
  refine y_sub [] rfl ?_
  exact b_m_lowerOne_271 cx σ29 h
theorem c_m_lowerOne {l : Launch} (hfl : l.flags = flags0) (Δ : Ly) (p1 : Int32) (σ : Sg) (Q : Sg → Prop) (h : w_m_lowerOne p1 σ Q) : Ct l Δ mi_m_lowerOne [.ref (Δ.1 58), .int p1] σ (qV Q) noE :=
  Ct.of hfl (by show plainFor ⟨"GuardedMovesModel", "lowerOne", "(I)V"⟩ = true; decide +kernel) rfl (le_b rfl) (fun G hl cx => b_m_lowerOne cx p1 σ h)

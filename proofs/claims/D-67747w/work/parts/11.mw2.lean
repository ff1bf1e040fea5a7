def mi_m_readValue : Mi := ("GuardedMovesModel", prog_6_method_14_code, 5, [], none, 2, 56, 0, 0, ⟨"GuardedMovesModel", "readValue", "(II)V"⟩)
theorem d_m_readValue_0 : decode prog_6_method_14_code 0 = .ok (.aload_n 0, 1) := by decide +kernel
theorem d_m_readValue_1 : decode prog_6_method_14_code 1 = .ok (.getfield 124, 3) := by decide +kernel
theorem d_m_readValue_4 : decode prog_6_method_14_code 4 = .ok (.ifCond .le 4, 3) := by decide +kernel
theorem d_m_readValue_7 : decode prog_6_method_14_code 7 = .ok (.return_, 1) := by decide +kernel
theorem d_m_readValue_8 : decode prog_6_method_14_code 8 = .ok (.aload_n 0, 1) := by decide +kernel
theorem d_m_readValue_9 : decode prog_6_method_14_code 9 = .ok (.invokevirtual 133, 3) := by decide +kernel
theorem d_m_readValue_12 : decode prog_6_method_14_code 12 = .ok (.istore_n 3, 1) := by decide +kernel
theorem d_m_readValue_13 : decode prog_6_method_14_code 13 = .ok (.iload_n 3, 1) := by decide +kernel
theorem d_m_readValue_14 : decode prog_6_method_14_code 14 = .ok (.invokestatic 153, 3) := by decide +kernel
theorem d_m_readValue_17 : decode prog_6_method_14_code 17 = .ok (.ifCond .eq 43, 3) := by decide +kernel
theorem d_m_readValue_20 : decode prog_6_method_14_code 20 = .ok (.aload_n 0, 1) := by decide +kernel
theorem d_m_readValue_21 : decode prog_6_method_14_code 21 = .ok (.getfield 19, 3) := by decide +kernel
theorem d_m_readValue_24 : decode prog_6_method_14_code 24 = .ok (.bipush 9, 2) := by decide +kernel
theorem d_m_readValue_26 : decode prog_6_method_14_code 26 = .ok (.iload_n 1, 1) := by decide +kernel
theorem d_m_readValue_27 : decode prog_6_method_14_code 27 = .ok (.imul, 1) := by decide +kernel
theorem d_m_readValue_28 : decode prog_6_method_14_code 28 = .ok (.iload_n 2, 1) := by decide +kernel
theorem d_m_readValue_29 : decode prog_6_method_14_code 29 = .ok (.iadd, 1) := by decide +kernel
theorem d_m_readValue_30 : decode prog_6_method_14_code 30 = .ok (.iconst 1, 1) := by decide +kernel
theorem d_m_readValue_31 : decode prog_6_method_14_code 31 = .ok (.iastore, 1) := by decide +kernel
theorem d_m_readValue_32 : decode prog_6_method_14_code 32 = .ok (.aload_n 0, 1) := by decide +kernel
theorem d_m_readValue_33 : decode prog_6_method_14_code 33 = .ok (.getfield 19, 3) := by decide +kernel
theorem d_m_readValue_36 : decode prog_6_method_14_code 36 = .ok (.bipush 9, 2) := by decide +kernel
theorem d_m_readValue_38 : decode prog_6_method_14_code 38 = .ok (.iload_n 1, 1) := by decide +kernel
theorem d_m_readValue_39 : decode prog_6_method_14_code 39 = .ok (.imul, 1) := by decide +kernel
theorem d_m_readValue_40 : decode prog_6_method_14_code 40 = .ok (.iload_n 2, 1) := by decide +kernel
theorem d_m_readValue_41 : decode prog_6_method_14_code 41 = .ok (.iadd, 1) := by decide +kernel
theorem d_m_readValue_42 : decode prog_6_method_14_code 42 = .ok (.iconst 1, 1) := by decide +kernel
theorem d_m_readValue_43 : decode prog_6_method_14_code 43 = .ok (.iadd, 1) := by decide +kernel
theorem d_m_readValue_44 : decode prog_6_method_14_code 44 = .ok (.iload_n 3, 1) := by decide +kernel
theorem d_m_readValue_45 : decode prog_6_method_14_code 45 = .ok (.bipush 97, 2) := by decide +kernel
theorem d_m_readValue_47 : decode prog_6_method_14_code 47 = .ok (.isub, 1) := by decide +kernel
theorem d_m_readValue_48 : decode prog_6_method_14_code 48 = .ok (.iastore, 1) := by decide +kernel
theorem d_m_readValue_49 : decode prog_6_method_14_code 49 = .ok (.aload_n 0, 1) := by decide +kernel
theorem d_m_readValue_50 : decode prog_6_method_14_code 50 = .ok (.dup, 1) := by decide +kernel
theorem d_m_readValue_51 : decode prog_6_method_14_code 51 = .ok (.getfield 130, 3) := by decide +kernel
theorem d_m_readValue_54 : decode prog_6_method_14_code 54 = .ok (.iconst 1, 1) := by decide +kernel
theorem d_m_readValue_55 : decode prog_6_method_14_code 55 = .ok (.iadd, 1) := by decide +kernel
theorem d_m_readValue_56 : decode prog_6_method_14_code 56 = .ok (.putfield 130, 3) := by decide +kernel
theorem d_m_readValue_59 : decode prog_6_method_14_code 59 = .ok (.return_, 1) := by decide +kernel
theorem d_m_readValue_60 : decode prog_6_method_14_code 60 = .ok (.iload_n 3, 1) := by decide +kernel
theorem d_m_readValue_61 : decode prog_6_method_14_code 61 = .ok (.bipush 45, 2) := by decide +kernel
theorem d_m_readValue_63 : decode prog_6_method_14_code 63 = .ok (.if_icmp .ne 7, 3) := by decide +kernel
theorem d_m_readValue_66 : decode prog_6_method_14_code 66 = .ok (.iconst 1, 1) := by decide +kernel
theorem d_m_readValue_67 : decode prog_6_method_14_code 67 = .ok (.goto 4, 3) := by decide +kernel
theorem d_m_readValue_70 : decode prog_6_method_14_code 70 = .ok (.iconst 0, 1) := by decide +kernel
theorem d_m_readValue_71 : decode prog_6_method_14_code 71 = .ok (.istore 4, 2) := by decide +kernel
theorem d_m_readValue_73 : decode prog_6_method_14_code 73 = .ok (.iload 4, 2) := by decide +kernel
theorem d_m_readValue_75 : decode prog_6_method_14_code 75 = .ok (.ifCond .eq 18, 3) := by decide +kernel
theorem d_m_readValue_78 : decode prog_6_method_14_code 78 = .ok (.aload_n 0, 1) := by decide +kernel
theorem d_m_readValue_79 : decode prog_6_method_14_code 79 = .ok (.dup, 1) := by decide +kernel
theorem d_m_readValue_80 : decode prog_6_method_14_code 80 = .ok (.getfield 130, 3) := by decide +kernel
theorem d_m_readValue_83 : decode prog_6_method_14_code 83 = .ok (.iconst 1, 1) := by decide +kernel
theorem d_m_readValue_84 : decode prog_6_method_14_code 84 = .ok (.iadd, 1) := by decide +kernel
theorem d_m_readValue_85 : decode prog_6_method_14_code 85 = .ok (.putfield 130, 3) := by decide +kernel
theorem d_m_readValue_88 : decode prog_6_method_14_code 88 = .ok (.aload_n 0, 1) := by decide +kernel
theorem d_m_readValue_89 : decode prog_6_method_14_code 89 = .ok (.invokevirtual 133, 3) := by decide +kernel
theorem d_m_readValue_92 : decode prog_6_method_14_code 92 = .ok (.pop, 1) := by decide +kernel
theorem d_m_readValue_93 : decode prog_6_method_14_code 93 = .ok (.aload_n 0, 1) := by decide +kernel
theorem d_m_readValue_94 : decode prog_6_method_14_code 94 = .ok (.iload_n 1, 1) := by decide +kernel
theorem d_m_readValue_95 : decode prog_6_method_14_code 95 = .ok (.iload_n 2, 1) := by decide +kernel
theorem d_m_readValue_96 : decode prog_6_method_14_code 96 = .ok (.iload 4, 2) := by decide +kernel
theorem d_m_readValue_98 : decode prog_6_method_14_code 98 = .ok (.invokevirtual 156, 3) := by decide +kernel
theorem d_m_readValue_101 : decode prog_6_method_14_code 101 = .ok (.return_, 1) := by decide +kernel
theorem kc_m_readValue : Kw (m_w (mi_m_readValue )) := ⟨(in_t4 (List.mem_of_getElem? (i := 225) rfl)), rfl⟩
theorem mv_m_readValue : MV (mi_m_readValue ) "GuardedMovesModel" 2 := ⟨kw_944, ks_51, kc_m_readValue , kw_7, ⟨⟨(by show ("GuardedMovesModel" : String) ≠ "java/lang/invoke/MethodHandle"; decide), (by show ("GuardedMovesModel" : String) ≠ "java/lang/invoke/VarHandle"; decide)⟩, (by show (parseMethodDescriptor "(II)V").map (fun d => d.parameters.length) = some 2; decide +kernel)⟩⟩
def w_m_readValue_93 (Q : Sg → Prop) (v1 : Int32) (v2 : Int32) (v4 : Int32) (σ : Sg) : Prop := w_m_readNumber v1 v2 v4 σ (fun σ1 => Q σ1)
theorem b_m_readValue_93 {Δ : Ly} {G : Gm} {Q : Sg → Prop} (cx : Cx Δ G mi_m_readValue) : ∀ (v1 : Int32) (v2 : Int32) (v4 : Int32) (σ : Sg), w_m_readValue_93 Q v1 v2 v4 σ → Y Δ G mi_m_readValue (qV Q) noE 0 0 σ 93 [(0, .ref (Δ.1 58)), (1, .int v1), (2, .int v2), (4, .int v4)] [] := by
  intro v1 v2 v4 σ h
  unfold w_m_readValue_93 at h
  refine y_aload_n cx (pc := 93) d_m_readValue_93 rfl 0 rfl ?_
  refine y_iload_n cx (pc := 94) d_m_readValue_94 rfl 1 rfl ?_
  refine y_iload_n cx (pc := 95) d_m_readValue_95 rfl 2 rfl ?_
  refine y_iload cx (pc := 96) d_m_readValue_96 3 rfl ?_
  refine y_vV cx (pc := 98) (st := []) [.int v1, .int v2, .int v4] (c_m_readNumber cx.fl Δ v1 v2 v4 _ _ h) mv_m_readNumber kw_946 (oc_58 Δ) ck_Md rfl (le_b rfl) (le_b rfl) (le_b rfl) (le_b rfl) (le_b rfl) d_m_readValue_98 (fun σ1 h => ?_) (fun x σ1 h => yt_no h)
  exact y_vret cx (pc := 101) rfl d_m_readValue_101 (le_b rfl) (le_b rfl) h
def w_m_readValue_71 (Q : Sg → Prop) (v1 : Int32) (v2 : Int32) (s0 : Int32) (σ : Sg) : Prop := (s0 = 0 → (w_m_readValue_93 Q v1 v2 s0 σ)) ∧ (¬ s0 = 0 → (w_m_next (up σ 58 5 ((σ 58 5) + 1)) (fun x1 σ2 => w_m_readValue_93 Q v1 v2 s0 σ2)))
theorem b_m_readValue_71 {Δ : Ly} {G : Gm} {Q : Sg → Prop} (cx : Cx Δ G mi_m_readValue) : ∀ (v1 : Int32) (v2 : Int32) (s0 : Int32) (σ : Sg), w_m_readValue_71 Q v1 v2 s0 σ → Y Δ G mi_m_readValue (qV Q) noE 0 0 σ 71 [(0, .ref (Δ.1 58)), (1, .int v1), (2, .int v2)] [.int s0] := by
  intro v1 v2 s0 σ h
  unfold w_m_readValue_71 at h
  refine y_istore (lv' := [(4, .int s0), (0, .ref (Δ.1 58)), (1, .int v1), (2, .int v2)]) cx (pc := 71) d_m_readValue_71 (le_b rfl) rfl ?_
  refine y_iload cx (pc := 73) d_m_readValue_73 0 rfl ?_
  refine y_if_eq cx (pc := 75) (tgt := 93) d_m_readValue_75 (by decide) (fun hc => ?_) (fun hc => ?_)
  · replace h := h.1 hc
    refine y_sub [1, 2, 3, 0] rfl ?_
    exact b_m_readValue_93 cx v1 v2 s0 σ h
  · replace h := h.2 hc
    refine y_aload_n cx (pc := 78) d_m_readValue_78 rfl 1 rfl ?_
    refine y_dup cx (pc := 79) rfl d_m_readValue_79 ?_
    refine y_get cx (pc := 80) (j := 5) (v := .int (σ 58 5)) (le_b rfl) ck_Md kw_753 (le_b rfl) (gf_58_5 Δ _) d_m_readValue_80 ?_
    refine y_iconst cx (pc := 83) ic_1 d_m_readValue_83 ?_
    refine y_iadd cx (pc := 84) d_m_readValue_84 ?_
    refine y_put cx (pc := 85) (j := 5) (ty := .int) (le_b rfl) ck_Md kw_753 (le_b rfl) rfl (t_Md_ok 5 (le_b rfl)) rfl rfl (pf_58_5 Δ) d_m_readValue_85 ?_
    refine y_aload_n cx (pc := 88) d_m_readValue_88 rfl 1 rfl ?_
    refine y_vI cx (pc := 89) (st := []) [] (c_m_next cx.fl Δ _ _ h) mv_m_next kw_915 (oc_58 Δ) ck_Md rfl (le_b rfl) (le_b rfl) (le_b rfl) (le_b rfl) (le_b rfl) d_m_readValue_89 (fun x1 σ2 h => ?_) (fun x σ2 h => yt_no h)
    refine y_pop cx (pc := 92) rfl d_m_readValue_92 ?_
    refine y_sub [1, 2, 3, 0] rfl ?_
    exact b_m_readValue_93 cx v1 v2 s0 σ2 h
def w_m_readValue (p1 : Int32) (p2 : Int32) (σ : Sg) (Q : Sg → Prop) : Prop := ((σ 58 6) ≤ 0 → (w_m_next σ (fun x1 σ2 => w_m_isVariable x1 σ2 (fun x3 σ4 => (x3 = 0 → ((¬ x1 = 45 → (w_m_readValue_71 Q p1 p2 0 σ4)) ∧ (x1 = 45 → (w_m_readValue_71 Q p1 p2 1 σ4)))) ∧ (¬ x3 = 0 → (vp_in ((9 * p1) + p2) 540 ∧ (vp_in (((9 * p1) + p2) + 1) 540 ∧ (Q (up (up (up σ4 62 (((9 * p1) + p2).toNatClampNeg) 1) 62 ((((9 * p1) + p2) + 1).toNatClampNeg) (x1 - 97)) 58 5 ((σ4 58 5) + 1)))))))))) ∧ (¬ (σ 58 6) ≤ 0 → (Q σ))
theorem b_m_readValue {Δ : Ly} {G : Gm} {Q : Sg → Prop} (cx : Cx Δ G mi_m_readValue) (p1 : Int32) (p2 : Int32) (σ : Sg) (h : w_m_readValue p1 p2 σ Q) : Y Δ G mi_m_readValue (qV Q) noE 0 0 σ 0 [(0, .ref (Δ.1 58)), (1, .int p1), (2, .int p2)] [] := by
  unfold w_m_readValue at h
  refine y_aload_n cx (pc := 0) d_m_readValue_0 rfl 0 rfl ?_
  refine y_get cx (pc := 1) (j := 6) (v := .int (σ 58 6)) (le_b rfl) ck_Md kw_754 (le_b rfl) (gf_58_6 Δ _) d_m_readValue_1 ?_
  refine y_if_le cx (pc := 4) (tgt := 8) d_m_readValue_4 (by decide) (fun hc => ?_) (fun hc => ?_)
  · replace h := h.1 hc
    refine y_aload_n cx (pc := 8) d_m_readValue_8 rfl 0 rfl ?_
    refine y_vI cx (pc := 9) (st := []) [] (c_m_next cx.fl Δ _ _ h) mv_m_next kw_915 (oc_58 Δ) ck_Md rfl (le_b rfl) (le_b rfl) (le_b rfl) (le_b rfl) (le_b rfl) d_m_readValue_9 (fun x1 σ2 h => ?_) (fun x σ2 h => yt_no h)
    refine y_istore_n (lv' := [(3, .int x1), (0, .ref (Δ.1 58)), (1, .int p1), (2, .int p2)]) cx (pc := 12) d_m_readValue_12 rfl (le_b rfl) rfl ?_
    refine y_iload_n cx (pc := 13) d_m_readValue_13 rfl 0 rfl ?_
    refine y_sI cx (pc := 14) (st := []) [.int x1] (c_m_isVariable cx.fl Δ x1 _ _ h) mv_m_isVariable kw_927 rfl (le_b rfl) (le_b rfl) (le_b rfl) (le_b rfl) (le_b rfl) d_m_readValue_14 (fun x3 σ4 h => ?_) (fun x σ4 h => yt_no h)
    refine y_if_eq cx (pc := 17) (tgt := 60) d_m_readValue_17 (by decide) (fun hc => ?_) (fun hc => ?_)
    · replace h := h.1 hc
      refine y_iload_n cx (pc := 60) d_m_readValue_60 rfl 0 rfl ?_
      refine y_bipush cx (pc := 61) bp_45 d_m_readValue_61 ?_
      refine y_icmp_ne cx (pc := 63) (tgt := 70) d_m_readValue_63 (by decide) (fun hc => ?_) (fun hc => ?_)
      · replace h := h.1 hc
        refine y_iconst cx (pc := 70) ic_0 d_m_readValue_70 ?_
        refine y_sub [1, 2, 3] rfl ?_
        exact b_m_readValue_71 cx p1 p2 0 σ4 h
      · replace h := h.2 hc
        refine y_iconst cx (pc := 66) ic_1 d_m_readValue_66 ?_
        refine y_goto cx (pc := 67) (tgt := 71) d_m_readValue_67 (by decide) ?_
        refine y_sub [1, 2, 3] rfl ?_
        exact b_m_readValue_71 cx p1 p2 1 σ4 h
    · replace h := h.2 hc
      refine y_aload_n cx (pc := 20) d_m_readValue_20 rfl 1 rfl ?_
      refine y_get cx (pc := 21) (j := 10) (v := .ref (Δ.1 62)) (le_b rfl) ck_Md kw_758 (le_b rfl) (gf_58_10 Δ _) d_m_readValue_21 ?_
      refine y_bipush cx (pc := 24) bp_9 d_m_readValue_24 ?_
      refine y_iload_n cx (pc := 26) d_m_readValue_26 rfl 2 rfl ?_
      refine y_imul cx (pc := 27) d_m_readValue_27 ?_
      refine y_iload_n cx (pc := 28) d_m_readValue_28 rfl 3 rfl ?_
      refine y_iadd cx (pc := 29) d_m_readValue_29 ?_
      refine y_iconst cx (pc := 30) ic_1 d_m_readValue_30 ?_
      obtain ⟨h0, h⟩ := h
      refine y_iast cx (pc := 31) ⟨(le_b rfl), fun _ => rfl⟩ h0 d_m_readValue_31 ?_
      refine y_aload_n cx (pc := 32) d_m_readValue_32 rfl 1 rfl ?_
      refine y_get cx (pc := 33) (j := 10) (v := .ref (Δ.1 62)) (le_b rfl) ck_Md kw_758 (le_b rfl) (gf_58_10 Δ _) d_m_readValue_33 ?_
      refine y_bipush cx (pc := 36) bp_9 d_m_readValue_36 ?_
      refine y_iload_n cx (pc := 38) d_m_readValue_38 rfl 2 rfl ?_
      refine y_imul cx (pc := 39) d_m_readValue_39 ?_
      refine y_iload_n cx (pc := 40) d_m_readValue_40 rfl 3 rfl ?_
      refine y_iadd cx (pc := 41) d_m_readValue_41 ?_
      refine y_iconst cx (pc := 42) ic_1 d_m_readValue_42 ?_
      refine y_iadd cx (pc := 43) d_m_readValue_43 ?_
      refine y_iload_n cx (pc := 44) d_m_readValue_44 rfl 0 rfl ?_
      refine y_bipush cx (pc := 45) bp_97 d_m_readValue_45 ?_
      refine y_isub cx (pc := 47) d_m_readValue_47 ?_
      obtain ⟨h0, h⟩ := h
      refine y_iast cx (pc := 48) ⟨(le_b rfl), fun _ => rfl⟩ h0 d_m_readValue_48 ?_
      refine y_aload_n cx (pc := 49) d_m_readValue_49 rfl 1 rfl ?_
      refine y_dup cx (pc := 50) rfl d_m_readValue_50 ?_
      refine y_get cx (pc := 51) (j := 5) (v := .int (σ4 58 5)) (le_b rfl) ck_Md kw_753 (le_b rfl) (gf_58_5 Δ _) d_m_readValue_51 ?_
      refine y_iconst cx (pc := 54) ic_1 d_m_readValue_54 ?_
      refine y_iadd cx (pc := 55) d_m_readValue_55 ?_
      refine y_put cx (pc := 56) (j := 5) (ty := .int) (le_b rfl) ck_Md kw_753 (le_b rfl) rfl (t_Md_ok 5 (le_b rfl)) rfl rfl (pf_58_5 Δ) d_m_readValue_56 ?_
      exact y_vret cx (pc := 59) rfl d_m_readValue_59 (le_b rfl) (le_b rfl) h
  · replace h := h.2 hc
    exact y_vret cx (pc := 7) rfl d_m_readValue_7 (le_b rfl) (le_b rfl) h
theorem c_m_readValue {l : Launch} (hfl : l.flags = flags0) (Δ : Ly) (p1 : Int32) (p2 : Int32) (σ : Sg) (Q : Sg → Prop) (h : w_m_readValue p1 p2 σ Q) : Ct l Δ mi_m_readValue [.ref (Δ.1 58), .int p1, .int p2] σ (qV Q) noE :=
  Ct.of hfl (by show plainFor ⟨"GuardedMovesModel", "readValue", "(II)V"⟩ = true; decide +kernel) rfl (le_b rfl) (fun G hl cx => b_m_readValue cx p1 p2 σ h)
def mi_m_take : Mi := ("GuardedMovesModel", prog_6_method_10_code, 2, [], none, 1, 26, 0, 0, ⟨"GuardedMovesModel", "take", "(I)V"⟩)
theorem d_m_take_0 : decode prog_6_method_10_code 0 = .ok (.aload_n 0, 1) := by decide +kernel
theorem d_m_take_1 : decode prog_6_method_10_code 1 = .ok (.getfield 124, 3) := by decide +kernel
theorem d_m_take_4 : decode prog_6_method_10_code 4 = .ok (.ifCond .le 4, 3) := by decide +kernel
theorem d_m_take_7 : decode prog_6_method_10_code 7 = .ok (.return_, 1) := by decide +kernel
theorem d_m_take_8 : decode prog_6_method_10_code 8 = .ok (.aload_n 0, 1) := by decide +kernel
theorem d_m_take_9 : decode prog_6_method_10_code 9 = .ok (.invokevirtual 133, 3) := by decide +kernel
theorem d_m_take_12 : decode prog_6_method_10_code 12 = .ok (.iload_n 1, 1) := by decide +kernel
theorem d_m_take_13 : decode prog_6_method_10_code 13 = .ok (.if_icmp .eq 13, 3) := by decide +kernel
theorem d_m_take_16 : decode prog_6_method_10_code 16 = .ok (.aload_n 0, 1) := by decide +kernel
theorem d_m_take_17 : decode prog_6_method_10_code 17 = .ok (.iconst 1, 1) := by decide +kernel
theorem d_m_take_18 : decode prog_6_method_10_code 18 = .ok (.aload_n 0, 1) := by decide +kernel
theorem d_m_take_19 : decode prog_6_method_10_code 19 = .ok (.getfield 130, 3) := by decide +kernel
theorem d_m_take_22 : decode prog_6_method_10_code 22 = .ok (.invokevirtual 137, 3) := by decide +kernel
theorem d_m_take_25 : decode prog_6_method_10_code 25 = .ok (.return_, 1) := by decide +kernel
theorem d_m_take_26 : decode prog_6_method_10_code 26 = .ok (.aload_n 0, 1) := by decide +kernel
theorem d_m_take_27 : decode prog_6_method_10_code 27 = .ok (.dup, 1) := by decide +kernel
theorem d_m_take_28 : decode prog_6_method_10_code 28 = .ok (.getfield 130, 3) := by decide +kernel
theorem d_m_take_31 : decode prog_6_method_10_code 31 = .ok (.iconst 1, 1) := by decide +kernel
theorem d_m_take_32 : decode prog_6_method_10_code 32 = .ok (.iadd, 1) := by decide +kernel
theorem d_m_take_33 : decode prog_6_method_10_code 33 = .ok (.putfield 130, 3) := by decide +kernel
theorem d_m_take_36 : decode prog_6_method_10_code 36 = .ok (.return_, 1) := by decide +kernel
theorem kc_m_take : Kw (m_w (mi_m_take )) := ⟨(in_t4 (List.mem_of_getElem? (i := 221) rfl)), rfl⟩
theorem mv_m_take : MV (mi_m_take ) "GuardedMovesModel" 1 := ⟨kw_940, ks_50, kc_m_take , kw_7, ⟨⟨(by show ("GuardedMovesModel" : String) ≠ "java/lang/invoke/MethodHandle"; decide), (by show ("GuardedMovesModel" : String) ≠ "java/lang/invoke/VarHandle"; decide)⟩, (by show (parseMethodDescriptor "(I)V").map (fun d => d.parameters.length) = some 1; decide +kernel)⟩⟩
def w_m_take (p1 : Int32) (σ : Sg) (Q : Sg → Prop) : Prop := ((σ 58 6) ≤ 0 → (w_m_next σ (fun x1 σ2 => (x1 = p1 → (Q (up σ2 58 5 ((σ2 58 5) + 1)))) ∧ (¬ x1 = p1 → (w_m_fail 1 (σ2 58 5) σ2 (fun σ3 => Q σ3)))))) ∧ (¬ (σ 58 6) ≤ 0 → (Q σ))
theorem b_m_take {Δ : Ly} {G : Gm} {Q : Sg → Prop} (cx : Cx Δ G mi_m_take) (p1 : Int32) (σ : Sg) (h : w_m_take p1 σ Q) : Y Δ G mi_m_take (qV Q) noE 0 0 σ 0 [(0, .ref (Δ.1 58)), (1, .int p1)] [] := by
  unfold w_m_take at h
  refine y_aload_n cx (pc := 0) d_m_take_0 rfl 0 rfl ?_
  refine y_get cx (pc := 1) (j := 6) (v := .int (σ 58 6)) (le_b rfl) ck_Md kw_754 (le_b rfl) (gf_58_6 Δ _) d_m_take_1 ?_
  refine y_if_le cx (pc := 4) (tgt := 8) d_m_take_4 (by decide) (fun hc => ?_) (fun hc => ?_)
  · replace h := h.1 hc
    refine y_aload_n cx (pc := 8) d_m_take_8 rfl 0 rfl ?_
    refine y_vI cx (pc := 9) (st := []) [] (c_m_next cx.fl Δ _ _ h) mv_m_next kw_915 (oc_58 Δ) ck_Md rfl (le_b rfl) (le_b rfl) (le_b rfl) (le_b rfl) (le_b rfl) d_m_take_9 (fun x1 σ2 h => ?_) (fun x σ2 h => yt_no h)
    refine y_iload_n cx (pc := 12) d_m_take_12 rfl 1 rfl ?_
    refine y_icmp_eq cx (pc := 13) (tgt := 26) d_m_take_13 (by decide) (fun hc => ?_) (fun hc => ?_)
    · replace h := h.1 hc
      refine y_aload_n cx (pc := 26) d_m_take_26 rfl 0 rfl ?_
      refine y_dup cx (pc := 27) rfl d_m_take_27 ?_
      refine y_get cx (pc := 28) (j := 5) (v := .int (σ2 58 5)) (le_b rfl) ck_Md kw_753 (le_b rfl) (gf_58_5 Δ _) d_m_take_28 ?_
      refine y_iconst cx (pc := 31) ic_1 d_m_take_31 ?_
      refine y_iadd cx (pc := 32) d_m_take_32 ?_
      refine y_put cx (pc := 33) (j := 5) (ty := .int) (le_b rfl) ck_Md kw_753 (le_b rfl) rfl (t_Md_ok 5 (le_b rfl)) rfl rfl (pf_58_5 Δ) d_m_take_33 ?_
      exact y_vret cx (pc := 36) rfl d_m_take_36 (le_b rfl) (le_b rfl) h
    · replace h := h.2 hc
      refine y_aload_n cx (pc := 16) d_m_take_16 rfl 0 rfl ?_
      refine y_iconst cx (pc := 17) ic_1 d_m_take_17 ?_
      refine y_aload_n cx (pc := 18) d_m_take_18 rfl 0 rfl ?_
      refine y_get cx (pc := 19) (j := 5) (v := .int (σ2 58 5)) (le_b rfl) ck_Md kw_753 (le_b rfl) (gf_58_5 Δ _) d_m_take_19 ?_
      refine y_vV cx (pc := 22) (st := []) [.int 1, .int (σ2 58 5)] (c_m_fail cx.fl Δ 1 (σ2 58 5) _ _ h) mv_m_fail kw_930 (oc_58 Δ) ck_Md rfl (le_b rfl) (le_b rfl) (le_b rfl) (le_b rfl) (le_b rfl) d_m_take_22 (fun σ3 h => ?_) (fun x σ3 h => yt_no h)
      exact y_vret cx (pc := 25) rfl d_m_take_25 (le_b rfl) (le_b rfl) h
  · replace h := h.2 hc
    exact y_vret cx (pc := 7) rfl d_m_take_7 (le_b rfl) (le_b rfl) h
theorem c_m_take {l : Launch} (hfl : l.flags = flags0) (Δ : Ly) (p1 : Int32) (σ : Sg) (Q : Sg → Prop) (h : w_m_take p1 σ Q) : Ct l Δ mi_m_take [.ref (Δ.1 58), .int p1] σ (qV Q) noE :=
  Ct.of hfl (by show plainFor ⟨"GuardedMovesModel", "take", "(I)V"⟩ = true; decide +kernel) rfl (le_b rfl) (fun G hl cx => b_m_take cx p1 σ h)
def mi_m_readSet : Mi := ("GuardedMovesModel", prog_6_method_17_code, 3, [], none, 3, 84, 0, 0, ⟨"GuardedMovesModel", "readSet", "(I)V"⟩)
theorem d_m_readSet_0 : decode prog_6_method_17_code 0 = .ok (.aload_n 0, 1) := by decide +kernel
theorem d_m_readSet_1 : decode prog_6_method_17_code 1 = .ok (.getfield 19, 3) := by decide +kernel
theorem d_m_readSet_4 : decode prog_6_method_17_code 4 = .ok (.bipush 9, 2) := by decide +kernel
theorem d_m_readSet_6 : decode prog_6_method_17_code 6 = .ok (.iload_n 1, 1) := by decide +kernel
theorem d_m_readSet_7 : decode prog_6_method_17_code 7 = .ok (.imul, 1) := by decide +kernel
theorem d_m_readSet_8 : decode prog_6_method_17_code 8 = .ok (.iconst 1, 1) := by decide +kernel
theorem d_m_readSet_9 : decode prog_6_method_17_code 9 = .ok (.iadd, 1) := by decide +kernel
theorem d_m_readSet_10 : decode prog_6_method_17_code 10 = .ok (.aload_n 0, 1) := by decide +kernel
theorem d_m_readSet_11 : decode prog_6_method_17_code 11 = .ok (.getfield 16, 3) := by decide +kernel
theorem d_m_readSet_14 : decode prog_6_method_17_code 14 = .ok (.aload_n 0, 1) := by decide +kernel
theorem d_m_readSet_15 : decode prog_6_method_17_code 15 = .ok (.getfield 130, 3) := by decide +kernel
theorem d_m_readSet_18 : decode prog_6_method_17_code 18 = .ok (.iaload, 1) := by decide +kernel
theorem d_m_readSet_19 : decode prog_6_method_17_code 19 = .ok (.bipush 97, 2) := by decide +kernel
theorem d_m_readSet_21 : decode prog_6_method_17_code 21 = .ok (.isub, 1) := by decide +kernel
theorem d_m_readSet_22 : decode prog_6_method_17_code 22 = .ok (.iastore, 1) := by decide +kernel
theorem d_m_readSet_23 : decode prog_6_method_17_code 23 = .ok (.aload_n 0, 1) := by decide +kernel
theorem d_m_readSet_24 : decode prog_6_method_17_code 24 = .ok (.dup, 1) := by decide +kernel
theorem d_m_readSet_25 : decode prog_6_method_17_code 25 = .ok (.getfield 130, 3) := by decide +kernel
theorem d_m_readSet_28 : decode prog_6_method_17_code 28 = .ok (.iconst 1, 1) := by decide +kernel
theorem d_m_readSet_29 : decode prog_6_method_17_code 29 = .ok (.iadd, 1) := by decide +kernel
theorem d_m_readSet_30 : decode prog_6_method_17_code 30 = .ok (.putfield 130, 3) := by decide +kernel
theorem d_m_readSet_33 : decode prog_6_method_17_code 33 = .ok (.aload_n 0, 1) := by decide +kernel
theorem d_m_readSet_34 : decode prog_6_method_17_code 34 = .ok (.bipush 61, 2) := by decide +kernel
theorem d_m_readSet_36 : decode prog_6_method_17_code 36 = .ok (.invokevirtual 160, 3) := by decide +kernel
theorem d_m_readSet_39 : decode prog_6_method_17_code 39 = .ok (.aload_n 0, 1) := by decide +kernel
theorem d_m_readSet_40 : decode prog_6_method_17_code 40 = .ok (.getfield 124, 3) := by decide +kernel
theorem d_m_readSet_43 : decode prog_6_method_17_code 43 = .ok (.ifCond .ne 47, 3) := by decide +kernel
theorem d_m_readSet_46 : decode prog_6_method_17_code 46 = .ok (.aload_n 0, 1) := by decide +kernel
theorem d_m_readSet_47 : decode prog_6_method_17_code 47 = .ok (.invokevirtual 133, 3) := by decide +kernel
theorem d_m_readSet_50 : decode prog_6_method_17_code 50 = .ok (.bipush 64, 2) := by decide +kernel
theorem d_m_readSet_52 : decode prog_6_method_17_code 52 = .ok (.if_icmp .ne 38, 3) := by decide +kernel
theorem d_m_readSet_55 : decode prog_6_method_17_code 55 = .ok (.aload_n 0, 1) := by decide +kernel
theorem d_m_readSet_56 : decode prog_6_method_17_code 56 = .ok (.dup, 1) := by decide +kernel
theorem d_m_readSet_57 : decode prog_6_method_17_code 57 = .ok (.getfield 130, 3) := by decide +kernel
theorem d_m_readSet_60 : decode prog_6_method_17_code 60 = .ok (.iconst 1, 1) := by decide +kernel
theorem d_m_readSet_61 : decode prog_6_method_17_code 61 = .ok (.iadd, 1) := by decide +kernel
theorem d_m_readSet_62 : decode prog_6_method_17_code 62 = .ok (.putfield 130, 3) := by decide +kernel
theorem d_m_readSet_65 : decode prog_6_method_17_code 65 = .ok (.aload_n 0, 1) := by decide +kernel
theorem d_m_readSet_66 : decode prog_6_method_17_code 66 = .ok (.getfield 19, 3) := by decide +kernel
theorem d_m_readSet_69 : decode prog_6_method_17_code 69 = .ok (.bipush 9, 2) := by decide +kernel
theorem d_m_readSet_71 : decode prog_6_method_17_code 71 = .ok (.iload_n 1, 1) := by decide +kernel
theorem d_m_readSet_72 : decode prog_6_method_17_code 72 = .ok (.imul, 1) := by decide +kernel
theorem d_m_readSet_73 : decode prog_6_method_17_code 73 = .ok (.iconst 0, 1) := by decide +kernel
theorem d_m_readSet_74 : decode prog_6_method_17_code 74 = .ok (.iadd, 1) := by decide +kernel
theorem d_m_readSet_75 : decode prog_6_method_17_code 75 = .ok (.iconst 2, 1) := by decide +kernel
theorem d_m_readSet_76 : decode prog_6_method_17_code 76 = .ok (.iastore, 1) := by decide +kernel
theorem d_m_readSet_77 : decode prog_6_method_17_code 77 = .ok (.aload_n 0, 1) := by decide +kernel
theorem d_m_readSet_78 : decode prog_6_method_17_code 78 = .ok (.iload_n 1, 1) := by decide +kernel
theorem d_m_readSet_79 : decode prog_6_method_17_code 79 = .ok (.iconst 3, 1) := by decide +kernel
theorem d_m_readSet_80 : decode prog_6_method_17_code 80 = .ok (.invokevirtual 164, 3) := by decide +kernel
theorem d_m_readSet_83 : decode prog_6_method_17_code 83 = .ok (.aload_n 0, 1) := by decide +kernel
theorem d_m_readSet_84 : decode prog_6_method_17_code 84 = .ok (.bipush 59, 2) := by decide +kernel
theorem d_m_readSet_86 : decode prog_6_method_17_code 86 = .ok (.invokevirtual 160, 3) := by decide +kernel
theorem d_m_readSet_89 : decode prog_6_method_17_code 89 = .ok (.return_, 1) := by decide +kernel
theorem d_m_readSet_90 : decode prog_6_method_17_code 90 = .ok (.aload_n 0, 1) := by decide +kernel
theorem d_m_readSet_91 : decode prog_6_method_17_code 91 = .ok (.getfield 19, 3) := by decide +kernel
theorem d_m_readSet_94 : decode prog_6_method_17_code 94 = .ok (.bipush 9, 2) := by decide +kernel
theorem d_m_readSet_96 : decode prog_6_method_17_code 96 = .ok (.iload_n 1, 1) := by decide +kernel
theorem d_m_readSet_97 : decode prog_6_method_17_code 97 = .ok (.imul, 1) := by decide +kernel
theorem d_m_readSet_98 : decode prog_6_method_17_code 98 = .ok (.iconst 0, 1) := by decide +kernel
theorem d_m_readSet_99 : decode prog_6_method_17_code 99 = .ok (.iadd, 1) := by decide +kernel
theorem d_m_readSet_100 : decode prog_6_method_17_code 100 = .ok (.iconst 0, 1) := by decide +kernel
theorem d_m_readSet_101 : decode prog_6_method_17_code 101 = .ok (.iastore, 1) := by decide +kernel
theorem d_m_readSet_102 : decode prog_6_method_17_code 102 = .ok (.aload_n 0, 1) := by decide +kernel
theorem d_m_readSet_103 : decode prog_6_method_17_code 103 = .ok (.iload_n 1, 1) := by decide +kernel
theorem d_m_readSet_104 : decode prog_6_method_17_code 104 = .ok (.iconst 3, 1) := by decide +kernel
theorem d_m_readSet_105 : decode prog_6_method_17_code 105 = .ok (.invokevirtual 164, 3) := by decide +kernel
theorem d_m_readSet_108 : decode prog_6_method_17_code 108 = .ok (.aload_n 0, 1) := by decide +kernel
theorem d_m_readSet_109 : decode prog_6_method_17_code 109 = .ok (.getfield 124, 3) := by decide +kernel
theorem d_m_readSet_112 : decode prog_6_method_17_code 112 = .ok (.ifCond .le 7, 3) := by decide +kernel
theorem d_m_readSet_115 : decode prog_6_method_17_code 115 = .ok (.iconst (-1), 1) := by decide +kernel
theorem d_m_readSet_116 : decode prog_6_method_17_code 116 = .ok (.goto 10, 3) := by decide +kernel
theorem d_m_readSet_119 : decode prog_6_method_17_code 119 = .ok (.aload_n 0, 1) := by decide +kernel
theorem d_m_readSet_120 : decode prog_6_method_17_code 120 = .ok (.invokevirtual 133, 3) := by decide +kernel
theorem d_m_readSet_123 : decode prog_6_method_17_code 123 = .ok (.invokestatic 167, 3) := by decide +kernel
theorem d_m_readSet_126 : decode prog_6_method_17_code 126 = .ok (.istore_n 2, 1) := by decide +kernel
theorem d_m_readSet_127 : decode prog_6_method_17_code 127 = .ok (.iload_n 2, 1) := by decide +kernel
theorem d_m_readSet_128 : decode prog_6_method_17_code 128 = .ok (.iconst (-1), 1) := by decide +kernel
theorem d_m_readSet_129 : decode prog_6_method_17_code 129 = .ok (.if_icmp .eq 43, 3) := by decide +kernel
theorem d_m_readSet_132 : decode prog_6_method_17_code 132 = .ok (.aload_n 0, 1) := by decide +kernel
theorem d_m_readSet_133 : decode prog_6_method_17_code 133 = .ok (.dup, 1) := by decide +kernel
theorem d_m_readSet_134 : decode prog_6_method_17_code 134 = .ok (.getfield 130, 3) := by decide +kernel
theorem d_m_readSet_137 : decode prog_6_method_17_code 137 = .ok (.iconst 1, 1) := by decide +kernel
theorem d_m_readSet_138 : decode prog_6_method_17_code 138 = .ok (.iadd, 1) := by decide +kernel
theorem d_m_readSet_139 : decode prog_6_method_17_code 139 = .ok (.putfield 130, 3) := by decide +kernel
theorem d_m_readSet_142 : decode prog_6_method_17_code 142 = .ok (.aload_n 0, 1) := by decide +kernel
theorem d_m_readSet_143 : decode prog_6_method_17_code 143 = .ok (.getfield 19, 3) := by decide +kernel
theorem d_m_readSet_146 : decode prog_6_method_17_code 146 = .ok (.bipush 9, 2) := by decide +kernel
theorem d_m_readSet_148 : decode prog_6_method_17_code 148 = .ok (.iload_n 1, 1) := by decide +kernel
theorem d_m_readSet_149 : decode prog_6_method_17_code 149 = .ok (.imul, 1) := by decide +kernel
theorem d_m_readSet_150 : decode prog_6_method_17_code 150 = .ok (.iconst 0, 1) := by decide +kernel
theorem d_m_readSet_151 : decode prog_6_method_17_code 151 = .ok (.iadd, 1) := by decide +kernel
theorem d_m_readSet_152 : decode prog_6_method_17_code 152 = .ok (.iconst 1, 1) := by decide +kernel
theorem d_m_readSet_153 : decode prog_6_method_17_code 153 = .ok (.iastore, 1) := by decide +kernel
theorem d_m_readSet_154 : decode prog_6_method_17_code 154 = .ok (.aload_n 0, 1) := by decide +kernel
theorem d_m_readSet_155 : decode prog_6_method_17_code 155 = .ok (.getfield 19, 3) := by decide +kernel
theorem d_m_readSet_158 : decode prog_6_method_17_code 158 = .ok (.bipush 9, 2) := by decide +kernel
theorem d_m_readSet_160 : decode prog_6_method_17_code 160 = .ok (.iload_n 1, 1) := by decide +kernel
theorem d_m_readSet_161 : decode prog_6_method_17_code 161 = .ok (.imul, 1) := by decide +kernel
theorem d_m_readSet_162 : decode prog_6_method_17_code 162 = .ok (.iconst 2, 1) := by decide +kernel
theorem d_m_readSet_163 : decode prog_6_method_17_code 163 = .ok (.iadd, 1) := by decide +kernel
theorem d_m_readSet_164 : decode prog_6_method_17_code 164 = .ok (.iload_n 2, 1) := by decide +kernel
theorem d_m_readSet_165 : decode prog_6_method_17_code 165 = .ok (.iastore, 1) := by decide +kernel
theorem d_m_readSet_166 : decode prog_6_method_17_code 166 = .ok (.aload_n 0, 1) := by decide +kernel
theorem d_m_readSet_167 : decode prog_6_method_17_code 167 = .ok (.iload_n 1, 1) := by decide +kernel
theorem d_m_readSet_168 : decode prog_6_method_17_code 168 = .ok (.iconst 5, 1) := by decide +kernel
theorem d_m_readSet_169 : decode prog_6_method_17_code 169 = .ok (.invokevirtual 164, 3) := by decide +kernel
theorem d_m_readSet_172 : decode prog_6_method_17_code 172 = .ok (.aload_n 0, 1) := by decide +kernel
theorem d_m_readSet_173 : decode prog_6_method_17_code 173 = .ok (.bipush 59, 2) := by decide +kernel
theorem d_m_readSet_175 : decode prog_6_method_17_code 175 = .ok (.invokevirtual 160, 3) := by decide +kernel
theorem d_m_readSet_178 : decode prog_6_method_17_code 178 = .ok (.return_, 1) := by decide +kernel
theorem kc_m_readSet : Kw (m_w (mi_m_readSet )) := ⟨(in_t4 (List.mem_of_getElem? (i := 217) rfl)), rfl⟩
theorem mv_m_readSet : MV (mi_m_readSet ) "GuardedMovesModel" 1 := ⟨kw_936, ks_49, kc_m_readSet , kw_7, ⟨⟨(by show ("GuardedMovesModel" : String) ≠ "java/lang/invoke/MethodHandle"; decide), (by show ("GuardedMovesModel" : String) ≠ "java/lang/invoke/VarHandle"; decide)⟩, (by show (parseMethodDescriptor "(I)V").map (fun d => d.parameters.length) = some 1; decide +kernel)⟩⟩
def w_m_readSet_172 (Q : Sg → Prop) (σ : Sg) : Prop := w_m_take 59 σ (fun σ1 => Q σ1)
theorem b_m_readSet_172 {Δ : Ly} {G : Gm} {Q : Sg → Prop} (cx : Cx Δ G mi_m_readSet) : ∀ (σ : Sg), w_m_readSet_172 Q σ → Y Δ G mi_m_readSet (qV Q) noE 0 0 σ 172 [(0, .ref (Δ.1 58))] [] := by
  intro σ h
  unfold w_m_readSet_172 at h
  refine y_aload_n cx (pc := 172) d_m_readSet_172 rfl 0 rfl ?_
  refine y_bipush cx (pc := 173) bp_59 d_m_readSet_173 ?_
  refine y_vV cx (pc := 175) (st := []) [.int 59] (c_m_take cx.fl Δ 59 _ _ h) mv_m_take kw_938 (oc_58 Δ) ck_Md rfl (le_b rfl) (le_b rfl) (le_b rfl) (le_b rfl) (le_b rfl) d_m_readSet_175 (fun σ1 h => ?_) (fun x σ1 h => yt_no h)
  exact y_vret cx (pc := 178) rfl d_m_readSet_178 (le_b rfl) (le_b rfl) h
def w_m_readSet_126 (Q : Sg → Prop) (v1 : Int32) (s0 : Int32) (σ : Sg) : Prop := (s0 = (-1) → (w_m_readSet_172 Q σ)) ∧ (¬ s0 = (-1) → (vp_in ((9 * v1) + 0) 540 ∧ (vp_in ((9 * v1) + 2) 540 ∧ (w_m_readValue v1 5 (up (up (up σ 58 5 ((σ 58 5) + 1)) 62 (((9 * v1) + 0).toNatClampNeg) 1) 62 (((9 * v1) + 2).toNatClampNeg) s0) (fun σ1 => w_m_readSet_172 Q σ1)))))
theorem b_m_readSet_126 {Δ : Ly} {G : Gm} {Q : Sg → Prop} (cx : Cx Δ G mi_m_readSet) : ∀ (v1 : Int32) (s0 : Int32) (σ : Sg), w_m_readSet_126 Q v1 s0 σ → Y Δ G mi_m_readSet (qV Q) noE 0 0 σ 126 [(0, .ref (Δ.1 58)), (1, .int v1)] [.int s0] := by
  intro v1 s0 σ h
  unfold w_m_readSet_126 at h
  refine y_istore_n (lv' := [(2, .int s0), (0, .ref (Δ.1 58)), (1, .int v1)]) cx (pc := 126) d_m_readSet_126 rfl (le_b rfl) rfl ?_
  refine y_iload_n cx (pc := 127) d_m_readSet_127 rfl 0 rfl ?_
  refine y_iconst cx (pc := 128) ic_m1 d_m_readSet_128 ?_
  refine y_icmp_eq cx (pc := 129) (tgt := 172) d_m_readSet_129 (by decide) (fun hc => ?_) (fun hc => ?_)
  · replace h := h.1 hc
    refine y_sub [1] rfl ?_
    exact b_m_readSet_172 cx σ h
  · replace h := h.2 hc
    refine y_aload_n cx (pc := 132) d_m_readSet_132 rfl 1 rfl ?_
    refine y_dup cx (pc := 133) rfl d_m_readSet_133 ?_
    refine y_get cx (pc := 134) (j := 5) (v := .int (σ 58 5)) (le_b rfl) ck_Md kw_753 (le_b rfl) (gf_58_5 Δ _) d_m_readSet_134 ?_
    refine y_iconst cx (pc := 137) ic_1 d_m_readSet_137 ?_
    refine y_iadd cx (pc := 138) d_m_readSet_138 ?_
    refine y_put cx (pc := 139) (j := 5) (ty := .int) (le_b rfl) ck_Md kw_753 (le_b rfl) rfl (t_Md_ok 5 (le_b rfl)) rfl rfl (pf_58_5 Δ) d_m_readSet_139 ?_
    refine y_aload_n cx (pc := 142) d_m_readSet_142 rfl 1 rfl ?_
    refine y_get cx (pc := 143) (j := 10) (v := .ref (Δ.1 62)) (le_b rfl) ck_Md kw_758 (le_b rfl) (gf_58_10 Δ _) d_m_readSet_143 ?_
    refine y_bipush cx (pc := 146) bp_9 d_m_readSet_146 ?_
    refine y_iload_n cx (pc := 148) d_m_readSet_148 rfl 2 rfl ?_
    refine y_imul cx (pc := 149) d_m_readSet_149 ?_
    refine y_iconst cx (pc := 150) ic_0 d_m_readSet_150 ?_
    refine y_iadd cx (pc := 151) d_m_readSet_151 ?_
    refine y_iconst cx (pc := 152) ic_1 d_m_readSet_152 ?_
    obtain ⟨h0, h⟩ := h
    refine y_iast cx (pc := 153) ⟨(le_b rfl), fun _ => rfl⟩ h0 d_m_readSet_153 ?_
    refine y_aload_n cx (pc := 154) d_m_readSet_154 rfl 1 rfl ?_
    refine y_get cx (pc := 155) (j := 10) (v := .ref (Δ.1 62)) (le_b rfl) ck_Md kw_758 (le_b rfl) (gf_58_10 Δ _) d_m_readSet_155 ?_
    refine y_bipush cx (pc := 158) bp_9 d_m_readSet_158 ?_
    refine y_iload_n cx (pc := 160) d_m_readSet_160 rfl 2 rfl ?_
    refine y_imul cx (pc := 161) d_m_readSet_161 ?_
    refine y_iconst cx (pc := 162) ic_2 d_m_readSet_162 ?_
    refine y_iadd cx (pc := 163) d_m_readSet_163 ?_
    refine y_iload_n cx (pc := 164) d_m_readSet_164 rfl 0 rfl ?_
    obtain ⟨h0, h⟩ := h
    refine y_iast cx (pc := 165) ⟨(le_b rfl), fun _ => rfl⟩ h0 d_m_readSet_165 ?_
    refine y_aload_n cx (pc := 166) d_m_readSet_166 rfl 1 rfl ?_
    refine y_iload_n cx (pc := 167) d_m_readSet_167 rfl 2 rfl ?_
    refine y_iconst cx (pc := 168) ic_5 d_m_readSet_168 ?_
    refine y_vV cx (pc := 169) (st := []) [.int v1, .int 5] (c_m_readValue cx.fl Δ v1 5 _ _ h) mv_m_readValue kw_942 (oc_58 Δ) ck_Md rfl (le_b rfl) (le_b rfl) (le_b rfl) (le_b rfl) (le_b rfl) d_m_readSet_169 (fun σ1 h => ?_) (fun x σ1 h => yt_no h)
    refine y_sub [1] rfl ?_
    exact b_m_readSet_172 cx σ1 h
def w_m_readSet_90 (Q : Sg → Prop) (v1 : Int32) (σ : Sg) : Prop := vp_in ((9 * v1) + 0) 540 ∧ (w_m_readValue v1 3 (up σ 62 (((9 * v1) + 0).toNatClampNeg) 0) (fun σ1 => ((σ1 58 6) ≤ 0 → (w_m_next σ1 (fun x2 σ3 => w_m_opOf x2 σ3 (fun x4 σ5 => w_m_readSet_126 Q v1 x4 σ5)))) ∧ (¬ (σ1 58 6) ≤ 0 → (w_m_readSet_126 Q v1 (-1) σ1))))
theorem b_m_readSet_90 {Δ : Ly} {G : Gm} {Q : Sg → Prop} (cx : Cx Δ G mi_m_readSet) : ∀ (v1 : Int32) (σ : Sg), w_m_readSet_90 Q v1 σ → Y Δ G mi_m_readSet (qV Q) noE 0 0 σ 90 [(0, .ref (Δ.1 58)), (1, .int v1)] [] := by
  intro v1 σ h
  unfold w_m_readSet_90 at h
  refine y_aload_n cx (pc := 90) d_m_readSet_90 rfl 0 rfl ?_
  refine y_get cx (pc := 91) (j := 10) (v := .ref (Δ.1 62)) (le_b rfl) ck_Md kw_758 (le_b rfl) (gf_58_10 Δ _) d_m_readSet_91 ?_
  refine y_bipush cx (pc := 94) bp_9 d_m_readSet_94 ?_
  refine y_iload_n cx (pc := 96) d_m_readSet_96 rfl 1 rfl ?_
  refine y_imul cx (pc := 97) d_m_readSet_97 ?_
  refine y_iconst cx (pc := 98) ic_0 d_m_readSet_98 ?_
  refine y_iadd cx (pc := 99) d_m_readSet_99 ?_
  refine y_iconst cx (pc := 100) ic_0 d_m_readSet_100 ?_
  obtain ⟨h0, h⟩ := h
  refine y_iast cx (pc := 101) ⟨(le_b rfl), fun _ => rfl⟩ h0 d_m_readSet_101 ?_
  refine y_aload_n cx (pc := 102) d_m_readSet_102 rfl 0 rfl ?_
  refine y_iload_n cx (pc := 103) d_m_readSet_103 rfl 1 rfl ?_
  refine y_iconst cx (pc := 104) ic_3 d_m_readSet_104 ?_
  refine y_vV cx (pc := 105) (st := []) [.int v1, .int 3] (c_m_readValue cx.fl Δ v1 3 _ _ h) mv_m_readValue kw_942 (oc_58 Δ) ck_Md rfl (le_b rfl) (le_b rfl) (le_b rfl) (le_b rfl) (le_b rfl) d_m_readSet_105 (fun σ1 h => ?_) (fun x σ1 h => yt_no h)
  refine y_aload_n cx (pc := 108) d_m_readSet_108 rfl 0 rfl ?_
  refine y_get cx (pc := 109) (j := 6) (v := .int (σ1 58 6)) (le_b rfl) ck_Md kw_754 (le_b rfl) (gf_58_6 Δ _) d_m_readSet_109 ?_
  refine y_if_le cx (pc := 112) (tgt := 119) d_m_readSet_112 (by decide) (fun hc => ?_) (fun hc => ?_)
  · replace h := h.1 hc
    refine y_aload_n cx (pc := 119) d_m_readSet_119 rfl 0 rfl ?_
    refine y_vI cx (pc := 120) (st := []) [] (c_m_next cx.fl Δ _ _ h) mv_m_next kw_915 (oc_58 Δ) ck_Md rfl (le_b rfl) (le_b rfl) (le_b rfl) (le_b rfl) (le_b rfl) d_m_readSet_120 (fun x2 σ3 h => ?_) (fun x σ3 h => yt_no h)
    refine y_sI cx (pc := 123) (st := []) [.int x2] (c_m_opOf cx.fl Δ x2 _ _ h) mv_m_opOf kw_957 rfl (le_b rfl) (le_b rfl) (le_b rfl) (le_b rfl) (le_b rfl) d_m_readSet_123 (fun x4 σ5 h => ?_) (fun x σ5 h => yt_no h)
    exact b_m_readSet_126 cx v1 x4 σ5 h
  · replace h := h.2 hc
    refine y_iconst cx (pc := 115) ic_m1 d_m_readSet_115 ?_
    refine y_goto cx (pc := 116) (tgt := 126) d_m_readSet_116 (by decide) ?_
    exact b_m_readSet_126 cx v1 (-1) σ1 h
def w_m_readSet (p1 : Int32) (σ : Sg) (Q : Sg → Prop) : Prop := vp_in (σ 58 5) 600 ∧ (vp_in ((9 * p1) + 1) 540 ∧ (w_m_take 61 (up (up σ 62 (((9 * p1) + 1).toNatClampNeg) ((σ 61 ((σ 58 5).toNatClampNeg)) - 97)) 58 5 ((σ 58 5) + 1)) (fun σ1 => (¬ (σ1 58 6) = 0 → (w_m_readSet_90 Q p1 σ1)) ∧ ((σ1 58 6) = 0 → (w_m_next σ1 (fun x2 σ3 => (¬ x2 = 64 → (w_m_readSet_90 Q p1 σ3)) ∧ (x2 = 64 → (vp_in ((9 * p1) + 0) 540 ∧ (w_m_readValue p1 3 (up (up σ3 58 5 ((σ3 58 5) + 1)) 62 (((9 * p1) + 0).toNatClampNeg) 2) (fun σ4 => w_m_take 59 σ4 (fun σ5 => Q σ5)))))))))))
theorem b_m_readSet {Δ : Ly} {G : Gm} {Q : Sg → Prop} (cx : Cx Δ G mi_m_readSet) (p1 : Int32) (σ : Sg) (h : w_m_readSet p1 σ Q) : Y Δ G mi_m_readSet (qV Q) noE 0 0 σ 0 [(0, .ref (Δ.1 58)), (1, .int p1)] [] := by
  unfold w_m_readSet at h
  refine y_aload_n cx (pc := 0) d_m_readSet_0 rfl 0 rfl ?_
  refine y_get cx (pc := 1) (j := 10) (v := .ref (Δ.1 62)) (le_b rfl) ck_Md kw_758 (le_b rfl) (gf_58_10 Δ _) d_m_readSet_1 ?_
  refine y_bipush cx (pc := 4) bp_9 d_m_readSet_4 ?_
  refine y_iload_n cx (pc := 6) d_m_readSet_6 rfl 1 rfl ?_
  refine y_imul cx (pc := 7) d_m_readSet_7 ?_
  refine y_iconst cx (pc := 8) ic_1 d_m_readSet_8 ?_
  refine y_iadd cx (pc := 9) d_m_readSet_9 ?_
  refine y_aload_n cx (pc := 10) d_m_readSet_10 rfl 0 rfl ?_
  refine y_get cx (pc := 11) (j := 3) (v := .ref (Δ.1 61)) (le_b rfl) ck_Md kw_751 (le_b rfl) (gf_58_3 Δ _) d_m_readSet_11 ?_
  refine y_aload_n cx (pc := 14) d_m_readSet_14 rfl 0 rfl ?_
  refine y_get cx (pc := 15) (j := 5) (v := .int (σ 58 5)) (le_b rfl) ck_Md kw_753 (le_b rfl) (gf_58_5 Δ _) d_m_readSet_15 ?_
  obtain ⟨h0, h⟩ := h
  refine y_iald cx (pc := 18) ⟨(le_b rfl), fun _ => rfl⟩ h0 d_m_readSet_18 ?_
  refine y_bipush cx (pc := 19) bp_97 d_m_readSet_19 ?_
  refine y_isub cx (pc := 21) d_m_readSet_21 ?_
  obtain ⟨h0, h⟩ := h
  refine y_iast cx (pc := 22) ⟨(le_b rfl), fun _ => rfl⟩ h0 d_m_readSet_22 ?_
  refine y_aload_n cx (pc := 23) d_m_readSet_23 rfl 0 rfl ?_
  refine y_dup cx (pc := 24) rfl d_m_readSet_24 ?_
  refine y_get cx (pc := 25) (j := 5) (v := .int (σ 58 5)) (le_b rfl) ck_Md kw_753 (le_b rfl) (gf_58_5 Δ _) d_m_readSet_25 ?_
  refine y_iconst cx (pc := 28) ic_1 d_m_readSet_28 ?_
  refine y_iadd cx (pc := 29) d_m_readSet_29 ?_
  refine y_put cx (pc := 30) (j := 5) (ty := .int) (le_b rfl) ck_Md kw_753 (le_b rfl) rfl (t_Md_ok 5 (le_b rfl)) rfl rfl (pf_58_5 Δ) d_m_readSet_30 ?_
  refine y_aload_n cx (pc := 33) d_m_readSet_33 rfl 0 rfl ?_
  refine y_bipush cx (pc := 34) bp_61 d_m_readSet_34 ?_
  refine y_vV cx (pc := 36) (st := []) [.int 61] (c_m_take cx.fl Δ 61 _ _ h) mv_m_take kw_938 (oc_58 Δ) ck_Md rfl (le_b rfl) (le_b rfl) (le_b rfl) (le_b rfl) (le_b rfl) d_m_readSet_36 (fun σ1 h => ?_) (fun x σ1 h => yt_no h)
  refine y_aload_n cx (pc := 39) d_m_readSet_39 rfl 0 rfl ?_
  refine y_get cx (pc := 40) (j := 6) (v := .int (σ1 58 6)) (le_b rfl) ck_Md kw_754 (le_b rfl) (gf_58_6 Δ _) d_m_readSet_40 ?_
  refine y_if_ne cx (pc := 43) (tgt := 90) d_m_readSet_43 (by decide) (fun hc => ?_) (fun hc => ?_)
  · replace h := h.1 hc
    exact b_m_readSet_90 cx p1 σ1 h
  · replace h := h.2 hc
    refine y_aload_n cx (pc := 46) d_m_readSet_46 rfl 0 rfl ?_
    refine y_vI cx (pc := 47) (st := []) [] (c_m_next cx.fl Δ _ _ h) mv_m_next kw_915 (oc_58 Δ) ck_Md rfl (le_b rfl) (le_b rfl) (le_b rfl) (le_b rfl) (le_b rfl) d_m_readSet_47 (fun x2 σ3 h => ?_) (fun x σ3 h => yt_no h)
    refine y_bipush cx (pc := 50) bp_64 d_m_readSet_50 ?_
    refine y_icmp_ne cx (pc := 52) (tgt := 90) d_m_readSet_52 (by decide) (fun hc => ?_) (fun hc => ?_)
    · replace h := h.1 hc
      exact b_m_readSet_90 cx p1 σ3 h
    · replace h := h.2 hc
      refine y_aload_n cx (pc := 55) d_m_readSet_55 rfl 0 rfl ?_
      refine y_dup cx (pc := 56) rfl d_m_readSet_56 ?_
      refine y_get cx (pc := 57) (j := 5) (v := .int (σ3 58 5)) (le_b rfl) ck_Md kw_753 (le_b rfl) (gf_58_5 Δ _) d_m_readSet_57 ?_
      refine y_iconst cx (pc := 60) ic_1 d_m_readSet_60 ?_
      refine y_iadd cx (pc := 61) d_m_readSet_61 ?_
      refine y_put cx (pc := 62) (j := 5) (ty := .int) (le_b rfl) ck_Md kw_753 (le_b rfl) rfl (t_Md_ok 5 (le_b rfl)) rfl rfl (pf_58_5 Δ) d_m_readSet_62 ?_
      refine y_aload_n cx (pc := 65) d_m_readSet_65 rfl 0 rfl ?_
      refine y_get cx (pc := 66) (j := 10) (v := .ref (Δ.1 62)) (le_b rfl) ck_Md kw_758 (le_b rfl) (gf_58_10 Δ _) d_m_readSet_66 ?_
      refine y_bipush cx (pc := 69) bp_9 d_m_readSet_69 ?_
      refine y_iload_n cx (pc := 71) d_m_readSet_71 rfl 1 rfl ?_
      refine y_imul cx (pc := 72) d_m_readSet_72 ?_
      refine y_iconst cx (pc := 73) ic_0 d_m_readSet_73 ?_
      refine y_iadd cx (pc := 74) d_m_readSet_74 ?_
      refine y_iconst cx (pc := 75) ic_2 d_m_readSet_75 ?_
      obtain ⟨h0, h⟩ := h
      refine y_iast cx (pc := 76) ⟨(le_b rfl), fun _ => rfl⟩ h0 d_m_readSet_76 ?_
      refine y_aload_n cx (pc := 77) d_m_readSet_77 rfl 0 rfl ?_
      refine y_iload_n cx (pc := 78) d_m_readSet_78 rfl 1 rfl ?_
      refine y_iconst cx (pc := 79) ic_3 d_m_readSet_79 ?_
      refine y_vV cx (pc := 80) (st := []) [.int p1, .int 3] (c_m_readValue cx.fl Δ p1 3 _ _ h) mv_m_readValue kw_942 (oc_58 Δ) ck_Md rfl (le_b rfl) (le_b rfl) (le_b rfl) (le_b rfl) (le_b rfl) d_m_readSet_80 (fun σ4 h => ?_) (fun x σ4 h => yt_no h)
      refine y_aload_n cx (pc := 83) d_m_readSet_83 rfl 0 rfl ?_
      refine y_bipush cx (pc := 84) bp_59 d_m_readSet_84 ?_
      refine y_vV cx (pc := 86) (st := []) [.int 59] (c_m_take cx.fl Δ 59 _ _ h) mv_m_take kw_938 (oc_58 Δ) ck_Md rfl (le_b rfl) (le_b rfl) (le_b rfl) (le_b rfl) (le_b rfl) d_m_readSet_86 (fun σ5 h => ?_) (fun x σ5 h => yt_no h)
      exact y_vret cx (pc := 89) rfl d_m_readSet_89 (le_b rfl) (le_b rfl) h
theorem c_m_readSet {l : Launch} (hfl : l.flags = flags0) (Δ : Ly) (p1 : Int32) (σ : Sg) (Q : Sg → Prop) (h : w_m_readSet p1 σ Q) : Ct l Δ mi_m_readSet [.ref (Δ.1 58), .int p1] σ (qV Q) noE :=
  Ct.of hfl (by show plainFor ⟨"GuardedMovesModel", "readSet", "(I)V"⟩ = true; decide +kernel) rfl (le_b rfl) (fun G hl cx => b_m_readSet cx p1 σ h)
def mi_m_relOf : Mi := ("GuardedMovesModel", prog_6_method_16_code, 1, [], (some .int), 0, 0, 0, 0, ⟨"GuardedMovesModel", "relOf", "(I)I"⟩)
theorem d_m_relOf_0 : decode prog_6_method_16_code 0 = .ok (.iload_n 0, 1) := by decide +kernel
theorem d_m_relOf_1 : decode prog_6_method_16_code 1 = .ok (.bipush 61, 2) := by decide +kernel
theorem d_m_relOf_3 : decode prog_6_method_16_code 3 = .ok (.if_icmp .ne 8, 3) := by decide +kernel
theorem d_m_relOf_6 : decode prog_6_method_16_code 6 = .ok (.bipush 10, 2) := by decide +kernel
theorem d_m_relOf_8 : decode prog_6_method_16_code 8 = .ok (.goto 26, 3) := by decide +kernel
theorem d_m_relOf_11 : decode prog_6_method_16_code 11 = .ok (.iload_n 0, 1) := by decide +kernel
theorem d_m_relOf_12 : decode prog_6_method_16_code 12 = .ok (.bipush 35, 2) := by decide +kernel
theorem d_m_relOf_14 : decode prog_6_method_16_code 14 = .ok (.if_icmp .ne 8, 3) := by decide +kernel
theorem d_m_relOf_17 : decode prog_6_method_16_code 17 = .ok (.bipush 11, 2) := by decide +kernel
theorem d_m_relOf_19 : decode prog_6_method_16_code 19 = .ok (.goto 15, 3) := by decide +kernel
theorem d_m_relOf_22 : decode prog_6_method_16_code 22 = .ok (.iload_n 0, 1) := by decide +kernel
theorem d_m_relOf_23 : decode prog_6_method_16_code 23 = .ok (.bipush 60, 2) := by decide +kernel
theorem d_m_relOf_25 : decode prog_6_method_16_code 25 = .ok (.if_icmp .ne 8, 3) := by decide +kernel
theorem d_m_relOf_28 : decode prog_6_method_16_code 28 = .ok (.bipush 12, 2) := by decide +kernel
theorem d_m_relOf_30 : decode prog_6_method_16_code 30 = .ok (.goto 4, 3) := by decide +kernel
theorem d_m_relOf_33 : decode prog_6_method_16_code 33 = .ok (.iconst (-1), 1) := by decide +kernel
theorem d_m_relOf_34 : decode prog_6_method_16_code 34 = .ok (.ireturn, 1) := by decide +kernel
theorem kc_m_relOf : Kw (m_w (mi_m_relOf )) := ⟨(in_t5 (List.mem_of_getElem? (i := 6) rfl)), rfl⟩
theorem mv_m_relOf : MS mi_m_relOf 1 := ⟨kw_965, kc_m_relOf, kw_7, ⟨⟨(by show ("GuardedMovesModel" : String) ≠ "java/lang/invoke/MethodHandle"; decide), (by show ("GuardedMovesModel" : String) ≠ "java/lang/invoke/VarHandle"; decide)⟩, (by show (parseMethodDescriptor "(I)I").map (fun d => d.parameters.length) = some 1; decide +kernel)⟩⟩
def w_m_relOf_34 (Q : Int32 → Sg → Prop) (s0 : Int32) (σ : Sg) : Prop := Q s0 σ
theorem b_m_relOf_34 {Δ : Ly} {G : Gm} {Q : Int32 → Sg → Prop} (cx : Cx Δ G mi_m_relOf) : ∀ (s0 : Int32) (σ : Sg), w_m_relOf_34 Q s0 σ → Y Δ G mi_m_relOf (qI Q) noE 0 0 σ 34 [] [.int s0] := by
  intro s0 σ h
  unfold w_m_relOf_34 at h
  exact y_iret cx (pc := 34) rfl d_m_relOf_34 (le_b rfl) (le_b rfl) h
def w_m_relOf (p1 : Int32) (σ : Sg) (Q : Int32 → Sg → Prop) : Prop := (¬ p1 = 61 → ((¬ p1 = 35 → ((¬ p1 = 60 → (w_m_relOf_34 Q (-1) σ)) ∧ (p1 = 60 → (w_m_relOf_34 Q 12 σ)))) ∧ (p1 = 35 → (w_m_relOf_34 Q 11 σ)))) ∧ (p1 = 61 → (w_m_relOf_34 Q 10 σ))
theorem b_m_relOf {Δ : Ly} {G : Gm} {Q : Int32 → Sg → Prop} (cx : Cx Δ G mi_m_relOf) (p1 : Int32) (σ : Sg) (h : w_m_relOf p1 σ Q) : Y Δ G mi_m_relOf (qI Q) noE 0 0 σ 0 [(0, .int p1)] [] := by
  unfold w_m_relOf at h
  refine y_iload_n cx (pc := 0) d_m_relOf_0 rfl 0 rfl ?_
  refine y_bipush cx (pc := 1) bp_61 d_m_relOf_1 ?_
  refine y_icmp_ne cx (pc := 3) (tgt := 11) d_m_relOf_3 (by decide) (fun hc => ?_) (fun hc => ?_)
  · replace h := h.1 hc
    refine y_iload_n cx (pc := 11) d_m_relOf_11 rfl 0 rfl ?_
    refine y_bipush cx (pc := 12) bp_35 d_m_relOf_12 ?_
    refine y_icmp_ne cx (pc := 14) (tgt := 22) d_m_relOf_14 (by decide) (fun hc => ?_) (fun hc => ?_)
    · replace h := h.1 hc
      refine y_iload_n cx (pc := 22) d_m_relOf_22 rfl 0 rfl ?_
      refine y_bipush cx (pc := 23) bp_60 d_m_relOf_23 ?_
      refine y_icmp_ne cx (pc := 25) (tgt := 33) d_m_relOf_25 (by decide) (fun hc => ?_) (fun hc => ?_)
      · replace h := h.1 hc
        refine y_iconst cx (pc := 33) ic_m1 d_m_relOf_33 ?_
        refine y_sub [] rfl ?_
        exact b_m_relOf_34 cx (-1) σ h
      · replace h := h.2 hc
        refine y_bipush cx (pc := 28) bp_12 d_m_relOf_28 ?_
        refine y_goto cx (pc := 30) (tgt := 34) d_m_relOf_30 (by decide) ?_
        refine y_sub [] rfl ?_
        exact b_m_relOf_34 cx 12 σ h
    · replace h := h.2 hc
      refine y_bipush cx (pc := 17) bp_11 d_m_relOf_17 ?_
      refine y_goto cx (pc := 19) (tgt := 34) d_m_relOf_19 (by decide) ?_
      refine y_sub [] rfl ?_
      exact b_m_relOf_34 cx 11 σ h
  · replace h := h.2 hc
    refine y_bipush cx (pc := 6) bp_10 d_m_relOf_6 ?_
    refine y_goto cx (pc := 8) (tgt := 34) d_m_relOf_8 (by decide) ?_
    refine y_sub [] rfl ?_
    exact b_m_relOf_34 cx 10 σ h
theorem c_m_relOf {l : Launch} (hfl : l.flags = flags0) (Δ : Ly) (p1 : Int32) (σ : Sg) (Q : Int32 → Sg → Prop) (h : w_m_relOf p1 σ Q) : Ct l Δ mi_m_relOf [.int p1] σ (qI Q) noE :=
  Ct.of hfl (by show plainFor ⟨"GuardedMovesModel", "relOf", "(I)I"⟩ = true; decide +kernel) rfl (le_b rfl) (fun G hl cx => b_m_relOf cx p1 σ h)
def mi_m_readTest : Mi := ("GuardedMovesModel", prog_6_method_18_code, 3, [], none, 3, 84, 0, 0, ⟨"GuardedMovesModel", "readTest", "(I)V"⟩)
theorem d_m_readTest_0 : decode prog_6_method_18_code 0 = .ok (.aload_n 0, 1) := by decide +kernel
theorem d_m_readTest_1 : decode prog_6_method_18_code 1 = .ok (.dup, 1) := by decide +kernel
theorem d_m_readTest_2 : decode prog_6_method_18_code 2 = .ok (.getfield 130, 3) := by decide +kernel
theorem d_m_readTest_5 : decode prog_6_method_18_code 5 = .ok (.iconst 1, 1) := by decide +kernel
theorem d_m_readTest_6 : decode prog_6_method_18_code 6 = .ok (.iadd, 1) := by decide +kernel
theorem d_m_readTest_7 : decode prog_6_method_18_code 7 = .ok (.putfield 130, 3) := by decide +kernel
theorem d_m_readTest_10 : decode prog_6_method_18_code 10 = .ok (.aload_n 0, 1) := by decide +kernel
theorem d_m_readTest_11 : decode prog_6_method_18_code 11 = .ok (.getfield 19, 3) := by decide +kernel
theorem d_m_readTest_14 : decode prog_6_method_18_code 14 = .ok (.bipush 9, 2) := by decide +kernel
theorem d_m_readTest_16 : decode prog_6_method_18_code 16 = .ok (.iload_n 1, 1) := by decide +kernel
theorem d_m_readTest_17 : decode prog_6_method_18_code 17 = .ok (.imul, 1) := by decide +kernel
theorem d_m_readTest_18 : decode prog_6_method_18_code 18 = .ok (.iconst 0, 1) := by decide +kernel
theorem d_m_readTest_19 : decode prog_6_method_18_code 19 = .ok (.iadd, 1) := by decide +kernel
theorem d_m_readTest_20 : decode prog_6_method_18_code 20 = .ok (.iconst 5, 1) := by decide +kernel
theorem d_m_readTest_21 : decode prog_6_method_18_code 21 = .ok (.iastore, 1) := by decide +kernel
theorem d_m_readTest_22 : decode prog_6_method_18_code 22 = .ok (.aload_n 0, 1) := by decide +kernel
theorem d_m_readTest_23 : decode prog_6_method_18_code 23 = .ok (.iload_n 1, 1) := by decide +kernel
theorem d_m_readTest_24 : decode prog_6_method_18_code 24 = .ok (.iconst 3, 1) := by decide +kernel
theorem d_m_readTest_25 : decode prog_6_method_18_code 25 = .ok (.invokevirtual 164, 3) := by decide +kernel
theorem d_m_readTest_28 : decode prog_6_method_18_code 28 = .ok (.aload_n 0, 1) := by decide +kernel
theorem d_m_readTest_29 : decode prog_6_method_18_code 29 = .ok (.getfield 124, 3) := by decide +kernel
theorem d_m_readTest_32 : decode prog_6_method_18_code 32 = .ok (.ifCond .le 4, 3) := by decide +kernel
theorem d_m_readTest_35 : decode prog_6_method_18_code 35 = .ok (.return_, 1) := by decide +kernel
theorem d_m_readTest_36 : decode prog_6_method_18_code 36 = .ok (.aload_n 0, 1) := by decide +kernel
theorem d_m_readTest_37 : decode prog_6_method_18_code 37 = .ok (.invokevirtual 133, 3) := by decide +kernel
theorem d_m_readTest_40 : decode prog_6_method_18_code 40 = .ok (.invokestatic 171, 3) := by decide +kernel
theorem d_m_readTest_43 : decode prog_6_method_18_code 43 = .ok (.istore_n 2, 1) := by decide +kernel
theorem d_m_readTest_44 : decode prog_6_method_18_code 44 = .ok (.iload_n 2, 1) := by decide +kernel
theorem d_m_readTest_45 : decode prog_6_method_18_code 45 = .ok (.iconst (-1), 1) := by decide +kernel
theorem d_m_readTest_46 : decode prog_6_method_18_code 46 = .ok (.if_icmp .ne 13, 3) := by decide +kernel
theorem d_m_readTest_49 : decode prog_6_method_18_code 49 = .ok (.aload_n 0, 1) := by decide +kernel
theorem d_m_readTest_50 : decode prog_6_method_18_code 50 = .ok (.iconst 1, 1) := by decide +kernel
theorem d_m_readTest_51 : decode prog_6_method_18_code 51 = .ok (.aload_n 0, 1) := by decide +kernel
theorem d_m_readTest_52 : decode prog_6_method_18_code 52 = .ok (.getfield 130, 3) := by decide +kernel
theorem d_m_readTest_55 : decode prog_6_method_18_code 55 = .ok (.invokevirtual 137, 3) := by decide +kernel
theorem d_m_readTest_58 : decode prog_6_method_18_code 58 = .ok (.return_, 1) := by decide +kernel
theorem d_m_readTest_59 : decode prog_6_method_18_code 59 = .ok (.aload_n 0, 1) := by decide +kernel
theorem d_m_readTest_60 : decode prog_6_method_18_code 60 = .ok (.dup, 1) := by decide +kernel
theorem d_m_readTest_61 : decode prog_6_method_18_code 61 = .ok (.getfield 130, 3) := by decide +kernel
theorem d_m_readTest_64 : decode prog_6_method_18_code 64 = .ok (.iconst 1, 1) := by decide +kernel
theorem d_m_readTest_65 : decode prog_6_method_18_code 65 = .ok (.iadd, 1) := by decide +kernel
theorem d_m_readTest_66 : decode prog_6_method_18_code 66 = .ok (.putfield 130, 3) := by decide +kernel
theorem d_m_readTest_69 : decode prog_6_method_18_code 69 = .ok (.aload_n 0, 1) := by decide +kernel
theorem d_m_readTest_70 : decode prog_6_method_18_code 70 = .ok (.getfield 19, 3) := by decide +kernel
theorem d_m_readTest_73 : decode prog_6_method_18_code 73 = .ok (.bipush 9, 2) := by decide +kernel
theorem d_m_readTest_75 : decode prog_6_method_18_code 75 = .ok (.iload_n 1, 1) := by decide +kernel
theorem d_m_readTest_76 : decode prog_6_method_18_code 76 = .ok (.imul, 1) := by decide +kernel
theorem d_m_readTest_77 : decode prog_6_method_18_code 77 = .ok (.iconst 2, 1) := by decide +kernel
theorem d_m_readTest_78 : decode prog_6_method_18_code 78 = .ok (.iadd, 1) := by decide +kernel
theorem d_m_readTest_79 : decode prog_6_method_18_code 79 = .ok (.iload_n 2, 1) := by decide +kernel
theorem d_m_readTest_80 : decode prog_6_method_18_code 80 = .ok (.iastore, 1) := by decide +kernel
theorem d_m_readTest_81 : decode prog_6_method_18_code 81 = .ok (.aload_n 0, 1) := by decide +kernel
theorem d_m_readTest_82 : decode prog_6_method_18_code 82 = .ok (.iload_n 1, 1) := by decide +kernel
theorem d_m_readTest_83 : decode prog_6_method_18_code 83 = .ok (.iconst 5, 1) := by decide +kernel
theorem d_m_readTest_84 : decode prog_6_method_18_code 84 = .ok (.invokevirtual 164, 3) := by decide +kernel
theorem d_m_readTest_87 : decode prog_6_method_18_code 87 = .ok (.aload_n 0, 1) := by decide +kernel
theorem d_m_readTest_88 : decode prog_6_method_18_code 88 = .ok (.bipush 123, 2) := by decide +kernel
theorem d_m_readTest_90 : decode prog_6_method_18_code 90 = .ok (.invokevirtual 160, 3) := by decide +kernel
theorem d_m_readTest_93 : decode prog_6_method_18_code 93 = .ok (.return_, 1) := by decide +kernel
theorem kc_m_readTest : Kw (m_w (mi_m_readTest )) := ⟨(in_t5 (List.mem_of_getElem? (i := 3) rfl)), rfl⟩
theorem mv_m_readTest : MV (mi_m_readTest ) "GuardedMovesModel" 1 := ⟨kw_962, ks_53, kc_m_readTest , kw_7, ⟨⟨(by show ("GuardedMovesModel" : String) ≠ "java/lang/invoke/MethodHandle"; decide), (by show ("GuardedMovesModel" : String) ≠ "java/lang/invoke/VarHandle"; decide)⟩, (by show (parseMethodDescriptor "(I)V").map (fun d => d.parameters.length) = some 1; decide +kernel)⟩⟩
def w_m_readTest (p1 : Int32) (σ : Sg) (Q : Sg → Prop) : Prop := vp_in ((9 * p1) + 0) 540 ∧ (w_m_readValue p1 3 (up (up σ 58 5 ((σ 58 5) + 1)) 62 (((9 * p1) + 0).toNatClampNeg) 5) (fun σ1 => ((σ1 58 6) ≤ 0 → (w_m_next σ1 (fun x2 σ3 => w_m_relOf x2 σ3 (fun x4 σ5 => (¬ x4 = (-1) → (vp_in ((9 * p1) + 2) 540 ∧ (w_m_readValue p1 5 (up (up σ5 58 5 ((σ5 58 5) + 1)) 62 (((9 * p1) + 2).toNatClampNeg) x4) (fun σ6 => w_m_take 123 σ6 (fun σ7 => Q σ7))))) ∧ (x4 = (-1) → (w_m_fail 1 (σ5 58 5) σ5 (fun σ8 => Q σ8))))))) ∧ (¬ (σ1 58 6) ≤ 0 → (Q σ1))))
theorem b_m_readTest {Δ : Ly} {G : Gm} {Q : Sg → Prop} (cx : Cx Δ G mi_m_readTest) (p1 : Int32) (σ : Sg) (h : w_m_readTest p1 σ Q) : Y Δ G mi_m_readTest (qV Q) noE 0 0 σ 0 [(0, .ref (Δ.1 58)), (1, .int p1)] [] := by
  unfold w_m_readTest at h
  refine y_aload_n cx (pc := 0) d_m_readTest_0 rfl 0 rfl ?_
  refine y_dup cx (pc := 1) rfl d_m_readTest_1 ?_
  refine y_get cx (pc := 2) (j := 5) (v := .int (σ 58 5)) (le_b rfl) ck_Md kw_753 (le_b rfl) (gf_58_5 Δ _) d_m_readTest_2 ?_
  refine y_iconst cx (pc := 5) ic_1 d_m_readTest_5 ?_
  refine y_iadd cx (pc := 6) d_m_readTest_6 ?_
  refine y_put cx (pc := 7) (j := 5) (ty := .int) (le_b rfl) ck_Md kw_753 (le_b rfl) rfl (t_Md_ok 5 (le_b rfl)) rfl rfl (pf_58_5 Δ) d_m_readTest_7 ?_
  refine y_aload_n cx (pc := 10) d_m_readTest_10 rfl 0 rfl ?_
  refine y_get cx (pc := 11) (j := 10) (v := .ref (Δ.1 62)) (le_b rfl) ck_Md kw_758 (le_b rfl) (gf_58_10 Δ _) d_m_readTest_11 ?_
  refine y_bipush cx (pc := 14) bp_9 d_m_readTest_14 ?_
  refine y_iload_n cx (pc := 16) d_m_readTest_16 rfl 1 rfl ?_
  refine y_imul cx (pc := 17) d_m_readTest_17 ?_
  refine y_iconst cx (pc := 18) ic_0 d_m_readTest_18 ?_
  refine y_iadd cx (pc := 19) d_m_readTest_19 ?_
  refine y_iconst cx (pc := 20) ic_5 d_m_readTest_20 ?_
  obtain ⟨h0, h⟩ := h
  refine y_iast cx (pc := 21) ⟨(le_b rfl), fun _ => rfl⟩ h0 d_m_readTest_21 ?_
  refine y_aload_n cx (pc := 22) d_m_readTest_22 rfl 0 rfl ?_
  refine y_iload_n cx (pc := 23) d_m_readTest_23 rfl 1 rfl ?_
  refine y_iconst cx (pc := 24) ic_3 d_m_readTest_24 ?_
  refine y_vV cx (pc := 25) (st := []) [.int p1, .int 3] (c_m_readValue cx.fl Δ p1 3 _ _ h) mv_m_readValue kw_942 (oc_58 Δ) ck_Md rfl (le_b rfl) (le_b rfl) (le_b rfl) (le_b rfl) (le_b rfl) d_m_readTest_25 (fun σ1 h => ?_) (fun x σ1 h => yt_no h)
  refine y_aload_n cx (pc := 28) d_m_readTest_28 rfl 0 rfl ?_
  refine y_get cx (pc := 29) (j := 6) (v := .int (σ1 58 6)) (le_b rfl) ck_Md kw_754 (le_b rfl) (gf_58_6 Δ _) d_m_readTest_29 ?_
  refine y_if_le cx (pc := 32) (tgt := 36) d_m_readTest_32 (by decide) (fun hc => ?_) (fun hc => ?_)
  · replace h := h.1 hc
    refine y_aload_n cx (pc := 36) d_m_readTest_36 rfl 0 rfl ?_
    refine y_vI cx (pc := 37) (st := []) [] (c_m_next cx.fl Δ _ _ h) mv_m_next kw_915 (oc_58 Δ) ck_Md rfl (le_b rfl) (le_b rfl) (le_b rfl) (le_b rfl) (le_b rfl) d_m_readTest_37 (fun x2 σ3 h => ?_) (fun x σ3 h => yt_no h)
    refine y_sI cx (pc := 40) (st := []) [.int x2] (c_m_relOf cx.fl Δ x2 _ _ h) mv_m_relOf kw_964 rfl (le_b rfl) (le_b rfl) (le_b rfl) (le_b rfl) (le_b rfl) d_m_readTest_40 (fun x4 σ5 h => ?_) (fun x σ5 h => yt_no h)
    refine y_istore_n (lv' := [(2, .int x4), (0, .ref (Δ.1 58)), (1, .int p1)]) cx (pc := 43) d_m_readTest_43 rfl (le_b rfl) rfl ?_
    refine y_iload_n cx (pc := 44) d_m_readTest_44 rfl 0 rfl ?_
    refine y_iconst cx (pc := 45) ic_m1 d_m_readTest_45 ?_
    refine y_icmp_ne cx (pc := 46) (tgt := 59) d_m_readTest_46 (by decide) (fun hc => ?_) (fun hc => ?_)
    · replace h := h.1 hc
      refine y_aload_n cx (pc := 59) d_m_readTest_59 rfl 1 rfl ?_
      refine y_dup cx (pc := 60) rfl d_m_readTest_60 ?_
      refine y_get cx (pc := 61) (j := 5) (v := .int (σ5 58 5)) (le_b rfl) ck_Md kw_753 (le_b rfl) (gf_58_5 Δ _) d_m_readTest_61 ?_
      refine y_iconst cx (pc := 64) ic_1 d_m_readTest_64 ?_
      refine y_iadd cx (pc := 65) d_m_readTest_65 ?_
      refine y_put cx (pc := 66) (j := 5) (ty := .int) (le_b rfl) ck_Md kw_753 (le_b rfl) rfl (t_Md_ok 5 (le_b rfl)) rfl rfl (pf_58_5 Δ) d_m_readTest_66 ?_
      refine y_aload_n cx (pc := 69) d_m_readTest_69 rfl 1 rfl ?_
      refine y_get cx (pc := 70) (j := 10) (v := .ref (Δ.1 62)) (le_b rfl) ck_Md kw_758 (le_b rfl) (gf_58_10 Δ _) d_m_readTest_70 ?_
      refine y_bipush cx (pc := 73) bp_9 d_m_readTest_73 ?_
      refine y_iload_n cx (pc := 75) d_m_readTest_75 rfl 2 rfl ?_
      refine y_imul cx (pc := 76) d_m_readTest_76 ?_
      refine y_iconst cx (pc := 77) ic_2 d_m_readTest_77 ?_
      refine y_iadd cx (pc := 78) d_m_readTest_78 ?_
      refine y_iload_n cx (pc := 79) d_m_readTest_79 rfl 0 rfl ?_
      obtain ⟨h0, h⟩ := h
      refine y_iast cx (pc := 80) ⟨(le_b rfl), fun _ => rfl⟩ h0 d_m_readTest_80 ?_
      refine y_aload_n cx (pc := 81) d_m_readTest_81 rfl 1 rfl ?_
      refine y_iload_n cx (pc := 82) d_m_readTest_82 rfl 2 rfl ?_
      refine y_iconst cx (pc := 83) ic_5 d_m_readTest_83 ?_
      refine y_vV cx (pc := 84) (st := []) [.int p1, .int 5] (c_m_readValue cx.fl Δ p1 5 _ _ h) mv_m_readValue kw_942 (oc_58 Δ) ck_Md rfl (le_b rfl) (le_b rfl) (le_b rfl) (le_b rfl) (le_b rfl) d_m_readTest_84 (fun σ6 h => ?_) (fun x σ6 h => yt_no h)
      refine y_aload_n cx (pc := 87) d_m_readTest_87 rfl 1 rfl ?_
      refine y_bipush cx (pc := 88) bp_123 d_m_readTest_88 ?_
      refine y_vV cx (pc := 90) (st := []) [.int 123] (c_m_take cx.fl Δ 123 _ _ h) mv_m_take kw_938 (oc_58 Δ) ck_Md rfl (le_b rfl) (le_b rfl) (le_b rfl) (le_b rfl) (le_b rfl) d_m_readTest_90 (fun σ7 h => ?_) (fun x σ7 h => yt_no h)
      exact y_vret cx (pc := 93) rfl d_m_readTest_93 (le_b rfl) (le_b rfl) h
    · replace h := h.2 hc
      refine y_aload_n cx (pc := 49) d_m_readTest_49 rfl 1 rfl ?_
      refine y_iconst cx (pc := 50) ic_1 d_m_readTest_50 ?_
      refine y_aload_n cx (pc := 51) d_m_readTest_51 rfl 1 rfl ?_
      refine y_get cx (pc := 52) (j := 5) (v := .int (σ5 58 5)) (le_b rfl) ck_Md kw_753 (le_b rfl) (gf_58_5 Δ _) d_m_readTest_52 ?_
      refine y_vV cx (pc := 55) (st := []) [.int 1, .int (σ5 58 5)] (c_m_fail cx.fl Δ 1 (σ5 58 5) _ _ h) mv_m_fail kw_930 (oc_58 Δ) ck_Md rfl (le_b rfl) (le_b rfl) (le_b rfl) (le_b rfl) (le_b rfl) d_m_readTest_55 (fun σ8 h => ?_) (fun x σ8 h => yt_no h)
      exact y_vret cx (pc := 58) rfl d_m_readTest_58 (le_b rfl) (le_b rfl) h
  · replace h := h.2 hc
    exact y_vret cx (pc := 35) rfl d_m_readTest_35 (le_b rfl) (le_b rfl) h
theorem c_m_readTest {l : Launch} (hfl : l.flags = flags0) (Δ : Ly) (p1 : Int32) (σ : Sg) (Q : Sg → Prop) (h : w_m_readTest p1 σ Q) : Ct l Δ mi_m_readTest [.ref (Δ.1 58), .int p1] σ (qV Q) noE :=
  Ct.of hfl (by show plainFor ⟨"GuardedMovesModel", "readTest", "(I)V"⟩ = true; decide +kernel) rfl (le_b rfl) (fun G hl cx => b_m_readTest cx p1 σ h)

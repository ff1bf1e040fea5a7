def mi_x_statement : Mi := ("GuardedMoves", prog_1_method_45_code, 3, [], (some .int), 9, 224, 2, 12, ⟨"GuardedMoves", "statement", "(II)I"⟩)
theorem d_x_statement_0 : decode prog_1_method_45_code 0 = .ok (.iload_n 1, 1) := by decide +kernel
theorem d_x_statement_1 : decode prog_1_method_45_code 1 = .ok (.i2l, 1) := by decide +kernel
theorem d_x_statement_2 : decode prog_1_method_45_code 2 = .ok (.lconst 0, 1) := by decide +kernel
theorem d_x_statement_3 : decode prog_1_method_45_code 3 = .ok (.aload_n 0, 1) := by decide +kernel
theorem d_x_statement_4 : decode prog_1_method_45_code 4 = .ok (.getfield 172, 3) := by decide +kernel
theorem d_x_statement_7 : decode prog_1_method_45_code 7 = .ok (.getfield 106, 3) := by decide +kernel
theorem d_x_statement_10 : decode prog_1_method_45_code 10 = .ok (.iconst 1, 1) := by decide +kernel
theorem d_x_statement_11 : decode prog_1_method_45_code 11 = .ok (.isub, 1) := by decide +kernel
theorem d_x_statement_12 : decode prog_1_method_45_code 12 = .ok (.i2l, 1) := by decide +kernel
theorem d_x_statement_13 : decode prog_1_method_45_code 13 = .ok (.invokestatic 42, 3) := by decide +kernel
theorem d_x_statement_16 : decode prog_1_method_45_code 16 = .ok (.invokestatic 286, 3) := by decide +kernel
theorem d_x_statement_19 : decode prog_1_method_45_code 19 = .ok (.iload_n 2, 1) := by decide +kernel
theorem d_x_statement_20 : decode prog_1_method_45_code 20 = .ok (.i2l, 1) := by decide +kernel
theorem d_x_statement_21 : decode prog_1_method_45_code 21 = .ok (.lconst 0, 1) := by decide +kernel
theorem d_x_statement_22 : decode prog_1_method_45_code 22 = .ok (.ldc2_w 291, 3) := by decide +kernel
theorem d_x_statement_25 : decode prog_1_method_45_code 25 = .ok (.invokestatic 42, 3) := by decide +kernel
theorem d_x_statement_28 : decode prog_1_method_45_code 28 = .ok (.invokestatic 163, 3) := by decide +kernel
theorem d_x_statement_31 : decode prog_1_method_45_code 31 = .ok (.iload_n 2, 1) := by decide +kernel
theorem d_x_statement_32 : decode prog_1_method_45_code 32 = .ok (.tableswitch 89 0 2 #[28, 40, 52], 28) := by decide +kernel
theorem d_x_statement_60 : decode prog_1_method_45_code 60 = .ok (.aload_n 0, 1) := by decide +kernel
theorem d_x_statement_61 : decode prog_1_method_45_code 61 = .ok (.getfield 172, 3) := by decide +kernel
theorem d_x_statement_64 : decode prog_1_method_45_code 64 = .ok (.getfield 116, 3) := by decide +kernel
theorem d_x_statement_67 : decode prog_1_method_45_code 67 = .ok (.iload_n 1, 1) := by decide +kernel
theorem d_x_statement_68 : decode prog_1_method_45_code 68 = .ok (.iaload, 1) := by decide +kernel
theorem d_x_statement_69 : decode prog_1_method_45_code 69 = .ok (.goto 57, 3) := by decide +kernel
theorem d_x_statement_72 : decode prog_1_method_45_code 72 = .ok (.aload_n 0, 1) := by decide +kernel
theorem d_x_statement_73 : decode prog_1_method_45_code 73 = .ok (.getfield 172, 3) := by decide +kernel
theorem d_x_statement_76 : decode prog_1_method_45_code 76 = .ok (.getfield 109, 3) := by decide +kernel
theorem d_x_statement_79 : decode prog_1_method_45_code 79 = .ok (.iload_n 1, 1) := by decide +kernel
theorem d_x_statement_80 : decode prog_1_method_45_code 80 = .ok (.iaload, 1) := by decide +kernel
theorem d_x_statement_81 : decode prog_1_method_45_code 81 = .ok (.goto 45, 3) := by decide +kernel
theorem d_x_statement_84 : decode prog_1_method_45_code 84 = .ok (.aload_n 0, 1) := by decide +kernel
theorem d_x_statement_85 : decode prog_1_method_45_code 85 = .ok (.getfield 179, 3) := by decide +kernel
theorem d_x_statement_88 : decode prog_1_method_45_code 88 = .ok (.ifCond .eq 29, 3) := by decide +kernel
theorem d_x_statement_91 : decode prog_1_method_45_code 91 = .ok (.aload_n 0, 1) := by decide +kernel
theorem d_x_statement_92 : decode prog_1_method_45_code 92 = .ok (.getfield 172, 3) := by decide +kernel
theorem d_x_statement_95 : decode prog_1_method_45_code 95 = .ok (.getfield 116, 3) := by decide +kernel
theorem d_x_statement_98 : decode prog_1_method_45_code 98 = .ok (.iload_n 1, 1) := by decide +kernel
theorem d_x_statement_99 : decode prog_1_method_45_code 99 = .ok (.iaload, 1) := by decide +kernel
theorem d_x_statement_100 : decode prog_1_method_45_code 100 = .ok (.iconst 5, 1) := by decide +kernel
theorem d_x_statement_101 : decode prog_1_method_45_code 101 = .ok (.if_icmp .ne 16, 3) := by decide +kernel
theorem d_x_statement_104 : decode prog_1_method_45_code 104 = .ok (.aload_n 0, 1) := by decide +kernel
theorem d_x_statement_105 : decode prog_1_method_45_code 105 = .ok (.getfield 230, 3) := by decide +kernel
theorem d_x_statement_108 : decode prog_1_method_45_code 108 = .ok (.iload_n 1, 1) := by decide +kernel
theorem d_x_statement_109 : decode prog_1_method_45_code 109 = .ok (.baload, 1) := by decide +kernel
theorem d_x_statement_110 : decode prog_1_method_45_code 110 = .ok (.ifCond .eq 7, 3) := by decide +kernel
theorem d_x_statement_113 : decode prog_1_method_45_code 113 = .ok (.iconst 1, 1) := by decide +kernel
theorem d_x_statement_114 : decode prog_1_method_45_code 114 = .ok (.goto 12, 3) := by decide +kernel
theorem d_x_statement_117 : decode prog_1_method_45_code 117 = .ok (.iconst 0, 1) := by decide +kernel
theorem d_x_statement_118 : decode prog_1_method_45_code 118 = .ok (.goto 8, 3) := by decide +kernel
theorem d_x_statement_121 : decode prog_1_method_45_code 121 = .ok (.aload_n 0, 1) := by decide +kernel
theorem d_x_statement_122 : decode prog_1_method_45_code 122 = .ok (.iload_n 1, 1) := by decide +kernel
theorem d_x_statement_123 : decode prog_1_method_45_code 123 = .ok (.invokevirtual 293, 3) := by decide +kernel
theorem d_x_statement_126 : decode prog_1_method_45_code 126 = .ok (.ireturn, 1) := by decide +kernel
theorem kc_x_statement : Kw (m_w (mi_x_statement )) := ⟨(in_t3 (List.mem_of_getElem? (i := 121) rfl)), rfl⟩
theorem mv_x_statement : MV (mi_x_statement ) "GuardedMoves" 2 := ⟨kw_599, kw_600, kc_x_statement , kw_1, ⟨⟨(by show ("GuardedMoves" : String) ≠ "java/lang/invoke/MethodHandle"; decide), (by show ("GuardedMoves" : String) ≠ "java/lang/invoke/VarHandle"; decide)⟩, (by show (parseMethodDescriptor "(II)I").map (fun d => d.parameters.length) = some 2; decide +kernel)⟩⟩
def w_x_statement_126 (Q : Int32 → Sg → Prop) (E : Nat → Sg → Prop) (s0 : Int32) (σ : Sg) : Prop := Q s0 σ
theorem b_x_statement_126 {Δ : Ly} {G : Gm} {Q : Int32 → Sg → Prop} {E : Nat → Sg → Prop} (cx : Cx Δ G mi_x_statement) : ∀ (s0 : Int32) (σ : Sg), w_x_statement_126 Q E s0 σ → Y Δ G mi_x_statement (qI Q) E 2 12 σ 126 [] [.int s0] := by
  intro s0 σ h
  unfold w_x_statement_126 at h
  exact y_iret cx (pc := 126) rfl d_x_statement_126 (le_b rfl) (le_b rfl) h
def w_x_statement_117 (Q : Int32 → Sg → Prop) (E : Nat → Sg → Prop) (σ : Sg) : Prop := w_x_statement_126 Q E 0 σ
theorem b_x_statement_117 {Δ : Ly} {G : Gm} {Q : Int32 → Sg → Prop} {E : Nat → Sg → Prop} (cx : Cx Δ G mi_x_statement) : ∀ (σ : Sg), w_x_statement_117 Q E σ → Y Δ G mi_x_statement (qI Q) E 2 12 σ 117 [] [] := by
  intro σ h
  unfold w_x_statement_117 at h
  refine y_iconst cx (pc := 117) ic_0 d_x_statement_117 ?_
  refine y_goto cx (pc := 118) (tgt := 126) d_x_statement_118 (by decide) ?_
  exact b_x_statement_126 cx 0 σ h
def w_x_statement (p1 : Int32) (p2 : Int32) (σ : Sg) (Q : Int32 → Sg → Prop) (E : Nat → Sg → Prop) : Prop := w_x_within (p1.toInt64) 0 (((σ 1 0) - 1).toInt64) σ (fun x1 σ2 => w_x_wantIndex x1 σ2 (fun σ3 => w_x_within (p2.toInt64) 0 3 σ3 (fun x4 σ5 => w_x_want_Z x4 σ5 (fun σ6 => (p2 = 0 → (vp_in p1 60 ∧ (w_x_statement_126 Q E (σ6 36 (p1.toNatClampNeg)) σ6))) ∧ (¬ p2 = 0 → ((p2 = 1 → (vp_in p1 60 ∧ (w_x_statement_126 Q E (σ6 37 (p1.toNatClampNeg)) σ6))) ∧ (¬ p2 = 1 → ((p2 = 2 → (((σ6 0 14) = 0 → (w_x_statement_117 Q E σ6)) ∧ (¬ (σ6 0 14) = 0 → (vp_in p1 60 ∧ ((¬ (σ6 36 (p1.toNatClampNeg)) = 5 → (w_x_statement_117 Q E σ6)) ∧ ((σ6 36 (p1.toNatClampNeg)) = 5 → (vp_in p1 60 ∧ (((σ6 8 (p1.toNatClampNeg)) = 0 → (w_x_statement_117 Q E σ6)) ∧ (¬ (σ6 8 (p1.toNatClampNeg)) = 0 → (w_x_statement_126 Q E 1 σ6)))))))))) ∧ (¬ p2 = 2 → (w_x_stepsOf p1 σ6 (fun x7 σ8 => w_x_statement_126 Q E x7 σ8)))))))) E)) E)
theorem b_x_statement {Δ : Ly} {G : Gm} {Q : Int32 → Sg → Prop} {E : Nat → Sg → Prop} (cx : Cx Δ G mi_x_statement) (p1 : Int32) (p2 : Int32) (σ : Sg) (h : w_x_statement p1 p2 σ Q E) : Y Δ G mi_x_statement (qI Q) E 0 0 σ 0 [(0, .ref (Δ.1 0)), (1, .int p1), (2, .int p2)] [] := by
  unfold w_x_statement at h
  refine y_iload_n cx (pc := 0) d_x_statement_0 rfl 1 rfl ?_
  refine y_i2l cx (pc := 1) d_x_statement_1 ?_
  refine y_lconst cx (pc := 2) (v := 0) lc_0 d_x_statement_2 ?_
  refine y_aload_n cx (pc := 3) d_x_statement_3 rfl 0 rfl ?_
  refine y_get cx (pc := 4) (j := 0) (v := .ref (Δ.1 1)) (le_b rfl) ck_GM kw_397 (le_b rfl) (gf_0_0 Δ _) d_x_statement_4 ?_
  refine y_getN cx (pc := 7) (j := 0) (v := .int (σ 1 0)) (le_b rfl) ck_Tx kw_256 (le_b rfl) (gf_1_0 Δ _) d_x_statement_7 ?_
  refine y_iconst cx (pc := 10) ic_1 d_x_statement_10 ?_
  refine y_isub cx (pc := 11) d_x_statement_11 ?_
  refine y_i2l cx (pc := 12) d_x_statement_12 ?_
  refine y_sI cx (pc := 13) (st := []) [.long (p1.toInt64), .long 0, .long (((σ 1 0) - 1).toInt64)] (c_x_within cx.fl Δ (p1.toInt64) 0 (((σ 1 0) - 1).toInt64) _ _ h) mv_x_within kw_41 rfl (le_b rfl) (le_b rfl) (le_b rfl) (le_b rfl) (le_b rfl) d_x_statement_13 (fun x1 σ2 h => ?_) (fun x σ2 h => yt_no h)
  refine y_sV cx (pc := 16) (st := []) [.int x1] (c_x_wantIndex cx.fl Δ x1 _ _ _ h) mv_x_wantIndex kw_518 rfl (le_b rfl) (le_b rfl) (le_b rfl) (le_b rfl) (le_b rfl) d_x_statement_16 (fun σ3 h => ?_) (fun x σ3 h => ?_)
  ·
    refine y_iload_n cx (pc := 19) d_x_statement_19 rfl 2 rfl ?_
    refine y_i2l cx (pc := 20) d_x_statement_20 ?_
    refine y_lconst cx (pc := 21) (v := 0) lc_0 d_x_statement_21 ?_
    refine y_ldc2 cx (pc := 22) kw_602 d_x_statement_22 ?_
    refine y_sI cx (pc := 25) (st := []) [.long (p2.toInt64), .long 0, .long 3] (c_x_within cx.fl Δ (p2.toInt64) 0 3 _ _ h) mv_x_within kw_41 rfl (le_b rfl) (le_b rfl) (le_b rfl) (le_b rfl) (le_b rfl) d_x_statement_25 (fun x4 σ5 h => ?_) (fun x σ5 h => yt_no h)
    refine y_sV cx (pc := 28) (st := []) [.int x4] (c_x_want_Z cx.fl Δ x4 _ _ _ h) mv_x_want_Z kw_559 rfl (le_b rfl) (le_b rfl) (le_b rfl) (le_b rfl) (le_b rfl) d_x_statement_28 (fun σ6 h => ?_) (fun x σ6 h => ?_)
    ·
      refine y_iload_n cx (pc := 31) d_x_statement_31 rfl 2 rfl ?_
      by_cases hc0 : p2 = 0
      · replace h := h.1 hc0
        refine y_tIn cx (pc := 32) (tgt := 60) (c := 0) d_x_statement_32 hc0 (by decide) (by decide) rfl (by decide) ?_
        refine y_aload_n cx (pc := 60) d_x_statement_60 rfl 0 rfl ?_
        refine y_get cx (pc := 61) (j := 0) (v := .ref (Δ.1 1)) (le_b rfl) ck_GM kw_397 (le_b rfl) (gf_0_0 Δ _) d_x_statement_61 ?_
        refine y_getN cx (pc := 64) (j := 1) (v := .ref (Δ.1 36)) (le_b rfl) ck_Tx kw_258 (le_b rfl) (gf_1_1 Δ _) d_x_statement_64 ?_
        refine y_iload_n cx (pc := 67) d_x_statement_67 rfl 1 rfl ?_
        obtain ⟨h0, h⟩ := h
        refine y_iald cx (pc := 68) ⟨(le_b rfl), fun _ => rfl⟩ h0 d_x_statement_68 ?_
        refine y_goto cx (pc := 69) (tgt := 126) d_x_statement_69 (by decide) ?_
        refine y_sub [] rfl ?_
        exact b_x_statement_126 cx (σ6 36 (p1.toNatClampNeg)) σ6 h
      replace h := h.2 hc0
      by_cases hc1 : p2 = 1
      · replace h := h.1 hc1
        refine y_tIn cx (pc := 32) (tgt := 72) (c := 1) d_x_statement_32 hc1 (by decide) (by decide) rfl (by decide) ?_
        refine y_aload_n cx (pc := 72) d_x_statement_72 rfl 0 rfl ?_
        refine y_get cx (pc := 73) (j := 0) (v := .ref (Δ.1 1)) (le_b rfl) ck_GM kw_397 (le_b rfl) (gf_0_0 Δ _) d_x_statement_73 ?_
        refine y_getN cx (pc := 76) (j := 2) (v := .ref (Δ.1 37)) (le_b rfl) ck_Tx kw_260 (le_b rfl) (gf_1_2 Δ _) d_x_statement_76 ?_
        refine y_iload_n cx (pc := 79) d_x_statement_79 rfl 1 rfl ?_
        obtain ⟨h0, h⟩ := h
        refine y_iald cx (pc := 80) ⟨(le_b rfl), fun _ => rfl⟩ h0 d_x_statement_80 ?_
        refine y_goto cx (pc := 81) (tgt := 126) d_x_statement_81 (by decide) ?_
        refine y_sub [] rfl ?_
        exact b_x_statement_126 cx (σ6 37 (p1.toNatClampNeg)) σ6 h
      replace h := h.2 hc1
      by_cases hc2 : p2 = 2
      · replace h := h.1 hc2
        refine y_tIn cx (pc := 32) (tgt := 84) (c := 2) d_x_statement_32 hc2 (by decide) (by decide) rfl (by decide) ?_
        refine y_aload_n cx (pc := 84) d_x_statement_84 rfl 0 rfl ?_
        refine y_get cx (pc := 85) (j := 14) (v := .int (σ6 0 14)) (le_b rfl) ck_GM kw_411 (le_b rfl) (gf_0_14 Δ _) d_x_statement_85 ?_
        refine y_if_eq cx (pc := 88) (tgt := 117) d_x_statement_88 (by decide) (fun hc => ?_) (fun hc => ?_)
        · replace h := h.1 hc
          refine y_sub [] rfl ?_
          exact b_x_statement_117 cx σ6 h
        · replace h := h.2 hc
          refine y_aload_n cx (pc := 91) d_x_statement_91 rfl 0 rfl ?_
          refine y_get cx (pc := 92) (j := 0) (v := .ref (Δ.1 1)) (le_b rfl) ck_GM kw_397 (le_b rfl) (gf_0_0 Δ _) d_x_statement_92 ?_
          refine y_getN cx (pc := 95) (j := 1) (v := .ref (Δ.1 36)) (le_b rfl) ck_Tx kw_258 (le_b rfl) (gf_1_1 Δ _) d_x_statement_95 ?_
          refine y_iload_n cx (pc := 98) d_x_statement_98 rfl 1 rfl ?_
          obtain ⟨h0, h⟩ := h
          refine y_iald cx (pc := 99) ⟨(le_b rfl), fun _ => rfl⟩ h0 d_x_statement_99 ?_
          refine y_iconst cx (pc := 100) ic_5 d_x_statement_100 ?_
          refine y_icmp_ne cx (pc := 101) (tgt := 117) d_x_statement_101 (by decide) (fun hc => ?_) (fun hc => ?_)
          · replace h := h.1 hc
            refine y_sub [] rfl ?_
            exact b_x_statement_117 cx σ6 h
          · replace h := h.2 hc
            refine y_aload_n cx (pc := 104) d_x_statement_104 rfl 0 rfl ?_
            refine y_get cx (pc := 105) (j := 15) (v := .ref (Δ.1 8)) (le_b rfl) ck_GM kw_412 (le_b rfl) (gf_0_15 Δ _) d_x_statement_105 ?_
            refine y_iload_n cx (pc := 108) d_x_statement_108 rfl 1 rfl ?_
            obtain ⟨h0, h⟩ := h
            refine y_zald cx (pc := 109) ⟨(le_b rfl), fun _ => rfl⟩ h0 d_x_statement_109 ?_
            refine y_if_eq cx (pc := 110) (tgt := 117) d_x_statement_110 (by decide) (fun hc => ?_) (fun hc => ?_)
            · replace h := h.1 hc
              refine y_sub [] rfl ?_
              exact b_x_statement_117 cx σ6 h
            · replace h := h.2 hc
              refine y_iconst cx (pc := 113) ic_1 d_x_statement_113 ?_
              refine y_goto cx (pc := 114) (tgt := 126) d_x_statement_114 (by decide) ?_
              refine y_sub [] rfl ?_
              exact b_x_statement_126 cx 1 σ6 h
      replace h := h.2 hc2
      refine y_tOut cx (pc := 32) (tgt := 121) d_x_statement_32 (by have z0 := lv_neT hc0 (show (0 : Int32).toInt = 0 from rfl); have z1 := lv_neT hc1 (show (1 : Int32).toInt = 1 from rfl); have z2 := lv_neT hc2 (show (2 : Int32).toInt = 2 from rfl); omega) (by decide) ?_
      refine y_aload_n cx (pc := 121) d_x_statement_121 rfl 0 rfl ?_
      refine y_iload_n cx (pc := 122) d_x_statement_122 rfl 1 rfl ?_
      refine y_vI cx (pc := 123) (st := []) [.int p1] (c_x_stepsOf cx.fl Δ p1 _ _ h) mv_x_stepsOf kw_603 (oc_0 Δ) ck_GM rfl (le_b rfl) (le_b rfl) (le_b rfl) (le_b rfl) (le_b rfl) d_x_statement_123 (fun x7 σ8 h => ?_) (fun x σ8 h => yt_no h)
      refine y_sub [] rfl ?_
      exact b_x_statement_126 cx x7 σ8 h
    ·
      exact t_out cx rfl (le_b rfl) (le_b rfl) h
  ·
    exact t_out cx rfl (le_b rfl) (le_b rfl) h
theorem c_x_statement {l : Launch} (hfl : l.flags = flags0) (Δ : Ly) (p1 : Int32) (p2 : Int32) (σ : Sg) (Q : Int32 → Sg → Prop) (E : Nat → Sg → Prop) (h : w_x_statement p1 p2 σ Q E) : Ct l Δ mi_x_statement [.ref (Δ.1 0), .int p1, .int p2] σ (qI Q) E :=
  Ct.of hfl (by show plainFor ⟨"GuardedMoves", "statement", "(II)I"⟩ = true; decide +kernel) rfl (le_b rfl) (fun G hl cx => b_x_statement cx p1 p2 σ h)
def mi_x_beginCode : Mi := ("GuardedMoves", prog_1_method_36_code, 2, [], none, 0, 0, 0, 0, ⟨"GuardedMoves", "beginCode", "()V"⟩)
theorem d_x_beginCode_0 : decode prog_1_method_36_code 0 = .ok (.aload_n 0, 1) := by decide +kernel
theorem d_x_beginCode_1 : decode prog_1_method_36_code 1 = .ok (.iconst 0, 1) := by decide +kernel
theorem d_x_beginCode_2 : decode prog_1_method_36_code 2 = .ok (.putfield 183, 3) := by decide +kernel
theorem d_x_beginCode_5 : decode prog_1_method_36_code 5 = .ok (.aload_n 0, 1) := by decide +kernel
theorem d_x_beginCode_6 : decode prog_1_method_36_code 6 = .ok (.bipush 16, 2) := by decide +kernel
theorem d_x_beginCode_8 : decode prog_1_method_36_code 8 = .ok (.putfield 196, 3) := by decide +kernel
theorem d_x_beginCode_11 : decode prog_1_method_36_code 11 = .ok (.iconst 0, 1) := by decide +kernel
theorem d_x_beginCode_12 : decode prog_1_method_36_code 12 = .ok (.istore_n 1, 1) := by decide +kernel
theorem d_x_beginCode_13 : decode prog_1_method_36_code 13 = .ok (.iload_n 1, 1) := by decide +kernel
theorem d_x_beginCode_14 : decode prog_1_method_36_code 14 = .ok (.bipush 16, 2) := by decide +kernel
theorem d_x_beginCode_16 : decode prog_1_method_36_code 16 = .ok (.if_icmp .ge 18, 3) := by decide +kernel
theorem d_x_beginCode_19 : decode prog_1_method_36_code 19 = .ok (.aload_n 0, 1) := by decide +kernel
theorem d_x_beginCode_20 : decode prog_1_method_36_code 20 = .ok (.getfield 220, 3) := by decide +kernel
theorem d_x_beginCode_23 : decode prog_1_method_36_code 23 = .ok (.iconst 0, 1) := by decide +kernel
theorem d_x_beginCode_24 : decode prog_1_method_36_code 24 = .ok (.aaload, 1) := by decide +kernel
theorem d_x_beginCode_25 : decode prog_1_method_36_code 25 = .ok (.iload_n 1, 1) := by decide +kernel
theorem d_x_beginCode_26 : decode prog_1_method_36_code 26 = .ok (.iload_n 1, 1) := by decide +kernel
theorem d_x_beginCode_27 : decode prog_1_method_36_code 27 = .ok (.iastore, 1) := by decide +kernel
theorem d_x_beginCode_28 : decode prog_1_method_36_code 28 = .ok (.iinc 1 1, 3) := by decide +kernel
theorem d_x_beginCode_31 : decode prog_1_method_36_code 31 = .ok (.goto (-18), 3) := by decide +kernel
theorem d_x_beginCode_34 : decode prog_1_method_36_code 34 = .ok (.return_, 1) := by decide +kernel
theorem kc_x_beginCode : Kw (m_w (mi_x_beginCode )) := ⟨(in_t3 (List.mem_of_getElem? (i := 142) rfl)), rfl⟩
theorem mv_x_beginCode : MV (mi_x_beginCode ) "GuardedMoves" 0 := ⟨kw_621, ks_24, kc_x_beginCode , kw_1, ⟨⟨(by show ("GuardedMoves" : String) ≠ "java/lang/invoke/MethodHandle"; decide), (by show ("GuardedMoves" : String) ≠ "java/lang/invoke/VarHandle"; decide)⟩, (by show (parseMethodDescriptor "()V").map (fun d => d.parameters.length) = some 0; decide +kernel)⟩⟩
def w_x_beginCode_13 (Q : Sg → Prop) : Nat → Int32 → Sg → Prop
  | 0, _, _ => False
  | n + 1, v1, σ => (16 ≤ v1 → (Q σ)) ∧ (¬ 16 ≤ v1 → (vp_in v1 16 ∧ (∀ x1 : Int32, x1 = v1 + 1 → ((w_x_beginCode_13 Q n) x1 (up σ 18 (v1.toNatClampNeg) v1)))))
theorem b_x_beginCode_13 {Δ : Ly} {G : Gm} {Q : Sg → Prop} (cx : Cx Δ G mi_x_beginCode) : ∀ (n : Nat) (v1 : Int32) (σ : Sg), w_x_beginCode_13 Q n v1 σ → Y Δ G mi_x_beginCode (qV Q) noE 0 0 σ 13 [(0, .ref (Δ.1 0)), (1, .int v1)] [] := by
  intro n
  induction n with
  | zero => intro v1 σ h; exact h.elim
  | succ n ih =>
    intro v1 σ h
    unfold w_x_beginCode_13 at h
    refine y_iload_n cx (pc := 13) d_x_beginCode_13 rfl 1 rfl ?_
    refine y_bipush cx (pc := 14) bp_16 d_x_beginCode_14 ?_
    refine y_icmp_ge cx (pc := 16) (tgt := 34) d_x_beginCode_16 (by decide) (fun hc => ?_) (fun hc => ?_)
    · replace h := h.1 hc
      exact y_vret cx (pc := 34) rfl d_x_beginCode_34 (le_b rfl) (le_b rfl) h
    · replace h := h.2 hc
      refine y_aload_n cx (pc := 19) d_x_beginCode_19 rfl 0 rfl ?_
      refine y_get cx (pc := 20) (j := 16) (v := .ref (Δ.1 35)) (le_b rfl) ck_GM kw_413 (le_b rfl) (gf_0_16 Δ _) d_x_beginCode_20 ?_
      refine y_iconst cx (pc := 23) ic_0 d_x_beginCode_23 ?_
      refine y_aaldK cx (pc := 24) 0 (base := 18) ⟨(le_b rfl), fun _ => rfl⟩ (vp_dec _ _ (by decide)) (by decide) d_x_beginCode_24 ?_
      refine y_iload_n cx (pc := 25) d_x_beginCode_25 rfl 1 rfl ?_
      refine y_iload_n cx (pc := 26) d_x_beginCode_26 rfl 1 rfl ?_
      obtain ⟨h0, h⟩ := h
      refine y_iast cx (pc := 27) ⟨(le_b rfl), fun _ => rfl⟩ h0 d_x_beginCode_27 ?_
      obtain ⟨x1, ex1⟩ : ∃ y : Int32, y = v1 + 1 := ⟨_, rfl⟩
      replace h := h x1 ex1
      refine y_iinc (v := x1) (lv' := [(1, .int x1), (0, .ref (Δ.1 0))]) cx (pc := 28) d_x_beginCode_28 (j := 1) rfl (by rw [ex1]; rfl) (le_b rfl) rfl ?_
      refine y_goto cx (pc := 31) (tgt := 13) d_x_beginCode_31 (by decide) ?_
      refine y_sub [1, 0] rfl ?_
      exact ih x1 (up σ 18 (v1.toNatClampNeg) v1) h
def w_x_beginCode (σ : Sg) (Q : Sg → Prop) : Prop := ∃ q13, w_x_beginCode_13 Q q13 0 (up (up σ 0 12 0) 0 13 16)
theorem b_x_beginCode {Δ : Ly} {G : Gm} {Q : Sg → Prop} (cx : Cx Δ G mi_x_beginCode) (σ : Sg) (h : w_x_beginCode σ Q) : Y Δ G mi_x_beginCode (qV Q) noE 0 0 σ 0 [(0, .ref (Δ.1 0))] [] := by
  unfold w_x_beginCode at h
  refine y_aload_n cx (pc := 0) d_x_beginCode_0 rfl 0 rfl ?_
  refine y_iconst cx (pc := 1) ic_0 d_x_beginCode_1 ?_
  refine y_put cx (pc := 2) (j := 12) (ty := .int) (le_b rfl) ck_GM kw_409 (le_b rfl) rfl (t_GM_ok 12 (le_b rfl)) rfl rfl (pf_0_12 Δ) d_x_beginCode_2 ?_
  refine y_aload_n cx (pc := 5) d_x_beginCode_5 rfl 0 rfl ?_
  refine y_bipush cx (pc := 6) bp_16 d_x_beginCode_6 ?_
  refine y_put cx (pc := 8) (j := 13) (ty := .int) (le_b rfl) ck_GM kw_410 (le_b rfl) rfl (t_GM_ok 13 (le_b rfl)) rfl rfl (pf_0_13 Δ) d_x_beginCode_8 ?_
  refine y_iconst cx (pc := 11) ic_0 d_x_beginCode_11 ?_
  refine y_istore_n (lv' := [(1, .int 0), (0, .ref (Δ.1 0))]) cx (pc := 12) d_x_beginCode_12 rfl (le_b rfl) rfl ?_
  refine y_sub [1, 0] rfl ?_
  obtain ⟨n, h⟩ := h
  exact b_x_beginCode_13 cx n 0 (up (up σ 0 12 0) 0 13 16) h
theorem c_x_beginCode {l : Launch} (hfl : l.flags = flags0) (Δ : Ly) (σ : Sg) (Q : Sg → Prop) (h : w_x_beginCode σ Q) : Ct l Δ mi_x_beginCode [.ref (Δ.1 0)] σ (qV Q) noE :=
  Ct.of hfl (by show plainFor ⟨"GuardedMoves", "beginCode", "()V"⟩ = true; decide +kernel) rfl (le_b rfl) (fun G hl cx => b_x_beginCode cx σ h)
def mi_x_copy : Mi := ("GuardedMoves", prog_1_method_30_code, 4, [], none, 0, 0, 0, 0, ⟨"GuardedMoves", "copy", "(II)V"⟩)
theorem d_x_copy_0 : decode prog_1_method_30_code 0 = .ok (.iconst 0, 1) := by decide +kernel
theorem d_x_copy_1 : decode prog_1_method_30_code 1 = .ok (.istore_n 3, 1) := by decide +kernel
theorem d_x_copy_2 : decode prog_1_method_30_code 2 = .ok (.iload_n 3, 1) := by decide +kernel
theorem d_x_copy_3 : decode prog_1_method_30_code 3 = .ok (.bipush 16, 2) := by decide +kernel
theorem d_x_copy_5 : decode prog_1_method_30_code 5 = .ok (.if_icmp .ge 25, 3) := by decide +kernel
theorem d_x_copy_8 : decode prog_1_method_30_code 8 = .ok (.aload_n 0, 1) := by decide +kernel
theorem d_x_copy_9 : decode prog_1_method_30_code 9 = .ok (.getfield 220, 3) := by decide +kernel
theorem d_x_copy_12 : decode prog_1_method_30_code 12 = .ok (.iload_n 2, 1) := by decide +kernel
theorem d_x_copy_13 : decode prog_1_method_30_code 13 = .ok (.aaload, 1) := by decide +kernel
theorem d_x_copy_14 : decode prog_1_method_30_code 14 = .ok (.iload_n 3, 1) := by decide +kernel
theorem d_x_copy_15 : decode prog_1_method_30_code 15 = .ok (.aload_n 0, 1) := by decide +kernel
theorem d_x_copy_16 : decode prog_1_method_30_code 16 = .ok (.getfield 220, 3) := by decide +kernel
theorem d_x_copy_19 : decode prog_1_method_30_code 19 = .ok (.iload_n 1, 1) := by decide +kernel
theorem d_x_copy_20 : decode prog_1_method_30_code 20 = .ok (.aaload, 1) := by decide +kernel
theorem d_x_copy_21 : decode prog_1_method_30_code 21 = .ok (.iload_n 3, 1) := by decide +kernel
theorem d_x_copy_22 : decode prog_1_method_30_code 22 = .ok (.iaload, 1) := by decide +kernel
theorem d_x_copy_23 : decode prog_1_method_30_code 23 = .ok (.iastore, 1) := by decide +kernel
theorem d_x_copy_24 : decode prog_1_method_30_code 24 = .ok (.iinc 3 1, 3) := by decide +kernel
theorem d_x_copy_27 : decode prog_1_method_30_code 27 = .ok (.goto (-25), 3) := by decide +kernel
theorem d_x_copy_30 : decode prog_1_method_30_code 30 = .ok (.return_, 1) := by decide +kernel
theorem kc_x_copy : Kw (m_w (mi_x_copy )) := ⟨(in_t3 (List.mem_of_getElem? (i := 178) rfl)), rfl⟩
theorem mv_x_copy : MV (mi_x_copy ) "GuardedMoves" 2 := ⟨kw_657, ks_33, kc_x_copy , kw_1, ⟨⟨(by show ("GuardedMoves" : String) ≠ "java/lang/invoke/MethodHandle"; decide), (by show ("GuardedMoves" : String) ≠ "java/lang/invoke/VarHandle"; decide)⟩, (by show (parseMethodDescriptor "(II)V").map (fun d => d.parameters.length) = some 2; decide +kernel)⟩⟩
def w_x_copy_2 (Q : Sg → Prop) : Nat → Int32 → Int32 → Int32 → Sg → Prop
  | 0, _, _, _, _ => False
  | n + 1, v1, v2, v3, σ => (16 ≤ v3 → (Q σ)) ∧ (¬ 16 ≤ v3 → (vp_in v2 16 ∧ (vp_in v1 16 ∧ (inS (18 + v1.toNatClampNeg) ∧ (vp_in v3 16 ∧ (inS (18 + v2.toNatClampNeg) ∧ (vp_in v3 16 ∧ (∀ x1 : Int32, x1 = v3 + 1 → ((w_x_copy_2 Q n) v1 v2 x1 (up σ (18 + v2.toNatClampNeg) (v3.toNatClampNeg) (σ (18 + v1.toNatClampNeg) (v3.toNatClampNeg))))))))))))
theorem b_x_copy_2 {Δ : Ly} {G : Gm} {Q : Sg → Prop} (cx : Cx Δ G mi_x_copy) : ∀ (n : Nat) (v1 : Int32) (v2 : Int32) (v3 : Int32) (σ : Sg), w_x_copy_2 Q n v1 v2 v3 σ → Y Δ G mi_x_copy (qV Q) noE 0 0 σ 2 [(0, .ref (Δ.1 0)), (1, .int v1), (2, .int v2), (3, .int v3)] [] := by
  intro n
  induction n with
  | zero => intro v1 v2 v3 σ h; exact h.elim
  | succ n ih =>
    intro v1 v2 v3 σ h
    unfold w_x_copy_2 at h
    refine y_iload_n cx (pc := 2) d_x_copy_2 rfl 3 rfl ?_
    refine y_bipush cx (pc := 3) bp_16 d_x_copy_3 ?_
    refine y_icmp_ge cx (pc := 5) (tgt := 30) d_x_copy_5 (by decide) (fun hc => ?_) (fun hc => ?_)
    · replace h := h.1 hc
      exact y_vret cx (pc := 30) rfl d_x_copy_30 (le_b rfl) (le_b rfl) h
    · replace h := h.2 hc
      refine y_aload_n cx (pc := 8) d_x_copy_8 rfl 0 rfl ?_
      refine y_get cx (pc := 9) (j := 16) (v := .ref (Δ.1 35)) (le_b rfl) ck_GM kw_413 (le_b rfl) (gf_0_16 Δ _) d_x_copy_9 ?_
      refine y_iload_n cx (pc := 12) d_x_copy_12 rfl 2 rfl ?_
      obtain ⟨h0, h⟩ := h
      refine y_aald cx (pc := 13) (base := 18) ⟨(le_b rfl), fun _ => rfl⟩ h0 d_x_copy_13 ?_
      refine y_iload_n cx (pc := 14) d_x_copy_14 rfl 3 rfl ?_
      refine y_aload_n cx (pc := 15) d_x_copy_15 rfl 0 rfl ?_
      refine y_get cx (pc := 16) (j := 16) (v := .ref (Δ.1 35)) (le_b rfl) ck_GM kw_413 (le_b rfl) (gf_0_16 Δ _) d_x_copy_16 ?_
      refine y_iload_n cx (pc := 19) d_x_copy_19 rfl 1 rfl ?_
      obtain ⟨h0, h⟩ := h
      refine y_aald cx (pc := 20) (base := 18) ⟨(le_b rfl), fun _ => rfl⟩ h0 d_x_copy_20 ?_
      refine y_iload_n cx (pc := 21) d_x_copy_21 rfl 3 rfl ?_
      obtain ⟨h9, h⟩ := h
      obtain ⟨h0, h⟩ := h
      refine y_iald cx (pc := 22) (av_inS h9) h0 d_x_copy_22 ?_
      obtain ⟨h9, h⟩ := h
      obtain ⟨h0, h⟩ := h
      refine y_iast cx (pc := 23) (av_inS h9) h0 d_x_copy_23 ?_
      obtain ⟨x1, ex1⟩ : ∃ y : Int32, y = v3 + 1 := ⟨_, rfl⟩
      replace h := h x1 ex1
      refine y_iinc (v := x1) (lv' := [(3, .int x1), (0, .ref (Δ.1 0)), (1, .int v1), (2, .int v2)]) cx (pc := 24) d_x_copy_24 (j := 3) rfl (by rw [ex1]; rfl) (le_b rfl) rfl ?_
      refine y_goto cx (pc := 27) (tgt := 2) d_x_copy_27 (by decide) ?_
      refine y_sub [1, 2, 3, 0] rfl ?_
      exact ih v1 v2 x1 (up σ (18 + v2.toNatClampNeg) (v3.toNatClampNeg) (σ (18 + v1.toNatClampNeg) (v3.toNatClampNeg))) h
def w_x_copy (p1 : Int32) (p2 : Int32) (σ : Sg) (Q : Sg → Prop) : Prop := ∃ q2, w_x_copy_2 Q q2 p1 p2 0 σ
theorem b_x_copy {Δ : Ly} {G : Gm} {Q : Sg → Prop} (cx : Cx Δ G mi_x_copy) (p1 : Int32) (p2 : Int32) (σ : Sg) (h : w_x_copy p1 p2 σ Q) : Y Δ G mi_x_copy (qV Q) noE 0 0 σ 0 [(0, .ref (Δ.1 0)), (1, .int p1), (2, .int p2)] [] := by
  unfold w_x_copy at h
  refine y_iconst cx (pc := 0) ic_0 d_x_copy_0 ?_
  refine y_istore_n (lv' := [(3, .int 0), (0, .ref (Δ.1 0)), (1, .int p1), (2, .int p2)]) cx (pc := 1) d_x_copy_1 rfl (le_b rfl) rfl ?_
  refine y_sub [1, 2, 3, 0] rfl ?_
  obtain ⟨n, h⟩ := h
  exact b_x_copy_2 cx n p1 p2 0 σ h
theorem c_x_copy {l : Launch} (hfl : l.flags = flags0) (Δ : Ly) (p1 : Int32) (p2 : Int32) (σ : Sg) (Q : Sg → Prop) (h : w_x_copy p1 p2 σ Q) : Ct l Δ mi_x_copy [.ref (Δ.1 0), .int p1, .int p2] σ (qV Q) noE :=
  Ct.of hfl (by show plainFor ⟨"GuardedMoves", "copy", "(II)V"⟩ = true; decide +kernel) rfl (le_b rfl) (fun G hl cx => b_x_copy cx p1 p2 σ h)
def mi_x_fresh : Mi := ("GuardedMoves", prog_1_method_20_code, 1, [], (some .int), 0, 0, 0, 0, ⟨"GuardedMoves", "fresh", "()I"⟩)
theorem d_x_fresh_0 : decode prog_1_method_20_code 0 = .ok (.aload_n 0, 1) := by decide +kernel
theorem d_x_fresh_1 : decode prog_1_method_20_code 1 = .ok (.dup, 1) := by decide +kernel
theorem d_x_fresh_2 : decode prog_1_method_20_code 2 = .ok (.getfield 196, 3) := by decide +kernel
theorem d_x_fresh_5 : decode prog_1_method_20_code 5 = .ok (.dup_x1, 1) := by decide +kernel
theorem d_x_fresh_6 : decode prog_1_method_20_code 6 = .ok (.iconst 1, 1) := by decide +kernel
theorem d_x_fresh_7 : decode prog_1_method_20_code 7 = .ok (.iadd, 1) := by decide +kernel
theorem d_x_fresh_8 : decode prog_1_method_20_code 8 = .ok (.putfield 196, 3) := by decide +kernel
theorem d_x_fresh_11 : decode prog_1_method_20_code 11 = .ok (.ireturn, 1) := by decide +kernel
theorem kc_x_fresh : Kw (m_w (mi_x_fresh )) := ⟨(in_t3 (List.mem_of_getElem? (i := 166) rfl)), rfl⟩
theorem mv_x_fresh : MV (mi_x_fresh ) "GuardedMoves" 0 := ⟨kw_645, ks_30, kc_x_fresh , kw_1, ⟨⟨(by show ("GuardedMoves" : String) ≠ "java/lang/invoke/MethodHandle"; decide), (by show ("GuardedMoves" : String) ≠ "java/lang/invoke/VarHandle"; decide)⟩, (by show (parseMethodDescriptor "()I").map (fun d => d.parameters.length) = some 0; decide +kernel)⟩⟩
def w_x_fresh (σ : Sg) (Q : Int32 → Sg → Prop) : Prop := Q (σ 0 13) (up σ 0 13 ((σ 0 13) + 1))
theorem b_x_fresh {Δ : Ly} {G : Gm} {Q : Int32 → Sg → Prop} (cx : Cx Δ G mi_x_fresh) (σ : Sg) (h : w_x_fresh σ Q) : Y Δ G mi_x_fresh (qI Q) noE 0 0 σ 0 [(0, .ref (Δ.1 0))] [] := by
  unfold w_x_fresh at h
  refine y_aload_n cx (pc := 0) d_x_fresh_0 rfl 0 rfl ?_
  refine y_dup cx (pc := 1) rfl d_x_fresh_1 ?_
  refine y_get cx (pc := 2) (j := 13) (v := .int (σ 0 13)) (le_b rfl) ck_GM kw_410 (le_b rfl) (gf_0_13 Δ _) d_x_fresh_2 ?_
  refine y_dup_x1 cx (pc := 5) rfl rfl d_x_fresh_5 ?_
  refine y_iconst cx (pc := 6) ic_1 d_x_fresh_6 ?_
  refine y_iadd cx (pc := 7) d_x_fresh_7 ?_
  refine y_put cx (pc := 8) (j := 13) (ty := .int) (le_b rfl) ck_GM kw_410 (le_b rfl) rfl (t_GM_ok 13 (le_b rfl)) rfl rfl (pf_0_13 Δ) d_x_fresh_8 ?_
  exact y_iret cx (pc := 11) rfl d_x_fresh_11 (le_b rfl) (le_b rfl) h
theorem c_x_fresh {l : Launch} (hfl : l.flags = flags0) (Δ : Ly) (σ : Sg) (Q : Int32 → Sg → Prop) (h : w_x_fresh σ Q) : Ct l Δ mi_x_fresh [.ref (Δ.1 0)] σ (qI Q) noE :=
  Ct.of hfl (by show plainFor ⟨"GuardedMoves", "fresh", "()I"⟩ = true; decide +kernel) rfl (le_b rfl) (fun G hl cx => b_x_fresh cx σ h)
def mi_x_put : Mi := ("GuardedMoves", prog_1_method_19_code, 7, [], (some .int), 0, 0, 0, 0, ⟨"GuardedMoves", "put", "(IIIIII)I"⟩)
theorem d_x_put_0 : decode prog_1_method_19_code 0 = .ok (.aload_n 0, 1) := by decide +kernel
theorem d_x_put_1 : decode prog_1_method_19_code 1 = .ok (.getfield 186, 3) := by decide +kernel
theorem d_x_put_4 : decode prog_1_method_19_code 4 = .ok (.aload_n 0, 1) := by decide +kernel
theorem d_x_put_5 : decode prog_1_method_19_code 5 = .ok (.getfield 183, 3) := by decide +kernel
theorem d_x_put_8 : decode prog_1_method_19_code 8 = .ok (.iload_n 2, 1) := by decide +kernel
theorem d_x_put_9 : decode prog_1_method_19_code 9 = .ok (.iastore, 1) := by decide +kernel
theorem d_x_put_10 : decode prog_1_method_19_code 10 = .ok (.aload_n 0, 1) := by decide +kernel
theorem d_x_put_11 : decode prog_1_method_19_code 11 = .ok (.getfield 189, 3) := by decide +kernel
theorem d_x_put_14 : decode prog_1_method_19_code 14 = .ok (.iconst 0, 1) := by decide +kernel
theorem d_x_put_15 : decode prog_1_method_19_code 15 = .ok (.aaload, 1) := by decide +kernel
theorem d_x_put_16 : decode prog_1_method_19_code 16 = .ok (.aload_n 0, 1) := by decide +kernel
theorem d_x_put_17 : decode prog_1_method_19_code 17 = .ok (.getfield 183, 3) := by decide +kernel
theorem d_x_put_20 : decode prog_1_method_19_code 20 = .ok (.iload_n 3, 1) := by decide +kernel
theorem d_x_put_21 : decode prog_1_method_19_code 21 = .ok (.iastore, 1) := by decide +kernel
theorem d_x_put_22 : decode prog_1_method_19_code 22 = .ok (.aload_n 0, 1) := by decide +kernel
theorem d_x_put_23 : decode prog_1_method_19_code 23 = .ok (.getfield 189, 3) := by decide +kernel
theorem d_x_put_26 : decode prog_1_method_19_code 26 = .ok (.iconst 1, 1) := by decide +kernel
theorem d_x_put_27 : decode prog_1_method_19_code 27 = .ok (.aaload, 1) := by decide +kernel
theorem d_x_put_28 : decode prog_1_method_19_code 28 = .ok (.aload_n 0, 1) := by decide +kernel
theorem d_x_put_29 : decode prog_1_method_19_code 29 = .ok (.getfield 183, 3) := by decide +kernel
theorem d_x_put_32 : decode prog_1_method_19_code 32 = .ok (.iload 4, 2) := by decide +kernel
theorem d_x_put_34 : decode prog_1_method_19_code 34 = .ok (.iastore, 1) := by decide +kernel
theorem d_x_put_35 : decode prog_1_method_19_code 35 = .ok (.aload_n 0, 1) := by decide +kernel
theorem d_x_put_36 : decode prog_1_method_19_code 36 = .ok (.getfield 189, 3) := by decide +kernel
theorem d_x_put_39 : decode prog_1_method_19_code 39 = .ok (.iconst 2, 1) := by decide +kernel
theorem d_x_put_40 : decode prog_1_method_19_code 40 = .ok (.aaload, 1) := by decide +kernel
theorem d_x_put_41 : decode prog_1_method_19_code 41 = .ok (.aload_n 0, 1) := by decide +kernel
theorem d_x_put_42 : decode prog_1_method_19_code 42 = .ok (.getfield 183, 3) := by decide +kernel
theorem d_x_put_45 : decode prog_1_method_19_code 45 = .ok (.iload 5, 2) := by decide +kernel
theorem d_x_put_47 : decode prog_1_method_19_code 47 = .ok (.iastore, 1) := by decide +kernel
theorem d_x_put_48 : decode prog_1_method_19_code 48 = .ok (.aload_n 0, 1) := by decide +kernel
theorem d_x_put_49 : decode prog_1_method_19_code 49 = .ok (.getfield 189, 3) := by decide +kernel
theorem d_x_put_52 : decode prog_1_method_19_code 52 = .ok (.iconst 3, 1) := by decide +kernel
theorem d_x_put_53 : decode prog_1_method_19_code 53 = .ok (.aaload, 1) := by decide +kernel
theorem d_x_put_54 : decode prog_1_method_19_code 54 = .ok (.aload_n 0, 1) := by decide +kernel
theorem d_x_put_55 : decode prog_1_method_19_code 55 = .ok (.getfield 183, 3) := by decide +kernel
theorem d_x_put_58 : decode prog_1_method_19_code 58 = .ok (.iload 6, 2) := by decide +kernel
theorem d_x_put_60 : decode prog_1_method_19_code 60 = .ok (.iastore, 1) := by decide +kernel
theorem d_x_put_61 : decode prog_1_method_19_code 61 = .ok (.aload_n 0, 1) := by decide +kernel
theorem d_x_put_62 : decode prog_1_method_19_code 62 = .ok (.getfield 193, 3) := by decide +kernel
theorem d_x_put_65 : decode prog_1_method_19_code 65 = .ok (.aload_n 0, 1) := by decide +kernel
theorem d_x_put_66 : decode prog_1_method_19_code 66 = .ok (.getfield 183, 3) := by decide +kernel
theorem d_x_put_69 : decode prog_1_method_19_code 69 = .ok (.iload_n 1, 1) := by decide +kernel
theorem d_x_put_70 : decode prog_1_method_19_code 70 = .ok (.iastore, 1) := by decide +kernel
theorem d_x_put_71 : decode prog_1_method_19_code 71 = .ok (.aload_n 0, 1) := by decide +kernel
theorem d_x_put_72 : decode prog_1_method_19_code 72 = .ok (.dup, 1) := by decide +kernel
theorem d_x_put_73 : decode prog_1_method_19_code 73 = .ok (.getfield 183, 3) := by decide +kernel
theorem d_x_put_76 : decode prog_1_method_19_code 76 = .ok (.iconst 1, 1) := by decide +kernel
theorem d_x_put_77 : decode prog_1_method_19_code 77 = .ok (.iadd, 1) := by decide +kernel
theorem d_x_put_78 : decode prog_1_method_19_code 78 = .ok (.putfield 183, 3) := by decide +kernel
theorem d_x_put_81 : decode prog_1_method_19_code 81 = .ok (.iload_n 3, 1) := by decide +kernel
theorem d_x_put_82 : decode prog_1_method_19_code 82 = .ok (.ireturn, 1) := by decide +kernel
theorem kc_x_put : Kw (m_w (mi_x_put )) := ⟨(in_t3 (List.mem_of_getElem? (i := 170) rfl)), rfl⟩
theorem mv_x_put : MV (mi_x_put ) "GuardedMoves" 6 := ⟨kw_649, ks_31, kc_x_put , kw_1, ⟨⟨(by show ("GuardedMoves" : String) ≠ "java/lang/invoke/MethodHandle"; decide), (by show ("GuardedMoves" : String) ≠ "java/lang/invoke/VarHandle"; decide)⟩, (by show (parseMethodDescriptor "(IIIIII)I").map (fun d => d.parameters.length) = some 6; decide +kernel)⟩⟩
def w_x_put (p1 : Int32) (p2 : Int32) (p3 : Int32) (p4 : Int32) (p5 : Int32) (p6 : Int32) (σ : Sg) (Q : Int32 → Sg → Prop) : Prop := vp_in (σ 0 12) 3000 ∧ (vp_in (σ 0 12) 3000 ∧ (vp_in (σ 0 12) 3000 ∧ (vp_in (σ 0 12) 3000 ∧ (vp_in (σ 0 12) 3000 ∧ (vp_in (σ 0 12) 3000 ∧ (Q p3 (up (up (up (up (up (up (up σ 6 ((σ 0 12).toNatClampNeg) p2) 14 ((σ 0 12).toNatClampNeg) p3) 15 ((σ 0 12).toNatClampNeg) p4) 16 ((σ 0 12).toNatClampNeg) p5) 17 ((σ 0 12).toNatClampNeg) p6) 7 ((σ 0 12).toNatClampNeg) p1) 0 12 ((σ 0 12) + 1))))))))
theorem b_x_put {Δ : Ly} {G : Gm} {Q : Int32 → Sg → Prop} (cx : Cx Δ G mi_x_put) (p1 : Int32) (p2 : Int32) (p3 : Int32) (p4 : Int32) (p5 : Int32) (p6 : Int32) (σ : Sg) (h : w_x_put p1 p2 p3 p4 p5 p6 σ Q) : Y Δ G mi_x_put (qI Q) noE 0 0 σ 0 [(0, .ref (Δ.1 0)), (1, .int p1), (2, .int p2), (3, .int p3), (4, .int p4), (5, .int p5), (6, .int p6)] [] := by
  unfold w_x_put at h
  refine y_aload_n cx (pc := 0) d_x_put_0 rfl 0 rfl ?_
  refine y_get cx (pc := 1) (j := 9) (v := .ref (Δ.1 6)) (le_b rfl) ck_GM kw_406 (le_b rfl) (gf_0_9 Δ _) d_x_put_1 ?_
  refine y_aload_n cx (pc := 4) d_x_put_4 rfl 0 rfl ?_
  refine y_get cx (pc := 5) (j := 12) (v := .int (σ 0 12)) (le_b rfl) ck_GM kw_409 (le_b rfl) (gf_0_12 Δ _) d_x_put_5 ?_
  refine y_iload_n cx (pc := 8) d_x_put_8 rfl 2 rfl ?_
  obtain ⟨h0, h⟩ := h
  refine y_iast cx (pc := 9) ⟨(le_b rfl), fun _ => rfl⟩ h0 d_x_put_9 ?_
  refine y_aload_n cx (pc := 10) d_x_put_10 rfl 0 rfl ?_
  refine y_get cx (pc := 11) (j := 10) (v := .ref (Δ.1 34)) (le_b rfl) ck_GM kw_407 (le_b rfl) (gf_0_10 Δ _) d_x_put_11 ?_
  refine y_iconst cx (pc := 14) ic_0 d_x_put_14 ?_
  refine y_aaldK cx (pc := 15) 0 (base := 14) ⟨(le_b rfl), fun _ => rfl⟩ (vp_dec _ _ (by decide)) (by decide) d_x_put_15 ?_
  refine y_aload_n cx (pc := 16) d_x_put_16 rfl 0 rfl ?_
  refine y_get cx (pc := 17) (j := 12) (v := .int (σ 0 12)) (le_b rfl) ck_GM kw_409 (le_b rfl) (gf_0_12 Δ _) d_x_put_17 ?_
  refine y_iload_n cx (pc := 20) d_x_put_20 rfl 3 rfl ?_
  obtain ⟨h0, h⟩ := h
  refine y_iast cx (pc := 21) ⟨(le_b rfl), fun _ => rfl⟩ h0 d_x_put_21 ?_
  refine y_aload_n cx (pc := 22) d_x_put_22 rfl 0 rfl ?_
  refine y_get cx (pc := 23) (j := 10) (v := .ref (Δ.1 34)) (le_b rfl) ck_GM kw_407 (le_b rfl) (gf_0_10 Δ _) d_x_put_23 ?_
  refine y_iconst cx (pc := 26) ic_1 d_x_put_26 ?_
  refine y_aaldK cx (pc := 27) 1 (base := 14) ⟨(le_b rfl), fun _ => rfl⟩ (vp_dec _ _ (by decide)) (by decide) d_x_put_27 ?_
  refine y_aload_n cx (pc := 28) d_x_put_28 rfl 0 rfl ?_
  refine y_get cx (pc := 29) (j := 12) (v := .int (σ 0 12)) (le_b rfl) ck_GM kw_409 (le_b rfl) (gf_0_12 Δ _) d_x_put_29 ?_
  refine y_iload cx (pc := 32) d_x_put_32 4 rfl ?_
  obtain ⟨h0, h⟩ := h
  refine y_iast cx (pc := 34) ⟨(le_b rfl), fun _ => rfl⟩ h0 d_x_put_34 ?_
  refine y_aload_n cx (pc := 35) d_x_put_35 rfl 0 rfl ?_
  refine y_get cx (pc := 36) (j := 10) (v := .ref (Δ.1 34)) (le_b rfl) ck_GM kw_407 (le_b rfl) (gf_0_10 Δ _) d_x_put_36 ?_
  refine y_iconst cx (pc := 39) ic_2 d_x_put_39 ?_
  refine y_aaldK cx (pc := 40) 2 (base := 14) ⟨(le_b rfl), fun _ => rfl⟩ (vp_dec _ _ (by decide)) (by decide) d_x_put_40 ?_
  refine y_aload_n cx (pc := 41) d_x_put_41 rfl 0 rfl ?_
  refine y_get cx (pc := 42) (j := 12) (v := .int (σ 0 12)) (le_b rfl) ck_GM kw_409 (le_b rfl) (gf_0_12 Δ _) d_x_put_42 ?_
  refine y_iload cx (pc := 45) d_x_put_45 5 rfl ?_
  obtain ⟨h0, h⟩ := h
  refine y_iast cx (pc := 47) ⟨(le_b rfl), fun _ => rfl⟩ h0 d_x_put_47 ?_
  refine y_aload_n cx (pc := 48) d_x_put_48 rfl 0 rfl ?_
  refine y_get cx (pc := 49) (j := 10) (v := .ref (Δ.1 34)) (le_b rfl) ck_GM kw_407 (le_b rfl) (gf_0_10 Δ _) d_x_put_49 ?_
  refine y_iconst cx (pc := 52) ic_3 d_x_put_52 ?_
  refine y_aaldK cx (pc := 53) 3 (base := 14) ⟨(le_b rfl), fun _ => rfl⟩ (vp_dec _ _ (by decide)) (by decide) d_x_put_53 ?_
  refine y_aload_n cx (pc := 54) d_x_put_54 rfl 0 rfl ?_
  refine y_get cx (pc := 55) (j := 12) (v := .int (σ 0 12)) (le_b rfl) ck_GM kw_409 (le_b rfl) (gf_0_12 Δ _) d_x_put_55 ?_
  refine y_iload cx (pc := 58) d_x_put_58 6 rfl ?_
  obtain ⟨h0, h⟩ := h
  refine y_iast cx (pc := 60) ⟨(le_b rfl), fun _ => rfl⟩ h0 d_x_put_60 ?_
  refine y_aload_n cx (pc := 61) d_x_put_61 rfl 0 rfl ?_
  refine y_get cx (pc := 62) (j := 11) (v := .ref (Δ.1 7)) (le_b rfl) ck_GM kw_408 (le_b rfl) (gf_0_11 Δ _) d_x_put_62 ?_
  refine y_aload_n cx (pc := 65) d_x_put_65 rfl 0 rfl ?_
  refine y_get cx (pc := 66) (j := 12) (v := .int (σ 0 12)) (le_b rfl) ck_GM kw_409 (le_b rfl) (gf_0_12 Δ _) d_x_put_66 ?_
  refine y_iload_n cx (pc := 69) d_x_put_69 rfl 1 rfl ?_
  obtain ⟨h0, h⟩ := h
  refine y_iast cx (pc := 70) ⟨(le_b rfl), fun _ => rfl⟩ h0 d_x_put_70 ?_
  refine y_aload_n cx (pc := 71) d_x_put_71 rfl 0 rfl ?_
  refine y_dup cx (pc := 72) rfl d_x_put_72 ?_
  refine y_get cx (pc := 73) (j := 12) (v := .int (σ 0 12)) (le_b rfl) ck_GM kw_409 (le_b rfl) (gf_0_12 Δ _) d_x_put_73 ?_
  refine y_iconst cx (pc := 76) ic_1 d_x_put_76 ?_
  refine y_iadd cx (pc := 77) d_x_put_77 ?_
  refine y_put cx (pc := 78) (j := 12) (ty := .int) (le_b rfl) ck_GM kw_409 (le_b rfl) rfl (t_GM_ok 12 (le_b rfl)) rfl rfl (pf_0_12 Δ) d_x_put_78 ?_
  refine y_iload_n cx (pc := 81) d_x_put_81 rfl 3 rfl ?_
  exact y_iret cx (pc := 82) rfl d_x_put_82 (le_b rfl) (le_b rfl) h
theorem c_x_put {l : Launch} (hfl : l.flags = flags0) (Δ : Ly) (p1 : Int32) (p2 : Int32) (p3 : Int32) (p4 : Int32) (p5 : Int32) (p6 : Int32) (σ : Sg) (Q : Int32 → Sg → Prop) (h : w_x_put p1 p2 p3 p4 p5 p6 σ Q) : Ct l Δ mi_x_put [.ref (Δ.1 0), .int p1, .int p2, .int p3, .int p4, .int p5, .int p6] σ (qI Q) noE :=
  Ct.of hfl (by show plainFor ⟨"GuardedMoves", "put", "(IIIIII)I"⟩ = true; decide +kernel) rfl (le_b rfl) (fun G hl cx => b_x_put cx p1 p2 p3 p4 p5 p6 σ h)
def mi_x_set : Mi := ("GuardedMoves", prog_1_method_21_code, 3, [], (some .int), 1, 30, 0, 0, ⟨"GuardedMoves", "set", "(II)I"⟩)
theorem d_x_set_0 : decode prog_1_method_21_code 0 = .ok (.aload_n 0, 1) := by decide +kernel
theorem d_x_set_1 : decode prog_1_method_21_code 1 = .ok (.iload_n 1, 1) := by decide +kernel
theorem d_x_set_2 : decode prog_1_method_21_code 2 = .ok (.iconst 0, 1) := by decide +kernel
theorem d_x_set_3 : decode prog_1_method_21_code 3 = .ok (.aload_n 0, 1) := by decide +kernel
theorem d_x_set_4 : decode prog_1_method_21_code 4 = .ok (.invokevirtual 199, 3) := by decide +kernel
theorem d_x_set_7 : decode prog_1_method_21_code 7 = .ok (.iload_n 2, 1) := by decide +kernel
theorem d_x_set_8 : decode prog_1_method_21_code 8 = .ok (.iconst 0, 1) := by decide +kernel
theorem d_x_set_9 : decode prog_1_method_21_code 9 = .ok (.iconst 0, 1) := by decide +kernel
theorem d_x_set_10 : decode prog_1_method_21_code 10 = .ok (.invokevirtual 202, 3) := by decide +kernel
theorem d_x_set_13 : decode prog_1_method_21_code 13 = .ok (.ireturn, 1) := by decide +kernel
theorem kc_x_set : Kw (m_w (mi_x_set )) := ⟨(in_t3 (List.mem_of_getElem? (i := 162) rfl)), rfl⟩
theorem mv_x_set : MV (mi_x_set ) "GuardedMoves" 2 := ⟨kw_641, ks_29, kc_x_set , kw_1, ⟨⟨(by show ("GuardedMoves" : String) ≠ "java/lang/invoke/MethodHandle"; decide), (by show ("GuardedMoves" : String) ≠ "java/lang/invoke/VarHandle"; decide)⟩, (by show (parseMethodDescriptor "(II)I").map (fun d => d.parameters.length) = some 2; decide +kernel)⟩⟩
def w_x_set (p1 : Int32) (p2 : Int32) (σ : Sg) (Q : Int32 → Sg → Prop) : Prop := w_x_fresh σ (fun x1 σ2 => w_x_put p1 0 x1 p2 0 0 σ2 (fun x3 σ4 => Q x3 σ4))
theorem b_x_set {Δ : Ly} {G : Gm} {Q : Int32 → Sg → Prop} (cx : Cx Δ G mi_x_set) (p1 : Int32) (p2 : Int32) (σ : Sg) (h : w_x_set p1 p2 σ Q) : Y Δ G mi_x_set (qI Q) noE 0 0 σ 0 [(0, .ref (Δ.1 0)), (1, .int p1), (2, .int p2)] [] := by
  unfold w_x_set at h
  refine y_aload_n cx (pc := 0) d_x_set_0 rfl 0 rfl ?_
  refine y_iload_n cx (pc := 1) d_x_set_1 rfl 1 rfl ?_
  refine y_iconst cx (pc := 2) ic_0 d_x_set_2 ?_
  refine y_aload_n cx (pc := 3) d_x_set_3 rfl 0 rfl ?_
  refine y_vI cx (pc := 4) (st := [.int 0, .int p1, .ref (Δ.1 0)]) [] (c_x_fresh cx.fl Δ _ _ h) mv_x_fresh kw_643 (oc_0 Δ) ck_GM rfl (le_b rfl) (le_b rfl) (le_b rfl) (le_b rfl) (le_b rfl) d_x_set_4 (fun x1 σ2 h => ?_) (fun x σ2 h => yt_no h)
  refine y_iload_n cx (pc := 7) d_x_set_7 rfl 2 rfl ?_
  refine y_iconst cx (pc := 8) ic_0 d_x_set_8 ?_
  refine y_iconst cx (pc := 9) ic_0 d_x_set_9 ?_
  refine y_vI cx (pc := 10) (st := []) [.int p1, .int 0, .int x1, .int p2, .int 0, .int 0] (c_x_put cx.fl Δ p1 0 x1 p2 0 0 _ _ h) mv_x_put kw_647 (oc_0 Δ) ck_GM rfl (le_b rfl) (le_b rfl) (le_b rfl) (le_b rfl) (le_b rfl) d_x_set_10 (fun x3 σ4 h => ?_) (fun x σ4 h => yt_no h)
  exact y_iret cx (pc := 13) rfl d_x_set_13 (le_b rfl) (le_b rfl) h
theorem c_x_set {l : Launch} (hfl : l.flags = flags0) (Δ : Ly) (p1 : Int32) (p2 : Int32) (σ : Sg) (Q : Int32 → Sg → Prop) (h : w_x_set p1 p2 σ Q) : Ct l Δ mi_x_set [.ref (Δ.1 0), .int p1, .int p2] σ (qI Q) noE :=
  Ct.of hfl (by show plainFor ⟨"GuardedMoves", "set", "(II)I"⟩ = true; decide +kernel) rfl (le_b rfl) (fun G hl cx => b_x_set cx p1 p2 σ h)
def mi_x_register : Mi := ("GuardedMoves", prog_1_method_22_code, 5, [], (some .int), 2, 56, 0, 0, ⟨"GuardedMoves", "register", "(III[I)I"⟩)
theorem d_x_register_0 : decode prog_1_method_22_code 0 = .ok (.iload_n 2, 1) := by decide +kernel
theorem d_x_register_1 : decode prog_1_method_22_code 1 = .ok (.iconst (-1), 1) := by decide +kernel
theorem d_x_register_2 : decode prog_1_method_22_code 2 = .ok (.if_icmp .eq 10, 3) := by decide +kernel
theorem d_x_register_5 : decode prog_1_method_22_code 5 = .ok (.aload 4, 2) := by decide +kernel
theorem d_x_register_7 : decode prog_1_method_22_code 7 = .ok (.iload_n 2, 1) := by decide +kernel
theorem d_x_register_8 : decode prog_1_method_22_code 8 = .ok (.iaload, 1) := by decide +kernel
theorem d_x_register_9 : decode prog_1_method_22_code 9 = .ok (.goto 9, 3) := by decide +kernel
theorem d_x_register_12 : decode prog_1_method_22_code 12 = .ok (.aload_n 0, 1) := by decide +kernel
theorem d_x_register_13 : decode prog_1_method_22_code 13 = .ok (.iload_n 1, 1) := by decide +kernel
theorem d_x_register_14 : decode prog_1_method_22_code 14 = .ok (.iload_n 3, 1) := by decide +kernel
theorem d_x_register_15 : decode prog_1_method_22_code 15 = .ok (.invokevirtual 206, 3) := by decide +kernel
theorem d_x_register_18 : decode prog_1_method_22_code 18 = .ok (.ireturn, 1) := by decide +kernel
theorem kc_x_register : Kw (m_w (mi_x_register )) := ⟨(in_t3 (List.mem_of_getElem? (i := 158) rfl)), rfl⟩
theorem mv_x_register : MV (mi_x_register ) "GuardedMoves" 4 := ⟨kw_637, ks_28, kc_x_register , kw_1, ⟨⟨(by show ("GuardedMoves" : String) ≠ "java/lang/invoke/MethodHandle"; decide), (by show ("GuardedMoves" : String) ≠ "java/lang/invoke/VarHandle"; decide)⟩, (by show (parseMethodDescriptor "(III[I)I").map (fun d => d.parameters.length) = some 4; decide +kernel)⟩⟩
def w_x_register_18 (Q : Int32 → Sg → Prop) (s0 : Int32) (σ : Sg) : Prop := Q s0 σ
theorem b_x_register_18 {Δ : Ly} {G : Gm} {Q : Int32 → Sg → Prop} (cx : Cx Δ G mi_x_register) : ∀ (s0 : Int32) (σ : Sg), w_x_register_18 Q s0 σ → Y Δ G mi_x_register (qI Q) noE 0 0 σ 18 [] [.int s0] := by
  intro s0 σ h
  unfold w_x_register_18 at h
  exact y_iret cx (pc := 18) rfl d_x_register_18 (le_b rfl) (le_b rfl) h
def w_x_register (p1 : Int32) (p2 : Int32) (p3 : Int32) (p4 : Nat) (σ : Sg) (Q : Int32 → Sg → Prop) : Prop := (p2 = (-1) → (w_x_set p1 p3 σ (fun x1 σ2 => w_x_register_18 Q x1 σ2))) ∧ (¬ p2 = (-1) → (inS p4 ∧ (vp_in p2 16 ∧ (w_x_register_18 Q (σ p4 (p2.toNatClampNeg)) σ))))
theorem b_x_register {Δ : Ly} {G : Gm} {Q : Int32 → Sg → Prop} (cx : Cx Δ G mi_x_register) (p1 : Int32) (p2 : Int32) (p3 : Int32) (p4 : Nat) (σ : Sg) (h : w_x_register p1 p2 p3 p4 σ Q) : Y Δ G mi_x_register (qI Q) noE 0 0 σ 0 [(0, .ref (Δ.1 0)), (1, .int p1), (2, .int p2), (3, .int p3), (4, .ref (Δ.1 p4))] [] := by
  unfold w_x_register at h
  refine y_iload_n cx (pc := 0) d_x_register_0 rfl 2 rfl ?_
  refine y_iconst cx (pc := 1) ic_m1 d_x_register_1 ?_
  refine y_icmp_eq cx (pc := 2) (tgt := 12) d_x_register_2 (by decide) (fun hc => ?_) (fun hc => ?_)
  · replace h := h.1 hc
    refine y_aload_n cx (pc := 12) d_x_register_12 rfl 0 rfl ?_
    refine y_iload_n cx (pc := 13) d_x_register_13 rfl 1 rfl ?_
    refine y_iload_n cx (pc := 14) d_x_register_14 rfl 3 rfl ?_
    refine y_vI cx (pc := 15) (st := []) [.int p1, .int p3] (c_x_set cx.fl Δ p1 p3 _ _ h) mv_x_set kw_639 (oc_0 Δ) ck_GM rfl (le_b rfl) (le_b rfl) (le_b rfl) (le_b rfl) (le_b rfl) d_x_register_15 (fun x1 σ2 h => ?_) (fun x σ2 h => yt_no h)
    refine y_sub [] rfl ?_
    exact b_x_register_18 cx x1 σ2 h
  · replace h := h.2 hc
    refine y_aload cx (pc := 5) d_x_register_5 4 rfl ?_
    refine y_iload_n cx (pc := 7) d_x_register_7 rfl 2 rfl ?_
    obtain ⟨h9, h⟩ := h
    obtain ⟨h0, h⟩ := h
    refine y_iald cx (pc := 8) (av_inS h9) h0 d_x_register_8 ?_
    refine y_goto cx (pc := 9) (tgt := 18) d_x_register_9 (by decide) ?_
    refine y_sub [] rfl ?_
    exact b_x_register_18 cx (σ p4 (p2.toNatClampNeg)) σ h
theorem c_x_register {l : Launch} (hfl : l.flags = flags0) (Δ : Ly) (p1 : Int32) (p2 : Int32) (p3 : Int32) (p4 : Nat) (σ : Sg) (Q : Int32 → Sg → Prop) (h : w_x_register p1 p2 p3 p4 σ Q) : Ct l Δ mi_x_register [.ref (Δ.1 0), .int p1, .int p2, .int p3, .ref (Δ.1 p4)] σ (qI Q) noE :=
  Ct.of hfl (by show plainFor ⟨"GuardedMoves", "register", "(III[I)I"⟩ = true; decide +kernel) rfl (le_b rfl) (fun G hl cx => b_x_register cx p1 p2 p3 p4 σ h)
def mi_x_first_IAI : Mi := ("GuardedMoves", prog_1_method_23_code, 3, [], (some .int), 3, 84, 0, 0, ⟨"GuardedMoves", "first", "(I[I)I"⟩)
theorem d_x_first_IAI_0 : decode prog_1_method_23_code 0 = .ok (.aload_n 0, 1) := by decide +kernel
theorem d_x_first_IAI_1 : decode prog_1_method_23_code 1 = .ok (.iload_n 1, 1) := by decide +kernel
theorem d_x_first_IAI_2 : decode prog_1_method_23_code 2 = .ok (.aload_n 0, 1) := by decide +kernel
theorem d_x_first_IAI_3 : decode prog_1_method_23_code 3 = .ok (.getfield 172, 3) := by decide +kernel
theorem d_x_first_IAI_6 : decode prog_1_method_23_code 6 = .ok (.getfield 88, 3) := by decide +kernel
theorem d_x_first_IAI_9 : decode prog_1_method_23_code 9 = .ok (.iload_n 1, 1) := by decide +kernel
theorem d_x_first_IAI_10 : decode prog_1_method_23_code 10 = .ok (.iaload, 1) := by decide +kernel
theorem d_x_first_IAI_11 : decode prog_1_method_23_code 11 = .ok (.aload_n 0, 1) := by decide +kernel
theorem d_x_first_IAI_12 : decode prog_1_method_23_code 12 = .ok (.getfield 172, 3) := by decide +kernel
theorem d_x_first_IAI_15 : decode prog_1_method_23_code 15 = .ok (.getfield 94, 3) := by decide +kernel
theorem d_x_first_IAI_18 : decode prog_1_method_23_code 18 = .ok (.iload_n 1, 1) := by decide +kernel
theorem d_x_first_IAI_19 : decode prog_1_method_23_code 19 = .ok (.iaload, 1) := by decide +kernel
theorem d_x_first_IAI_20 : decode prog_1_method_23_code 20 = .ok (.aload_n 2, 1) := by decide +kernel
theorem d_x_first_IAI_21 : decode prog_1_method_23_code 21 = .ok (.invokevirtual 210, 3) := by decide +kernel
theorem d_x_first_IAI_24 : decode prog_1_method_23_code 24 = .ok (.ireturn, 1) := by decide +kernel
theorem kc_x_first_IAI : Kw (m_w (mi_x_first_IAI )) := ⟨(in_t3 (List.mem_of_getElem? (i := 154) rfl)), rfl⟩
theorem mv_x_first_IAI : MV (mi_x_first_IAI ) "GuardedMoves" 2 := ⟨kw_633, ks_27, kc_x_first_IAI , kw_1, ⟨⟨(by show ("GuardedMoves" : String) ≠ "java/lang/invoke/MethodHandle"; decide), (by show ("GuardedMoves" : String) ≠ "java/lang/invoke/VarHandle"; decide)⟩, (by show (parseMethodDescriptor "(I[I)I").map (fun d => d.parameters.length) = some 2; decide +kernel)⟩⟩
def w_x_first_IAI (p1 : Int32) (p2 : Nat) (σ : Sg) (Q : Int32 → Sg → Prop) : Prop := vp_in p1 60 ∧ (vp_in p1 60 ∧ (w_x_register p1 (σ 40 (p1.toNatClampNeg)) (σ 41 (p1.toNatClampNeg)) p2 σ (fun x1 σ2 => Q x1 σ2)))
theorem b_x_first_IAI {Δ : Ly} {G : Gm} {Q : Int32 → Sg → Prop} (cx : Cx Δ G mi_x_first_IAI) (p1 : Int32) (p2 : Nat) (σ : Sg) (h : w_x_first_IAI p1 p2 σ Q) : Y Δ G mi_x_first_IAI (qI Q) noE 0 0 σ 0 [(0, .ref (Δ.1 0)), (1, .int p1), (2, .ref (Δ.1 p2))] [] := by
  unfold w_x_first_IAI at h
  refine y_aload_n cx (pc := 0) d_x_first_IAI_0 rfl 0 rfl ?_
  refine y_iload_n cx (pc := 1) d_x_first_IAI_1 rfl 1 rfl ?_
  refine y_aload_n cx (pc := 2) d_x_first_IAI_2 rfl 0 rfl ?_
  refine y_get cx (pc := 3) (j := 0) (v := .ref (Δ.1 1)) (le_b rfl) ck_GM kw_397 (le_b rfl) (gf_0_0 Δ _) d_x_first_IAI_3 ?_
  refine y_getN cx (pc := 6) (j := 5) (v := .ref (Δ.1 40)) (le_b rfl) ck_Tx kw_266 (le_b rfl) (gf_1_5 Δ _) d_x_first_IAI_6 ?_
  refine y_iload_n cx (pc := 9) d_x_first_IAI_9 rfl 1 rfl ?_
  obtain ⟨h0, h⟩ := h
  refine y_iald cx (pc := 10) ⟨(le_b rfl), fun _ => rfl⟩ h0 d_x_first_IAI_10 ?_
  refine y_aload_n cx (pc := 11) d_x_first_IAI_11 rfl 0 rfl ?_
  refine y_get cx (pc := 12) (j := 0) (v := .ref (Δ.1 1)) (le_b rfl) ck_GM kw_397 (le_b rfl) (gf_0_0 Δ _) d_x_first_IAI_12 ?_
  refine y_getN cx (pc := 15) (j := 6) (v := .ref (Δ.1 41)) (le_b rfl) ck_Tx kw_268 (le_b rfl) (gf_1_6 Δ _) d_x_first_IAI_15 ?_
  refine y_iload_n cx (pc := 18) d_x_first_IAI_18 rfl 1 rfl ?_
  obtain ⟨h0, h⟩ := h
  refine y_iald cx (pc := 19) ⟨(le_b rfl), fun _ => rfl⟩ h0 d_x_first_IAI_19 ?_
  refine y_aload_n cx (pc := 20) d_x_first_IAI_20 rfl 2 rfl ?_
  refine y_vI cx (pc := 21) (st := []) [.int p1, .int (σ 40 (p1.toNatClampNeg)), .int (σ 41 (p1.toNatClampNeg)), .ref (Δ.1 p2)] (c_x_register cx.fl Δ p1 (σ 40 (p1.toNatClampNeg)) (σ 41 (p1.toNatClampNeg)) p2 _ _ h) mv_x_register kw_635 (oc_0 Δ) ck_GM rfl (le_b rfl) (le_b rfl) (le_b rfl) (le_b rfl) (le_b rfl) d_x_first_IAI_21 (fun x1 σ2 h => ?_) (fun x σ2 h => yt_no h)
  exact y_iret cx (pc := 24) rfl d_x_first_IAI_24 (le_b rfl) (le_b rfl) h
theorem c_x_first_IAI {l : Launch} (hfl : l.flags = flags0) (Δ : Ly) (p1 : Int32) (p2 : Nat) (σ : Sg) (Q : Int32 → Sg → Prop) (h : w_x_first_IAI p1 p2 σ Q) : Ct l Δ mi_x_first_IAI [.ref (Δ.1 0), .int p1, .ref (Δ.1 p2)] σ (qI Q) noE :=
  Ct.of hfl (by show plainFor ⟨"GuardedMoves", "first", "(I[I)I"⟩ = true; decide +kernel) rfl (le_b rfl) (fun G hl cx => b_x_first_IAI cx p1 p2 σ h)
def mi_x_second_IAI : Mi := ("GuardedMoves", prog_1_method_24_code, 3, [], (some .int), 3, 84, 0, 0, ⟨"GuardedMoves", "second", "(I[I)I"⟩)
theorem d_x_second_IAI_0 : decode prog_1_method_24_code 0 = .ok (.aload_n 0, 1) := by decide +kernel
theorem d_x_second_IAI_1 : decode prog_1_method_24_code 1 = .ok (.iload_n 1, 1) := by decide +kernel
theorem d_x_second_IAI_2 : decode prog_1_method_24_code 2 = .ok (.aload_n 0, 1) := by decide +kernel
theorem d_x_second_IAI_3 : decode prog_1_method_24_code 3 = .ok (.getfield 172, 3) := by decide +kernel
theorem d_x_second_IAI_6 : decode prog_1_method_24_code 6 = .ok (.getfield 97, 3) := by decide +kernel
theorem d_x_second_IAI_9 : decode prog_1_method_24_code 9 = .ok (.iload_n 1, 1) := by decide +kernel
theorem d_x_second_IAI_10 : decode prog_1_method_24_code 10 = .ok (.iaload, 1) := by decide +kernel
theorem d_x_second_IAI_11 : decode prog_1_method_24_code 11 = .ok (.aload_n 0, 1) := by decide +kernel
theorem d_x_second_IAI_12 : decode prog_1_method_24_code 12 = .ok (.getfield 172, 3) := by decide +kernel
theorem d_x_second_IAI_15 : decode prog_1_method_24_code 15 = .ok (.getfield 100, 3) := by decide +kernel
theorem d_x_second_IAI_18 : decode prog_1_method_24_code 18 = .ok (.iload_n 1, 1) := by decide +kernel
theorem d_x_second_IAI_19 : decode prog_1_method_24_code 19 = .ok (.iaload, 1) := by decide +kernel
theorem d_x_second_IAI_20 : decode prog_1_method_24_code 20 = .ok (.aload_n 2, 1) := by decide +kernel
theorem d_x_second_IAI_21 : decode prog_1_method_24_code 21 = .ok (.invokevirtual 210, 3) := by decide +kernel
theorem d_x_second_IAI_24 : decode prog_1_method_24_code 24 = .ok (.ireturn, 1) := by decide +kernel
theorem kc_x_second_IAI : Kw (m_w (mi_x_second_IAI )) := ⟨(in_t3 (List.mem_of_getElem? (i := 174) rfl)), rfl⟩
theorem mv_x_second_IAI : MV (mi_x_second_IAI ) "GuardedMoves" 2 := ⟨kw_653, ks_32, kc_x_second_IAI , kw_1, ⟨⟨(by show ("GuardedMoves" : String) ≠ "java/lang/invoke/MethodHandle"; decide), (by show ("GuardedMoves" : String) ≠ "java/lang/invoke/VarHandle"; decide)⟩, (by show (parseMethodDescriptor "(I[I)I").map (fun d => d.parameters.length) = some 2; decide +kernel)⟩⟩
def w_x_second_IAI (p1 : Int32) (p2 : Nat) (σ : Sg) (Q : Int32 → Sg → Prop) : Prop := vp_in p1 60 ∧ (vp_in p1 60 ∧ (w_x_register p1 (σ 42 (p1.toNatClampNeg)) (σ 43 (p1.toNatClampNeg)) p2 σ (fun x1 σ2 => Q x1 σ2)))
theorem b_x_second_IAI {Δ : Ly} {G : Gm} {Q : Int32 → Sg → Prop} (cx : Cx Δ G mi_x_second_IAI) (p1 : Int32) (p2 : Nat) (σ : Sg) (h : w_x_second_IAI p1 p2 σ Q) : Y Δ G mi_x_second_IAI (qI Q) noE 0 0 σ 0 [(0, .ref (Δ.1 0)), (1, .int p1), (2, .ref (Δ.1 p2))] [] := by
  unfold w_x_second_IAI at h
  refine y_aload_n cx (pc := 0) d_x_second_IAI_0 rfl 0 rfl ?_
  refine y_iload_n cx (pc := 1) d_x_second_IAI_1 rfl 1 rfl ?_
  refine y_aload_n cx (pc := 2) d_x_second_IAI_2 rfl 0 rfl ?_
  refine y_get cx (pc := 3) (j := 0) (v := .ref (Δ.1 1)) (le_b rfl) ck_GM kw_397 (le_b rfl) (gf_0_0 Δ _) d_x_second_IAI_3 ?_
  refine y_getN cx (pc := 6) (j := 7) (v := .ref (Δ.1 42)) (le_b rfl) ck_Tx kw_270 (le_b rfl) (gf_1_7 Δ _) d_x_second_IAI_6 ?_
  refine y_iload_n cx (pc := 9) d_x_second_IAI_9 rfl 1 rfl ?_
  obtain ⟨h0, h⟩ := h
  refine y_iald cx (pc := 10) ⟨(le_b rfl), fun _ => rfl⟩ h0 d_x_second_IAI_10 ?_
  refine y_aload_n cx (pc := 11) d_x_second_IAI_11 rfl 0 rfl ?_
  refine y_get cx (pc := 12) (j := 0) (v := .ref (Δ.1 1)) (le_b rfl) ck_GM kw_397 (le_b rfl) (gf_0_0 Δ _) d_x_second_IAI_12 ?_
  refine y_getN cx (pc := 15) (j := 8) (v := .ref (Δ.1 43)) (le_b rfl) ck_Tx kw_272 (le_b rfl) (gf_1_8 Δ _) d_x_second_IAI_15 ?_
  refine y_iload_n cx (pc := 18) d_x_second_IAI_18 rfl 1 rfl ?_
  obtain ⟨h0, h⟩ := h
  refine y_iald cx (pc := 19) ⟨(le_b rfl), fun _ => rfl⟩ h0 d_x_second_IAI_19 ?_
  refine y_aload_n cx (pc := 20) d_x_second_IAI_20 rfl 2 rfl ?_
  refine y_vI cx (pc := 21) (st := []) [.int p1, .int (σ 42 (p1.toNatClampNeg)), .int (σ 43 (p1.toNatClampNeg)), .ref (Δ.1 p2)] (c_x_register cx.fl Δ p1 (σ 42 (p1.toNatClampNeg)) (σ 43 (p1.toNatClampNeg)) p2 _ _ h) mv_x_register kw_635 (oc_0 Δ) ck_GM rfl (le_b rfl) (le_b rfl) (le_b rfl) (le_b rfl) (le_b rfl) d_x_second_IAI_21 (fun x1 σ2 h => ?_) (fun x σ2 h => yt_no h)
  exact y_iret cx (pc := 24) rfl d_x_second_IAI_24 (le_b rfl) (le_b rfl) h
theorem c_x_second_IAI {l : Launch} (hfl : l.flags = flags0) (Δ : Ly) (p1 : Int32) (p2 : Nat) (σ : Sg) (Q : Int32 → Sg → Prop) (h : w_x_second_IAI p1 p2 σ Q) : Ct l Δ mi_x_second_IAI [.ref (Δ.1 0), .int p1, .ref (Δ.1 p2)] σ (qI Q) noE :=
  Ct.of hfl (by show plainFor ⟨"GuardedMoves", "second", "(I[I)I"⟩ = true; decide +kernel) rfl (le_b rfl) (fun G hl cx => b_x_second_IAI cx p1 p2 σ h)
def mi_x_test : Mi := ("GuardedMoves", prog_1_method_27_code, 5, [], (some .int), 4, 110, 0, 0, ⟨"GuardedMoves", "test", "(I[I)I"⟩)
theorem d_x_test_0 : decode prog_1_method_27_code 0 = .ok (.aload_n 0, 1) := by decide +kernel
theorem d_x_test_1 : decode prog_1_method_27_code 1 = .ok (.iload_n 1, 1) := by decide +kernel
theorem d_x_test_2 : decode prog_1_method_27_code 2 = .ok (.aload_n 2, 1) := by decide +kernel
theorem d_x_test_3 : decode prog_1_method_27_code 3 = .ok (.invokevirtual 223, 3) := by decide +kernel
theorem d_x_test_6 : decode prog_1_method_27_code 6 = .ok (.istore_n 3, 1) := by decide +kernel
theorem d_x_test_7 : decode prog_1_method_27_code 7 = .ok (.aload_n 0, 1) := by decide +kernel
theorem d_x_test_8 : decode prog_1_method_27_code 8 = .ok (.iload_n 1, 1) := by decide +kernel
theorem d_x_test_9 : decode prog_1_method_27_code 9 = .ok (.aload_n 2, 1) := by decide +kernel
theorem d_x_test_10 : decode prog_1_method_27_code 10 = .ok (.invokevirtual 227, 3) := by decide +kernel
theorem d_x_test_13 : decode prog_1_method_27_code 13 = .ok (.istore 4, 2) := by decide +kernel
theorem d_x_test_15 : decode prog_1_method_27_code 15 = .ok (.aload_n 0, 1) := by decide +kernel
theorem d_x_test_16 : decode prog_1_method_27_code 16 = .ok (.iload_n 1, 1) := by decide +kernel
theorem d_x_test_17 : decode prog_1_method_27_code 17 = .ok (.bipush 10, 2) := by decide +kernel
theorem d_x_test_19 : decode prog_1_method_27_code 19 = .ok (.aload_n 0, 1) := by decide +kernel
theorem d_x_test_20 : decode prog_1_method_27_code 20 = .ok (.getfield 172, 3) := by decide +kernel
theorem d_x_test_23 : decode prog_1_method_27_code 23 = .ok (.getfield 143, 3) := by decide +kernel
theorem d_x_test_26 : decode prog_1_method_27_code 26 = .ok (.iload_n 1, 1) := by decide +kernel
theorem d_x_test_27 : decode prog_1_method_27_code 27 = .ok (.iaload, 1) := by decide +kernel
theorem d_x_test_28 : decode prog_1_method_27_code 28 = .ok (.iadd, 1) := by decide +kernel
theorem d_x_test_29 : decode prog_1_method_27_code 29 = .ok (.aload_n 0, 1) := by decide +kernel
theorem d_x_test_30 : decode prog_1_method_27_code 30 = .ok (.invokevirtual 199, 3) := by decide +kernel
theorem d_x_test_33 : decode prog_1_method_27_code 33 = .ok (.iload_n 3, 1) := by decide +kernel
theorem d_x_test_34 : decode prog_1_method_27_code 34 = .ok (.iload 4, 2) := by decide +kernel
theorem d_x_test_36 : decode prog_1_method_27_code 36 = .ok (.iconst 0, 1) := by decide +kernel
theorem d_x_test_37 : decode prog_1_method_27_code 37 = .ok (.invokevirtual 202, 3) := by decide +kernel
theorem d_x_test_40 : decode prog_1_method_27_code 40 = .ok (.ireturn, 1) := by decide +kernel
theorem kc_x_test : Kw (m_w (mi_x_test )) := ⟨(in_t3 (List.mem_of_getElem? (i := 150) rfl)), rfl⟩
theorem mv_x_test : MV (mi_x_test ) "GuardedMoves" 2 := ⟨kw_629, ks_26, kc_x_test , kw_1, ⟨⟨(by show ("GuardedMoves" : String) ≠ "java/lang/invoke/MethodHandle"; decide), (by show ("GuardedMoves" : String) ≠ "java/lang/invoke/VarHandle"; decide)⟩, (by show (parseMethodDescriptor "(I[I)I").map (fun d => d.parameters.length) = some 2; decide +kernel)⟩⟩
def w_x_test (p1 : Int32) (p2 : Nat) (σ : Sg) (Q : Int32 → Sg → Prop) : Prop := w_x_first_IAI p1 p2 σ (fun x1 σ2 => w_x_second_IAI p1 p2 σ2 (fun x3 σ4 => vp_in p1 60 ∧ (w_x_fresh σ4 (fun x5 σ6 => w_x_put p1 (10 + (σ4 39 (p1.toNatClampNeg))) x5 x1 x3 0 σ6 (fun x7 σ8 => Q x7 σ8)))))
theorem b_x_test {Δ : Ly} {G : Gm} {Q : Int32 → Sg → Prop} (cx : Cx Δ G mi_x_test) (p1 : Int32) (p2 : Nat) (σ : Sg) (h : w_x_test p1 p2 σ Q) : Y Δ G mi_x_test (qI Q) noE 0 0 σ 0 [(0, .ref (Δ.1 0)), (1, .int p1), (2, .ref (Δ.1 p2))] [] := by
  unfold w_x_test at h
  refine y_aload_n cx (pc := 0) d_x_test_0 rfl 0 rfl ?_
  refine y_iload_n cx (pc := 1) d_x_test_1 rfl 1 rfl ?_
  refine y_aload_n cx (pc := 2) d_x_test_2 rfl 2 rfl ?_
  refine y_vI cx (pc := 3) (st := []) [.int p1, .ref (Δ.1 p2)] (c_x_first_IAI cx.fl Δ p1 p2 _ _ h) mv_x_first_IAI kw_631 (oc_0 Δ) ck_GM rfl (le_b rfl) (le_b rfl) (le_b rfl) (le_b rfl) (le_b rfl) d_x_test_3 (fun x1 σ2 h => ?_) (fun x σ2 h => yt_no h)
  refine y_istore_n (lv' := [(3, .int x1), (0, .ref (Δ.1 0)), (1, .int p1), (2, .ref (Δ.1 p2))]) cx (pc := 6) d_x_test_6 rfl (le_b rfl) rfl ?_
  refine y_aload_n cx (pc := 7) d_x_test_7 rfl 1 rfl ?_
  refine y_iload_n cx (pc := 8) d_x_test_8 rfl 2 rfl ?_
  refine y_aload_n cx (pc := 9) d_x_test_9 rfl 3 rfl ?_
  refine y_vI cx (pc := 10) (st := []) [.int p1, .ref (Δ.1 p2)] (c_x_second_IAI cx.fl Δ p1 p2 _ _ h) mv_x_second_IAI kw_651 (oc_0 Δ) ck_GM rfl (le_b rfl) (le_b rfl) (le_b rfl) (le_b rfl) (le_b rfl) d_x_test_10 (fun x3 σ4 h => ?_) (fun x σ4 h => yt_no h)
  refine y_istore (lv' := [(4, .int x3), (3, .int x1), (0, .ref (Δ.1 0)), (1, .int p1), (2, .ref (Δ.1 p2))]) cx (pc := 13) d_x_test_13 (le_b rfl) rfl ?_
  refine y_aload_n cx (pc := 15) d_x_test_15 rfl 2 rfl ?_
  refine y_iload_n cx (pc := 16) d_x_test_16 rfl 3 rfl ?_
  refine y_bipush cx (pc := 17) bp_10 d_x_test_17 ?_
  refine y_aload_n cx (pc := 19) d_x_test_19 rfl 2 rfl ?_
  refine y_get cx (pc := 20) (j := 0) (v := .ref (Δ.1 1)) (le_b rfl) ck_GM kw_397 (le_b rfl) (gf_0_0 Δ _) d_x_test_20 ?_
  refine y_getN cx (pc := 23) (j := 4) (v := .ref (Δ.1 39)) (le_b rfl) ck_Tx kw_264 (le_b rfl) (gf_1_4 Δ _) d_x_test_23 ?_
  refine y_iload_n cx (pc := 26) d_x_test_26 rfl 3 rfl ?_
  obtain ⟨h0, h⟩ := h
  refine y_iald cx (pc := 27) ⟨(le_b rfl), fun _ => rfl⟩ h0 d_x_test_27 ?_
  refine y_iadd cx (pc := 28) d_x_test_28 ?_
  refine y_aload_n cx (pc := 29) d_x_test_29 rfl 2 rfl ?_
  refine y_vI cx (pc := 30) (st := [.int (10 + (σ4 39 (p1.toNatClampNeg))), .int p1, .ref (Δ.1 0)]) [] (c_x_fresh cx.fl Δ _ _ h) mv_x_fresh kw_643 (oc_0 Δ) ck_GM rfl (le_b rfl) (le_b rfl) (le_b rfl) (le_b rfl) (le_b rfl) d_x_test_30 (fun x5 σ6 h => ?_) (fun x σ6 h => yt_no h)
  refine y_iload_n cx (pc := 33) d_x_test_33 rfl 1 rfl ?_
  refine y_iload cx (pc := 34) d_x_test_34 0 rfl ?_
  refine y_iconst cx (pc := 36) ic_0 d_x_test_36 ?_
  refine y_vI cx (pc := 37) (st := []) [.int p1, .int (10 + (σ4 39 (p1.toNatClampNeg))), .int x5, .int x1, .int x3, .int 0] (c_x_put cx.fl Δ p1 (10 + (σ4 39 (p1.toNatClampNeg))) x5 x1 x3 0 _ _ h) mv_x_put kw_647 (oc_0 Δ) ck_GM rfl (le_b rfl) (le_b rfl) (le_b rfl) (le_b rfl) (le_b rfl) d_x_test_37 (fun x7 σ8 h => ?_) (fun x σ8 h => yt_no h)
  exact y_iret cx (pc := 40) rfl d_x_test_40 (le_b rfl) (le_b rfl) h
theorem c_x_test {l : Launch} (hfl : l.flags = flags0) (Δ : Ly) (p1 : Int32) (p2 : Nat) (σ : Sg) (Q : Int32 → Sg → Prop) (h : w_x_test p1 p2 σ Q) : Ct l Δ mi_x_test [.ref (Δ.1 0), .int p1, .ref (Δ.1 p2)] σ (qI Q) noE :=
  Ct.of hfl (by show plainFor ⟨"GuardedMoves", "test", "(I[I)I"⟩ = true; decide +kernel) rfl (le_b rfl) (fun G hl cx => b_x_test cx p1 p2 σ h)
def mi_x_harmless : Mi := ("GuardedMoves", prog_1_method_32_code, 6, [], (some .int), 2, 56, 0, 0, ⟨"GuardedMoves", "harmless", "(IIII)I"⟩)
theorem d_x_harmless_0 : decode prog_1_method_32_code 0 = .ok (.aload_n 0, 1) := by decide +kernel
theorem d_x_harmless_1 : decode prog_1_method_32_code 1 = .ok (.iload_n 1, 1) := by decide +kernel
theorem d_x_harmless_2 : decode prog_1_method_32_code 2 = .ok (.iload 4, 2) := by decide +kernel
theorem d_x_harmless_4 : decode prog_1_method_32_code 4 = .ok (.invokevirtual 206, 3) := by decide +kernel
theorem d_x_harmless_7 : decode prog_1_method_32_code 7 = .ok (.istore 5, 2) := by decide +kernel
theorem d_x_harmless_9 : decode prog_1_method_32_code 9 = .ok (.aload_n 0, 1) := by decide +kernel
theorem d_x_harmless_10 : decode prog_1_method_32_code 10 = .ok (.iload_n 1, 1) := by decide +kernel
theorem d_x_harmless_11 : decode prog_1_method_32_code 11 = .ok (.bipush 13, 2) := by decide +kernel
theorem d_x_harmless_13 : decode prog_1_method_32_code 13 = .ok (.aload_n 0, 1) := by decide +kernel
theorem d_x_harmless_14 : decode prog_1_method_32_code 14 = .ok (.invokevirtual 199, 3) := by decide +kernel
theorem d_x_harmless_17 : decode prog_1_method_32_code 17 = .ok (.iload_n 2, 1) := by decide +kernel
theorem d_x_harmless_18 : decode prog_1_method_32_code 18 = .ok (.iload_n 3, 1) := by decide +kernel
theorem d_x_harmless_19 : decode prog_1_method_32_code 19 = .ok (.iload 5, 2) := by decide +kernel
theorem d_x_harmless_21 : decode prog_1_method_32_code 21 = .ok (.invokevirtual 202, 3) := by decide +kernel
theorem d_x_harmless_24 : decode prog_1_method_32_code 24 = .ok (.ireturn, 1) := by decide +kernel
theorem kc_x_harmless : Kw (m_w (mi_x_harmless )) := ⟨(in_t3 (List.mem_of_getElem? (i := 190) rfl)), rfl⟩
theorem mv_x_harmless : MV (mi_x_harmless ) "GuardedMoves" 4 := ⟨kw_669, ks_36, kc_x_harmless , kw_1, ⟨⟨(by show ("GuardedMoves" : String) ≠ "java/lang/invoke/MethodHandle"; decide), (by show ("GuardedMoves" : String) ≠ "java/lang/invoke/VarHandle"; decide)⟩, (by show (parseMethodDescriptor "(IIII)I").map (fun d => d.parameters.length) = some 4; decide +kernel)⟩⟩
def w_x_harmless (p1 : Int32) (p2 : Int32) (p3 : Int32) (p4 : Int32) (σ : Sg) (Q : Int32 → Sg → Prop) : Prop := w_x_set p1 p4 σ (fun x1 σ2 => w_x_fresh σ2 (fun x3 σ4 => w_x_put p1 13 x3 p2 p3 x1 σ4 (fun x5 σ6 => Q x5 σ6)))
theorem b_x_harmless {Δ : Ly} {G : Gm} {Q : Int32 → Sg → Prop} (cx : Cx Δ G mi_x_harmless) (p1 : Int32) (p2 : Int32) (p3 : Int32) (p4 : Int32) (σ : Sg) (h : w_x_harmless p1 p2 p3 p4 σ Q) : Y Δ G mi_x_harmless (qI Q) noE 0 0 σ 0 [(0, .ref (Δ.1 0)), (1, .int p1), (2, .int p2), (3, .int p3), (4, .int p4)] [] := by
  unfold w_x_harmless at h
  refine y_aload_n cx (pc := 0) d_x_harmless_0 rfl 0 rfl ?_
  refine y_iload_n cx (pc := 1) d_x_harmless_1 rfl 1 rfl ?_
  refine y_iload cx (pc := 2) d_x_harmless_2 4 rfl ?_
  refine y_vI cx (pc := 4) (st := []) [.int p1, .int p4] (c_x_set cx.fl Δ p1 p4 _ _ h) mv_x_set kw_639 (oc_0 Δ) ck_GM rfl (le_b rfl) (le_b rfl) (le_b rfl) (le_b rfl) (le_b rfl) d_x_harmless_4 (fun x1 σ2 h => ?_) (fun x σ2 h => yt_no h)
  refine y_istore (lv' := [(5, .int x1), (0, .ref (Δ.1 0)), (1, .int p1), (2, .int p2), (3, .int p3), (4, .int p4)]) cx (pc := 7) d_x_harmless_7 (le_b rfl) rfl ?_
  refine y_aload_n cx (pc := 9) d_x_harmless_9 rfl 1 rfl ?_
  refine y_iload_n cx (pc := 10) d_x_harmless_10 rfl 2 rfl ?_
  refine y_bipush cx (pc := 11) bp_13 d_x_harmless_11 ?_
  refine y_aload_n cx (pc := 13) d_x_harmless_13 rfl 1 rfl ?_
  refine y_vI cx (pc := 14) (st := [.int 13, .int p1, .ref (Δ.1 0)]) [] (c_x_fresh cx.fl Δ _ _ h) mv_x_fresh kw_643 (oc_0 Δ) ck_GM rfl (le_b rfl) (le_b rfl) (le_b rfl) (le_b rfl) (le_b rfl) d_x_harmless_14 (fun x3 σ4 h => ?_) (fun x σ4 h => yt_no h)
  refine y_iload_n cx (pc := 17) d_x_harmless_17 rfl 3 rfl ?_
  refine y_iload_n cx (pc := 18) d_x_harmless_18 rfl 4 rfl ?_
  refine y_iload cx (pc := 19) d_x_harmless_19 0 rfl ?_
  refine y_vI cx (pc := 21) (st := []) [.int p1, .int 13, .int x3, .int p2, .int p3, .int x1] (c_x_put cx.fl Δ p1 13 x3 p2 p3 x1 _ _ h) mv_x_put kw_647 (oc_0 Δ) ck_GM rfl (le_b rfl) (le_b rfl) (le_b rfl) (le_b rfl) (le_b rfl) d_x_harmless_21 (fun x5 σ6 h => ?_) (fun x σ6 h => yt_no h)
  exact y_iret cx (pc := 24) rfl d_x_harmless_24 (le_b rfl) (le_b rfl) h
theorem c_x_harmless {l : Launch} (hfl : l.flags = flags0) (Δ : Ly) (p1 : Int32) (p2 : Int32) (p3 : Int32) (p4 : Int32) (σ : Sg) (Q : Int32 → Sg → Prop) (h : w_x_harmless p1 p2 p3 p4 σ Q) : Ct l Δ mi_x_harmless [.ref (Δ.1 0), .int p1, .int p2, .int p3, .int p4] σ (qI Q) noE :=
  Ct.of hfl (by show plainFor ⟨"GuardedMoves", "harmless", "(IIII)I"⟩ = true; decide +kernel) rfl (le_b rfl) (fun G hl cx => b_x_harmless cx p1 p2 p3 p4 σ h)
def mi_x_index : Mi := ("GuardedMoves", prog_1_method_33_code, 4, [], (some .int), 3, 85, 0, 0, ⟨"GuardedMoves", "index", "(III)I"⟩)
theorem d_x_index_0 : decode prog_1_method_33_code 0 = .ok (.aload_n 0, 1) := by decide +kernel
theorem d_x_index_1 : decode prog_1_method_33_code 1 = .ok (.getfield 172, 3) := by decide +kernel
theorem d_x_index_4 : decode prog_1_method_33_code 4 = .ok (.getfield 88, 3) := by decide +kernel
theorem d_x_index_7 : decode prog_1_method_33_code 7 = .ok (.iload_n 1, 1) := by decide +kernel
theorem d_x_index_8 : decode prog_1_method_33_code 8 = .ok (.iaload, 1) := by decide +kernel
theorem d_x_index_9 : decode prog_1_method_33_code 9 = .ok (.iconst (-1), 1) := by decide +kernel
theorem d_x_index_10 : decode prog_1_method_33_code 10 = .ok (.if_icmp .ne 27, 3) := by decide +kernel
theorem d_x_index_13 : decode prog_1_method_33_code 13 = .ok (.aload_n 0, 1) := by decide +kernel
theorem d_x_index_14 : decode prog_1_method_33_code 14 = .ok (.getfield 172, 3) := by decide +kernel
theorem d_x_index_17 : decode prog_1_method_33_code 17 = .ok (.getfield 94, 3) := by decide +kernel
theorem d_x_index_20 : decode prog_1_method_33_code 20 = .ok (.iload_n 1, 1) := by decide +kernel
theorem d_x_index_21 : decode prog_1_method_33_code 21 = .ok (.iaload, 1) := by decide +kernel
theorem d_x_index_22 : decode prog_1_method_33_code 22 = .ok (.i2l, 1) := by decide +kernel
theorem d_x_index_23 : decode prog_1_method_33_code 23 = .ok (.lconst 0, 1) := by decide +kernel
theorem d_x_index_24 : decode prog_1_method_33_code 24 = .ok (.ldc2_w 256, 3) := by decide +kernel
theorem d_x_index_27 : decode prog_1_method_33_code 27 = .ok (.invokestatic 42, 3) := by decide +kernel
theorem d_x_index_30 : decode prog_1_method_33_code 30 = .ok (.ifCond .eq 7, 3) := by decide +kernel
theorem d_x_index_33 : decode prog_1_method_33_code 33 = .ok (.iload_n 3, 1) := by decide +kernel
theorem d_x_index_34 : decode prog_1_method_33_code 34 = .ok (.goto 11, 3) := by decide +kernel
theorem d_x_index_37 : decode prog_1_method_33_code 37 = .ok (.aload_n 0, 1) := by decide +kernel
theorem d_x_index_38 : decode prog_1_method_33_code 38 = .ok (.iload_n 1, 1) := by decide +kernel
theorem d_x_index_39 : decode prog_1_method_33_code 39 = .ok (.iload_n 2, 1) := by decide +kernel
theorem d_x_index_40 : decode prog_1_method_33_code 40 = .ok (.iload_n 3, 1) := by decide +kernel
theorem d_x_index_41 : decode prog_1_method_33_code 41 = .ok (.iconst 0, 1) := by decide +kernel
theorem d_x_index_42 : decode prog_1_method_33_code 42 = .ok (.invokevirtual 258, 3) := by decide +kernel
theorem d_x_index_45 : decode prog_1_method_33_code 45 = .ok (.ireturn, 1) := by decide +kernel
theorem kc_x_index : Kw (m_w (mi_x_index )) := ⟨(in_t3 (List.mem_of_getElem? (i := 194) rfl)), rfl⟩
theorem mv_x_index : MV (mi_x_index ) "GuardedMoves" 3 := ⟨kw_673, ks_37, kc_x_index , kw_1, ⟨⟨(by show ("GuardedMoves" : String) ≠ "java/lang/invoke/MethodHandle"; decide), (by show ("GuardedMoves" : String) ≠ "java/lang/invoke/VarHandle"; decide)⟩, (by show (parseMethodDescriptor "(III)I").map (fun d => d.parameters.length) = some 3; decide +kernel)⟩⟩
def w_x_index_45 (Q : Int32 → Sg → Prop) (s0 : Int32) (σ : Sg) : Prop := Q s0 σ
theorem b_x_index_45 {Δ : Ly} {G : Gm} {Q : Int32 → Sg → Prop} (cx : Cx Δ G mi_x_index) : ∀ (s0 : Int32) (σ : Sg), w_x_index_45 Q s0 σ → Y Δ G mi_x_index (qI Q) noE 0 0 σ 45 [] [.int s0] := by
  intro s0 σ h
  unfold w_x_index_45 at h
  exact y_iret cx (pc := 45) rfl d_x_index_45 (le_b rfl) (le_b rfl) h
def w_x_index_37 (Q : Int32 → Sg → Prop) (v1 : Int32) (v2 : Int32) (v3 : Int32) (σ : Sg) : Prop := w_x_harmless v1 v2 v3 0 σ (fun x1 σ2 => w_x_index_45 Q x1 σ2)
theorem b_x_index_37 {Δ : Ly} {G : Gm} {Q : Int32 → Sg → Prop} (cx : Cx Δ G mi_x_index) : ∀ (v1 : Int32) (v2 : Int32) (v3 : Int32) (σ : Sg), w_x_index_37 Q v1 v2 v3 σ → Y Δ G mi_x_index (qI Q) noE 0 0 σ 37 [(0, .ref (Δ.1 0)), (1, .int v1), (2, .int v2), (3, .int v3)] [] := by
  intro v1 v2 v3 σ h
  unfold w_x_index_37 at h
  refine y_aload_n cx (pc := 37) d_x_index_37 rfl 0 rfl ?_
  refine y_iload_n cx (pc := 38) d_x_index_38 rfl 1 rfl ?_
  refine y_iload_n cx (pc := 39) d_x_index_39 rfl 2 rfl ?_
  refine y_iload_n cx (pc := 40) d_x_index_40 rfl 3 rfl ?_
  refine y_iconst cx (pc := 41) ic_0 d_x_index_41 ?_
  refine y_vI cx (pc := 42) (st := []) [.int v1, .int v2, .int v3, .int 0] (c_x_harmless cx.fl Δ v1 v2 v3 0 _ _ h) mv_x_harmless kw_667 (oc_0 Δ) ck_GM rfl (le_b rfl) (le_b rfl) (le_b rfl) (le_b rfl) (le_b rfl) d_x_index_42 (fun x1 σ2 h => ?_) (fun x σ2 h => yt_no h)
  refine y_sub [] rfl ?_
  exact b_x_index_45 cx x1 σ2 h
def w_x_index (p1 : Int32) (p2 : Int32) (p3 : Int32) (σ : Sg) (Q : Int32 → Sg → Prop) : Prop := vp_in p1 60 ∧ ((¬ (σ 40 (p1.toNatClampNeg)) = (-1) → (w_x_index_37 Q p1 p2 p3 σ)) ∧ ((σ 40 (p1.toNatClampNeg)) = (-1) → (vp_in p1 60 ∧ (w_x_within ((σ 41 (p1.toNatClampNeg)).toInt64) 0 31 σ (fun x1 σ2 => (x1 = 0 → (w_x_index_37 Q p1 p2 p3 σ2)) ∧ (¬ x1 = 0 → (w_x_index_45 Q p3 σ2)))))))
theorem b_x_index {Δ : Ly} {G : Gm} {Q : Int32 → Sg → Prop} (cx : Cx Δ G mi_x_index) (p1 : Int32) (p2 : Int32) (p3 : Int32) (σ : Sg) (h : w_x_index p1 p2 p3 σ Q) : Y Δ G mi_x_index (qI Q) noE 0 0 σ 0 [(0, .ref (Δ.1 0)), (1, .int p1), (2, .int p2), (3, .int p3)] [] := by
  unfold w_x_index at h
  refine y_aload_n cx (pc := 0) d_x_index_0 rfl 0 rfl ?_
  refine y_get cx (pc := 1) (j := 0) (v := .ref (Δ.1 1)) (le_b rfl) ck_GM kw_397 (le_b rfl) (gf_0_0 Δ _) d_x_index_1 ?_
  refine y_getN cx (pc := 4) (j := 5) (v := .ref (Δ.1 40)) (le_b rfl) ck_Tx kw_266 (le_b rfl) (gf_1_5 Δ _) d_x_index_4 ?_
  refine y_iload_n cx (pc := 7) d_x_index_7 rfl 1 rfl ?_
  obtain ⟨h0, h⟩ := h
  refine y_iald cx (pc := 8) ⟨(le_b rfl), fun _ => rfl⟩ h0 d_x_index_8 ?_
  refine y_iconst cx (pc := 9) ic_m1 d_x_index_9 ?_
  refine y_icmp_ne cx (pc := 10) (tgt := 37) d_x_index_10 (by decide) (fun hc => ?_) (fun hc => ?_)
  · replace h := h.1 hc
    exact b_x_index_37 cx p1 p2 p3 σ h
  · replace h := h.2 hc
    refine y_aload_n cx (pc := 13) d_x_index_13 rfl 0 rfl ?_
    refine y_get cx (pc := 14) (j := 0) (v := .ref (Δ.1 1)) (le_b rfl) ck_GM kw_397 (le_b rfl) (gf_0_0 Δ _) d_x_index_14 ?_
    refine y_getN cx (pc := 17) (j := 6) (v := .ref (Δ.1 41)) (le_b rfl) ck_Tx kw_268 (le_b rfl) (gf_1_6 Δ _) d_x_index_17 ?_
    refine y_iload_n cx (pc := 20) d_x_index_20 rfl 1 rfl ?_
    obtain ⟨h0, h⟩ := h
    refine y_iald cx (pc := 21) ⟨(le_b rfl), fun _ => rfl⟩ h0 d_x_index_21 ?_
    refine y_i2l cx (pc := 22) d_x_index_22 ?_
    refine y_lconst cx (pc := 23) (v := 0) lc_0 d_x_index_23 ?_
    refine y_ldc2 cx (pc := 24) kw_233 d_x_index_24 ?_
    refine y_sI cx (pc := 27) (st := []) [.long ((σ 41 (p1.toNatClampNeg)).toInt64), .long 0, .long 31] (c_x_within cx.fl Δ ((σ 41 (p1.toNatClampNeg)).toInt64) 0 31 _ _ h) mv_x_within kw_41 rfl (le_b rfl) (le_b rfl) (le_b rfl) (le_b rfl) (le_b rfl) d_x_index_27 (fun x1 σ2 h => ?_) (fun x σ2 h => yt_no h)
    refine y_if_eq cx (pc := 30) (tgt := 37) d_x_index_30 (by decide) (fun hc => ?_) (fun hc => ?_)
    · replace h := h.1 hc
      exact b_x_index_37 cx p1 p2 p3 σ2 h
    · replace h := h.2 hc
      refine y_iload_n cx (pc := 33) d_x_index_33 rfl 3 rfl ?_
      refine y_goto cx (pc := 34) (tgt := 45) d_x_index_34 (by decide) ?_
      refine y_sub [] rfl ?_
      exact b_x_index_45 cx p3 σ2 h
theorem c_x_index {l : Launch} (hfl : l.flags = flags0) (Δ : Ly) (p1 : Int32) (p2 : Int32) (p3 : Int32) (σ : Sg) (Q : Int32 → Sg → Prop) (h : w_x_index p1 p2 p3 σ Q) : Ct l Δ mi_x_index [.ref (Δ.1 0), .int p1, .int p2, .int p3] σ (qI Q) noE :=
  Ct.of hfl (by show plainFor ⟨"GuardedMoves", "index", "(III)I"⟩ = true; decide +kernel) rfl (le_b rfl) (fun G hl cx => b_x_index cx p1 p2 p3 σ h)

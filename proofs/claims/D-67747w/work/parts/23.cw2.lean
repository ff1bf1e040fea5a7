def mi_x_readSet : Mi := ("GuardedMoves", prog_1_method_14_code, 3, [], none, 4, 107, 0, 0, ⟨"GuardedMoves", "readSet", "(I)V"⟩)
theorem d_x_readSet_0 : decode prog_1_method_14_code 0 = .ok (.aload_n 0, 1) := by decide +kernel
theorem d_x_readSet_1 : decode prog_1_method_14_code 1 = .ok (.bipush 61, 2) := by decide +kernel
theorem d_x_readSet_3 : decode prog_1_method_14_code 3 = .ok (.invokevirtual 123, 3) := by decide +kernel
theorem d_x_readSet_6 : decode prog_1_method_14_code 6 = .ok (.aload_n 0, 1) := by decide +kernel
theorem d_x_readSet_7 : decode prog_1_method_14_code 7 = .ok (.invokevirtual 46, 3) := by decide +kernel
theorem d_x_readSet_10 : decode prog_1_method_14_code 10 = .ok (.bipush 64, 2) := by decide +kernel
theorem d_x_readSet_12 : decode prog_1_method_14_code 12 = .ok (.if_icmp .ne 35, 3) := by decide +kernel
theorem d_x_readSet_15 : decode prog_1_method_14_code 15 = .ok (.aload_n 0, 1) := by decide +kernel
theorem d_x_readSet_16 : decode prog_1_method_14_code 16 = .ok (.dup, 1) := by decide +kernel
theorem d_x_readSet_17 : decode prog_1_method_14_code 17 = .ok (.getfield 28, 3) := by decide +kernel
theorem d_x_readSet_20 : decode prog_1_method_14_code 20 = .ok (.iconst 1, 1) := by decide +kernel
theorem d_x_readSet_21 : decode prog_1_method_14_code 21 = .ok (.iadd, 1) := by decide +kernel
theorem d_x_readSet_22 : decode prog_1_method_14_code 22 = .ok (.putfield 28, 3) := by decide +kernel
theorem d_x_readSet_25 : decode prog_1_method_14_code 25 = .ok (.aload_n 0, 1) := by decide +kernel
theorem d_x_readSet_26 : decode prog_1_method_14_code 26 = .ok (.getfield 84, 3) := by decide +kernel
theorem d_x_readSet_29 : decode prog_1_method_14_code 29 = .ok (.getfield 116, 3) := by decide +kernel
theorem d_x_readSet_32 : decode prog_1_method_14_code 32 = .ok (.iload_n 1, 1) := by decide +kernel
theorem d_x_readSet_33 : decode prog_1_method_14_code 33 = .ok (.iconst 2, 1) := by decide +kernel
theorem d_x_readSet_34 : decode prog_1_method_14_code 34 = .ok (.iastore, 1) := by decide +kernel
theorem d_x_readSet_35 : decode prog_1_method_14_code 35 = .ok (.aload_n 0, 1) := by decide +kernel
theorem d_x_readSet_36 : decode prog_1_method_14_code 36 = .ok (.iload_n 1, 1) := by decide +kernel
theorem d_x_readSet_37 : decode prog_1_method_14_code 37 = .ok (.invokevirtual 119, 3) := by decide +kernel
theorem d_x_readSet_40 : decode prog_1_method_14_code 40 = .ok (.aload_n 0, 1) := by decide +kernel
theorem d_x_readSet_41 : decode prog_1_method_14_code 41 = .ok (.bipush 59, 2) := by decide +kernel
theorem d_x_readSet_43 : decode prog_1_method_14_code 43 = .ok (.invokevirtual 123, 3) := by decide +kernel
theorem d_x_readSet_46 : decode prog_1_method_14_code 46 = .ok (.return_, 1) := by decide +kernel
theorem d_x_readSet_47 : decode prog_1_method_14_code 47 = .ok (.aload_n 0, 1) := by decide +kernel
theorem d_x_readSet_48 : decode prog_1_method_14_code 48 = .ok (.iload_n 1, 1) := by decide +kernel
theorem d_x_readSet_49 : decode prog_1_method_14_code 49 = .ok (.invokevirtual 119, 3) := by decide +kernel
theorem d_x_readSet_52 : decode prog_1_method_14_code 52 = .ok (.aload_n 0, 1) := by decide +kernel
theorem d_x_readSet_53 : decode prog_1_method_14_code 53 = .ok (.invokevirtual 46, 3) := by decide +kernel
theorem d_x_readSet_56 : decode prog_1_method_14_code 56 = .ok (.ifCond .ne 7, 3) := by decide +kernel
theorem d_x_readSet_59 : decode prog_1_method_14_code 59 = .ok (.iconst (-1), 1) := by decide +kernel
theorem d_x_readSet_60 : decode prog_1_method_14_code 60 = .ok (.goto 13, 3) := by decide +kernel
theorem d_x_readSet_63 : decode prog_1_method_14_code 63 = .ok (.ldc 135, 2) := by decide +kernel
theorem d_x_readSet_65 : decode prog_1_method_14_code 65 = .ok (.aload_n 0, 1) := by decide +kernel
theorem d_x_readSet_66 : decode prog_1_method_14_code 66 = .ok (.invokevirtual 46, 3) := by decide +kernel
theorem d_x_readSet_69 : decode prog_1_method_14_code 69 = .ok (.i2c, 1) := by decide +kernel
theorem d_x_readSet_70 : decode prog_1_method_14_code 70 = .ok (.invokevirtual 137, 3) := by decide +kernel
theorem d_x_readSet_73 : decode prog_1_method_14_code 73 = .ok (.istore_n 2, 1) := by decide +kernel
theorem d_x_readSet_74 : decode prog_1_method_14_code 74 = .ok (.aload_n 0, 1) := by decide +kernel
theorem d_x_readSet_75 : decode prog_1_method_14_code 75 = .ok (.getfield 84, 3) := by decide +kernel
theorem d_x_readSet_78 : decode prog_1_method_14_code 78 = .ok (.getfield 116, 3) := by decide +kernel
theorem d_x_readSet_81 : decode prog_1_method_14_code 81 = .ok (.iload_n 1, 1) := by decide +kernel
theorem d_x_readSet_82 : decode prog_1_method_14_code 82 = .ok (.iload_n 2, 1) := by decide +kernel
theorem d_x_readSet_83 : decode prog_1_method_14_code 83 = .ok (.ifCond .ge 7, 3) := by decide +kernel
theorem d_x_readSet_86 : decode prog_1_method_14_code 86 = .ok (.iconst 0, 1) := by decide +kernel
theorem d_x_readSet_87 : decode prog_1_method_14_code 87 = .ok (.goto 4, 3) := by decide +kernel
theorem d_x_readSet_90 : decode prog_1_method_14_code 90 = .ok (.iconst 1, 1) := by decide +kernel
theorem d_x_readSet_91 : decode prog_1_method_14_code 91 = .ok (.iastore, 1) := by decide +kernel
theorem d_x_readSet_92 : decode prog_1_method_14_code 92 = .ok (.iload_n 2, 1) := by decide +kernel
theorem d_x_readSet_93 : decode prog_1_method_14_code 93 = .ok (.ifCond .lt 28, 3) := by decide +kernel
theorem d_x_readSet_96 : decode prog_1_method_14_code 96 = .ok (.aload_n 0, 1) := by decide +kernel
theorem d_x_readSet_97 : decode prog_1_method_14_code 97 = .ok (.getfield 84, 3) := by decide +kernel
theorem d_x_readSet_100 : decode prog_1_method_14_code 100 = .ok (.getfield 143, 3) := by decide +kernel
theorem d_x_readSet_103 : decode prog_1_method_14_code 103 = .ok (.iload_n 1, 1) := by decide +kernel
theorem d_x_readSet_104 : decode prog_1_method_14_code 104 = .ok (.iload_n 2, 1) := by decide +kernel
theorem d_x_readSet_105 : decode prog_1_method_14_code 105 = .ok (.iastore, 1) := by decide +kernel
theorem d_x_readSet_106 : decode prog_1_method_14_code 106 = .ok (.aload_n 0, 1) := by decide +kernel
theorem d_x_readSet_107 : decode prog_1_method_14_code 107 = .ok (.dup, 1) := by decide +kernel
theorem d_x_readSet_108 : decode prog_1_method_14_code 108 = .ok (.getfield 28, 3) := by decide +kernel
theorem d_x_readSet_111 : decode prog_1_method_14_code 111 = .ok (.iconst 1, 1) := by decide +kernel
theorem d_x_readSet_112 : decode prog_1_method_14_code 112 = .ok (.iadd, 1) := by decide +kernel
theorem d_x_readSet_113 : decode prog_1_method_14_code 113 = .ok (.putfield 28, 3) := by decide +kernel
theorem d_x_readSet_116 : decode prog_1_method_14_code 116 = .ok (.aload_n 0, 1) := by decide +kernel
theorem d_x_readSet_117 : decode prog_1_method_14_code 117 = .ok (.iload_n 1, 1) := by decide +kernel
theorem d_x_readSet_118 : decode prog_1_method_14_code 118 = .ok (.invokevirtual 126, 3) := by decide +kernel
theorem d_x_readSet_121 : decode prog_1_method_14_code 121 = .ok (.aload_n 0, 1) := by decide +kernel
theorem d_x_readSet_122 : decode prog_1_method_14_code 122 = .ok (.bipush 59, 2) := by decide +kernel
theorem d_x_readSet_124 : decode prog_1_method_14_code 124 = .ok (.invokevirtual 123, 3) := by decide +kernel
theorem d_x_readSet_127 : decode prog_1_method_14_code 127 = .ok (.return_, 1) := by decide +kernel
theorem kc_x_readSet : Kw (m_w (mi_x_readSet )) := ⟨(in_t1 (List.mem_of_getElem? (i := 166) rfl)), rfl⟩
theorem mv_x_readSet : MV (mi_x_readSet ) "GuardedMoves" 1 := ⟨kw_165, ks_8, kc_x_readSet , kw_1, ⟨⟨(by show ("GuardedMoves" : String) ≠ "java/lang/invoke/MethodHandle"; decide), (by show ("GuardedMoves" : String) ≠ "java/lang/invoke/VarHandle"; decide)⟩, (by show (parseMethodDescriptor "(I)V").map (fun d => d.parameters.length) = some 1; decide +kernel)⟩⟩
def w_x_readSet_121 (Q : Sg → Prop) (E : Nat → Sg → Prop) (σ : Sg) : Prop := w_x_want_I 59 σ (fun σ1 => Q σ1) E
theorem b_x_readSet_121 {Δ : Ly} {G : Gm} {Q : Sg → Prop} {E : Nat → Sg → Prop} (cx : Cx Δ G mi_x_readSet) : ∀ (σ : Sg), w_x_readSet_121 Q E σ → Y Δ G mi_x_readSet (qV Q) E 0 0 σ 121 [(0, .ref (Δ.1 0))] [] := by
  intro σ h
  unfold w_x_readSet_121 at h
  refine y_aload_n cx (pc := 121) d_x_readSet_121 rfl 0 rfl ?_
  refine y_bipush cx (pc := 122) bp_59 d_x_readSet_122 ?_
  refine y_vV cx (pc := 124) (st := []) [.int 59] (c_x_want_I cx.fl Δ 59 _ _ _ h) mv_x_want_I kw_159 (oc_0 Δ) ck_GM rfl (le_b rfl) (le_b rfl) (le_b rfl) (le_b rfl) (le_b rfl) d_x_readSet_124 (fun σ1 h => ?_) (fun x σ1 h => ?_)
  ·
    exact y_vret cx (pc := 127) rfl d_x_readSet_127 (le_b rfl) (le_b rfl) h
  ·
    exact t_out cx rfl (le_b rfl) (le_b rfl) h
def w_x_readSet_91 (Q : Sg → Prop) (E : Nat → Sg → Prop) (v1 : Int32) (v2 : Int32) (s0 : Int32) (s1 : Int32) (σ : Sg) : Prop := vp_in s1 60 ∧ ((v2 < 0 → (w_x_readSet_121 Q E (up σ 47 (s1.toNatClampNeg) s0))) ∧ (¬ v2 < 0 → (vp_in v1 60 ∧ (w_x_takeSecond v1 (up (up (up σ 47 (s1.toNatClampNeg) s0) 50 (v1.toNatClampNeg) v2) 0 5 ((σ 0 5) + 1)) (fun σ1 => w_x_readSet_121 Q E σ1) E))))
theorem b_x_readSet_91 {Δ : Ly} {G : Gm} {Q : Sg → Prop} {E : Nat → Sg → Prop} (cx : Cx Δ G mi_x_readSet) : ∀ (v1 : Int32) (v2 : Int32) (s0 : Int32) (s1 : Int32) (σ : Sg), w_x_readSet_91 Q E v1 v2 s0 s1 σ → Y Δ G mi_x_readSet (qV Q) E 0 0 σ 91 [(0, .ref (Δ.1 0)), (1, .int v1), (2, .int v2)] [.int s0, .int s1, .ref (Δ.1 47)] := by
  intro v1 v2 s0 s1 σ h
  unfold w_x_readSet_91 at h
  obtain ⟨h0, h⟩ := h
  refine y_iast cx (pc := 91) ⟨(le_b rfl), fun _ => rfl⟩ h0 d_x_readSet_91 ?_
  refine y_iload_n cx (pc := 92) d_x_readSet_92 rfl 2 rfl ?_
  refine y_if_lt cx (pc := 93) (tgt := 121) d_x_readSet_93 (by decide) (fun hc => ?_) (fun hc => ?_)
  · replace h := h.1 hc
    refine y_sub [0] rfl ?_
    exact b_x_readSet_121 cx (up σ 47 (s1.toNatClampNeg) s0) h
  · replace h := h.2 hc
    refine y_aload_n cx (pc := 96) d_x_readSet_96 rfl 0 rfl ?_
    refine y_get cx (pc := 97) (j := 1) (v := .ref (Δ.1 2)) (le_b rfl) ck_GM kw_398 (le_b rfl) (gf_0_1 Δ _) d_x_readSet_97 ?_
    refine y_getN cx (pc := 100) (j := 4) (v := .ref (Δ.1 50)) (le_b rfl) ck_Tx kw_264 (le_b rfl) (gf_2_4 Δ _) d_x_readSet_100 ?_
    refine y_iload_n cx (pc := 103) d_x_readSet_103 rfl 1 rfl ?_
    refine y_iload_n cx (pc := 104) d_x_readSet_104 rfl 2 rfl ?_
    obtain ⟨h0, h⟩ := h
    refine y_iast cx (pc := 105) ⟨(le_b rfl), fun _ => rfl⟩ h0 d_x_readSet_105 ?_
    refine y_aload_n cx (pc := 106) d_x_readSet_106 rfl 0 rfl ?_
    refine y_dup cx (pc := 107) rfl d_x_readSet_107 ?_
    refine y_get cx (pc := 108) (j := 5) (v := .int (σ 0 5)) (le_b rfl) ck_GM kw_402 (le_b rfl) (gf_0_5 Δ _) d_x_readSet_108 ?_
    refine y_iconst cx (pc := 111) ic_1 d_x_readSet_111 ?_
    refine y_iadd cx (pc := 112) d_x_readSet_112 ?_
    refine y_put cx (pc := 113) (j := 5) (ty := .int) (le_b rfl) ck_GM kw_402 (le_b rfl) rfl (t_GM_ok 5 (le_b rfl)) rfl rfl (pf_0_5 Δ) d_x_readSet_113 ?_
    refine y_aload_n cx (pc := 116) d_x_readSet_116 rfl 0 rfl ?_
    refine y_iload_n cx (pc := 117) d_x_readSet_117 rfl 1 rfl ?_
    refine y_vV cx (pc := 118) (st := []) [.int v1] (c_x_takeSecond cx.fl Δ v1 _ _ _ h) mv_x_takeSecond kw_155 (oc_0 Δ) ck_GM rfl (le_b rfl) (le_b rfl) (le_b rfl) (le_b rfl) (le_b rfl) d_x_readSet_118 (fun σ1 h => ?_) (fun x σ1 h => ?_)
    ·
      refine y_sub [0] rfl ?_
      exact b_x_readSet_121 cx σ1 h
    ·
      exact t_out cx rfl (le_b rfl) (le_b rfl) h
def w_x_readSet_73 (Q : Sg → Prop) (E : Nat → Sg → Prop) (v1 : Int32) (s0 : Int32) (σ : Sg) : Prop := (0 ≤ s0 → (w_x_readSet_91 Q E v1 s0 1 v1 σ)) ∧ (¬ 0 ≤ s0 → (w_x_readSet_91 Q E v1 s0 0 v1 σ))
theorem b_x_readSet_73 {Δ : Ly} {G : Gm} {Q : Sg → Prop} {E : Nat → Sg → Prop} (cx : Cx Δ G mi_x_readSet) : ∀ (v1 : Int32) (s0 : Int32) (σ : Sg), w_x_readSet_73 Q E v1 s0 σ → Y Δ G mi_x_readSet (qV Q) E 0 0 σ 73 [(0, .ref (Δ.1 0)), (1, .int v1)] [.int s0] := by
  intro v1 s0 σ h
  unfold w_x_readSet_73 at h
  refine y_istore_n (lv' := [(2, .int s0), (0, .ref (Δ.1 0)), (1, .int v1)]) cx (pc := 73) d_x_readSet_73 rfl (le_b rfl) rfl ?_
  refine y_aload_n cx (pc := 74) d_x_readSet_74 rfl 1 rfl ?_
  refine y_get cx (pc := 75) (j := 1) (v := .ref (Δ.1 2)) (le_b rfl) ck_GM kw_398 (le_b rfl) (gf_0_1 Δ _) d_x_readSet_75 ?_
  refine y_getN cx (pc := 78) (j := 1) (v := .ref (Δ.1 47)) (le_b rfl) ck_Tx kw_258 (le_b rfl) (gf_2_1 Δ _) d_x_readSet_78 ?_
  refine y_iload_n cx (pc := 81) d_x_readSet_81 rfl 2 rfl ?_
  refine y_iload_n cx (pc := 82) d_x_readSet_82 rfl 0 rfl ?_
  refine y_if_ge cx (pc := 83) (tgt := 90) d_x_readSet_83 (by decide) (fun hc => ?_) (fun hc => ?_)
  · replace h := h.1 hc
    refine y_iconst cx (pc := 90) ic_1 d_x_readSet_90 ?_
    refine y_sub [1, 2, 0] rfl ?_
    exact b_x_readSet_91 cx v1 s0 1 v1 σ h
  · replace h := h.2 hc
    refine y_iconst cx (pc := 86) ic_0 d_x_readSet_86 ?_
    refine y_goto cx (pc := 87) (tgt := 91) d_x_readSet_87 (by decide) ?_
    refine y_sub [1, 2, 0] rfl ?_
    exact b_x_readSet_91 cx v1 s0 0 v1 σ h
def w_x_readSet (p1 : Int32) (σ : Sg) (Q : Sg → Prop) (E : Nat → Sg → Prop) : Prop := w_x_want_I 61 σ (fun σ1 => w_x_here σ1 (fun x2 σ3 => (¬ x2 = 64 → (w_x_takeFirst p1 σ3 (fun σ4 => w_x_here σ4 (fun x5 σ6 => (¬ x5 = 0 → (w_x_here σ6 (fun x7 σ8 => w_js_indexOf_I 0 ((x7.toUInt32 % 65536).toInt32) σ8 (fun x9 σ10 => w_x_readSet_73 Q E p1 x9 σ10)))) ∧ (x5 = 0 → (w_x_readSet_73 Q E p1 (-1) σ6)))) E)) ∧ (x2 = 64 → (vp_in p1 60 ∧ (w_x_takeFirst p1 (up (up σ3 0 5 ((σ3 0 5) + 1)) 47 (p1.toNatClampNeg) 2) (fun σ11 => w_x_want_I 59 σ11 (fun σ12 => Q σ12) E) E))))) E
theorem b_x_readSet {Δ : Ly} {G : Gm} {Q : Sg → Prop} {E : Nat → Sg → Prop} (cx : Cx Δ G mi_x_readSet) (p1 : Int32) (σ : Sg) (h : w_x_readSet p1 σ Q E) : Y Δ G mi_x_readSet (qV Q) E 0 0 σ 0 [(0, .ref (Δ.1 0)), (1, .int p1)] [] := by
  unfold w_x_readSet at h
  refine y_aload_n cx (pc := 0) d_x_readSet_0 rfl 0 rfl ?_
  refine y_bipush cx (pc := 1) bp_61 d_x_readSet_1 ?_
  refine y_vV cx (pc := 3) (st := []) [.int 61] (c_x_want_I cx.fl Δ 61 _ _ _ h) mv_x_want_I kw_159 (oc_0 Δ) ck_GM rfl (le_b rfl) (le_b rfl) (le_b rfl) (le_b rfl) (le_b rfl) d_x_readSet_3 (fun σ1 h => ?_) (fun x σ1 h => ?_)
  ·
    refine y_aload_n cx (pc := 6) d_x_readSet_6 rfl 0 rfl ?_
    refine y_vI cx (pc := 7) (st := []) [] (c_x_here cx.fl Δ _ _ h) mv_x_here kw_29 (oc_0 Δ) ck_GM rfl (le_b rfl) (le_b rfl) (le_b rfl) (le_b rfl) (le_b rfl) d_x_readSet_7 (fun x2 σ3 h => ?_) (fun x σ3 h => yt_no h)
    refine y_bipush cx (pc := 10) bp_64 d_x_readSet_10 ?_
    refine y_icmp_ne cx (pc := 12) (tgt := 47) d_x_readSet_12 (by decide) (fun hc => ?_) (fun hc => ?_)
    · replace h := h.1 hc
      refine y_aload_n cx (pc := 47) d_x_readSet_47 rfl 0 rfl ?_
      refine y_iload_n cx (pc := 48) d_x_readSet_48 rfl 1 rfl ?_
      refine y_vV cx (pc := 49) (st := []) [.int p1] (c_x_takeFirst cx.fl Δ p1 _ _ _ h) mv_x_takeFirst kw_52 (oc_0 Δ) ck_GM rfl (le_b rfl) (le_b rfl) (le_b rfl) (le_b rfl) (le_b rfl) d_x_readSet_49 (fun σ4 h => ?_) (fun x σ4 h => ?_)
      ·
        refine y_aload_n cx (pc := 52) d_x_readSet_52 rfl 0 rfl ?_
        refine y_vI cx (pc := 53) (st := []) [] (c_x_here cx.fl Δ _ _ h) mv_x_here kw_29 (oc_0 Δ) ck_GM rfl (le_b rfl) (le_b rfl) (le_b rfl) (le_b rfl) (le_b rfl) d_x_readSet_53 (fun x5 σ6 h => ?_) (fun x σ6 h => yt_no h)
        refine y_if_ne cx (pc := 56) (tgt := 63) d_x_readSet_56 (by decide) (fun hc => ?_) (fun hc => ?_)
        · replace h := h.1 hc
          refine y_ldcS0 cx rfl (pc := 63) d_x_readSet_63 ?_
          refine y_aload_n cx (pc := 65) d_x_readSet_65 rfl 0 rfl ?_
          refine y_vI cx (pc := 66) (st := [.ref (Δ.2.2.2.1 0)]) [] (c_x_here cx.fl Δ _ _ h) mv_x_here kw_29 (oc_0 Δ) ck_GM rfl (le_b rfl) (le_b rfl) (le_b rfl) (le_b rfl) (le_b rfl) d_x_readSet_66 (fun x7 σ8 h => ?_) (fun x σ8 h => yt_no h)
          refine y_i2c cx (pc := 69) d_x_readSet_69 ?_
          refine y_kI cx (pc := 70) (st := []) [.int ((x7.toUInt32 % 65536).toInt32)] (c_js_indexOf_I cx.fl Δ 0 ((x7.toUInt32 % 65536).toInt32) (le_b rfl) _ _ h) (le_b rfl) mv_js_indexOf_I kw_69 rfl (le_b rfl) (le_b rfl) (le_b rfl) (le_b rfl) (le_b rfl) d_x_readSet_70 (fun x9 σ10 h => ?_) (fun x σ10 h => yt_no h)
          exact b_x_readSet_73 cx p1 x9 σ10 h
        · replace h := h.2 hc
          refine y_iconst cx (pc := 59) ic_m1 d_x_readSet_59 ?_
          refine y_goto cx (pc := 60) (tgt := 73) d_x_readSet_60 (by decide) ?_
          exact b_x_readSet_73 cx p1 (-1) σ6 h
      ·
        exact t_out cx rfl (le_b rfl) (le_b rfl) h
    · replace h := h.2 hc
      refine y_aload_n cx (pc := 15) d_x_readSet_15 rfl 0 rfl ?_
      refine y_dup cx (pc := 16) rfl d_x_readSet_16 ?_
      refine y_get cx (pc := 17) (j := 5) (v := .int (σ3 0 5)) (le_b rfl) ck_GM kw_402 (le_b rfl) (gf_0_5 Δ _) d_x_readSet_17 ?_
      refine y_iconst cx (pc := 20) ic_1 d_x_readSet_20 ?_
      refine y_iadd cx (pc := 21) d_x_readSet_21 ?_
      refine y_put cx (pc := 22) (j := 5) (ty := .int) (le_b rfl) ck_GM kw_402 (le_b rfl) rfl (t_GM_ok 5 (le_b rfl)) rfl rfl (pf_0_5 Δ) d_x_readSet_22 ?_
      refine y_aload_n cx (pc := 25) d_x_readSet_25 rfl 0 rfl ?_
      refine y_get cx (pc := 26) (j := 1) (v := .ref (Δ.1 2)) (le_b rfl) ck_GM kw_398 (le_b rfl) (gf_0_1 Δ _) d_x_readSet_26 ?_
      refine y_getN cx (pc := 29) (j := 1) (v := .ref (Δ.1 47)) (le_b rfl) ck_Tx kw_258 (le_b rfl) (gf_2_1 Δ _) d_x_readSet_29 ?_
      refine y_iload_n cx (pc := 32) d_x_readSet_32 rfl 1 rfl ?_
      refine y_iconst cx (pc := 33) ic_2 d_x_readSet_33 ?_
      obtain ⟨h0, h⟩ := h
      refine y_iast cx (pc := 34) ⟨(le_b rfl), fun _ => rfl⟩ h0 d_x_readSet_34 ?_
      refine y_aload_n cx (pc := 35) d_x_readSet_35 rfl 0 rfl ?_
      refine y_iload_n cx (pc := 36) d_x_readSet_36 rfl 1 rfl ?_
      refine y_vV cx (pc := 37) (st := []) [.int p1] (c_x_takeFirst cx.fl Δ p1 _ _ _ h) mv_x_takeFirst kw_52 (oc_0 Δ) ck_GM rfl (le_b rfl) (le_b rfl) (le_b rfl) (le_b rfl) (le_b rfl) d_x_readSet_37 (fun σ11 h => ?_) (fun x σ11 h => ?_)
      ·
        refine y_aload_n cx (pc := 40) d_x_readSet_40 rfl 0 rfl ?_
        refine y_bipush cx (pc := 41) bp_59 d_x_readSet_41 ?_
        refine y_vV cx (pc := 43) (st := []) [.int 59] (c_x_want_I cx.fl Δ 59 _ _ _ h) mv_x_want_I kw_159 (oc_0 Δ) ck_GM rfl (le_b rfl) (le_b rfl) (le_b rfl) (le_b rfl) (le_b rfl) d_x_readSet_43 (fun σ12 h => ?_) (fun x σ12 h => ?_)
        ·
          exact y_vret cx (pc := 46) rfl d_x_readSet_46 (le_b rfl) (le_b rfl) h
        ·
          exact t_out cx rfl (le_b rfl) (le_b rfl) h
      ·
        exact t_out cx rfl (le_b rfl) (le_b rfl) h
  ·
    exact t_out cx rfl (le_b rfl) (le_b rfl) h
theorem c_x_readSet {l : Launch} (hfl : l.flags = flags0) (Δ : Ly) (p1 : Int32) (σ : Sg) (Q : Sg → Prop) (E : Nat → Sg → Prop) (h : w_x_readSet p1 σ Q E) : Ct l Δ mi_x_readSet [.ref (Δ.1 0), .int p1] σ (qV Q) E :=
  Ct.of hfl (by show plainFor ⟨"GuardedMoves", "readSet", "(I)V"⟩ = true; decide +kernel) rfl (le_b rfl) (fun G hl cx => b_x_readSet cx p1 σ h)
def mi_x_readAsk (d : Nat) : Mi := ("GuardedMoves", prog_1_method_15_code, 4, [], none, 5 + 2 * d + 1, 133 + 54 * d + 27, 0, 0, ⟨"GuardedMoves", "readAsk", "(II)V"⟩)
theorem d_x_readAsk_0 : decode prog_1_method_15_code 0 = .ok (.aload_n 0, 1) := by decide +kernel
theorem d_x_readAsk_1 : decode prog_1_method_15_code 1 = .ok (.getfield 84, 3) := by decide +kernel
theorem d_x_readAsk_4 : decode prog_1_method_15_code 4 = .ok (.getfield 116, 3) := by decide +kernel
theorem d_x_readAsk_7 : decode prog_1_method_15_code 7 = .ok (.iload_n 1, 1) := by decide +kernel
theorem d_x_readAsk_8 : decode prog_1_method_15_code 8 = .ok (.iconst 5, 1) := by decide +kernel
theorem d_x_readAsk_9 : decode prog_1_method_15_code 9 = .ok (.iastore, 1) := by decide +kernel
theorem d_x_readAsk_10 : decode prog_1_method_15_code 10 = .ok (.aload_n 0, 1) := by decide +kernel
theorem d_x_readAsk_11 : decode prog_1_method_15_code 11 = .ok (.iload_n 1, 1) := by decide +kernel
theorem d_x_readAsk_12 : decode prog_1_method_15_code 12 = .ok (.invokevirtual 119, 3) := by decide +kernel
theorem d_x_readAsk_15 : decode prog_1_method_15_code 15 = .ok (.aload_n 0, 1) := by decide +kernel
theorem d_x_readAsk_16 : decode prog_1_method_15_code 16 = .ok (.invokevirtual 46, 3) := by decide +kernel
theorem d_x_readAsk_19 : decode prog_1_method_15_code 19 = .ok (.ifCond .ne 7, 3) := by decide +kernel
theorem d_x_readAsk_22 : decode prog_1_method_15_code 22 = .ok (.iconst (-1), 1) := by decide +kernel
theorem d_x_readAsk_23 : decode prog_1_method_15_code 23 = .ok (.goto 13, 3) := by decide +kernel
theorem d_x_readAsk_26 : decode prog_1_method_15_code 26 = .ok (.ldc 146, 2) := by decide +kernel
theorem d_x_readAsk_28 : decode prog_1_method_15_code 28 = .ok (.aload_n 0, 1) := by decide +kernel
theorem d_x_readAsk_29 : decode prog_1_method_15_code 29 = .ok (.invokevirtual 46, 3) := by decide +kernel
theorem d_x_readAsk_32 : decode prog_1_method_15_code 32 = .ok (.i2c, 1) := by decide +kernel
theorem d_x_readAsk_33 : decode prog_1_method_15_code 33 = .ok (.invokevirtual 137, 3) := by decide +kernel
theorem d_x_readAsk_36 : decode prog_1_method_15_code 36 = .ok (.istore_n 3, 1) := by decide +kernel
theorem d_x_readAsk_37 : decode prog_1_method_15_code 37 = .ok (.iload_n 3, 1) := by decide +kernel
theorem d_x_readAsk_38 : decode prog_1_method_15_code 38 = .ok (.ifCond .ge 13, 3) := by decide +kernel
theorem d_x_readAsk_41 : decode prog_1_method_15_code 41 = .ok (.aload_n 0, 1) := by decide +kernel
theorem d_x_readAsk_42 : decode prog_1_method_15_code 42 = .ok (.iconst 1, 1) := by decide +kernel
theorem d_x_readAsk_43 : decode prog_1_method_15_code 43 = .ok (.aload_n 0, 1) := by decide +kernel
theorem d_x_readAsk_44 : decode prog_1_method_15_code 44 = .ok (.getfield 28, 3) := by decide +kernel
theorem d_x_readAsk_47 : decode prog_1_method_15_code 47 = .ok (.invokevirtual 50, 3) := by decide +kernel
theorem d_x_readAsk_50 : decode prog_1_method_15_code 50 = .ok (.athrow, 1) := by decide +kernel
theorem d_x_readAsk_51 : decode prog_1_method_15_code 51 = .ok (.aload_n 0, 1) := by decide +kernel
theorem d_x_readAsk_52 : decode prog_1_method_15_code 52 = .ok (.getfield 84, 3) := by decide +kernel
theorem d_x_readAsk_55 : decode prog_1_method_15_code 55 = .ok (.getfield 143, 3) := by decide +kernel
theorem d_x_readAsk_58 : decode prog_1_method_15_code 58 = .ok (.iload_n 1, 1) := by decide +kernel
theorem d_x_readAsk_59 : decode prog_1_method_15_code 59 = .ok (.iload_n 3, 1) := by decide +kernel
theorem d_x_readAsk_60 : decode prog_1_method_15_code 60 = .ok (.iastore, 1) := by decide +kernel
theorem d_x_readAsk_61 : decode prog_1_method_15_code 61 = .ok (.aload_n 0, 1) := by decide +kernel
theorem d_x_readAsk_62 : decode prog_1_method_15_code 62 = .ok (.dup, 1) := by decide +kernel
theorem d_x_readAsk_63 : decode prog_1_method_15_code 63 = .ok (.getfield 28, 3) := by decide +kernel
theorem d_x_readAsk_66 : decode prog_1_method_15_code 66 = .ok (.iconst 1, 1) := by decide +kernel
theorem d_x_readAsk_67 : decode prog_1_method_15_code 67 = .ok (.iadd, 1) := by decide +kernel
theorem d_x_readAsk_68 : decode prog_1_method_15_code 68 = .ok (.putfield 28, 3) := by decide +kernel
theorem d_x_readAsk_71 : decode prog_1_method_15_code 71 = .ok (.aload_n 0, 1) := by decide +kernel
theorem d_x_readAsk_72 : decode prog_1_method_15_code 72 = .ok (.iload_n 1, 1) := by decide +kernel
theorem d_x_readAsk_73 : decode prog_1_method_15_code 73 = .ok (.invokevirtual 126, 3) := by decide +kernel
theorem d_x_readAsk_76 : decode prog_1_method_15_code 76 = .ok (.aload_n 0, 1) := by decide +kernel
theorem d_x_readAsk_77 : decode prog_1_method_15_code 77 = .ok (.bipush 123, 2) := by decide +kernel
theorem d_x_readAsk_79 : decode prog_1_method_15_code 79 = .ok (.invokevirtual 123, 3) := by decide +kernel
theorem d_x_readAsk_82 : decode prog_1_method_15_code 82 = .ok (.aload_n 0, 1) := by decide +kernel
theorem d_x_readAsk_83 : decode prog_1_method_15_code 83 = .ok (.iload_n 2, 1) := by decide +kernel
theorem d_x_readAsk_84 : decode prog_1_method_15_code 84 = .ok (.iconst 1, 1) := by decide +kernel
theorem d_x_readAsk_85 : decode prog_1_method_15_code 85 = .ok (.iadd, 1) := by decide +kernel
theorem d_x_readAsk_86 : decode prog_1_method_15_code 86 = .ok (.invokevirtual 148, 3) := by decide +kernel
theorem d_x_readAsk_89 : decode prog_1_method_15_code 89 = .ok (.aload_n 0, 1) := by decide +kernel
theorem d_x_readAsk_90 : decode prog_1_method_15_code 90 = .ok (.bipush 125, 2) := by decide +kernel
theorem d_x_readAsk_92 : decode prog_1_method_15_code 92 = .ok (.invokevirtual 123, 3) := by decide +kernel
theorem d_x_readAsk_95 : decode prog_1_method_15_code 95 = .ok (.aload_n 0, 1) := by decide +kernel
theorem d_x_readAsk_96 : decode prog_1_method_15_code 96 = .ok (.getfield 84, 3) := by decide +kernel
theorem d_x_readAsk_99 : decode prog_1_method_15_code 99 = .ok (.getfield 151, 3) := by decide +kernel
theorem d_x_readAsk_102 : decode prog_1_method_15_code 102 = .ok (.iload_n 1, 1) := by decide +kernel
theorem d_x_readAsk_103 : decode prog_1_method_15_code 103 = .ok (.aload_n 0, 1) := by decide +kernel
theorem d_x_readAsk_104 : decode prog_1_method_15_code 104 = .ok (.getfield 84, 3) := by decide +kernel
theorem d_x_readAsk_107 : decode prog_1_method_15_code 107 = .ok (.getfield 106, 3) := by decide +kernel
theorem d_x_readAsk_110 : decode prog_1_method_15_code 110 = .ok (.iastore, 1) := by decide +kernel
theorem d_x_readAsk_111 : decode prog_1_method_15_code 111 = .ok (.aload_n 0, 1) := by decide +kernel
theorem d_x_readAsk_112 : decode prog_1_method_15_code 112 = .ok (.getfield 84, 3) := by decide +kernel
theorem d_x_readAsk_115 : decode prog_1_method_15_code 115 = .ok (.getfield 154, 3) := by decide +kernel
theorem d_x_readAsk_118 : decode prog_1_method_15_code 118 = .ok (.iload_n 1, 1) := by decide +kernel
theorem d_x_readAsk_119 : decode prog_1_method_15_code 119 = .ok (.aload_n 0, 1) := by decide +kernel
theorem d_x_readAsk_120 : decode prog_1_method_15_code 120 = .ok (.invokevirtual 46, 3) := by decide +kernel
theorem d_x_readAsk_123 : decode prog_1_method_15_code 123 = .ok (.bipush 123, 2) := by decide +kernel
theorem d_x_readAsk_125 : decode prog_1_method_15_code 125 = .ok (.if_icmp .ne 7, 3) := by decide +kernel
theorem d_x_readAsk_128 : decode prog_1_method_15_code 128 = .ok (.iconst 1, 1) := by decide +kernel
theorem d_x_readAsk_129 : decode prog_1_method_15_code 129 = .ok (.goto 4, 3) := by decide +kernel
theorem d_x_readAsk_132 : decode prog_1_method_15_code 132 = .ok (.iconst 0, 1) := by decide +kernel
theorem d_x_readAsk_133 : decode prog_1_method_15_code 133 = .ok (.bastore, 1) := by decide +kernel
theorem d_x_readAsk_134 : decode prog_1_method_15_code 134 = .ok (.aload_n 0, 1) := by decide +kernel
theorem d_x_readAsk_135 : decode prog_1_method_15_code 135 = .ok (.getfield 84, 3) := by decide +kernel
theorem d_x_readAsk_138 : decode prog_1_method_15_code 138 = .ok (.getfield 154, 3) := by decide +kernel
theorem d_x_readAsk_141 : decode prog_1_method_15_code 141 = .ok (.iload_n 1, 1) := by decide +kernel
theorem d_x_readAsk_142 : decode prog_1_method_15_code 142 = .ok (.baload, 1) := by decide +kernel
theorem d_x_readAsk_143 : decode prog_1_method_15_code 143 = .ok (.ifCond .eq 26, 3) := by decide +kernel
theorem d_x_readAsk_146 : decode prog_1_method_15_code 146 = .ok (.aload_n 0, 1) := by decide +kernel
theorem d_x_readAsk_147 : decode prog_1_method_15_code 147 = .ok (.dup, 1) := by decide +kernel
theorem d_x_readAsk_148 : decode prog_1_method_15_code 148 = .ok (.getfield 28, 3) := by decide +kernel
theorem d_x_readAsk_151 : decode prog_1_method_15_code 151 = .ok (.iconst 1, 1) := by decide +kernel
theorem d_x_readAsk_152 : decode prog_1_method_15_code 152 = .ok (.iadd, 1) := by decide +kernel
theorem d_x_readAsk_153 : decode prog_1_method_15_code 153 = .ok (.putfield 28, 3) := by decide +kernel
theorem d_x_readAsk_156 : decode prog_1_method_15_code 156 = .ok (.aload_n 0, 1) := by decide +kernel
theorem d_x_readAsk_157 : decode prog_1_method_15_code 157 = .ok (.iload_n 2, 1) := by decide +kernel
theorem d_x_readAsk_158 : decode prog_1_method_15_code 158 = .ok (.iconst 1, 1) := by decide +kernel
theorem d_x_readAsk_159 : decode prog_1_method_15_code 159 = .ok (.iadd, 1) := by decide +kernel
theorem d_x_readAsk_160 : decode prog_1_method_15_code 160 = .ok (.invokevirtual 148, 3) := by decide +kernel
theorem d_x_readAsk_163 : decode prog_1_method_15_code 163 = .ok (.aload_n 0, 1) := by decide +kernel
theorem d_x_readAsk_164 : decode prog_1_method_15_code 164 = .ok (.bipush 125, 2) := by decide +kernel
theorem d_x_readAsk_166 : decode prog_1_method_15_code 166 = .ok (.invokevirtual 123, 3) := by decide +kernel
theorem d_x_readAsk_169 : decode prog_1_method_15_code 169 = .ok (.aload_n 0, 1) := by decide +kernel
theorem d_x_readAsk_170 : decode prog_1_method_15_code 170 = .ok (.getfield 84, 3) := by decide +kernel
theorem d_x_readAsk_173 : decode prog_1_method_15_code 173 = .ok (.getfield 158, 3) := by decide +kernel
theorem d_x_readAsk_176 : decode prog_1_method_15_code 176 = .ok (.iload_n 1, 1) := by decide +kernel
theorem d_x_readAsk_177 : decode prog_1_method_15_code 177 = .ok (.aload_n 0, 1) := by decide +kernel
theorem d_x_readAsk_178 : decode prog_1_method_15_code 178 = .ok (.getfield 84, 3) := by decide +kernel
theorem d_x_readAsk_181 : decode prog_1_method_15_code 181 = .ok (.getfield 106, 3) := by decide +kernel
theorem d_x_readAsk_184 : decode prog_1_method_15_code 184 = .ok (.iastore, 1) := by decide +kernel
theorem d_x_readAsk_185 : decode prog_1_method_15_code 185 = .ok (.return_, 1) := by decide +kernel
theorem kc_x_readAsk (d : Nat) : Kw (m_w (mi_x_readAsk d )) := ⟨(in_t1 (List.mem_of_getElem? (i := 51) rfl)), rfl⟩
theorem mv_x_readAsk (d : Nat) : MV (mi_x_readAsk d ) "GuardedMoves" 2 := ⟨kw_50, ks_3, kc_x_readAsk d , kw_1, ⟨⟨(by show ("GuardedMoves" : String) ≠ "java/lang/invoke/MethodHandle"; decide), (by show ("GuardedMoves" : String) ≠ "java/lang/invoke/VarHandle"; decide)⟩, (by show (parseMethodDescriptor "(II)V").map (fun d => d.parameters.length) = some 2; decide +kernel)⟩⟩
def mi_x_readAll (d : Nat) : Mi := ("GuardedMoves", prog_1_method_13_code, 4, [], none, 5 + 2 * d, 133 + 54 * d, 0, 0, ⟨"GuardedMoves", "readAll", "(I)V"⟩)
theorem d_x_readAll_0 : decode prog_1_method_13_code 0 = .ok (.aload_n 0, 1) := by decide +kernel
theorem d_x_readAll_1 : decode prog_1_method_13_code 1 = .ok (.invokevirtual 46, 3) := by decide +kernel
theorem d_x_readAll_4 : decode prog_1_method_13_code 4 = .ok (.invokestatic 103, 3) := by decide +kernel
theorem d_x_readAll_7 : decode prog_1_method_13_code 7 = .ok (.ifCond .eq 237, 3) := by decide +kernel
theorem d_x_readAll_10 : decode prog_1_method_13_code 10 = .ok (.aload_n 0, 1) := by decide +kernel
theorem d_x_readAll_11 : decode prog_1_method_13_code 11 = .ok (.getfield 84, 3) := by decide +kernel
theorem d_x_readAll_14 : decode prog_1_method_13_code 14 = .ok (.getfield 106, 3) := by decide +kernel
theorem d_x_readAll_17 : decode prog_1_method_13_code 17 = .ok (.bipush 60, 2) := by decide +kernel
theorem d_x_readAll_19 : decode prog_1_method_13_code 19 = .ok (.if_icmp .ne 13, 3) := by decide +kernel
theorem d_x_readAll_22 : decode prog_1_method_13_code 22 = .ok (.aload_n 0, 1) := by decide +kernel
theorem d_x_readAll_23 : decode prog_1_method_13_code 23 = .ok (.iconst 3, 1) := by decide +kernel
theorem d_x_readAll_24 : decode prog_1_method_13_code 24 = .ok (.aload_n 0, 1) := by decide +kernel
theorem d_x_readAll_25 : decode prog_1_method_13_code 25 = .ok (.getfield 28, 3) := by decide +kernel
theorem d_x_readAll_28 : decode prog_1_method_13_code 28 = .ok (.invokevirtual 50, 3) := by decide +kernel
theorem d_x_readAll_31 : decode prog_1_method_13_code 31 = .ok (.athrow, 1) := by decide +kernel
theorem d_x_readAll_32 : decode prog_1_method_13_code 32 = .ok (.aload_n 0, 1) := by decide +kernel
theorem d_x_readAll_33 : decode prog_1_method_13_code 33 = .ok (.invokevirtual 46, 3) := by decide +kernel
theorem d_x_readAll_36 : decode prog_1_method_13_code 36 = .ok (.bipush 63, 2) := by decide +kernel
theorem d_x_readAll_38 : decode prog_1_method_13_code 38 = .ok (.if_icmp .ne 19, 3) := by decide +kernel
theorem d_x_readAll_41 : decode prog_1_method_13_code 41 = .ok (.iload_n 1, 1) := by decide +kernel
theorem d_x_readAll_42 : decode prog_1_method_13_code 42 = .ok (.bipush 6, 2) := by decide +kernel
theorem d_x_readAll_44 : decode prog_1_method_13_code 44 = .ok (.if_icmp .ne 13, 3) := by decide +kernel
theorem d_x_readAll_47 : decode prog_1_method_13_code 47 = .ok (.aload_n 0, 1) := by decide +kernel
theorem d_x_readAll_48 : decode prog_1_method_13_code 48 = .ok (.iconst 4, 1) := by decide +kernel
theorem d_x_readAll_49 : decode prog_1_method_13_code 49 = .ok (.aload_n 0, 1) := by decide +kernel
theorem d_x_readAll_50 : decode prog_1_method_13_code 50 = .ok (.getfield 28, 3) := by decide +kernel
theorem d_x_readAll_53 : decode prog_1_method_13_code 53 = .ok (.invokevirtual 50, 3) := by decide +kernel
theorem d_x_readAll_56 : decode prog_1_method_13_code 56 = .ok (.athrow, 1) := by decide +kernel
theorem d_x_readAll_57 : decode prog_1_method_13_code 57 = .ok (.aload_n 0, 1) := by decide +kernel
theorem d_x_readAll_58 : decode prog_1_method_13_code 58 = .ok (.getfield 84, 3) := by decide +kernel
theorem d_x_readAll_61 : decode prog_1_method_13_code 61 = .ok (.dup, 1) := by decide +kernel
theorem d_x_readAll_62 : decode prog_1_method_13_code 62 = .ok (.getfield 106, 3) := by decide +kernel
theorem d_x_readAll_65 : decode prog_1_method_13_code 65 = .ok (.dup_x1, 1) := by decide +kernel
theorem d_x_readAll_66 : decode prog_1_method_13_code 66 = .ok (.iconst 1, 1) := by decide +kernel
theorem d_x_readAll_67 : decode prog_1_method_13_code 67 = .ok (.iadd, 1) := by decide +kernel
theorem d_x_readAll_68 : decode prog_1_method_13_code 68 = .ok (.putfield 106, 3) := by decide +kernel
theorem d_x_readAll_71 : decode prog_1_method_13_code 71 = .ok (.istore_n 2, 1) := by decide +kernel
theorem d_x_readAll_72 : decode prog_1_method_13_code 72 = .ok (.aload_n 0, 1) := by decide +kernel
theorem d_x_readAll_73 : decode prog_1_method_13_code 73 = .ok (.getfield 84, 3) := by decide +kernel
theorem d_x_readAll_76 : decode prog_1_method_13_code 76 = .ok (.getfield 109, 3) := by decide +kernel
theorem d_x_readAll_79 : decode prog_1_method_13_code 79 = .ok (.iload_n 2, 1) := by decide +kernel
theorem d_x_readAll_80 : decode prog_1_method_13_code 80 = .ok (.iload_n 1, 1) := by decide +kernel
theorem d_x_readAll_81 : decode prog_1_method_13_code 81 = .ok (.iastore, 1) := by decide +kernel
theorem d_x_readAll_82 : decode prog_1_method_13_code 82 = .ok (.aload_n 0, 1) := by decide +kernel
theorem d_x_readAll_83 : decode prog_1_method_13_code 83 = .ok (.getfield 84, 3) := by decide +kernel
theorem d_x_readAll_86 : decode prog_1_method_13_code 86 = .ok (.getfield 88, 3) := by decide +kernel
theorem d_x_readAll_89 : decode prog_1_method_13_code 89 = .ok (.iload_n 2, 1) := by decide +kernel
theorem d_x_readAll_90 : decode prog_1_method_13_code 90 = .ok (.iconst (-1), 1) := by decide +kernel
theorem d_x_readAll_91 : decode prog_1_method_13_code 91 = .ok (.iastore, 1) := by decide +kernel
theorem d_x_readAll_92 : decode prog_1_method_13_code 92 = .ok (.aload_n 0, 1) := by decide +kernel
theorem d_x_readAll_93 : decode prog_1_method_13_code 93 = .ok (.getfield 84, 3) := by decide +kernel
theorem d_x_readAll_96 : decode prog_1_method_13_code 96 = .ok (.getfield 97, 3) := by decide +kernel
theorem d_x_readAll_99 : decode prog_1_method_13_code 99 = .ok (.iload_n 2, 1) := by decide +kernel
theorem d_x_readAll_100 : decode prog_1_method_13_code 100 = .ok (.iconst (-1), 1) := by decide +kernel
theorem d_x_readAll_101 : decode prog_1_method_13_code 101 = .ok (.iastore, 1) := by decide +kernel
theorem d_x_readAll_102 : decode prog_1_method_13_code 102 = .ok (.aload_n 0, 1) := by decide +kernel
theorem d_x_readAll_103 : decode prog_1_method_13_code 103 = .ok (.getfield 84, 3) := by decide +kernel
theorem d_x_readAll_106 : decode prog_1_method_13_code 106 = .ok (.getfield 94, 3) := by decide +kernel
theorem d_x_readAll_109 : decode prog_1_method_13_code 109 = .ok (.iload_n 2, 1) := by decide +kernel
theorem d_x_readAll_110 : decode prog_1_method_13_code 110 = .ok (.iconst 0, 1) := by decide +kernel
theorem d_x_readAll_111 : decode prog_1_method_13_code 111 = .ok (.iastore, 1) := by decide +kernel
theorem d_x_readAll_112 : decode prog_1_method_13_code 112 = .ok (.aload_n 0, 1) := by decide +kernel
theorem d_x_readAll_113 : decode prog_1_method_13_code 113 = .ok (.getfield 84, 3) := by decide +kernel
theorem d_x_readAll_116 : decode prog_1_method_13_code 116 = .ok (.getfield 100, 3) := by decide +kernel
theorem d_x_readAll_119 : decode prog_1_method_13_code 119 = .ok (.iload_n 2, 1) := by decide +kernel
theorem d_x_readAll_120 : decode prog_1_method_13_code 120 = .ok (.iconst 0, 1) := by decide +kernel
theorem d_x_readAll_121 : decode prog_1_method_13_code 121 = .ok (.iastore, 1) := by decide +kernel
theorem d_x_readAll_122 : decode prog_1_method_13_code 122 = .ok (.aload_n 0, 1) := by decide +kernel
theorem d_x_readAll_123 : decode prog_1_method_13_code 123 = .ok (.invokevirtual 46, 3) := by decide +kernel
theorem d_x_readAll_126 : decode prog_1_method_13_code 126 = .ok (.istore_n 3, 1) := by decide +kernel
theorem d_x_readAll_127 : decode prog_1_method_13_code 127 = .ok (.aload_n 0, 1) := by decide +kernel
theorem d_x_readAll_128 : decode prog_1_method_13_code 128 = .ok (.dup, 1) := by decide +kernel
theorem d_x_readAll_129 : decode prog_1_method_13_code 129 = .ok (.getfield 28, 3) := by decide +kernel
theorem d_x_readAll_132 : decode prog_1_method_13_code 132 = .ok (.iconst 1, 1) := by decide +kernel
theorem d_x_readAll_133 : decode prog_1_method_13_code 133 = .ok (.iadd, 1) := by decide +kernel
theorem d_x_readAll_134 : decode prog_1_method_13_code 134 = .ok (.putfield 28, 3) := by decide +kernel
theorem d_x_readAll_137 : decode prog_1_method_13_code 137 = .ok (.iload_n 3, 1) := by decide +kernel
theorem d_x_readAll_138 : decode prog_1_method_13_code 138 = .ok (.bipush 63, 2) := by decide +kernel
theorem d_x_readAll_140 : decode prog_1_method_13_code 140 = .ok (.if_icmp .ne 12, 3) := by decide +kernel
theorem d_x_readAll_143 : decode prog_1_method_13_code 143 = .ok (.aload_n 0, 1) := by decide +kernel
theorem d_x_readAll_144 : decode prog_1_method_13_code 144 = .ok (.iload_n 2, 1) := by decide +kernel
theorem d_x_readAll_145 : decode prog_1_method_13_code 145 = .ok (.iload_n 1, 1) := by decide +kernel
theorem d_x_readAll_146 : decode prog_1_method_13_code 146 = .ok (.invokevirtual 112, 3) := by decide +kernel
theorem d_x_readAll_149 : decode prog_1_method_13_code 149 = .ok (.goto 92, 3) := by decide +kernel
theorem d_x_readAll_152 : decode prog_1_method_13_code 152 = .ok (.iload_n 3, 1) := by decide +kernel
theorem d_x_readAll_153 : decode prog_1_method_13_code 153 = .ok (.bipush 33, 2) := by decide +kernel
theorem d_x_readAll_155 : decode prog_1_method_13_code 155 = .ok (.if_icmp .ne 27, 3) := by decide +kernel
theorem d_x_readAll_158 : decode prog_1_method_13_code 158 = .ok (.aload_n 0, 1) := by decide +kernel
theorem d_x_readAll_159 : decode prog_1_method_13_code 159 = .ok (.getfield 84, 3) := by decide +kernel
theorem d_x_readAll_162 : decode prog_1_method_13_code 162 = .ok (.getfield 116, 3) := by decide +kernel
theorem d_x_readAll_165 : decode prog_1_method_13_code 165 = .ok (.iload_n 2, 1) := by decide +kernel
theorem d_x_readAll_166 : decode prog_1_method_13_code 166 = .ok (.iconst 4, 1) := by decide +kernel
theorem d_x_readAll_167 : decode prog_1_method_13_code 167 = .ok (.iastore, 1) := by decide +kernel
theorem d_x_readAll_168 : decode prog_1_method_13_code 168 = .ok (.aload_n 0, 1) := by decide +kernel
theorem d_x_readAll_169 : decode prog_1_method_13_code 169 = .ok (.iload_n 2, 1) := by decide +kernel
theorem d_x_readAll_170 : decode prog_1_method_13_code 170 = .ok (.invokevirtual 119, 3) := by decide +kernel
theorem d_x_readAll_173 : decode prog_1_method_13_code 173 = .ok (.aload_n 0, 1) := by decide +kernel
theorem d_x_readAll_174 : decode prog_1_method_13_code 174 = .ok (.bipush 59, 2) := by decide +kernel
theorem d_x_readAll_176 : decode prog_1_method_13_code 176 = .ok (.invokevirtual 123, 3) := by decide +kernel
theorem d_x_readAll_179 : decode prog_1_method_13_code 179 = .ok (.goto 62, 3) := by decide +kernel
theorem d_x_readAll_182 : decode prog_1_method_13_code 182 = .ok (.iload_n 3, 1) := by decide +kernel
theorem d_x_readAll_183 : decode prog_1_method_13_code 183 = .ok (.bipush 64, 2) := by decide +kernel
theorem d_x_readAll_185 : decode prog_1_method_13_code 185 = .ok (.if_icmp .ne 38, 3) := by decide +kernel
theorem d_x_readAll_188 : decode prog_1_method_13_code 188 = .ok (.aload_n 0, 1) := by decide +kernel
theorem d_x_readAll_189 : decode prog_1_method_13_code 189 = .ok (.getfield 84, 3) := by decide +kernel
theorem d_x_readAll_192 : decode prog_1_method_13_code 192 = .ok (.getfield 116, 3) := by decide +kernel
theorem d_x_readAll_195 : decode prog_1_method_13_code 195 = .ok (.iload_n 2, 1) := by decide +kernel
theorem d_x_readAll_196 : decode prog_1_method_13_code 196 = .ok (.iconst 3, 1) := by decide +kernel
theorem d_x_readAll_197 : decode prog_1_method_13_code 197 = .ok (.iastore, 1) := by decide +kernel
theorem d_x_readAll_198 : decode prog_1_method_13_code 198 = .ok (.aload_n 0, 1) := by decide +kernel
theorem d_x_readAll_199 : decode prog_1_method_13_code 199 = .ok (.iload_n 2, 1) := by decide +kernel
theorem d_x_readAll_200 : decode prog_1_method_13_code 200 = .ok (.invokevirtual 119, 3) := by decide +kernel
theorem d_x_readAll_203 : decode prog_1_method_13_code 203 = .ok (.aload_n 0, 1) := by decide +kernel
theorem d_x_readAll_204 : decode prog_1_method_13_code 204 = .ok (.bipush 61, 2) := by decide +kernel
theorem d_x_readAll_206 : decode prog_1_method_13_code 206 = .ok (.invokevirtual 123, 3) := by decide +kernel
theorem d_x_readAll_209 : decode prog_1_method_13_code 209 = .ok (.aload_n 0, 1) := by decide +kernel
theorem d_x_readAll_210 : decode prog_1_method_13_code 210 = .ok (.iload_n 2, 1) := by decide +kernel
theorem d_x_readAll_211 : decode prog_1_method_13_code 211 = .ok (.invokevirtual 126, 3) := by decide +kernel
theorem d_x_readAll_214 : decode prog_1_method_13_code 214 = .ok (.aload_n 0, 1) := by decide +kernel
theorem d_x_readAll_215 : decode prog_1_method_13_code 215 = .ok (.bipush 59, 2) := by decide +kernel
theorem d_x_readAll_217 : decode prog_1_method_13_code 217 = .ok (.invokevirtual 123, 3) := by decide +kernel
theorem d_x_readAll_220 : decode prog_1_method_13_code 220 = .ok (.goto 21, 3) := by decide +kernel
theorem d_x_readAll_223 : decode prog_1_method_13_code 223 = .ok (.aload_n 0, 1) := by decide +kernel
theorem d_x_readAll_224 : decode prog_1_method_13_code 224 = .ok (.getfield 84, 3) := by decide +kernel
theorem d_x_readAll_227 : decode prog_1_method_13_code 227 = .ok (.getfield 129, 3) := by decide +kernel
theorem d_x_readAll_230 : decode prog_1_method_13_code 230 = .ok (.iload_n 2, 1) := by decide +kernel
theorem d_x_readAll_231 : decode prog_1_method_13_code 231 = .ok (.iload_n 3, 1) := by decide +kernel
theorem d_x_readAll_232 : decode prog_1_method_13_code 232 = .ok (.bipush 97, 2) := by decide +kernel
theorem d_x_readAll_234 : decode prog_1_method_13_code 234 = .ok (.isub, 1) := by decide +kernel
theorem d_x_readAll_235 : decode prog_1_method_13_code 235 = .ok (.iastore, 1) := by decide +kernel
theorem d_x_readAll_236 : decode prog_1_method_13_code 236 = .ok (.aload_n 0, 1) := by decide +kernel
theorem d_x_readAll_237 : decode prog_1_method_13_code 237 = .ok (.iload_n 2, 1) := by decide +kernel
theorem d_x_readAll_238 : decode prog_1_method_13_code 238 = .ok (.invokevirtual 132, 3) := by decide +kernel
theorem d_x_readAll_241 : decode prog_1_method_13_code 241 = .ok (.goto (-241), 3) := by decide +kernel
theorem d_x_readAll_244 : decode prog_1_method_13_code 244 = .ok (.return_, 1) := by decide +kernel
theorem kc_x_readAll (d : Nat) : Kw (m_w (mi_x_readAll d )) := ⟨(in_t1 (List.mem_of_getElem? (i := 28) rfl)), rfl⟩
theorem mv_x_readAll (d : Nat) : MV (mi_x_readAll d ) "GuardedMoves" 1 := ⟨kw_26, ks_0, kc_x_readAll d , kw_1, ⟨⟨(by show ("GuardedMoves" : String) ≠ "java/lang/invoke/MethodHandle"; decide), (by show ("GuardedMoves" : String) ≠ "java/lang/invoke/VarHandle"; decide)⟩, (by show (parseMethodDescriptor "(I)V").map (fun d => d.parameters.length) = some 1; decide +kernel)⟩⟩
def w_x_readAsk_169 (RA : Int32 → Sg → (Sg → Prop) → (Nat → Sg → Prop) → Prop) (Q : Sg → Prop) (E : Nat → Sg → Prop) (v1 : Int32) (σ : Sg) : Prop := vp_in v1 60 ∧ (Q (up σ 56 (v1.toNatClampNeg) (σ 2 0)))
theorem b_x_readAsk_169 {Δ : Ly} {G : Gm} {d : Nat} {RA : Int32 → Sg → (Sg → Prop) → (Nat → Sg → Prop) → Prop} {Q : Sg → Prop} {E : Nat → Sg → Prop} (cx : Cx Δ G (mi_x_readAsk d)) (hRA : ∀ (p1 : Int32) (σ : Sg) (Q : Sg → Prop) (E : Nat → Sg → Prop) , RA p1 σ Q E → Ct (g_l G) Δ (mi_x_readAll d) [.ref (Δ.1 0), .int p1] σ (qV Q) E) : ∀ (v1 : Int32) (σ : Sg), w_x_readAsk_169 RA Q E v1 σ → Y Δ G (mi_x_readAsk d) (qV Q) E 0 0 σ 169 [(0, .ref (Δ.1 0)), (1, .int v1)] [] := by
  intro v1 σ h
  unfold w_x_readAsk_169 at h
  refine y_aload_n cx (pc := 169) d_x_readAsk_169 rfl 0 rfl ?_
  refine y_get cx (pc := 170) (j := 1) (v := .ref (Δ.1 2)) (le_b rfl) ck_GM kw_398 (le_b rfl) (gf_0_1 Δ _) d_x_readAsk_170 ?_
  refine y_getN cx (pc := 173) (j := 10) (v := .ref (Δ.1 56)) (le_b rfl) ck_Tx kw_276 (le_b rfl) (gf_2_10 Δ _) d_x_readAsk_173 ?_
  refine y_iload_n cx (pc := 176) d_x_readAsk_176 rfl 1 rfl ?_
  refine y_aload_n cx (pc := 177) d_x_readAsk_177 rfl 0 rfl ?_
  refine y_get cx (pc := 178) (j := 1) (v := .ref (Δ.1 2)) (le_b rfl) ck_GM kw_398 (le_b rfl) (gf_0_1 Δ _) d_x_readAsk_178 ?_
  refine y_getN cx (pc := 181) (j := 0) (v := .int (σ 2 0)) (le_b rfl) ck_Tx kw_256 (le_b rfl) (gf_2_0 Δ _) d_x_readAsk_181 ?_
  obtain ⟨h0, h⟩ := h
  refine y_iast cx (pc := 184) ⟨(le_b rfl), fun _ => rfl⟩ h0 d_x_readAsk_184 ?_
  exact y_vret cx (pc := 185) rfl d_x_readAsk_185 (le_b rfl) (le_b rfl) h
def w_x_readAsk_133 (RA : Int32 → Sg → (Sg → Prop) → (Nat → Sg → Prop) → Prop) (Q : Sg → Prop) (E : Nat → Sg → Prop) (v1 : Int32) (v2 : Int32) (s0 : Int32) (s1 : Int32) (σ : Sg) : Prop := vp_in s1 60 ∧ (bz s0 ∧ (vp_in v1 60 ∧ ((((up σ 57 (s1.toNatClampNeg) s0) 57 (v1.toNatClampNeg)) = 0 → (w_x_readAsk_169 RA Q E v1 (up σ 57 (s1.toNatClampNeg) s0))) ∧ (¬ ((up σ 57 (s1.toNatClampNeg) s0) 57 (v1.toNatClampNeg)) = 0 → (RA (v2 + 1) (up (up σ 57 (s1.toNatClampNeg) s0) 0 5 ((σ 0 5) + 1)) (fun σ1 => w_x_want_I 125 σ1 (fun σ2 => w_x_readAsk_169 RA Q E v1 σ2) E) E)))))
theorem b_x_readAsk_133 {Δ : Ly} {G : Gm} {d : Nat} {RA : Int32 → Sg → (Sg → Prop) → (Nat → Sg → Prop) → Prop} {Q : Sg → Prop} {E : Nat → Sg → Prop} (cx : Cx Δ G (mi_x_readAsk d)) (hRA : ∀ (p1 : Int32) (σ : Sg) (Q : Sg → Prop) (E : Nat → Sg → Prop) , RA p1 σ Q E → Ct (g_l G) Δ (mi_x_readAll d) [.ref (Δ.1 0), .int p1] σ (qV Q) E) : ∀ (v1 : Int32) (v2 : Int32) (s0 : Int32) (s1 : Int32) (σ : Sg), w_x_readAsk_133 RA Q E v1 v2 s0 s1 σ → Y Δ G (mi_x_readAsk d) (qV Q) E 0 0 σ 133 [(0, .ref (Δ.1 0)), (1, .int v1), (2, .int v2)] [.int s0, .int s1, .ref (Δ.1 57)] := by
  intro v1 v2 s0 s1 σ h
  unfold w_x_readAsk_133 at h
  obtain ⟨h0, h⟩ := h
  obtain ⟨hb, h⟩ := h
  refine y_zastB cx (pc := 133) ⟨(le_b rfl), fun _ => rfl⟩ h0 hb d_x_readAsk_133 ?_
  refine y_aload_n cx (pc := 134) d_x_readAsk_134 rfl 0 rfl ?_
  refine y_get cx (pc := 135) (j := 1) (v := .ref (Δ.1 2)) (le_b rfl) ck_GM kw_398 (le_b rfl) (gf_0_1 Δ _) d_x_readAsk_135 ?_
  refine y_getN cx (pc := 138) (j := 11) (v := .ref (Δ.1 57)) (le_b rfl) ck_Tx kw_278 (le_b rfl) (gf_2_11 Δ _) d_x_readAsk_138 ?_
  refine y_iload_n cx (pc := 141) d_x_readAsk_141 rfl 1 rfl ?_
  obtain ⟨h0, h⟩ := h
  refine y_zald cx (pc := 142) ⟨(le_b rfl), fun _ => rfl⟩ h0 d_x_readAsk_142 ?_
  refine y_if_eq cx (pc := 143) (tgt := 169) d_x_readAsk_143 (by decide) (fun hc => ?_) (fun hc => ?_)
  · replace h := h.1 hc
    refine y_sub [0, 1] rfl ?_
    exact b_x_readAsk_169 cx hRA v1 (up σ 57 (s1.toNatClampNeg) s0) h
  · replace h := h.2 hc
    refine y_aload_n cx (pc := 146) d_x_readAsk_146 rfl 0 rfl ?_
    refine y_dup cx (pc := 147) rfl d_x_readAsk_147 ?_
    refine y_get cx (pc := 148) (j := 5) (v := .int (σ 0 5)) (le_b rfl) ck_GM kw_402 (le_b rfl) (gf_0_5 Δ _) d_x_readAsk_148 ?_
    refine y_iconst cx (pc := 151) ic_1 d_x_readAsk_151 ?_
    refine y_iadd cx (pc := 152) d_x_readAsk_152 ?_
    refine y_put cx (pc := 153) (j := 5) (ty := .int) (le_b rfl) ck_GM kw_402 (le_b rfl) rfl (t_GM_ok 5 (le_b rfl)) rfl rfl (pf_0_5 Δ) d_x_readAsk_153 ?_
    refine y_aload_n cx (pc := 156) d_x_readAsk_156 rfl 0 rfl ?_
    refine y_iload_n cx (pc := 157) d_x_readAsk_157 rfl 2 rfl ?_
    refine y_iconst cx (pc := 158) ic_1 d_x_readAsk_158 ?_
    refine y_iadd cx (pc := 159) d_x_readAsk_159 ?_
    refine y_vV cx (pc := 160) (st := []) [.int (v2 + 1)] (hRA (v2 + 1) _ _ _ h) (mv_x_readAll d) kw_24 (oc_0 Δ) ck_GM rfl (le_b rfl) (by show 5 + 2 * d + 1 ≤ 5 + 2 * d + 1; omega) (by show 12 + (4 + 11) + (133 + 54 * d) ≤ 133 + 54 * d + 27; omega) (le_b rfl) (le_b rfl) d_x_readAsk_160 (fun σ1 h => ?_) (fun x σ1 h => ?_)
    ·
      refine y_aload_n cx (pc := 163) d_x_readAsk_163 rfl 0 rfl ?_
      refine y_bipush cx (pc := 164) bp_125 d_x_readAsk_164 ?_
      refine y_vV cx (pc := 166) (st := []) [.int 125] (c_x_want_I cx.fl Δ 125 _ _ _ h) mv_x_want_I kw_159 (oc_0 Δ) ck_GM rfl (le_b rfl) (by show 1 + 1 ≤ 5 + 2 * d + 1; omega) (by show 12 + (2 + 11) + (26) ≤ 133 + 54 * d + 27; omega) (le_b rfl) (le_b rfl) d_x_readAsk_166 (fun σ2 h => ?_) (fun x σ2 h => ?_)
      ·
        refine y_sub [0, 1] rfl ?_
        exact b_x_readAsk_169 cx hRA v1 σ2 h
      ·
        exact t_out cx rfl (le_b rfl) (le_b rfl) h
    ·
      exact t_out cx rfl (le_b rfl) (le_b rfl) h
def w_x_readAsk_36 (RA : Int32 → Sg → (Sg → Prop) → (Nat → Sg → Prop) → Prop) (Q : Sg → Prop) (E : Nat → Sg → Prop) (v1 : Int32) (v2 : Int32) (s0 : Int32) (σ : Sg) : Prop := (0 ≤ s0 → (vp_in v1 60 ∧ (w_x_takeSecond v1 (up (up σ 50 (v1.toNatClampNeg) s0) 0 5 ((σ 0 5) + 1)) (fun σ1 => w_x_want_I 123 σ1 (fun σ2 => RA (v2 + 1) σ2 (fun σ3 => w_x_want_I 125 σ3 (fun σ4 => vp_in v1 60 ∧ (w_x_here (up σ4 55 (v1.toNatClampNeg) (σ4 2 0)) (fun x5 σ6 => (¬ x5 = 123 → (w_x_readAsk_133 RA Q E v1 v2 0 v1 σ6)) ∧ (x5 = 123 → (w_x_readAsk_133 RA Q E v1 v2 1 v1 σ6))))) E) E) E) E))) ∧ (¬ 0 ≤ s0 → (w_x_bad 1 (σ 0 5) σ (fun σ7 => E 0 σ7)))
theorem b_x_readAsk_36 {Δ : Ly} {G : Gm} {d : Nat} {RA : Int32 → Sg → (Sg → Prop) → (Nat → Sg → Prop) → Prop} {Q : Sg → Prop} {E : Nat → Sg → Prop} (cx : Cx Δ G (mi_x_readAsk d)) (hRA : ∀ (p1 : Int32) (σ : Sg) (Q : Sg → Prop) (E : Nat → Sg → Prop) , RA p1 σ Q E → Ct (g_l G) Δ (mi_x_readAll d) [.ref (Δ.1 0), .int p1] σ (qV Q) E) : ∀ (v1 : Int32) (v2 : Int32) (s0 : Int32) (σ : Sg), w_x_readAsk_36 RA Q E v1 v2 s0 σ → Y Δ G (mi_x_readAsk d) (qV Q) E 0 0 σ 36 [(0, .ref (Δ.1 0)), (1, .int v1), (2, .int v2)] [.int s0] := by
  intro v1 v2 s0 σ h
  unfold w_x_readAsk_36 at h
  refine y_istore_n (lv' := [(3, .int s0), (0, .ref (Δ.1 0)), (1, .int v1), (2, .int v2)]) cx (pc := 36) d_x_readAsk_36 rfl (le_b rfl) rfl ?_
  refine y_iload_n cx (pc := 37) d_x_readAsk_37 rfl 0 rfl ?_
  refine y_if_ge cx (pc := 38) (tgt := 51) d_x_readAsk_38 (by decide) (fun hc => ?_) (fun hc => ?_)
  · replace h := h.1 hc
    refine y_aload_n cx (pc := 51) d_x_readAsk_51 rfl 1 rfl ?_
    refine y_get cx (pc := 52) (j := 1) (v := .ref (Δ.1 2)) (le_b rfl) ck_GM kw_398 (le_b rfl) (gf_0_1 Δ _) d_x_readAsk_52 ?_
    refine y_getN cx (pc := 55) (j := 4) (v := .ref (Δ.1 50)) (le_b rfl) ck_Tx kw_264 (le_b rfl) (gf_2_4 Δ _) d_x_readAsk_55 ?_
    refine y_iload_n cx (pc := 58) d_x_readAsk_58 rfl 2 rfl ?_
    refine y_iload_n cx (pc := 59) d_x_readAsk_59 rfl 0 rfl ?_
    obtain ⟨h0, h⟩ := h
    refine y_iast cx (pc := 60) ⟨(le_b rfl), fun _ => rfl⟩ h0 d_x_readAsk_60 ?_
    refine y_aload_n cx (pc := 61) d_x_readAsk_61 rfl 1 rfl ?_
    refine y_dup cx (pc := 62) rfl d_x_readAsk_62 ?_
    refine y_get cx (pc := 63) (j := 5) (v := .int (σ 0 5)) (le_b rfl) ck_GM kw_402 (le_b rfl) (gf_0_5 Δ _) d_x_readAsk_63 ?_
    refine y_iconst cx (pc := 66) ic_1 d_x_readAsk_66 ?_
    refine y_iadd cx (pc := 67) d_x_readAsk_67 ?_
    refine y_put cx (pc := 68) (j := 5) (ty := .int) (le_b rfl) ck_GM kw_402 (le_b rfl) rfl (t_GM_ok 5 (le_b rfl)) rfl rfl (pf_0_5 Δ) d_x_readAsk_68 ?_
    refine y_aload_n cx (pc := 71) d_x_readAsk_71 rfl 1 rfl ?_
    refine y_iload_n cx (pc := 72) d_x_readAsk_72 rfl 2 rfl ?_
    refine y_vV cx (pc := 73) (st := []) [.int v1] (c_x_takeSecond cx.fl Δ v1 _ _ _ h) mv_x_takeSecond kw_155 (oc_0 Δ) ck_GM rfl (le_b rfl) (by show 3 + 1 ≤ 5 + 2 * d + 1; omega) (by show 12 + (2 + 11) + (82) ≤ 133 + 54 * d + 27; omega) (le_b rfl) (le_b rfl) d_x_readAsk_73 (fun σ1 h => ?_) (fun x σ1 h => ?_)
    ·
      refine y_aload_n cx (pc := 76) d_x_readAsk_76 rfl 1 rfl ?_
      refine y_bipush cx (pc := 77) bp_123 d_x_readAsk_77 ?_
      refine y_vV cx (pc := 79) (st := []) [.int 123] (c_x_want_I cx.fl Δ 123 _ _ _ h) mv_x_want_I kw_159 (oc_0 Δ) ck_GM rfl (le_b rfl) (by show 1 + 1 ≤ 5 + 2 * d + 1; omega) (by show 12 + (2 + 11) + (26) ≤ 133 + 54 * d + 27; omega) (le_b rfl) (le_b rfl) d_x_readAsk_79 (fun σ2 h => ?_) (fun x σ2 h => ?_)
      ·
        refine y_aload_n cx (pc := 82) d_x_readAsk_82 rfl 1 rfl ?_
        refine y_iload_n cx (pc := 83) d_x_readAsk_83 rfl 3 rfl ?_
        refine y_iconst cx (pc := 84) ic_1 d_x_readAsk_84 ?_
        refine y_iadd cx (pc := 85) d_x_readAsk_85 ?_
        refine y_vV cx (pc := 86) (st := []) [.int (v2 + 1)] (hRA (v2 + 1) _ _ _ h) (mv_x_readAll d) kw_24 (oc_0 Δ) ck_GM rfl (le_b rfl) (by show 5 + 2 * d + 1 ≤ 5 + 2 * d + 1; omega) (by show 12 + (4 + 11) + (133 + 54 * d) ≤ 133 + 54 * d + 27; omega) (le_b rfl) (le_b rfl) d_x_readAsk_86 (fun σ3 h => ?_) (fun x σ3 h => ?_)
        ·
          refine y_aload_n cx (pc := 89) d_x_readAsk_89 rfl 1 rfl ?_
          refine y_bipush cx (pc := 90) bp_125 d_x_readAsk_90 ?_
          refine y_vV cx (pc := 92) (st := []) [.int 125] (c_x_want_I cx.fl Δ 125 _ _ _ h) mv_x_want_I kw_159 (oc_0 Δ) ck_GM rfl (le_b rfl) (by show 1 + 1 ≤ 5 + 2 * d + 1; omega) (by show 12 + (2 + 11) + (26) ≤ 133 + 54 * d + 27; omega) (le_b rfl) (le_b rfl) d_x_readAsk_92 (fun σ4 h => ?_) (fun x σ4 h => ?_)
          ·
            refine y_aload_n cx (pc := 95) d_x_readAsk_95 rfl 1 rfl ?_
            refine y_get cx (pc := 96) (j := 1) (v := .ref (Δ.1 2)) (le_b rfl) ck_GM kw_398 (le_b rfl) (gf_0_1 Δ _) d_x_readAsk_96 ?_
            refine y_getN cx (pc := 99) (j := 9) (v := .ref (Δ.1 55)) (le_b rfl) ck_Tx kw_274 (le_b rfl) (gf_2_9 Δ _) d_x_readAsk_99 ?_
            refine y_iload_n cx (pc := 102) d_x_readAsk_102 rfl 2 rfl ?_
            refine y_aload_n cx (pc := 103) d_x_readAsk_103 rfl 1 rfl ?_
            refine y_get cx (pc := 104) (j := 1) (v := .ref (Δ.1 2)) (le_b rfl) ck_GM kw_398 (le_b rfl) (gf_0_1 Δ _) d_x_readAsk_104 ?_
            refine y_getN cx (pc := 107) (j := 0) (v := .int (σ4 2 0)) (le_b rfl) ck_Tx kw_256 (le_b rfl) (gf_2_0 Δ _) d_x_readAsk_107 ?_
            obtain ⟨h0, h⟩ := h
            refine y_iast cx (pc := 110) ⟨(le_b rfl), fun _ => rfl⟩ h0 d_x_readAsk_110 ?_
            refine y_aload_n cx (pc := 111) d_x_readAsk_111 rfl 1 rfl ?_
            refine y_get cx (pc := 112) (j := 1) (v := .ref (Δ.1 2)) (le_b rfl) ck_GM kw_398 (le_b rfl) (gf_0_1 Δ _) d_x_readAsk_112 ?_
            refine y_getN cx (pc := 115) (j := 11) (v := .ref (Δ.1 57)) (le_b rfl) ck_Tx kw_278 (le_b rfl) (gf_2_11 Δ _) d_x_readAsk_115 ?_
            refine y_iload_n cx (pc := 118) d_x_readAsk_118 rfl 2 rfl ?_
            refine y_aload_n cx (pc := 119) d_x_readAsk_119 rfl 1 rfl ?_
            refine y_vI cx (pc := 120) (st := [.int v1, .ref (Δ.1 57)]) [] (c_x_here cx.fl Δ _ _ h) mv_x_here kw_29 (oc_0 Δ) ck_GM rfl (le_b rfl) (by show 0 + 1 ≤ 5 + 2 * d + 1; omega) (by show 12 + (1 + 11) + (0) ≤ 133 + 54 * d + 27; omega) (le_b rfl) (le_b rfl) d_x_readAsk_120 (fun x5 σ6 h => ?_) (fun x σ6 h => yt_no h)
            refine y_bipush cx (pc := 123) bp_123 d_x_readAsk_123 ?_
            refine y_icmp_ne cx (pc := 125) (tgt := 132) d_x_readAsk_125 (by decide) (fun hc => ?_) (fun hc => ?_)
            · replace h := h.1 hc
              refine y_iconst cx (pc := 132) ic_0 d_x_readAsk_132 ?_
              refine y_sub [1, 2, 3] rfl ?_
              exact b_x_readAsk_133 cx hRA v1 v2 0 v1 σ6 h
            · replace h := h.2 hc
              refine y_iconst cx (pc := 128) ic_1 d_x_readAsk_128 ?_
              refine y_goto cx (pc := 129) (tgt := 133) d_x_readAsk_129 (by decide) ?_
              refine y_sub [1, 2, 3] rfl ?_
              exact b_x_readAsk_133 cx hRA v1 v2 1 v1 σ6 h
          ·
            exact t_out cx rfl (le_b rfl) (le_b rfl) h
        ·
          exact t_out cx rfl (le_b rfl) (le_b rfl) h
      ·
        exact t_out cx rfl (le_b rfl) (le_b rfl) h
    ·
      exact t_out cx rfl (le_b rfl) (le_b rfl) h
  · replace h := h.2 hc
    refine y_aload_n cx (pc := 41) d_x_readAsk_41 rfl 1 rfl ?_
    refine y_iconst cx (pc := 42) ic_1 d_x_readAsk_42 ?_
    refine y_aload_n cx (pc := 43) d_x_readAsk_43 rfl 1 rfl ?_
    refine y_get cx (pc := 44) (j := 5) (v := .int (σ 0 5)) (le_b rfl) ck_GM kw_402 (le_b rfl) (gf_0_5 Δ _) d_x_readAsk_44 ?_
    refine y_vR cx (pc := 47) (st := []) [.int 1, .int (σ 0 5)] (c_x_bad cx.fl Δ 1 (σ 0 5) _ _ h) mv_x_bad kw_44 (oc_0 Δ) ck_GM rfl (le_b rfl) (by show 0 + 1 ≤ 5 + 2 * d + 1; omega) (by show 12 + (3 + 11) + (0) ≤ 133 + 54 * d + 27; omega) (le_b rfl) (le_b rfl) d_x_readAsk_47 (fun σ7 h => ?_) (fun x σ7 h => yt_no h)
    refine y_athrow cx (pc := 50) (x := 0) d_x_readAsk_50 (fun H hP => ex_bad cx hP) ?_
    exact t_out cx rfl (le_b rfl) (le_b rfl) h
def w_x_readAsk (RA : Int32 → Sg → (Sg → Prop) → (Nat → Sg → Prop) → Prop) (p1 : Int32) (p2 : Int32) (σ : Sg) (Q : Sg → Prop) (E : Nat → Sg → Prop) : Prop := vp_in p1 60 ∧ (w_x_takeFirst p1 (up σ 47 (p1.toNatClampNeg) 5) (fun σ1 => w_x_here σ1 (fun x2 σ3 => (¬ x2 = 0 → (w_x_here σ3 (fun x4 σ5 => w_js_indexOf_I 1 ((x4.toUInt32 % 65536).toInt32) σ5 (fun x6 σ7 => w_x_readAsk_36 RA Q E p1 p2 x6 σ7)))) ∧ (x2 = 0 → (w_x_readAsk_36 RA Q E p1 p2 (-1) σ3)))) E)
theorem b_x_readAsk {Δ : Ly} {G : Gm} {d : Nat} {RA : Int32 → Sg → (Sg → Prop) → (Nat → Sg → Prop) → Prop} {Q : Sg → Prop} {E : Nat → Sg → Prop} (cx : Cx Δ G (mi_x_readAsk d)) (hRA : ∀ (p1 : Int32) (σ : Sg) (Q : Sg → Prop) (E : Nat → Sg → Prop) , RA p1 σ Q E → Ct (g_l G) Δ (mi_x_readAll d) [.ref (Δ.1 0), .int p1] σ (qV Q) E) (p1 : Int32) (p2 : Int32) (σ : Sg) (h : w_x_readAsk RA p1 p2 σ Q E) : Y Δ G (mi_x_readAsk d) (qV Q) E 0 0 σ 0 [(0, .ref (Δ.1 0)), (1, .int p1), (2, .int p2)] [] := by
  unfold w_x_readAsk at h
  refine y_aload_n cx (pc := 0) d_x_readAsk_0 rfl 0 rfl ?_
  refine y_get cx (pc := 1) (j := 1) (v := .ref (Δ.1 2)) (le_b rfl) ck_GM kw_398 (le_b rfl) (gf_0_1 Δ _) d_x_readAsk_1 ?_
  refine y_getN cx (pc := 4) (j := 1) (v := .ref (Δ.1 47)) (le_b rfl) ck_Tx kw_258 (le_b rfl) (gf_2_1 Δ _) d_x_readAsk_4 ?_
  refine y_iload_n cx (pc := 7) d_x_readAsk_7 rfl 1 rfl ?_
  refine y_iconst cx (pc := 8) ic_5 d_x_readAsk_8 ?_
  obtain ⟨h0, h⟩ := h
  refine y_iast cx (pc := 9) ⟨(le_b rfl), fun _ => rfl⟩ h0 d_x_readAsk_9 ?_
  refine y_aload_n cx (pc := 10) d_x_readAsk_10 rfl 0 rfl ?_
  refine y_iload_n cx (pc := 11) d_x_readAsk_11 rfl 1 rfl ?_
  refine y_vV cx (pc := 12) (st := []) [.int p1] (c_x_takeFirst cx.fl Δ p1 _ _ _ h) mv_x_takeFirst kw_52 (oc_0 Δ) ck_GM rfl (le_b rfl) (by show 3 + 1 ≤ 5 + 2 * d + 1; omega) (by show 12 + (2 + 11) + (82) ≤ 133 + 54 * d + 27; omega) (le_b rfl) (le_b rfl) d_x_readAsk_12 (fun σ1 h => ?_) (fun x σ1 h => ?_)
  ·
    refine y_aload_n cx (pc := 15) d_x_readAsk_15 rfl 0 rfl ?_
    refine y_vI cx (pc := 16) (st := []) [] (c_x_here cx.fl Δ _ _ h) mv_x_here kw_29 (oc_0 Δ) ck_GM rfl (le_b rfl) (by show 0 + 1 ≤ 5 + 2 * d + 1; omega) (by show 12 + (1 + 11) + (0) ≤ 133 + 54 * d + 27; omega) (le_b rfl) (le_b rfl) d_x_readAsk_16 (fun x2 σ3 h => ?_) (fun x σ3 h => yt_no h)
    refine y_if_ne cx (pc := 19) (tgt := 26) d_x_readAsk_19 (by decide) (fun hc => ?_) (fun hc => ?_)
    · replace h := h.1 hc
      refine y_ldcS1 cx rfl (pc := 26) d_x_readAsk_26 ?_
      refine y_aload_n cx (pc := 28) d_x_readAsk_28 rfl 0 rfl ?_
      refine y_vI cx (pc := 29) (st := [.ref (Δ.2.2.2.1 1)]) [] (c_x_here cx.fl Δ _ _ h) mv_x_here kw_29 (oc_0 Δ) ck_GM rfl (le_b rfl) (by show 0 + 1 ≤ 5 + 2 * d + 1; omega) (by show 12 + (1 + 11) + (0) ≤ 133 + 54 * d + 27; omega) (le_b rfl) (le_b rfl) d_x_readAsk_29 (fun x4 σ5 h => ?_) (fun x σ5 h => yt_no h)
      refine y_i2c cx (pc := 32) d_x_readAsk_32 ?_
      refine y_kI cx (pc := 33) (st := []) [.int ((x4.toUInt32 % 65536).toInt32)] (c_js_indexOf_I cx.fl Δ 1 ((x4.toUInt32 % 65536).toInt32) (le_b rfl) _ _ h) (le_b rfl) mv_js_indexOf_I kw_69 rfl (le_b rfl) (by show 3 + 1 ≤ 5 + 2 * d + 1; omega) (by show 12 + (2 + 11) + (82) ≤ 133 + 54 * d + 27; omega) (le_b rfl) (le_b rfl) d_x_readAsk_33 (fun x6 σ7 h => ?_) (fun x σ7 h => yt_no h)
      exact b_x_readAsk_36 cx hRA p1 p2 x6 σ7 h
    · replace h := h.2 hc
      refine y_iconst cx (pc := 22) ic_m1 d_x_readAsk_22 ?_
      refine y_goto cx (pc := 23) (tgt := 36) d_x_readAsk_23 (by decide) ?_
      exact b_x_readAsk_36 cx hRA p1 p2 (-1) σ3 h
  ·
    exact t_out cx rfl (le_b rfl) (le_b rfl) h
theorem c_x_readAsk {l : Launch} (hfl : l.flags = flags0) (Δ : Ly) (RA : Int32 → Sg → (Sg → Prop) → (Nat → Sg → Prop) → Prop) (d : Nat) (hRA : ∀ (p1 : Int32) (σ : Sg) (Q : Sg → Prop) (E : Nat → Sg → Prop) , RA p1 σ Q E → Ct l Δ (mi_x_readAll d) [.ref (Δ.1 0), .int p1] σ (qV Q) E) (p1 : Int32) (p2 : Int32) (σ : Sg) (Q : Sg → Prop) (E : Nat → Sg → Prop) (h : w_x_readAsk RA p1 p2 σ Q E) : Ct l Δ (mi_x_readAsk d) [.ref (Δ.1 0), .int p1, .int p2] σ (qV Q) E :=
  Ct.of hfl (by show plainFor ⟨"GuardedMoves", "readAsk", "(II)V"⟩ = true; decide +kernel) rfl (le_b rfl) (fun G hl cx => by subst hl; exact b_x_readAsk cx hRA p1 p2 σ h)
def w_x_readAll_241 (RA : Int32 → Sg → (Sg → Prop) → (Nat → Sg → Prop) → Prop) (K0 : Int32 → Sg → Prop) (Q : Sg → Prop) (E : Nat → Sg → Prop) (v1 : Int32) (σ : Sg) : Prop := K0 v1 σ
theorem b_x_readAll_241 {Δ : Ly} {G : Gm} {d : Nat} {RA : Int32 → Sg → (Sg → Prop) → (Nat → Sg → Prop) → Prop} {K0 : Int32 → Sg → Prop} {Q : Sg → Prop} {E : Nat → Sg → Prop} (cx : Cx Δ G (mi_x_readAll (d + 1))) (hRA : ∀ (p1 : Int32) (σ : Sg) (Q : Sg → Prop) (E : Nat → Sg → Prop) , RA p1 σ Q E → Ct (g_l G) Δ (mi_x_readAll d) [.ref (Δ.1 0), .int p1] σ (qV Q) E) (hK0 : ∀ (v1 : Int32) (σ : Sg), K0 v1 σ → Y Δ G (mi_x_readAll (d + 1)) (qV Q) E 0 0 σ 0 [(0, .ref (Δ.1 0)), (1, .int v1)] []) : ∀ (v1 : Int32) (σ : Sg), w_x_readAll_241 RA K0 Q E v1 σ → Y Δ G (mi_x_readAll (d + 1)) (qV Q) E 0 0 σ 241 [(0, .ref (Δ.1 0)), (1, .int v1)] [] := by
  intro v1 σ h
  unfold w_x_readAll_241 at h
  refine y_goto cx (pc := 241) (tgt := 0) d_x_readAll_241 (by decide) ?_
  exact hK0 v1 σ h
def w_x_readAll_57 (RA : Int32 → Sg → (Sg → Prop) → (Nat → Sg → Prop) → Prop) (K0 : Int32 → Sg → Prop) (Q : Sg → Prop) (E : Nat → Sg → Prop) (v1 : Int32) (σ : Sg) : Prop := ∀ x1 : Int32, x1 = σ 2 0 → (vp_in x1 60 ∧ (vp_in x1 60 ∧ (vp_in x1 60 ∧ (vp_in x1 60 ∧ (vp_in x1 60 ∧ (w_x_here (up (up (up (up (up (up σ 2 0 ((σ 2 0) + 1)) 48 (x1.toNatClampNeg) v1) 51 (x1.toNatClampNeg) (-1)) 53 (x1.toNatClampNeg) (-1)) 52 (x1.toNatClampNeg) 0) 54 (x1.toNatClampNeg) 0) (fun x2 σ3 => (¬ x2 = 63 → ((¬ x2 = 33 → ((¬ x2 = 64 → (vp_in x1 60 ∧ (w_x_readSet x1 (up (up σ3 0 5 ((σ3 0 5) + 1)) 49 (x1.toNatClampNeg) (x2 - 97)) (fun σ4 => w_x_readAll_241 RA K0 Q E v1 σ4) E))) ∧ (x2 = 64 → (vp_in x1 60 ∧ (w_x_takeFirst x1 (up (up σ3 0 5 ((σ3 0 5) + 1)) 47 (x1.toNatClampNeg) 3) (fun σ5 => w_x_want_I 61 σ5 (fun σ6 => w_x_takeSecond x1 σ6 (fun σ7 => w_x_want_I 59 σ7 (fun σ8 => w_x_readAll_241 RA K0 Q E v1 σ8) E) E) E) E))))) ∧ (x2 = 33 → (vp_in x1 60 ∧ (w_x_takeFirst x1 (up (up σ3 0 5 ((σ3 0 5) + 1)) 47 (x1.toNatClampNeg) 4) (fun σ9 => w_x_want_I 59 σ9 (fun σ10 => w_x_readAll_241 RA K0 Q E v1 σ10) E) E))))) ∧ (x2 = 63 → (w_x_readAsk RA x1 v1 (up σ3 0 5 ((σ3 0 5) + 1)) (fun σ11 => w_x_readAll_241 RA K0 Q E v1 σ11) E)))))))))
theorem b_x_readAll_57 {Δ : Ly} {G : Gm} {d : Nat} {RA : Int32 → Sg → (Sg → Prop) → (Nat → Sg → Prop) → Prop} {K0 : Int32 → Sg → Prop} {Q : Sg → Prop} {E : Nat → Sg → Prop} (cx : Cx Δ G (mi_x_readAll (d + 1))) (hRA : ∀ (p1 : Int32) (σ : Sg) (Q : Sg → Prop) (E : Nat → Sg → Prop) , RA p1 σ Q E → Ct (g_l G) Δ (mi_x_readAll d) [.ref (Δ.1 0), .int p1] σ (qV Q) E) (hK0 : ∀ (v1 : Int32) (σ : Sg), K0 v1 σ → Y Δ G (mi_x_readAll (d + 1)) (qV Q) E 0 0 σ 0 [(0, .ref (Δ.1 0)), (1, .int v1)] []) : ∀ (v1 : Int32) (σ : Sg), w_x_readAll_57 RA K0 Q E v1 σ → Y Δ G (mi_x_readAll (d + 1)) (qV Q) E 0 0 σ 57 [(0, .ref (Δ.1 0)), (1, .int v1)] [] := by
  intro v1 σ h
  unfold w_x_readAll_57 at h
  refine y_aload_n cx (pc := 57) d_x_readAll_57 rfl 0 rfl ?_
  refine y_get cx (pc := 58) (j := 1) (v := .ref (Δ.1 2)) (le_b rfl) ck_GM kw_398 (le_b rfl) (gf_0_1 Δ _) d_x_readAll_58 ?_
  refine y_dup cx (pc := 61) rfl d_x_readAll_61 ?_
  refine y_getN cx (pc := 62) (j := 0) (v := .int (σ 2 0)) (le_b rfl) ck_Tx kw_256 (le_b rfl) (gf_2_0 Δ _) d_x_readAll_62 ?_
  refine y_dup_x1 cx (pc := 65) rfl rfl d_x_readAll_65 ?_
  refine y_iconst cx (pc := 66) ic_1 d_x_readAll_66 ?_
  refine y_iadd cx (pc := 67) d_x_readAll_67 ?_
  refine y_putN cx (pc := 68) (j := 0) (ty := .int) (le_b rfl) ck_Tx kw_256 (le_b rfl) rfl (t_Tx_ok 0 (le_b rfl)) rfl rfl (pf_2_0 Δ) d_x_readAll_68 ?_
  refine y_topi (fun x1 ex1 => ?_)
  replace h := h x1 ex1
  refine y_istore_n (lv' := [(2, .int x1), (0, .ref (Δ.1 0)), (1, .int v1)]) cx (pc := 71) d_x_readAll_71 rfl (le_b rfl) rfl ?_
  refine y_aload_n cx (pc := 72) d_x_readAll_72 rfl 1 rfl ?_
  refine y_get cx (pc := 73) (j := 1) (v := .ref (Δ.1 2)) (le_b rfl) ck_GM kw_398 (le_b rfl) (gf_0_1 Δ _) d_x_readAll_73 ?_
  refine y_getN cx (pc := 76) (j := 2) (v := .ref (Δ.1 48)) (le_b rfl) ck_Tx kw_260 (le_b rfl) (gf_2_2 Δ _) d_x_readAll_76 ?_
  refine y_iload_n cx (pc := 79) d_x_readAll_79 rfl 0 rfl ?_
  refine y_iload_n cx (pc := 80) d_x_readAll_80 rfl 2 rfl ?_
  obtain ⟨h0, h⟩ := h
  refine y_iast cx (pc := 81) ⟨(le_b rfl), fun _ => rfl⟩ h0 d_x_readAll_81 ?_
  refine y_aload_n cx (pc := 82) d_x_readAll_82 rfl 1 rfl ?_
  refine y_get cx (pc := 83) (j := 1) (v := .ref (Δ.1 2)) (le_b rfl) ck_GM kw_398 (le_b rfl) (gf_0_1 Δ _) d_x_readAll_83 ?_
  refine y_getN cx (pc := 86) (j := 5) (v := .ref (Δ.1 51)) (le_b rfl) ck_Tx kw_266 (le_b rfl) (gf_2_5 Δ _) d_x_readAll_86 ?_
  refine y_iload_n cx (pc := 89) d_x_readAll_89 rfl 0 rfl ?_
  refine y_iconst cx (pc := 90) ic_m1 d_x_readAll_90 ?_
  obtain ⟨h0, h⟩ := h
  refine y_iast cx (pc := 91) ⟨(le_b rfl), fun _ => rfl⟩ h0 d_x_readAll_91 ?_
  refine y_aload_n cx (pc := 92) d_x_readAll_92 rfl 1 rfl ?_
  refine y_get cx (pc := 93) (j := 1) (v := .ref (Δ.1 2)) (le_b rfl) ck_GM kw_398 (le_b rfl) (gf_0_1 Δ _) d_x_readAll_93 ?_
  refine y_getN cx (pc := 96) (j := 7) (v := .ref (Δ.1 53)) (le_b rfl) ck_Tx kw_270 (le_b rfl) (gf_2_7 Δ _) d_x_readAll_96 ?_
  refine y_iload_n cx (pc := 99) d_x_readAll_99 rfl 0 rfl ?_
  refine y_iconst cx (pc := 100) ic_m1 d_x_readAll_100 ?_
  obtain ⟨h0, h⟩ := h
  refine y_iast cx (pc := 101) ⟨(le_b rfl), fun _ => rfl⟩ h0 d_x_readAll_101 ?_
  refine y_aload_n cx (pc := 102) d_x_readAll_102 rfl 1 rfl ?_
  refine y_get cx (pc := 103) (j := 1) (v := .ref (Δ.1 2)) (le_b rfl) ck_GM kw_398 (le_b rfl) (gf_0_1 Δ _) d_x_readAll_103 ?_
  refine y_getN cx (pc := 106) (j := 6) (v := .ref (Δ.1 52)) (le_b rfl) ck_Tx kw_268 (le_b rfl) (gf_2_6 Δ _) d_x_readAll_106 ?_
  refine y_iload_n cx (pc := 109) d_x_readAll_109 rfl 0 rfl ?_
  refine y_iconst cx (pc := 110) ic_0 d_x_readAll_110 ?_
  obtain ⟨h0, h⟩ := h
  refine y_iast cx (pc := 111) ⟨(le_b rfl), fun _ => rfl⟩ h0 d_x_readAll_111 ?_
  refine y_aload_n cx (pc := 112) d_x_readAll_112 rfl 1 rfl ?_
  refine y_get cx (pc := 113) (j := 1) (v := .ref (Δ.1 2)) (le_b rfl) ck_GM kw_398 (le_b rfl) (gf_0_1 Δ _) d_x_readAll_113 ?_
  refine y_getN cx (pc := 116) (j := 8) (v := .ref (Δ.1 54)) (le_b rfl) ck_Tx kw_272 (le_b rfl) (gf_2_8 Δ _) d_x_readAll_116 ?_
  refine y_iload_n cx (pc := 119) d_x_readAll_119 rfl 0 rfl ?_
  refine y_iconst cx (pc := 120) ic_0 d_x_readAll_120 ?_
  obtain ⟨h0, h⟩ := h
  refine y_iast cx (pc := 121) ⟨(le_b rfl), fun _ => rfl⟩ h0 d_x_readAll_121 ?_
  refine y_aload_n cx (pc := 122) d_x_readAll_122 rfl 1 rfl ?_
  refine y_vI cx (pc := 123) (st := []) [] (c_x_here cx.fl Δ _ _ h) mv_x_here kw_29 (oc_0 Δ) ck_GM rfl (le_b rfl) (by show 0 + 1 ≤ 5 + 2 * (d + 1); omega) (by show 12 + (1 + 11) + (0) ≤ 133 + 54 * (d + 1); omega) (le_b rfl) (le_b rfl) d_x_readAll_123 (fun x2 σ3 h => ?_) (fun x σ3 h => yt_no h)
  refine y_istore_n (lv' := [(3, .int x2), (2, .int x1), (0, .ref (Δ.1 0)), (1, .int v1)]) cx (pc := 126) d_x_readAll_126 rfl (le_b rfl) rfl ?_
  refine y_aload_n cx (pc := 127) d_x_readAll_127 rfl 2 rfl ?_
  refine y_dup cx (pc := 128) rfl d_x_readAll_128 ?_
  refine y_get cx (pc := 129) (j := 5) (v := .int (σ3 0 5)) (le_b rfl) ck_GM kw_402 (le_b rfl) (gf_0_5 Δ _) d_x_readAll_129 ?_
  refine y_iconst cx (pc := 132) ic_1 d_x_readAll_132 ?_
  refine y_iadd cx (pc := 133) d_x_readAll_133 ?_
  refine y_put cx (pc := 134) (j := 5) (ty := .int) (le_b rfl) ck_GM kw_402 (le_b rfl) rfl (t_GM_ok 5 (le_b rfl)) rfl rfl (pf_0_5 Δ) d_x_readAll_134 ?_
  refine y_iload_n cx (pc := 137) d_x_readAll_137 rfl 0 rfl ?_
  refine y_bipush cx (pc := 138) bp_63 d_x_readAll_138 ?_
  refine y_icmp_ne cx (pc := 140) (tgt := 152) d_x_readAll_140 (by decide) (fun hc => ?_) (fun hc => ?_)
  · replace h := h.1 hc
    refine y_iload_n cx (pc := 152) d_x_readAll_152 rfl 0 rfl ?_
    refine y_bipush cx (pc := 153) bp_33 d_x_readAll_153 ?_
    refine y_icmp_ne cx (pc := 155) (tgt := 182) d_x_readAll_155 (by decide) (fun hc => ?_) (fun hc => ?_)
    · replace h := h.1 hc
      refine y_iload_n cx (pc := 182) d_x_readAll_182 rfl 0 rfl ?_
      refine y_bipush cx (pc := 183) bp_64 d_x_readAll_183 ?_
      refine y_icmp_ne cx (pc := 185) (tgt := 223) d_x_readAll_185 (by decide) (fun hc => ?_) (fun hc => ?_)
      · replace h := h.1 hc
        refine y_aload_n cx (pc := 223) d_x_readAll_223 rfl 2 rfl ?_
        refine y_get cx (pc := 224) (j := 1) (v := .ref (Δ.1 2)) (le_b rfl) ck_GM kw_398 (le_b rfl) (gf_0_1 Δ _) d_x_readAll_224 ?_
        refine y_getN cx (pc := 227) (j := 3) (v := .ref (Δ.1 49)) (le_b rfl) ck_Tx kw_262 (le_b rfl) (gf_2_3 Δ _) d_x_readAll_227 ?_
        refine y_iload_n cx (pc := 230) d_x_readAll_230 rfl 1 rfl ?_
        refine y_iload_n cx (pc := 231) d_x_readAll_231 rfl 0 rfl ?_
        refine y_bipush cx (pc := 232) bp_97 d_x_readAll_232 ?_
        refine y_isub cx (pc := 234) d_x_readAll_234 ?_
        obtain ⟨h0, h⟩ := h
        refine y_iast cx (pc := 235) ⟨(le_b rfl), fun _ => rfl⟩ h0 d_x_readAll_235 ?_
        refine y_aload_n cx (pc := 236) d_x_readAll_236 rfl 2 rfl ?_
        refine y_iload_n cx (pc := 237) d_x_readAll_237 rfl 1 rfl ?_
        refine y_vV cx (pc := 238) (st := []) [.int x1] (c_x_readSet cx.fl Δ x1 _ _ _ h) mv_x_readSet kw_163 (oc_0 Δ) ck_GM rfl (le_b rfl) (by show 4 + 1 ≤ 5 + 2 * (d + 1); omega) (by show 12 + (3 + 11) + (107) ≤ 133 + 54 * (d + 1); omega) (le_b rfl) (le_b rfl) d_x_readAll_238 (fun σ4 h => ?_) (fun x σ4 h => ?_)
        ·
          refine y_sub [2, 3] rfl ?_
          exact b_x_readAll_241 cx hRA hK0 v1 σ4 h
        ·
          exact t_out cx rfl (le_b rfl) (le_b rfl) h
      · replace h := h.2 hc
        refine y_aload_n cx (pc := 188) d_x_readAll_188 rfl 2 rfl ?_
        refine y_get cx (pc := 189) (j := 1) (v := .ref (Δ.1 2)) (le_b rfl) ck_GM kw_398 (le_b rfl) (gf_0_1 Δ _) d_x_readAll_189 ?_
        refine y_getN cx (pc := 192) (j := 1) (v := .ref (Δ.1 47)) (le_b rfl) ck_Tx kw_258 (le_b rfl) (gf_2_1 Δ _) d_x_readAll_192 ?_
        refine y_iload_n cx (pc := 195) d_x_readAll_195 rfl 1 rfl ?_
        refine y_iconst cx (pc := 196) ic_3 d_x_readAll_196 ?_
        obtain ⟨h0, h⟩ := h
        refine y_iast cx (pc := 197) ⟨(le_b rfl), fun _ => rfl⟩ h0 d_x_readAll_197 ?_
        refine y_aload_n cx (pc := 198) d_x_readAll_198 rfl 2 rfl ?_
        refine y_iload_n cx (pc := 199) d_x_readAll_199 rfl 1 rfl ?_
        refine y_vV cx (pc := 200) (st := []) [.int x1] (c_x_takeFirst cx.fl Δ x1 _ _ _ h) mv_x_takeFirst kw_52 (oc_0 Δ) ck_GM rfl (le_b rfl) (by show 3 + 1 ≤ 5 + 2 * (d + 1); omega) (by show 12 + (2 + 11) + (82) ≤ 133 + 54 * (d + 1); omega) (le_b rfl) (le_b rfl) d_x_readAll_200 (fun σ5 h => ?_) (fun x σ5 h => ?_)
        ·
          refine y_aload_n cx (pc := 203) d_x_readAll_203 rfl 2 rfl ?_
          refine y_bipush cx (pc := 204) bp_61 d_x_readAll_204 ?_
          refine y_vV cx (pc := 206) (st := []) [.int 61] (c_x_want_I cx.fl Δ 61 _ _ _ h) mv_x_want_I kw_159 (oc_0 Δ) ck_GM rfl (le_b rfl) (by show 1 + 1 ≤ 5 + 2 * (d + 1); omega) (by show 12 + (2 + 11) + (26) ≤ 133 + 54 * (d + 1); omega) (le_b rfl) (le_b rfl) d_x_readAll_206 (fun σ6 h => ?_) (fun x σ6 h => ?_)
          ·
            refine y_aload_n cx (pc := 209) d_x_readAll_209 rfl 2 rfl ?_
            refine y_iload_n cx (pc := 210) d_x_readAll_210 rfl 1 rfl ?_
            refine y_vV cx (pc := 211) (st := []) [.int x1] (c_x_takeSecond cx.fl Δ x1 _ _ _ h) mv_x_takeSecond kw_155 (oc_0 Δ) ck_GM rfl (le_b rfl) (by show 3 + 1 ≤ 5 + 2 * (d + 1); omega) (by show 12 + (2 + 11) + (82) ≤ 133 + 54 * (d + 1); omega) (le_b rfl) (le_b rfl) d_x_readAll_211 (fun σ7 h => ?_) (fun x σ7 h => ?_)
            ·
              refine y_aload_n cx (pc := 214) d_x_readAll_214 rfl 2 rfl ?_
              refine y_bipush cx (pc := 215) bp_59 d_x_readAll_215 ?_
              refine y_vV cx (pc := 217) (st := []) [.int 59] (c_x_want_I cx.fl Δ 59 _ _ _ h) mv_x_want_I kw_159 (oc_0 Δ) ck_GM rfl (le_b rfl) (by show 1 + 1 ≤ 5 + 2 * (d + 1); omega) (by show 12 + (2 + 11) + (26) ≤ 133 + 54 * (d + 1); omega) (le_b rfl) (le_b rfl) d_x_readAll_217 (fun σ8 h => ?_) (fun x σ8 h => ?_)
              ·
                refine y_goto cx (pc := 220) (tgt := 241) d_x_readAll_220 (by decide) ?_
                refine y_sub [2, 3] rfl ?_
                exact b_x_readAll_241 cx hRA hK0 v1 σ8 h
              ·
                exact t_out cx rfl (le_b rfl) (le_b rfl) h
            ·
              exact t_out cx rfl (le_b rfl) (le_b rfl) h
          ·
            exact t_out cx rfl (le_b rfl) (le_b rfl) h
        ·
          exact t_out cx rfl (le_b rfl) (le_b rfl) h
    · replace h := h.2 hc
      refine y_aload_n cx (pc := 158) d_x_readAll_158 rfl 2 rfl ?_
      refine y_get cx (pc := 159) (j := 1) (v := .ref (Δ.1 2)) (le_b rfl) ck_GM kw_398 (le_b rfl) (gf_0_1 Δ _) d_x_readAll_159 ?_
      refine y_getN cx (pc := 162) (j := 1) (v := .ref (Δ.1 47)) (le_b rfl) ck_Tx kw_258 (le_b rfl) (gf_2_1 Δ _) d_x_readAll_162 ?_
      refine y_iload_n cx (pc := 165) d_x_readAll_165 rfl 1 rfl ?_
      refine y_iconst cx (pc := 166) ic_4 d_x_readAll_166 ?_
      obtain ⟨h0, h⟩ := h
      refine y_iast cx (pc := 167) ⟨(le_b rfl), fun _ => rfl⟩ h0 d_x_readAll_167 ?_
      refine y_aload_n cx (pc := 168) d_x_readAll_168 rfl 2 rfl ?_
      refine y_iload_n cx (pc := 169) d_x_readAll_169 rfl 1 rfl ?_
      refine y_vV cx (pc := 170) (st := []) [.int x1] (c_x_takeFirst cx.fl Δ x1 _ _ _ h) mv_x_takeFirst kw_52 (oc_0 Δ) ck_GM rfl (le_b rfl) (by show 3 + 1 ≤ 5 + 2 * (d + 1); omega) (by show 12 + (2 + 11) + (82) ≤ 133 + 54 * (d + 1); omega) (le_b rfl) (le_b rfl) d_x_readAll_170 (fun σ9 h => ?_) (fun x σ9 h => ?_)
      ·
        refine y_aload_n cx (pc := 173) d_x_readAll_173 rfl 2 rfl ?_
        refine y_bipush cx (pc := 174) bp_59 d_x_readAll_174 ?_
        refine y_vV cx (pc := 176) (st := []) [.int 59] (c_x_want_I cx.fl Δ 59 _ _ _ h) mv_x_want_I kw_159 (oc_0 Δ) ck_GM rfl (le_b rfl) (by show 1 + 1 ≤ 5 + 2 * (d + 1); omega) (by show 12 + (2 + 11) + (26) ≤ 133 + 54 * (d + 1); omega) (le_b rfl) (le_b rfl) d_x_readAll_176 (fun σ10 h => ?_) (fun x σ10 h => ?_)
        ·
          refine y_goto cx (pc := 179) (tgt := 241) d_x_readAll_179 (by decide) ?_
          refine y_sub [2, 3] rfl ?_
          exact b_x_readAll_241 cx hRA hK0 v1 σ10 h
        ·
          exact t_out cx rfl (le_b rfl) (le_b rfl) h
      ·
        exact t_out cx rfl (le_b rfl) (le_b rfl) h
  · replace h := h.2 hc
    refine y_aload_n cx (pc := 143) d_x_readAll_143 rfl 2 rfl ?_
    refine y_iload_n cx (pc := 144) d_x_readAll_144 rfl 1 rfl ?_
    refine y_iload_n cx (pc := 145) d_x_readAll_145 rfl 3 rfl ?_
    refine y_vV cx (pc := 146) (st := []) [.int x1, .int v1] (c_x_readAsk cx.fl Δ RA d hRA x1 v1 _ _ _ h) (mv_x_readAsk d) kw_48 (oc_0 Δ) ck_GM rfl (le_b rfl) (by show 5 + 2 * d + 1 + 1 ≤ 5 + 2 * (d + 1); omega) (by show 12 + (4 + 11) + (133 + 54 * d + 27) ≤ 133 + 54 * (d + 1); omega) (le_b rfl) (le_b rfl) d_x_readAll_146 (fun σ11 h => ?_) (fun x σ11 h => ?_)
    ·
      refine y_goto cx (pc := 149) (tgt := 241) d_x_readAll_149 (by decide) ?_
      refine y_sub [2, 3] rfl ?_
      exact b_x_readAll_241 cx hRA hK0 v1 σ11 h
    ·
      exact t_out cx rfl (le_b rfl) (le_b rfl) h
def w_x_readAll_0 (RA : Int32 → Sg → (Sg → Prop) → (Nat → Sg → Prop) → Prop) (Q : Sg → Prop) (E : Nat → Sg → Prop) : Nat → Int32 → Sg → Prop
  | 0, _, _ => False
  | n + 1, v1, σ => w_x_here σ (fun x1 σ2 => w_x_begins x1 σ2 (fun x3 σ4 => (x3 = 0 → (Q σ4)) ∧ (¬ x3 = 0 → ((¬ (σ4 2 0) = 60 → (w_x_here σ4 (fun x5 σ6 => (¬ x5 = 63 → (w_x_readAll_57 RA (w_x_readAll_0 RA Q E n) Q E v1 σ6)) ∧ (x5 = 63 → ((¬ v1 = 6 → (w_x_readAll_57 RA (w_x_readAll_0 RA Q E n) Q E v1 σ6)) ∧ (v1 = 6 → (w_x_bad 4 (σ6 0 5) σ6 (fun σ7 => E 0 σ7)))))))) ∧ ((σ4 2 0) = 60 → (w_x_bad 3 (σ4 0 5) σ4 (fun σ8 => E 0 σ8)))))))
theorem b_x_readAll_0 {Δ : Ly} {G : Gm} {d : Nat} {RA : Int32 → Sg → (Sg → Prop) → (Nat → Sg → Prop) → Prop} {Q : Sg → Prop} {E : Nat → Sg → Prop} (cx : Cx Δ G (mi_x_readAll (d + 1))) (hRA : ∀ (p1 : Int32) (σ : Sg) (Q : Sg → Prop) (E : Nat → Sg → Prop) , RA p1 σ Q E → Ct (g_l G) Δ (mi_x_readAll d) [.ref (Δ.1 0), .int p1] σ (qV Q) E) : ∀ (n : Nat) (v1 : Int32) (σ : Sg), w_x_readAll_0 RA Q E n v1 σ → Y Δ G (mi_x_readAll (d + 1)) (qV Q) E 0 0 σ 0 [(0, .ref (Δ.1 0)), (1, .int v1)] [] := by
  intro n
  induction n with
  | zero => intro v1 σ h; exact h.elim
  | succ n ih =>
    intro v1 σ h
    unfold w_x_readAll_0 at h
    refine y_aload_n cx (pc := 0) d_x_readAll_0 rfl 0 rfl ?_
    refine y_vI cx (pc := 1) (st := []) [] (c_x_here cx.fl Δ _ _ h) mv_x_here kw_29 (oc_0 Δ) ck_GM rfl (le_b rfl) (by show 0 + 1 ≤ 5 + 2 * (d + 1); omega) (by show 12 + (1 + 11) + (0) ≤ 133 + 54 * (d + 1); omega) (le_b rfl) (le_b rfl) d_x_readAll_1 (fun x1 σ2 h => ?_) (fun x σ2 h => yt_no h)
    refine y_sI cx (pc := 4) (st := []) [.int x1] (c_x_begins cx.fl Δ x1 _ _ h) mv_x_begins kw_33 rfl (le_b rfl) (by show 2 + 1 ≤ 5 + 2 * (d + 1); omega) (by show 12 + (1 + 11) + (53) ≤ 133 + 54 * (d + 1); omega) (le_b rfl) (le_b rfl) d_x_readAll_4 (fun x3 σ4 h => ?_) (fun x σ4 h => yt_no h)
    refine y_if_eq cx (pc := 7) (tgt := 244) d_x_readAll_7 (by decide) (fun hc => ?_) (fun hc => ?_)
    · replace h := h.1 hc
      exact y_vret cx (pc := 244) rfl d_x_readAll_244 (le_b rfl) (le_b rfl) h
    · replace h := h.2 hc
      refine y_aload_n cx (pc := 10) d_x_readAll_10 rfl 0 rfl ?_
      refine y_get cx (pc := 11) (j := 1) (v := .ref (Δ.1 2)) (le_b rfl) ck_GM kw_398 (le_b rfl) (gf_0_1 Δ _) d_x_readAll_11 ?_
      refine y_getN cx (pc := 14) (j := 0) (v := .int (σ4 2 0)) (le_b rfl) ck_Tx kw_256 (le_b rfl) (gf_2_0 Δ _) d_x_readAll_14 ?_
      refine y_bipush cx (pc := 17) bp_60 d_x_readAll_17 ?_
      refine y_icmp_ne cx (pc := 19) (tgt := 32) d_x_readAll_19 (by decide) (fun hc => ?_) (fun hc => ?_)
      · replace h := h.1 hc
        refine y_aload_n cx (pc := 32) d_x_readAll_32 rfl 0 rfl ?_
        refine y_vI cx (pc := 33) (st := []) [] (c_x_here cx.fl Δ _ _ h) mv_x_here kw_29 (oc_0 Δ) ck_GM rfl (le_b rfl) (by show 0 + 1 ≤ 5 + 2 * (d + 1); omega) (by show 12 + (1 + 11) + (0) ≤ 133 + 54 * (d + 1); omega) (le_b rfl) (le_b rfl) d_x_readAll_33 (fun x5 σ6 h => ?_) (fun x σ6 h => yt_no h)
        refine y_bipush cx (pc := 36) bp_63 d_x_readAll_36 ?_
        refine y_icmp_ne cx (pc := 38) (tgt := 57) d_x_readAll_38 (by decide) (fun hc => ?_) (fun hc => ?_)
        · replace h := h.1 hc
          exact b_x_readAll_57 cx hRA ih v1 σ6 h
        · replace h := h.2 hc
          refine y_iload_n cx (pc := 41) d_x_readAll_41 rfl 1 rfl ?_
          refine y_bipush cx (pc := 42) bp_6 d_x_readAll_42 ?_
          refine y_icmp_ne cx (pc := 44) (tgt := 57) d_x_readAll_44 (by decide) (fun hc => ?_) (fun hc => ?_)
          · replace h := h.1 hc
            exact b_x_readAll_57 cx hRA ih v1 σ6 h
          · replace h := h.2 hc
            refine y_aload_n cx (pc := 47) d_x_readAll_47 rfl 0 rfl ?_
            refine y_iconst cx (pc := 48) ic_4 d_x_readAll_48 ?_
            refine y_aload_n cx (pc := 49) d_x_readAll_49 rfl 0 rfl ?_
            refine y_get cx (pc := 50) (j := 5) (v := .int (σ6 0 5)) (le_b rfl) ck_GM kw_402 (le_b rfl) (gf_0_5 Δ _) d_x_readAll_50 ?_
            refine y_vR cx (pc := 53) (st := []) [.int 4, .int (σ6 0 5)] (c_x_bad cx.fl Δ 4 (σ6 0 5) _ _ h) mv_x_bad kw_44 (oc_0 Δ) ck_GM rfl (le_b rfl) (by show 0 + 1 ≤ 5 + 2 * (d + 1); omega) (by show 12 + (3 + 11) + (0) ≤ 133 + 54 * (d + 1); omega) (le_b rfl) (le_b rfl) d_x_readAll_53 (fun σ7 h => ?_) (fun x σ7 h => yt_no h)
            refine y_athrow cx (pc := 56) (x := 0) d_x_readAll_56 (fun H hP => ex_bad cx hP) ?_
            exact t_out cx rfl (le_b rfl) (le_b rfl) h
      · replace h := h.2 hc
        refine y_aload_n cx (pc := 22) d_x_readAll_22 rfl 0 rfl ?_
        refine y_iconst cx (pc := 23) ic_3 d_x_readAll_23 ?_
        refine y_aload_n cx (pc := 24) d_x_readAll_24 rfl 0 rfl ?_
        refine y_get cx (pc := 25) (j := 5) (v := .int (σ4 0 5)) (le_b rfl) ck_GM kw_402 (le_b rfl) (gf_0_5 Δ _) d_x_readAll_25 ?_
        refine y_vR cx (pc := 28) (st := []) [.int 3, .int (σ4 0 5)] (c_x_bad cx.fl Δ 3 (σ4 0 5) _ _ h) mv_x_bad kw_44 (oc_0 Δ) ck_GM rfl (le_b rfl) (by show 0 + 1 ≤ 5 + 2 * (d + 1); omega) (by show 12 + (3 + 11) + (0) ≤ 133 + 54 * (d + 1); omega) (le_b rfl) (le_b rfl) d_x_readAll_28 (fun σ8 h => ?_) (fun x σ8 h => yt_no h)
        refine y_athrow cx (pc := 31) (x := 0) d_x_readAll_31 (fun H hP => ex_bad cx hP) ?_
        exact t_out cx rfl (le_b rfl) (le_b rfl) h
def w_x_readAll_s (RA : Int32 → Sg → (Sg → Prop) → (Nat → Sg → Prop) → Prop) (p1 : Int32) (σ : Sg) (Q : Sg → Prop) (E : Nat → Sg → Prop) : Prop := ∃ q0, w_x_readAll_0 RA Q E q0 p1 σ
def w_x_readAll : Nat → Int32 → Sg → (Sg → Prop) → (Nat → Sg → Prop) → Prop
  | 0, _, _, _, _ => False
  | d + 1, p1, σ, Q, E => w_x_readAll_s (w_x_readAll d) p1 σ Q E
theorem b_x_readAll {Δ : Ly} {G : Gm} {d : Nat} {RA : Int32 → Sg → (Sg → Prop) → (Nat → Sg → Prop) → Prop} {Q : Sg → Prop} {E : Nat → Sg → Prop} (cx : Cx Δ G (mi_x_readAll (d + 1))) (hRA : ∀ (p1 : Int32) (σ : Sg) (Q : Sg → Prop) (E : Nat → Sg → Prop) , RA p1 σ Q E → Ct (g_l G) Δ (mi_x_readAll d) [.ref (Δ.1 0), .int p1] σ (qV Q) E) (p1 : Int32) (σ : Sg) (h : w_x_readAll_s RA p1 σ Q E) : Y Δ G (mi_x_readAll (d + 1)) (qV Q) E 0 0 σ 0 [(0, .ref (Δ.1 0)), (1, .int p1)] [] := by
  unfold w_x_readAll_s at h
  obtain ⟨n, h⟩ := h
  exact b_x_readAll_0 cx hRA n p1 σ h
theorem c_x_readAll {l : Launch} (hfl : l.flags = flags0) (Δ : Ly) : ∀ (d : Nat) (p1 : Int32) (σ : Sg) (Q : Sg → Prop) (E : Nat → Sg → Prop) (_ : w_x_readAll d p1 σ Q E), Ct l Δ (mi_x_readAll d) [.ref (Δ.1 0), .int p1] σ (qV Q) E := by
  intro d
  induction d with
  | zero => intro p1 σ Q E h; exact h.elim
  | succ d ih =>
    intro p1 σ Q E h
    refine Ct.of hfl (by show plainFor ⟨"GuardedMoves", "readAll", "(I)V"⟩ = true; decide +kernel) rfl (le_b rfl) (fun G hl cx => ?_)
    subst hl
    exact b_x_readAll cx ih p1 σ h
def mi_x_read : Mi := ("GuardedMoves", prog_1_method_17_code, 4, [(18, 80, 87, 20), (18, 80, 110, 0), (87, 103, 110, 0)], (some .int), 22, 592, 0, 0, ⟨"GuardedMoves", "read", "()I"⟩)
theorem d_x_read_0 : decode prog_1_method_17_code 0 = .ok (.aload_n 0, 1) := by decide +kernel
theorem d_x_read_1 : decode prog_1_method_17_code 1 = .ok (.iconst 0, 1) := by decide +kernel
theorem d_x_read_2 : decode prog_1_method_17_code 2 = .ok (.putfield 169, 3) := by decide +kernel
theorem d_x_read_5 : decode prog_1_method_17_code 5 = .ok (.aload_n 0, 1) := by decide +kernel
theorem d_x_read_6 : decode prog_1_method_17_code 6 = .ok (.iconst 0, 1) := by decide +kernel
theorem d_x_read_7 : decode prog_1_method_17_code 7 = .ok (.putfield 28, 3) := by decide +kernel
theorem d_x_read_10 : decode prog_1_method_17_code 10 = .ok (.aload_n 0, 1) := by decide +kernel
theorem d_x_read_11 : decode prog_1_method_17_code 11 = .ok (.getfield 84, 3) := by decide +kernel
theorem d_x_read_14 : decode prog_1_method_17_code 14 = .ok (.iconst 0, 1) := by decide +kernel
theorem d_x_read_15 : decode prog_1_method_17_code 15 = .ok (.putfield 106, 3) := by decide +kernel
theorem d_x_read_18 : decode prog_1_method_17_code 18 = .ok (.aload_n 0, 1) := by decide +kernel
theorem d_x_read_19 : decode prog_1_method_17_code 19 = .ok (.iconst 0, 1) := by decide +kernel
theorem d_x_read_20 : decode prog_1_method_17_code 20 = .ok (.invokevirtual 148, 3) := by decide +kernel
theorem d_x_read_23 : decode prog_1_method_17_code 23 = .ok (.aload_n 0, 1) := by decide +kernel
theorem d_x_read_24 : decode prog_1_method_17_code 24 = .ok (.invokevirtual 46, 3) := by decide +kernel
theorem d_x_read_27 : decode prog_1_method_17_code 27 = .ok (.ifCond .ne 14, 3) := by decide +kernel
theorem d_x_read_30 : decode prog_1_method_17_code 30 = .ok (.aload_n 0, 1) := by decide +kernel
theorem d_x_read_31 : decode prog_1_method_17_code 31 = .ok (.getfield 28, 3) := by decide +kernel
theorem d_x_read_34 : decode prog_1_method_17_code 34 = .ok (.aload_n 0, 1) := by decide +kernel
theorem d_x_read_35 : decode prog_1_method_17_code 35 = .ok (.getfield 31, 3) := by decide +kernel
theorem d_x_read_38 : decode prog_1_method_17_code 38 = .ok (.if_icmp .ge 13, 3) := by decide +kernel
theorem d_x_read_41 : decode prog_1_method_17_code 41 = .ok (.aload_n 0, 1) := by decide +kernel
theorem d_x_read_42 : decode prog_1_method_17_code 42 = .ok (.iconst 1, 1) := by decide +kernel
theorem d_x_read_43 : decode prog_1_method_17_code 43 = .ok (.aload_n 0, 1) := by decide +kernel
theorem d_x_read_44 : decode prog_1_method_17_code 44 = .ok (.getfield 28, 3) := by decide +kernel
theorem d_x_read_47 : decode prog_1_method_17_code 47 = .ok (.invokevirtual 50, 3) := by decide +kernel
theorem d_x_read_50 : decode prog_1_method_17_code 50 = .ok (.athrow, 1) := by decide +kernel
theorem d_x_read_51 : decode prog_1_method_17_code 51 = .ok (.aload_n 0, 1) := by decide +kernel
theorem d_x_read_52 : decode prog_1_method_17_code 52 = .ok (.getfield 172, 3) := by decide +kernel
theorem d_x_read_55 : decode prog_1_method_17_code 55 = .ok (.aload_n 0, 1) := by decide +kernel
theorem d_x_read_56 : decode prog_1_method_17_code 56 = .ok (.getfield 84, 3) := by decide +kernel
theorem d_x_read_59 : decode prog_1_method_17_code 59 = .ok (.invokevirtual 175, 3) := by decide +kernel
theorem d_x_read_62 : decode prog_1_method_17_code 62 = .ok (.aload_n 0, 1) := by decide +kernel
theorem d_x_read_63 : decode prog_1_method_17_code 63 = .ok (.iconst 0, 1) := by decide +kernel
theorem d_x_read_64 : decode prog_1_method_17_code 64 = .ok (.putfield 179, 3) := by decide +kernel
theorem d_x_read_67 : decode prog_1_method_17_code 67 = .ok (.aload_n 0, 1) := by decide +kernel
theorem d_x_read_68 : decode prog_1_method_17_code 68 = .ok (.iconst 0, 1) := by decide +kernel
theorem d_x_read_69 : decode prog_1_method_17_code 69 = .ok (.putfield 183, 3) := by decide +kernel
theorem d_x_read_72 : decode prog_1_method_17_code 72 = .ok (.aload_n 0, 1) := by decide +kernel
theorem d_x_read_73 : decode prog_1_method_17_code 73 = .ok (.getfield 172, 3) := by decide +kernel
theorem d_x_read_76 : decode prog_1_method_17_code 76 = .ok (.getfield 106, 3) := by decide +kernel
theorem d_x_read_79 : decode prog_1_method_17_code 79 = .ok (.istore_n 1, 1) := by decide +kernel
theorem d_x_read_80 : decode prog_1_method_17_code 80 = .ok (.aload_n 0, 1) := by decide +kernel
theorem d_x_read_81 : decode prog_1_method_17_code 81 = .ok (.iconst 0, 1) := by decide +kernel
theorem d_x_read_82 : decode prog_1_method_17_code 82 = .ok (.putfield 31, 3) := by decide +kernel
theorem d_x_read_85 : decode prog_1_method_17_code 85 = .ok (.iload_n 1, 1) := by decide +kernel
theorem d_x_read_86 : decode prog_1_method_17_code 86 = .ok (.ireturn, 1) := by decide +kernel
theorem d_x_read_87 : decode prog_1_method_17_code 87 = .ok (.astore_n 1, 1) := by decide +kernel
theorem d_x_read_88 : decode prog_1_method_17_code 88 = .ok (.aload_n 0, 1) := by decide +kernel
theorem d_x_read_89 : decode prog_1_method_17_code 89 = .ok (.aload_n 1, 1) := by decide +kernel
theorem d_x_read_90 : decode prog_1_method_17_code 90 = .ok (.getfield 19, 3) := by decide +kernel
theorem d_x_read_93 : decode prog_1_method_17_code 93 = .ok (.putfield 169, 3) := by decide +kernel
theorem d_x_read_96 : decode prog_1_method_17_code 96 = .ok (.iconst (-1), 1) := by decide +kernel
theorem d_x_read_97 : decode prog_1_method_17_code 97 = .ok (.aload_n 1, 1) := by decide +kernel
theorem d_x_read_98 : decode prog_1_method_17_code 98 = .ok (.getfield 25, 3) := by decide +kernel
theorem d_x_read_101 : decode prog_1_method_17_code 101 = .ok (.isub, 1) := by decide +kernel
theorem d_x_read_102 : decode prog_1_method_17_code 102 = .ok (.istore_n 2, 1) := by decide +kernel
theorem d_x_read_103 : decode prog_1_method_17_code 103 = .ok (.aload_n 0, 1) := by decide +kernel
theorem d_x_read_104 : decode prog_1_method_17_code 104 = .ok (.iconst 0, 1) := by decide +kernel
theorem d_x_read_105 : decode prog_1_method_17_code 105 = .ok (.putfield 31, 3) := by decide +kernel
theorem d_x_read_108 : decode prog_1_method_17_code 108 = .ok (.iload_n 2, 1) := by decide +kernel
theorem d_x_read_109 : decode prog_1_method_17_code 109 = .ok (.ireturn, 1) := by decide +kernel
theorem kc_x_read : Kw (m_w (mi_x_read )) := ⟨(in_t1 (List.mem_of_getElem? (i := 22) rfl)), rfl⟩
theorem mv_x_read : MV (mi_x_read ) "GuardedMoves" 0 := ⟨kw_20, kw_21, kc_x_read , kw_1, ⟨⟨(by show ("GuardedMoves" : String) ≠ "java/lang/invoke/MethodHandle"; decide), (by show ("GuardedMoves" : String) ≠ "java/lang/invoke/VarHandle"; decide)⟩, (by show (parseMethodDescriptor "()I").map (fun d => d.parameters.length) = some 0; decide +kernel)⟩⟩
def w_x_read_87 (Q : Int32 → Sg → Prop) (σ : Sg) : Prop := ∀ x1 : Int32, x1 = (-1) - (σ 3 6) → (Q x1 (up (up σ 0 6 (σ 3 5)) 0 4 0))
theorem b_x_read_87 {Δ : Ly} {G : Gm} {Q : Int32 → Sg → Prop} (cx : Cx Δ G mi_x_read) : ∀ (σ : Sg), w_x_read_87 Q σ → Y Δ G mi_x_read (qI Q) noE 0 0 σ 87 [(0, .ref (Δ.1 0))] [.ref (Δ.1 3)] := by
  intro σ h
  unfold w_x_read_87 at h
  refine y_astore_n (lv' := [(1, .ref (Δ.1 3)), (0, .ref (Δ.1 0))]) cx (pc := 87) d_x_read_87 rfl (le_b rfl) rfl ?_
  refine y_aload_n cx (pc := 88) d_x_read_88 rfl 1 rfl ?_
  refine y_aload_n cx (pc := 89) d_x_read_89 rfl 0 rfl ?_
  refine y_getN cx (pc := 90) (j := 5) (v := .int (σ 3 5)) (le_b rfl) ck_Bd kw_356 (le_b rfl) (gf_3_5 Δ _) d_x_read_90 ?_
  refine y_put cx (pc := 93) (j := 6) (ty := .int) (le_b rfl) ck_GM kw_403 (le_b rfl) rfl (t_GM_ok 6 (le_b rfl)) rfl rfl (pf_0_6 Δ) d_x_read_93 ?_
  refine y_iconst cx (pc := 96) ic_m1 d_x_read_96 ?_
  refine y_aload_n cx (pc := 97) d_x_read_97 rfl 0 rfl ?_
  refine y_getN cx (pc := 98) (j := 6) (v := .int (σ 3 6)) (le_b rfl) ck_Bd kw_357 (le_b rfl) (gf_3_6 Δ _) d_x_read_98 ?_
  refine y_isub cx (pc := 101) d_x_read_101 ?_
  refine y_topi (fun x1 ex1 => ?_)
  replace h := h x1 ex1
  refine y_istore_n (lv' := [(2, .int x1), (1, .ref (Δ.1 3)), (0, .ref (Δ.1 0))]) cx (pc := 102) d_x_read_102 rfl (le_b rfl) rfl ?_
  refine y_aload_n cx (pc := 103) d_x_read_103 rfl 2 rfl ?_
  refine y_iconst cx (pc := 104) ic_0 d_x_read_104 ?_
  refine y_put cx (pc := 105) (j := 4) (ty := .int) (le_b rfl) ck_GM kw_401 (le_b rfl) rfl (t_GM_ok 4 (le_b rfl)) rfl rfl (pf_0_4 Δ) d_x_read_105 ?_
  refine y_iload_n cx (pc := 108) d_x_read_108 rfl 0 rfl ?_
  exact y_iret cx (pc := 109) rfl d_x_read_109 (le_b rfl) (le_b rfl) h
def w_x_read_41 (Q : Int32 → Sg → Prop) (σ : Sg) : Prop := w_x_bad 1 (σ 0 5) σ (fun σ1 => w_x_read_87 Q σ1)
theorem b_x_read_41 {Δ : Ly} {G : Gm} {Q : Int32 → Sg → Prop} (cx : Cx Δ G mi_x_read) : ∀ (σ : Sg), w_x_read_41 Q σ → Y Δ G mi_x_read (qI Q) noE 0 0 σ 41 [(0, .ref (Δ.1 0))] [] := by
  intro σ h
  unfold w_x_read_41 at h
  refine y_aload_n cx (pc := 41) d_x_read_41 rfl 0 rfl ?_
  refine y_iconst cx (pc := 42) ic_1 d_x_read_42 ?_
  refine y_aload_n cx (pc := 43) d_x_read_43 rfl 0 rfl ?_
  refine y_get cx (pc := 44) (j := 5) (v := .int (σ 0 5)) (le_b rfl) ck_GM kw_402 (le_b rfl) (gf_0_5 Δ _) d_x_read_44 ?_
  refine y_vR cx (pc := 47) (st := []) [.int 1, .int (σ 0 5)] (c_x_bad cx.fl Δ 1 (σ 0 5) _ _ h) mv_x_bad kw_44 (oc_0 Δ) ck_GM rfl (le_b rfl) (le_b rfl) (le_b rfl) (le_b rfl) (le_b rfl) d_x_read_47 (fun σ1 h => ?_) (fun x σ1 h => yt_no h)
  refine y_athrow cx (pc := 50) (x := 0) d_x_read_50 (fun H hP => ex_bad cx hP) ?_
  refine t_catch1 cx rfl (le_b rfl) (le_b rfl) (by decide) kw_23 (fun a ha hb => ?_)
  obtain rfl := ha rfl
  exact b_x_read_87 cx σ1 h
def w_x_read (σ : Sg) (Q : Int32 → Sg → Prop) : Prop := w_x_readAll 8 0 (up (up (up σ 0 6 0) 0 5 0) 2 0 0) (fun σ1 => w_x_here σ1 (fun x2 σ3 => (¬ x2 = 0 → (w_x_read_41 Q σ3)) ∧ (x2 = 0 → (((σ3 0 4) ≤ (σ3 0 5) → (w_t_take σ3 (fun σ4 => ∀ x5 : Int32, x5 = σ4 1 0 → (Q x5 (up (up (up σ4 0 14 0) 0 12 0) 0 4 0))))) ∧ (¬ (σ3 0 4) ≤ (σ3 0 5) → (w_x_read_41 Q σ3)))))) (fun x σ1 => (x = 0 ∧ (w_x_read_87 Q σ1)))
theorem b_x_read {Δ : Ly} {G : Gm} {Q : Int32 → Sg → Prop} (cx : Cx Δ G mi_x_read) (σ : Sg) (h : w_x_read σ Q) : Y Δ G mi_x_read (qI Q) noE 0 0 σ 0 [(0, .ref (Δ.1 0))] [] := by
  unfold w_x_read at h
  refine y_aload_n cx (pc := 0) d_x_read_0 rfl 0 rfl ?_
  refine y_iconst cx (pc := 1) ic_0 d_x_read_1 ?_
  refine y_put cx (pc := 2) (j := 6) (ty := .int) (le_b rfl) ck_GM kw_403 (le_b rfl) rfl (t_GM_ok 6 (le_b rfl)) rfl rfl (pf_0_6 Δ) d_x_read_2 ?_
  refine y_aload_n cx (pc := 5) d_x_read_5 rfl 0 rfl ?_
  refine y_iconst cx (pc := 6) ic_0 d_x_read_6 ?_
  refine y_put cx (pc := 7) (j := 5) (ty := .int) (le_b rfl) ck_GM kw_402 (le_b rfl) rfl (t_GM_ok 5 (le_b rfl)) rfl rfl (pf_0_5 Δ) d_x_read_7 ?_
  refine y_aload_n cx (pc := 10) d_x_read_10 rfl 0 rfl ?_
  refine y_get cx (pc := 11) (j := 1) (v := .ref (Δ.1 2)) (le_b rfl) ck_GM kw_398 (le_b rfl) (gf_0_1 Δ _) d_x_read_11 ?_
  refine y_iconst cx (pc := 14) ic_0 d_x_read_14 ?_
  refine y_putN cx (pc := 15) (j := 0) (ty := .int) (le_b rfl) ck_Tx kw_256 (le_b rfl) rfl (t_Tx_ok 0 (le_b rfl)) rfl rfl (pf_2_0 Δ) d_x_read_15 ?_
  refine y_aload_n cx (pc := 18) d_x_read_18 rfl 0 rfl ?_
  refine y_iconst cx (pc := 19) ic_0 d_x_read_19 ?_
  refine y_vV cx (pc := 20) (st := []) [.int 0] (c_x_readAll cx.fl Δ 8 0 _ _ _ h) (mv_x_readAll 8) kw_24 (oc_0 Δ) ck_GM rfl (le_b rfl) (le_b rfl) (le_b rfl) (le_b rfl) (le_b rfl) d_x_read_20 (fun σ1 h => ?_) (fun x σ1 h => ?_)
  ·
    refine y_aload_n cx (pc := 23) d_x_read_23 rfl 0 rfl ?_
    refine y_vI cx (pc := 24) (st := []) [] (c_x_here cx.fl Δ _ _ h) mv_x_here kw_29 (oc_0 Δ) ck_GM rfl (le_b rfl) (le_b rfl) (le_b rfl) (le_b rfl) (le_b rfl) d_x_read_24 (fun x2 σ3 h => ?_) (fun x σ3 h => yt_no h)
    refine y_if_ne cx (pc := 27) (tgt := 41) d_x_read_27 (by decide) (fun hc => ?_) (fun hc => ?_)
    · replace h := h.1 hc
      exact b_x_read_41 cx σ3 h
    · replace h := h.2 hc
      refine y_aload_n cx (pc := 30) d_x_read_30 rfl 0 rfl ?_
      refine y_get cx (pc := 31) (j := 5) (v := .int (σ3 0 5)) (le_b rfl) ck_GM kw_402 (le_b rfl) (gf_0_5 Δ _) d_x_read_31 ?_
      refine y_aload_n cx (pc := 34) d_x_read_34 rfl 0 rfl ?_
      refine y_get cx (pc := 35) (j := 4) (v := .int (σ3 0 4)) (le_b rfl) ck_GM kw_401 (le_b rfl) (gf_0_4 Δ _) d_x_read_35 ?_
      refine y_icmp_ge cx (pc := 38) (tgt := 51) d_x_read_38 (by decide) (fun hc => ?_) (fun hc => ?_)
      · replace h := h.1 hc
        refine y_aload_n cx (pc := 51) d_x_read_51 rfl 0 rfl ?_
        refine y_get cx (pc := 52) (j := 0) (v := .ref (Δ.1 1)) (le_b rfl) ck_GM kw_397 (le_b rfl) (gf_0_0 Δ _) d_x_read_52 ?_
        refine y_aload_n cx (pc := 55) d_x_read_55 rfl 0 rfl ?_
        refine y_get cx (pc := 56) (j := 1) (v := .ref (Δ.1 2)) (le_b rfl) ck_GM kw_398 (le_b rfl) (gf_0_1 Δ _) d_x_read_56 ?_
        refine y_vV cx (pc := 59) (st := []) [.ref (Δ.1 2)] (c_t_take cx.fl Δ _ _ h) mv_t_take kw_168 (oc_1 Δ) ck_Tx rfl (le_b rfl) (le_b rfl) (le_b rfl) (le_b rfl) (le_b rfl) d_x_read_59 (fun σ4 h => ?_) (fun x σ4 h => yt_no h)
        refine y_aload_n cx (pc := 62) d_x_read_62 rfl 0 rfl ?_
        refine y_iconst cx (pc := 63) ic_0 d_x_read_63 ?_
        refine y_put cx (pc := 64) (j := 14) (ty := .boolean) (le_b rfl) ck_GM kw_411 (le_b rfl) rfl (t_GM_ok 14 (le_b rfl)) (bz_nar bz_0) (bz_fit bz_0) (pf_0_14 Δ) d_x_read_64 ?_
        refine y_aload_n cx (pc := 67) d_x_read_67 rfl 0 rfl ?_
        refine y_iconst cx (pc := 68) ic_0 d_x_read_68 ?_
        refine y_put cx (pc := 69) (j := 12) (ty := .int) (le_b rfl) ck_GM kw_409 (le_b rfl) rfl (t_GM_ok 12 (le_b rfl)) rfl rfl (pf_0_12 Δ) d_x_read_69 ?_
        refine y_aload_n cx (pc := 72) d_x_read_72 rfl 0 rfl ?_
        refine y_get cx (pc := 73) (j := 0) (v := .ref (Δ.1 1)) (le_b rfl) ck_GM kw_397 (le_b rfl) (gf_0_0 Δ _) d_x_read_73 ?_
        refine y_getN cx (pc := 76) (j := 0) (v := .int (σ4 1 0)) (le_b rfl) ck_Tx kw_256 (le_b rfl) (gf_1_0 Δ _) d_x_read_76 ?_
        refine y_topi (fun x5 ex5 => ?_)
        replace h := h x5 ex5
        refine y_istore_n (lv' := [(1, .int x5), (0, .ref (Δ.1 0))]) cx (pc := 79) d_x_read_79 rfl (le_b rfl) rfl ?_
        refine y_aload_n cx (pc := 80) d_x_read_80 rfl 1 rfl ?_
        refine y_iconst cx (pc := 81) ic_0 d_x_read_81 ?_
        refine y_put cx (pc := 82) (j := 4) (ty := .int) (le_b rfl) ck_GM kw_401 (le_b rfl) rfl (t_GM_ok 4 (le_b rfl)) rfl rfl (pf_0_4 Δ) d_x_read_82 ?_
        refine y_iload_n cx (pc := 85) d_x_read_85 rfl 0 rfl ?_
        exact y_iret cx (pc := 86) rfl d_x_read_86 (le_b rfl) (le_b rfl) h
      · replace h := h.2 hc
        exact b_x_read_41 cx σ3 h
  ·
    obtain ⟨rfl, h⟩ := h
    refine t_catch1 cx rfl (le_b rfl) (le_b rfl) (by decide) kw_23 (fun a ha hb => ?_)
    obtain rfl := ha rfl
    exact b_x_read_87 cx σ1 h
theorem c_x_read {l : Launch} (hfl : l.flags = flags0) (Δ : Ly) (σ : Sg) (Q : Int32 → Sg → Prop) (h : w_x_read σ Q) : Ct l Δ mi_x_read [.ref (Δ.1 0)] σ (qI Q) noE :=
  Ct.of hfl (by show plainFor ⟨"GuardedMoves", "read", "()I"⟩ = true; decide +kernel) rfl (le_b rfl) (fun G hl cx => b_x_read cx σ h)
def mi_x_fault : Mi := ("GuardedMoves", prog_1_method_18_code, 1, [], (some .int), 0, 0, 0, 0, ⟨"GuardedMoves", "fault", "()I"⟩)
theorem d_x_fault_0 : decode prog_1_method_18_code 0 = .ok (.aload_n 0, 1) := by decide +kernel
theorem d_x_fault_1 : decode prog_1_method_18_code 1 = .ok (.getfield 169, 3) := by decide +kernel
theorem d_x_fault_4 : decode prog_1_method_18_code 4 = .ok (.ireturn, 1) := by decide +kernel
theorem kc_x_fault : Kw (m_w (mi_x_fault )) := ⟨(in_t1 (List.mem_of_getElem? (i := 176) rfl)), rfl⟩
theorem mv_x_fault : MV (mi_x_fault ) "GuardedMoves" 0 := ⟨kw_174, kw_175, kc_x_fault , kw_1, ⟨⟨(by show ("GuardedMoves" : String) ≠ "java/lang/invoke/MethodHandle"; decide), (by show ("GuardedMoves" : String) ≠ "java/lang/invoke/VarHandle"; decide)⟩, (by show (parseMethodDescriptor "()I").map (fun d => d.parameters.length) = some 0; decide +kernel)⟩⟩
def w_x_fault (σ : Sg) (Q : Int32 → Sg → Prop) : Prop := Q (σ 0 6) σ
theorem b_x_fault {Δ : Ly} {G : Gm} {Q : Int32 → Sg → Prop} (cx : Cx Δ G mi_x_fault) (σ : Sg) (h : w_x_fault σ Q) : Y Δ G mi_x_fault (qI Q) noE 0 0 σ 0 [(0, .ref (Δ.1 0))] [] := by
  unfold w_x_fault at h
  refine y_aload_n cx (pc := 0) d_x_fault_0 rfl 0 rfl ?_
  refine y_get cx (pc := 1) (j := 6) (v := .int (σ 0 6)) (le_b rfl) ck_GM kw_403 (le_b rfl) (gf_0_6 Δ _) d_x_fault_1 ?_
  exact y_iret cx (pc := 4) rfl d_x_fault_4 (le_b rfl) (le_b rfl) h
theorem c_x_fault {l : Launch} (hfl : l.flags = flags0) (Δ : Ly) (σ : Sg) (Q : Int32 → Sg → Prop) (h : w_x_fault σ Q) : Ct l Δ mi_x_fault [.ref (Δ.1 0)] σ (qI Q) noE :=
  Ct.of hfl (by show plainFor ⟨"GuardedMoves", "fault", "()I"⟩ = true; decide +kernel) rfl (le_b rfl) (fun G hl cx => b_x_fault cx σ h)

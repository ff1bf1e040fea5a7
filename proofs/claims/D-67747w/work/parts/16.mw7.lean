def mi_m_isUseless : Mi := ("GuardedMovesModel", prog_6_method_43_code, 6, [], (some .boolean), 1, 28, 0, 0, ⟨"GuardedMovesModel", "isUseless", "(I)Z"⟩)
theorem d_m_isUseless_0 : decode prog_6_method_43_code 0 = .ok (.aload_n 0, 1) := by decide +kernel
theorem d_m_isUseless_1 : decode prog_6_method_43_code 1 = .ok (.getfield 44, 3) := by decide +kernel
theorem d_m_isUseless_4 : decode prog_6_method_43_code 4 = .ok (.bipush 6, 2) := by decide +kernel
theorem d_m_isUseless_6 : decode prog_6_method_43_code 6 = .ok (.iload_n 1, 1) := by decide +kernel
theorem d_m_isUseless_7 : decode prog_6_method_43_code 7 = .ok (.imul, 1) := by decide +kernel
theorem d_m_isUseless_8 : decode prog_6_method_43_code 8 = .ok (.iaload, 1) := by decide +kernel
theorem d_m_isUseless_9 : decode prog_6_method_43_code 9 = .ok (.istore_n 2, 1) := by decide +kernel
theorem d_m_isUseless_10 : decode prog_6_method_43_code 10 = .ok (.aload_n 0, 1) := by decide +kernel
theorem d_m_isUseless_11 : decode prog_6_method_43_code 11 = .ok (.getfield 44, 3) := by decide +kernel
theorem d_m_isUseless_14 : decode prog_6_method_43_code 14 = .ok (.bipush 6, 2) := by decide +kernel
theorem d_m_isUseless_16 : decode prog_6_method_43_code 16 = .ok (.iload_n 1, 1) := by decide +kernel
theorem d_m_isUseless_17 : decode prog_6_method_43_code 17 = .ok (.imul, 1) := by decide +kernel
theorem d_m_isUseless_18 : decode prog_6_method_43_code 18 = .ok (.iconst 1, 1) := by decide +kernel
theorem d_m_isUseless_19 : decode prog_6_method_43_code 19 = .ok (.iadd, 1) := by decide +kernel
theorem d_m_isUseless_20 : decode prog_6_method_43_code 20 = .ok (.iaload, 1) := by decide +kernel
theorem d_m_isUseless_21 : decode prog_6_method_43_code 21 = .ok (.istore_n 3, 1) := by decide +kernel
theorem d_m_isUseless_22 : decode prog_6_method_43_code 22 = .ok (.iload_n 2, 1) := by decide +kernel
theorem d_m_isUseless_23 : decode prog_6_method_43_code 23 = .ok (.bipush 15, 2) := by decide +kernel
theorem d_m_isUseless_25 : decode prog_6_method_43_code 25 = .ok (.if_icmp .eq 38, 3) := by decide +kernel
theorem d_m_isUseless_28 : decode prog_6_method_43_code 28 = .ok (.iload_n 2, 1) := by decide +kernel
theorem d_m_isUseless_29 : decode prog_6_method_43_code 29 = .ok (.bipush 16, 2) := by decide +kernel
theorem d_m_isUseless_31 : decode prog_6_method_43_code 31 = .ok (.if_icmp .eq 32, 3) := by decide +kernel
theorem d_m_isUseless_34 : decode prog_6_method_43_code 34 = .ok (.iload_n 2, 1) := by decide +kernel
theorem d_m_isUseless_35 : decode prog_6_method_43_code 35 = .ok (.bipush 17, 2) := by decide +kernel
theorem d_m_isUseless_37 : decode prog_6_method_43_code 37 = .ok (.if_icmp .eq 26, 3) := by decide +kernel
theorem d_m_isUseless_40 : decode prog_6_method_43_code 40 = .ok (.iload_n 2, 1) := by decide +kernel
theorem d_m_isUseless_41 : decode prog_6_method_43_code 41 = .ok (.bipush 18, 2) := by decide +kernel
theorem d_m_isUseless_43 : decode prog_6_method_43_code 43 = .ok (.if_icmp .eq 20, 3) := by decide +kernel
theorem d_m_isUseless_46 : decode prog_6_method_43_code 46 = .ok (.iload_n 2, 1) := by decide +kernel
theorem d_m_isUseless_47 : decode prog_6_method_43_code 47 = .ok (.iconst 5, 1) := by decide +kernel
theorem d_m_isUseless_48 : decode prog_6_method_43_code 48 = .ok (.if_icmp .eq 15, 3) := by decide +kernel
theorem d_m_isUseless_51 : decode prog_6_method_43_code 51 = .ok (.iload_n 2, 1) := by decide +kernel
theorem d_m_isUseless_52 : decode prog_6_method_43_code 52 = .ok (.bipush 6, 2) := by decide +kernel
theorem d_m_isUseless_54 : decode prog_6_method_43_code 54 = .ok (.if_icmp .eq 9, 3) := by decide +kernel
theorem d_m_isUseless_57 : decode prog_6_method_43_code 57 = .ok (.iload_n 2, 1) := by decide +kernel
theorem d_m_isUseless_58 : decode prog_6_method_43_code 58 = .ok (.bipush 14, 2) := by decide +kernel
theorem d_m_isUseless_60 : decode prog_6_method_43_code 60 = .ok (.if_icmp .ne 7, 3) := by decide +kernel
theorem d_m_isUseless_63 : decode prog_6_method_43_code 63 = .ok (.iconst 1, 1) := by decide +kernel
theorem d_m_isUseless_64 : decode prog_6_method_43_code 64 = .ok (.goto 4, 3) := by decide +kernel
theorem d_m_isUseless_67 : decode prog_6_method_43_code 67 = .ok (.iconst 0, 1) := by decide +kernel
theorem d_m_isUseless_68 : decode prog_6_method_43_code 68 = .ok (.istore 4, 2) := by decide +kernel
theorem d_m_isUseless_70 : decode prog_6_method_43_code 70 = .ok (.aload_n 0, 1) := by decide +kernel
theorem d_m_isUseless_71 : decode prog_6_method_43_code 71 = .ok (.getfield 81, 3) := by decide +kernel
theorem d_m_isUseless_74 : decode prog_6_method_43_code 74 = .ok (.iload_n 1, 1) := by decide +kernel
theorem d_m_isUseless_75 : decode prog_6_method_43_code 75 = .ok (.baload, 1) := by decide +kernel
theorem d_m_isUseless_76 : decode prog_6_method_43_code 76 = .ok (.ifCond .ne 14, 3) := by decide +kernel
theorem d_m_isUseless_79 : decode prog_6_method_43_code 79 = .ok (.iload 4, 2) := by decide +kernel
theorem d_m_isUseless_81 : decode prog_6_method_43_code 81 = .ok (.ifCond .ne 9, 3) := by decide +kernel
theorem d_m_isUseless_84 : decode prog_6_method_43_code 84 = .ok (.iload_n 3, 1) := by decide +kernel
theorem d_m_isUseless_85 : decode prog_6_method_43_code 85 = .ok (.bipush 16, 2) := by decide +kernel
theorem d_m_isUseless_87 : decode prog_6_method_43_code 87 = .ok (.if_icmp .ge 5, 3) := by decide +kernel
theorem d_m_isUseless_90 : decode prog_6_method_43_code 90 = .ok (.iconst 0, 1) := by decide +kernel
theorem d_m_isUseless_91 : decode prog_6_method_43_code 91 = .ok (.ireturn, 1) := by decide +kernel
theorem d_m_isUseless_92 : decode prog_6_method_43_code 92 = .ok (.iconst 0, 1) := by decide +kernel
theorem d_m_isUseless_93 : decode prog_6_method_43_code 93 = .ok (.istore 5, 2) := by decide +kernel
theorem d_m_isUseless_95 : decode prog_6_method_43_code 95 = .ok (.iload 5, 2) := by decide +kernel
theorem d_m_isUseless_97 : decode prog_6_method_43_code 97 = .ok (.aload_n 0, 1) := by decide +kernel
theorem d_m_isUseless_98 : decode prog_6_method_43_code 98 = .ok (.getfield 199, 3) := by decide +kernel
theorem d_m_isUseless_101 : decode prog_6_method_43_code 101 = .ok (.if_icmp .ge 37, 3) := by decide +kernel
theorem d_m_isUseless_104 : decode prog_6_method_43_code 104 = .ok (.iload 5, 2) := by decide +kernel
theorem d_m_isUseless_106 : decode prog_6_method_43_code 106 = .ok (.iload_n 1, 1) := by decide +kernel
theorem d_m_isUseless_107 : decode prog_6_method_43_code 107 = .ok (.if_icmp .eq 25, 3) := by decide +kernel
theorem d_m_isUseless_110 : decode prog_6_method_43_code 110 = .ok (.aload_n 0, 1) := by decide +kernel
theorem d_m_isUseless_111 : decode prog_6_method_43_code 111 = .ok (.getfield 81, 3) := by decide +kernel
theorem d_m_isUseless_114 : decode prog_6_method_43_code 114 = .ok (.iload 5, 2) := by decide +kernel
theorem d_m_isUseless_116 : decode prog_6_method_43_code 116 = .ok (.baload, 1) := by decide +kernel
theorem d_m_isUseless_117 : decode prog_6_method_43_code 117 = .ok (.ifCond .ne 15, 3) := by decide +kernel
theorem d_m_isUseless_120 : decode prog_6_method_43_code 120 = .ok (.aload_n 0, 1) := by decide +kernel
theorem d_m_isUseless_121 : decode prog_6_method_43_code 121 = .ok (.iload 5, 2) := by decide +kernel
theorem d_m_isUseless_123 : decode prog_6_method_43_code 123 = .ok (.iload_n 3, 1) := by decide +kernel
theorem d_m_isUseless_124 : decode prog_6_method_43_code 124 = .ok (.invokevirtual 269, 3) := by decide +kernel
theorem d_m_isUseless_127 : decode prog_6_method_43_code 127 = .ok (.ifCond .eq 5, 3) := by decide +kernel
theorem d_m_isUseless_130 : decode prog_6_method_43_code 130 = .ok (.iconst 0, 1) := by decide +kernel
theorem d_m_isUseless_131 : decode prog_6_method_43_code 131 = .ok (.ireturn, 1) := by decide +kernel
theorem d_m_isUseless_132 : decode prog_6_method_43_code 132 = .ok (.iinc 5 1, 3) := by decide +kernel
theorem d_m_isUseless_135 : decode prog_6_method_43_code 135 = .ok (.goto (-40), 3) := by decide +kernel
theorem d_m_isUseless_138 : decode prog_6_method_43_code 138 = .ok (.iconst 1, 1) := by decide +kernel
theorem d_m_isUseless_139 : decode prog_6_method_43_code 139 = .ok (.ireturn, 1) := by decide +kernel
theorem kc_m_isUseless : Kw (m_w (mi_m_isUseless )) := ⟨(in_t5 (List.mem_of_getElem? (i := 95) rfl)), rfl⟩
theorem mv_m_isUseless : MV (mi_m_isUseless ) "GuardedMovesModel" 1 := ⟨kw_1054, ks_72, kc_m_isUseless , kw_7, ⟨⟨(by show ("GuardedMovesModel" : String) ≠ "java/lang/invoke/MethodHandle"; decide), (by show ("GuardedMovesModel" : String) ≠ "java/lang/invoke/VarHandle"; decide)⟩, (by show (parseMethodDescriptor "(I)Z").map (fun d => d.parameters.length) = some 1; decide +kernel)⟩⟩
def w_m_isUseless_132 (K95 : Int32 → Int32 → Int32 → Sg → Prop) (Q : Int32 → Sg → Prop) (v1 : Int32) (v3 : Int32) (v5 : Int32) (σ : Sg) : Prop := ∀ x1 : Int32, x1 = v5 + 1 → (K95 v1 v3 x1 σ)
theorem b_m_isUseless_132 {Δ : Ly} {G : Gm} {K95 : Int32 → Int32 → Int32 → Sg → Prop} {Q : Int32 → Sg → Prop} (cx : Cx Δ G mi_m_isUseless) (hK95 : ∀ (v1 : Int32) (v3 : Int32) (v5 : Int32) (σ : Sg), K95 v1 v3 v5 σ → Y Δ G mi_m_isUseless (qI Q) noE 0 0 σ 95 [(0, .ref (Δ.1 58)), (1, .int v1), (3, .int v3), (5, .int v5)] []) : ∀ (v1 : Int32) (v3 : Int32) (v5 : Int32) (σ : Sg), w_m_isUseless_132 K95 Q v1 v3 v5 σ → Y Δ G mi_m_isUseless (qI Q) noE 0 0 σ 132 [(0, .ref (Δ.1 58)), (1, .int v1), (3, .int v3), (5, .int v5)] [] := by
  intro v1 v3 v5 σ h
  unfold w_m_isUseless_132 at h
  obtain ⟨x1, ex1⟩ : ∃ y : Int32, y = v5 + 1 := ⟨_, rfl⟩
  replace h := h x1 ex1
  refine y_iinc (v := x1) (lv' := [(5, .int x1), (0, .ref (Δ.1 58)), (1, .int v1), (3, .int v3)]) cx (pc := 132) d_m_isUseless_132 (j := 3) rfl (by rw [ex1]; rfl) (le_b rfl) rfl ?_
  refine y_goto cx (pc := 135) (tgt := 95) d_m_isUseless_135 (by decide) ?_
  refine y_sub [1, 2, 3, 0] rfl ?_
  exact hK95 v1 v3 x1 σ h
def w_m_isUseless_95 (Q : Int32 → Sg → Prop) : Nat → Int32 → Int32 → Int32 → Sg → Prop
  | 0, _, _, _, _ => False
  | n + 1, v1, v3, v5, σ => ((σ 58 20) ≤ v5 → (Q 1 σ)) ∧ (¬ (σ 58 20) ≤ v5 → ((v5 = v1 → (w_m_isUseless_132 (w_m_isUseless_95 Q n) Q v1 v3 v5 σ)) ∧ (¬ v5 = v1 → (vp_in v5 4000 ∧ ((¬ (σ 81 (v5.toNatClampNeg)) = 0 → (w_m_isUseless_132 (w_m_isUseless_95 Q n) Q v1 v3 v5 σ)) ∧ ((σ 81 (v5.toNatClampNeg)) = 0 → (w_m_names v5 v3 σ (fun x1 σ2 => (x1 = 0 → (w_m_isUseless_132 (w_m_isUseless_95 Q n) Q v1 v3 v5 σ2)) ∧ (¬ x1 = 0 → (Q 0 σ2))))))))))
theorem b_m_isUseless_95 {Δ : Ly} {G : Gm} {Q : Int32 → Sg → Prop} (cx : Cx Δ G mi_m_isUseless) : ∀ (n : Nat) (v1 : Int32) (v3 : Int32) (v5 : Int32) (σ : Sg), w_m_isUseless_95 Q n v1 v3 v5 σ → Y Δ G mi_m_isUseless (qI Q) noE 0 0 σ 95 [(0, .ref (Δ.1 58)), (1, .int v1), (3, .int v3), (5, .int v5)] [] := by
  intro n
  induction n with
  | zero => intro v1 v3 v5 σ h; exact h.elim
  | succ n ih =>
    intro v1 v3 v5 σ h
    unfold w_m_isUseless_95 at h
    refine y_iload cx (pc := 95) d_m_isUseless_95 3 rfl ?_
    refine y_aload_n cx (pc := 97) d_m_isUseless_97 rfl 0 rfl ?_
    refine y_get cx (pc := 98) (j := 20) (v := .int (σ 58 20)) (le_b rfl) ck_Md kw_768 (le_b rfl) (gf_58_20 Δ _) d_m_isUseless_98 ?_
    refine y_icmp_ge cx (pc := 101) (tgt := 138) d_m_isUseless_101 (by decide) (fun hc => ?_) (fun hc => ?_)
    · replace h := h.1 hc
      refine y_iconst cx (pc := 138) ic_1 d_m_isUseless_138 ?_
      exact y_zret cx (pc := 139) rfl bz_1 d_m_isUseless_139 (le_b rfl) (le_b rfl) h
    · replace h := h.2 hc
      refine y_iload cx (pc := 104) d_m_isUseless_104 3 rfl ?_
      refine y_iload_n cx (pc := 106) d_m_isUseless_106 rfl 1 rfl ?_
      refine y_icmp_eq cx (pc := 107) (tgt := 132) d_m_isUseless_107 (by decide) (fun hc => ?_) (fun hc => ?_)
      · replace h := h.1 hc
        exact b_m_isUseless_132 cx ih v1 v3 v5 σ h
      · replace h := h.2 hc
        refine y_aload_n cx (pc := 110) d_m_isUseless_110 rfl 0 rfl ?_
        refine y_get cx (pc := 111) (j := 35) (v := .ref (Δ.1 81)) (le_b rfl) ck_Md kw_783 (le_b rfl) (gf_58_35 Δ _) d_m_isUseless_111 ?_
        refine y_iload cx (pc := 114) d_m_isUseless_114 3 rfl ?_
        obtain ⟨h0, h⟩ := h
        refine y_zald cx (pc := 116) ⟨(le_b rfl), fun _ => rfl⟩ h0 d_m_isUseless_116 ?_
        refine y_if_ne cx (pc := 117) (tgt := 132) d_m_isUseless_117 (by decide) (fun hc => ?_) (fun hc => ?_)
        · replace h := h.1 hc
          exact b_m_isUseless_132 cx ih v1 v3 v5 σ h
        · replace h := h.2 hc
          refine y_aload_n cx (pc := 120) d_m_isUseless_120 rfl 0 rfl ?_
          refine y_iload cx (pc := 121) d_m_isUseless_121 3 rfl ?_
          refine y_iload_n cx (pc := 123) d_m_isUseless_123 rfl 2 rfl ?_
          refine y_vI cx (pc := 124) (st := []) [.int v5, .int v3] (c_m_names cx.fl Δ v5 v3 _ _ h) mv_m_names kw_1056 (oc_58 Δ) ck_Md rfl (le_b rfl) (le_b rfl) (le_b rfl) (le_b rfl) (le_b rfl) d_m_isUseless_124 (fun x1 σ2 h => ?_) (fun x σ2 h => yt_no h)
          refine y_if_eq cx (pc := 127) (tgt := 132) d_m_isUseless_127 (by decide) (fun hc => ?_) (fun hc => ?_)
          · replace h := h.1 hc
            exact b_m_isUseless_132 cx ih v1 v3 v5 σ2 h
          · replace h := h.2 hc
            refine y_iconst cx (pc := 130) ic_0 d_m_isUseless_130 ?_
            exact y_zret cx (pc := 131) rfl bz_0 d_m_isUseless_131 (le_b rfl) (le_b rfl) h
def w_m_isUseless_90 (Q : Int32 → Sg → Prop) (σ : Sg) : Prop := Q 0 σ
theorem b_m_isUseless_90 {Δ : Ly} {G : Gm} {Q : Int32 → Sg → Prop} (cx : Cx Δ G mi_m_isUseless) : ∀ (σ : Sg), w_m_isUseless_90 Q σ → Y Δ G mi_m_isUseless (qI Q) noE 0 0 σ 90 [] [] := by
  intro σ h
  unfold w_m_isUseless_90 at h
  refine y_iconst cx (pc := 90) ic_0 d_m_isUseless_90 ?_
  exact y_zret cx (pc := 91) rfl bz_0 d_m_isUseless_91 (le_b rfl) (le_b rfl) h
def w_m_isUseless_68 (Q : Int32 → Sg → Prop) (v1 : Int32) (v3 : Int32) (s0 : Int32) (σ : Sg) : Prop := vp_in v1 4000 ∧ ((¬ (σ 81 (v1.toNatClampNeg)) = 0 → (w_m_isUseless_90 Q σ)) ∧ ((σ 81 (v1.toNatClampNeg)) = 0 → ((¬ s0 = 0 → (w_m_isUseless_90 Q σ)) ∧ (s0 = 0 → ((16 ≤ v3 → (∃ q95, w_m_isUseless_95 Q q95 v1 v3 0 σ)) ∧ (¬ 16 ≤ v3 → (w_m_isUseless_90 Q σ)))))))
theorem b_m_isUseless_68 {Δ : Ly} {G : Gm} {Q : Int32 → Sg → Prop} (cx : Cx Δ G mi_m_isUseless) : ∀ (v1 : Int32) (v3 : Int32) (s0 : Int32) (σ : Sg), w_m_isUseless_68 Q v1 v3 s0 σ → Y Δ G mi_m_isUseless (qI Q) noE 0 0 σ 68 [(0, .ref (Δ.1 58)), (1, .int v1), (3, .int v3)] [.int s0] := by
  intro v1 v3 s0 σ h
  unfold w_m_isUseless_68 at h
  refine y_istore (lv' := [(4, .int s0), (0, .ref (Δ.1 58)), (1, .int v1), (3, .int v3)]) cx (pc := 68) d_m_isUseless_68 (le_b rfl) rfl ?_
  refine y_aload_n cx (pc := 70) d_m_isUseless_70 rfl 1 rfl ?_
  refine y_get cx (pc := 71) (j := 35) (v := .ref (Δ.1 81)) (le_b rfl) ck_Md kw_783 (le_b rfl) (gf_58_35 Δ _) d_m_isUseless_71 ?_
  refine y_iload_n cx (pc := 74) d_m_isUseless_74 rfl 2 rfl ?_
  obtain ⟨h0, h⟩ := h
  refine y_zald cx (pc := 75) ⟨(le_b rfl), fun _ => rfl⟩ h0 d_m_isUseless_75 ?_
  refine y_if_ne cx (pc := 76) (tgt := 90) d_m_isUseless_76 (by decide) (fun hc => ?_) (fun hc => ?_)
  · replace h := h.1 hc
    refine y_sub [] rfl ?_
    exact b_m_isUseless_90 cx σ h
  · replace h := h.2 hc
    refine y_iload cx (pc := 79) d_m_isUseless_79 0 rfl ?_
    refine y_if_ne cx (pc := 81) (tgt := 90) d_m_isUseless_81 (by decide) (fun hc => ?_) (fun hc => ?_)
    · replace h := h.1 hc
      refine y_sub [] rfl ?_
      exact b_m_isUseless_90 cx σ h
    · replace h := h.2 hc
      refine y_iload_n cx (pc := 84) d_m_isUseless_84 rfl 3 rfl ?_
      refine y_bipush cx (pc := 85) bp_16 d_m_isUseless_85 ?_
      refine y_icmp_ge cx (pc := 87) (tgt := 92) d_m_isUseless_87 (by decide) (fun hc => ?_) (fun hc => ?_)
      · replace h := h.1 hc
        refine y_iconst cx (pc := 92) ic_0 d_m_isUseless_92 ?_
        refine y_istore (lv' := [(5, .int 0), (4, .int s0), (0, .ref (Δ.1 58)), (1, .int v1), (3, .int v3)]) cx (pc := 93) d_m_isUseless_93 (le_b rfl) rfl ?_
        refine y_sub [2, 3, 4, 0] rfl ?_
        obtain ⟨n, h⟩ := h
        exact b_m_isUseless_95 cx n v1 v3 0 σ h
      · replace h := h.2 hc
        refine y_sub [] rfl ?_
        exact b_m_isUseless_90 cx σ h
def w_m_isUseless_63 (Q : Int32 → Sg → Prop) (v1 : Int32) (v3 : Int32) (σ : Sg) : Prop := w_m_isUseless_68 Q v1 v3 1 σ
theorem b_m_isUseless_63 {Δ : Ly} {G : Gm} {Q : Int32 → Sg → Prop} (cx : Cx Δ G mi_m_isUseless) : ∀ (v1 : Int32) (v3 : Int32) (σ : Sg), w_m_isUseless_63 Q v1 v3 σ → Y Δ G mi_m_isUseless (qI Q) noE 0 0 σ 63 [(0, .ref (Δ.1 58)), (1, .int v1), (3, .int v3)] [] := by
  intro v1 v3 σ h
  unfold w_m_isUseless_63 at h
  refine y_iconst cx (pc := 63) ic_1 d_m_isUseless_63 ?_
  refine y_goto cx (pc := 64) (tgt := 68) d_m_isUseless_64 (by decide) ?_
  exact b_m_isUseless_68 cx v1 v3 1 σ h
def w_m_isUseless (p1 : Int32) (σ : Sg) (Q : Int32 → Sg → Prop) : Prop := vp_in (6 * p1) 24000 ∧ (∀ x1 : Int32, x1 = σ 70 ((6 * p1).toNatClampNeg) → (vp_in ((6 * p1) + 1) 24000 ∧ (∀ x2 : Int32, x2 = σ 70 (((6 * p1) + 1).toNatClampNeg) → ((x1 = 15 → (w_m_isUseless_63 Q p1 x2 σ)) ∧ (¬ x1 = 15 → ((x1 = 16 → (w_m_isUseless_63 Q p1 x2 σ)) ∧ (¬ x1 = 16 → ((x1 = 17 → (w_m_isUseless_63 Q p1 x2 σ)) ∧ (¬ x1 = 17 → ((x1 = 18 → (w_m_isUseless_63 Q p1 x2 σ)) ∧ (¬ x1 = 18 → ((x1 = 5 → (w_m_isUseless_63 Q p1 x2 σ)) ∧ (¬ x1 = 5 → ((x1 = 6 → (w_m_isUseless_63 Q p1 x2 σ)) ∧ (¬ x1 = 6 → ((¬ x1 = 14 → (w_m_isUseless_68 Q p1 x2 0 σ)) ∧ (x1 = 14 → (w_m_isUseless_63 Q p1 x2 σ))))))))))))))))))
theorem b_m_isUseless {Δ : Ly} {G : Gm} {Q : Int32 → Sg → Prop} (cx : Cx Δ G mi_m_isUseless) (p1 : Int32) (σ : Sg) (h : w_m_isUseless p1 σ Q) : Y Δ G mi_m_isUseless (qI Q) noE 0 0 σ 0 [(0, .ref (Δ.1 58)), (1, .int p1)] [] := by
  unfold w_m_isUseless at h
  refine y_aload_n cx (pc := 0) d_m_isUseless_0 rfl 0 rfl ?_
  refine y_get cx (pc := 1) (j := 19) (v := .ref (Δ.1 70)) (le_b rfl) ck_Md kw_767 (le_b rfl) (gf_58_19 Δ _) d_m_isUseless_1 ?_
  refine y_bipush cx (pc := 4) bp_6 d_m_isUseless_4 ?_
  refine y_iload_n cx (pc := 6) d_m_isUseless_6 rfl 1 rfl ?_
  refine y_imul cx (pc := 7) d_m_isUseless_7 ?_
  obtain ⟨h0, h⟩ := h
  refine y_iald cx (pc := 8) ⟨(le_b rfl), fun _ => rfl⟩ h0 d_m_isUseless_8 ?_
  refine y_topi (fun x1 ex1 => ?_)
  replace h := h x1 ex1
  refine y_istore_n (lv' := [(2, .int x1), (0, .ref (Δ.1 58)), (1, .int p1)]) cx (pc := 9) d_m_isUseless_9 rfl (le_b rfl) rfl ?_
  refine y_aload_n cx (pc := 10) d_m_isUseless_10 rfl 1 rfl ?_
  refine y_get cx (pc := 11) (j := 19) (v := .ref (Δ.1 70)) (le_b rfl) ck_Md kw_767 (le_b rfl) (gf_58_19 Δ _) d_m_isUseless_11 ?_
  refine y_bipush cx (pc := 14) bp_6 d_m_isUseless_14 ?_
  refine y_iload_n cx (pc := 16) d_m_isUseless_16 rfl 2 rfl ?_
  refine y_imul cx (pc := 17) d_m_isUseless_17 ?_
  refine y_iconst cx (pc := 18) ic_1 d_m_isUseless_18 ?_
  refine y_iadd cx (pc := 19) d_m_isUseless_19 ?_
  obtain ⟨h0, h⟩ := h
  refine y_iald cx (pc := 20) ⟨(le_b rfl), fun _ => rfl⟩ h0 d_m_isUseless_20 ?_
  refine y_topi (fun x2 ex2 => ?_)
  replace h := h x2 ex2
  refine y_istore_n (lv' := [(3, .int x2), (2, .int x1), (0, .ref (Δ.1 58)), (1, .int p1)]) cx (pc := 21) d_m_isUseless_21 rfl (le_b rfl) rfl ?_
  refine y_iload_n cx (pc := 22) d_m_isUseless_22 rfl 1 rfl ?_
  refine y_bipush cx (pc := 23) bp_15 d_m_isUseless_23 ?_
  refine y_icmp_eq cx (pc := 25) (tgt := 63) d_m_isUseless_25 (by decide) (fun hc => ?_) (fun hc => ?_)
  · replace h := h.1 hc
    refine y_sub [2, 3, 0] rfl ?_
    exact b_m_isUseless_63 cx p1 x2 σ h
  · replace h := h.2 hc
    refine y_iload_n cx (pc := 28) d_m_isUseless_28 rfl 1 rfl ?_
    refine y_bipush cx (pc := 29) bp_16 d_m_isUseless_29 ?_
    refine y_icmp_eq cx (pc := 31) (tgt := 63) d_m_isUseless_31 (by decide) (fun hc => ?_) (fun hc => ?_)
    · replace h := h.1 hc
      refine y_sub [2, 3, 0] rfl ?_
      exact b_m_isUseless_63 cx p1 x2 σ h
    · replace h := h.2 hc
      refine y_iload_n cx (pc := 34) d_m_isUseless_34 rfl 1 rfl ?_
      refine y_bipush cx (pc := 35) bp_17 d_m_isUseless_35 ?_
      refine y_icmp_eq cx (pc := 37) (tgt := 63) d_m_isUseless_37 (by decide) (fun hc => ?_) (fun hc => ?_)
      · replace h := h.1 hc
        refine y_sub [2, 3, 0] rfl ?_
        exact b_m_isUseless_63 cx p1 x2 σ h
      · replace h := h.2 hc
        refine y_iload_n cx (pc := 40) d_m_isUseless_40 rfl 1 rfl ?_
        refine y_bipush cx (pc := 41) bp_18 d_m_isUseless_41 ?_
        refine y_icmp_eq cx (pc := 43) (tgt := 63) d_m_isUseless_43 (by decide) (fun hc => ?_) (fun hc => ?_)
        · replace h := h.1 hc
          refine y_sub [2, 3, 0] rfl ?_
          exact b_m_isUseless_63 cx p1 x2 σ h
        · replace h := h.2 hc
          refine y_iload_n cx (pc := 46) d_m_isUseless_46 rfl 1 rfl ?_
          refine y_iconst cx (pc := 47) ic_5 d_m_isUseless_47 ?_
          refine y_icmp_eq cx (pc := 48) (tgt := 63) d_m_isUseless_48 (by decide) (fun hc => ?_) (fun hc => ?_)
          · replace h := h.1 hc
            refine y_sub [2, 3, 0] rfl ?_
            exact b_m_isUseless_63 cx p1 x2 σ h
          · replace h := h.2 hc
            refine y_iload_n cx (pc := 51) d_m_isUseless_51 rfl 1 rfl ?_
            refine y_bipush cx (pc := 52) bp_6 d_m_isUseless_52 ?_
            refine y_icmp_eq cx (pc := 54) (tgt := 63) d_m_isUseless_54 (by decide) (fun hc => ?_) (fun hc => ?_)
            · replace h := h.1 hc
              refine y_sub [2, 3, 0] rfl ?_
              exact b_m_isUseless_63 cx p1 x2 σ h
            · replace h := h.2 hc
              refine y_iload_n cx (pc := 57) d_m_isUseless_57 rfl 1 rfl ?_
              refine y_bipush cx (pc := 58) bp_14 d_m_isUseless_58 ?_
              refine y_icmp_ne cx (pc := 60) (tgt := 67) d_m_isUseless_60 (by decide) (fun hc => ?_) (fun hc => ?_)
              · replace h := h.1 hc
                refine y_iconst cx (pc := 67) ic_0 d_m_isUseless_67 ?_
                refine y_sub [2, 3, 0] rfl ?_
                exact b_m_isUseless_68 cx p1 x2 0 σ h
              · replace h := h.2 hc
                refine y_sub [2, 3, 0] rfl ?_
                exact b_m_isUseless_63 cx p1 x2 σ h
theorem c_m_isUseless {l : Launch} (hfl : l.flags = flags0) (Δ : Ly) (p1 : Int32) (σ : Sg) (Q : Int32 → Sg → Prop) (h : w_m_isUseless p1 σ Q) : Ct l Δ mi_m_isUseless [.ref (Δ.1 58), .int p1] σ (qI Q) noE :=
  Ct.of hfl (by show plainFor ⟨"GuardedMovesModel", "isUseless", "(I)Z"⟩ = true; decide +kernel) rfl (le_b rfl) (fun G hl cx => b_m_isUseless cx p1 σ h)
def mi_m_trim : Mi := ("GuardedMovesModel", prog_6_method_44_code, 6, [], (some .int), 2, 57, 0, 0, ⟨"GuardedMovesModel", "trim", "()I"⟩)
theorem d_m_trim_0 : decode prog_6_method_44_code 0 = .ok (.aload_n 0, 1) := by decide +kernel
theorem d_m_trim_1 : decode prog_6_method_44_code 1 = .ok (.iconst 0, 1) := by decide +kernel
theorem d_m_trim_2 : decode prog_6_method_44_code 2 = .ok (.putfield 102, 3) := by decide +kernel
theorem d_m_trim_5 : decode prog_6_method_44_code 5 = .ok (.iconst 0, 1) := by decide +kernel
theorem d_m_trim_6 : decode prog_6_method_44_code 6 = .ok (.istore_n 1, 1) := by decide +kernel
theorem d_m_trim_7 : decode prog_6_method_44_code 7 = .ok (.iload_n 1, 1) := by decide +kernel
theorem d_m_trim_8 : decode prog_6_method_44_code 8 = .ok (.aload_n 0, 1) := by decide +kernel
theorem d_m_trim_9 : decode prog_6_method_44_code 9 = .ok (.getfield 199, 3) := by decide +kernel
theorem d_m_trim_12 : decode prog_6_method_44_code 12 = .ok (.if_icmp .ge 16, 3) := by decide +kernel
theorem d_m_trim_15 : decode prog_6_method_44_code 15 = .ok (.aload_n 0, 1) := by decide +kernel
theorem d_m_trim_16 : decode prog_6_method_44_code 16 = .ok (.getfield 81, 3) := by decide +kernel
theorem d_m_trim_19 : decode prog_6_method_44_code 19 = .ok (.iload_n 1, 1) := by decide +kernel
theorem d_m_trim_20 : decode prog_6_method_44_code 20 = .ok (.iconst 0, 1) := by decide +kernel
theorem d_m_trim_21 : decode prog_6_method_44_code 21 = .ok (.bastore, 1) := by decide +kernel
theorem d_m_trim_22 : decode prog_6_method_44_code 22 = .ok (.iinc 1 1, 3) := by decide +kernel
theorem d_m_trim_25 : decode prog_6_method_44_code 25 = .ok (.goto (-18), 3) := by decide +kernel
theorem d_m_trim_28 : decode prog_6_method_44_code 28 = .ok (.iconst 0, 1) := by decide +kernel
theorem d_m_trim_29 : decode prog_6_method_44_code 29 = .ok (.istore_n 1, 1) := by decide +kernel
theorem d_m_trim_30 : decode prog_6_method_44_code 30 = .ok (.iconst 1, 1) := by decide +kernel
theorem d_m_trim_31 : decode prog_6_method_44_code 31 = .ok (.istore_n 2, 1) := by decide +kernel
theorem d_m_trim_32 : decode prog_6_method_44_code 32 = .ok (.iload_n 2, 1) := by decide +kernel
theorem d_m_trim_33 : decode prog_6_method_44_code 33 = .ok (.ifCond .eq 44, 3) := by decide +kernel
theorem d_m_trim_36 : decode prog_6_method_44_code 36 = .ok (.iconst 0, 1) := by decide +kernel
theorem d_m_trim_37 : decode prog_6_method_44_code 37 = .ok (.istore_n 2, 1) := by decide +kernel
theorem d_m_trim_38 : decode prog_6_method_44_code 38 = .ok (.iconst 0, 1) := by decide +kernel
theorem d_m_trim_39 : decode prog_6_method_44_code 39 = .ok (.istore_n 3, 1) := by decide +kernel
theorem d_m_trim_40 : decode prog_6_method_44_code 40 = .ok (.iload_n 3, 1) := by decide +kernel
theorem d_m_trim_41 : decode prog_6_method_44_code 41 = .ok (.aload_n 0, 1) := by decide +kernel
theorem d_m_trim_42 : decode prog_6_method_44_code 42 = .ok (.getfield 199, 3) := by decide +kernel
theorem d_m_trim_45 : decode prog_6_method_44_code 45 = .ok (.if_icmp .ge 29, 3) := by decide +kernel
theorem d_m_trim_48 : decode prog_6_method_44_code 48 = .ok (.aload_n 0, 1) := by decide +kernel
theorem d_m_trim_49 : decode prog_6_method_44_code 49 = .ok (.iload_n 3, 1) := by decide +kernel
theorem d_m_trim_50 : decode prog_6_method_44_code 50 = .ok (.invokevirtual 272, 3) := by decide +kernel
theorem d_m_trim_53 : decode prog_6_method_44_code 53 = .ok (.ifCond .eq 15, 3) := by decide +kernel
theorem d_m_trim_56 : decode prog_6_method_44_code 56 = .ok (.aload_n 0, 1) := by decide +kernel
theorem d_m_trim_57 : decode prog_6_method_44_code 57 = .ok (.getfield 81, 3) := by decide +kernel
theorem d_m_trim_60 : decode prog_6_method_44_code 60 = .ok (.iload_n 3, 1) := by decide +kernel
theorem d_m_trim_61 : decode prog_6_method_44_code 61 = .ok (.iconst 1, 1) := by decide +kernel
theorem d_m_trim_62 : decode prog_6_method_44_code 62 = .ok (.bastore, 1) := by decide +kernel
theorem d_m_trim_63 : decode prog_6_method_44_code 63 = .ok (.iinc 1 1, 3) := by decide +kernel
theorem d_m_trim_66 : decode prog_6_method_44_code 66 = .ok (.iconst 1, 1) := by decide +kernel
theorem d_m_trim_67 : decode prog_6_method_44_code 67 = .ok (.istore_n 2, 1) := by decide +kernel
theorem d_m_trim_68 : decode prog_6_method_44_code 68 = .ok (.iinc 3 1, 3) := by decide +kernel
theorem d_m_trim_71 : decode prog_6_method_44_code 71 = .ok (.goto (-31), 3) := by decide +kernel
theorem d_m_trim_74 : decode prog_6_method_44_code 74 = .ok (.goto (-42), 3) := by decide +kernel
theorem d_m_trim_77 : decode prog_6_method_44_code 77 = .ok (.iconst 0, 1) := by decide +kernel
theorem d_m_trim_78 : decode prog_6_method_44_code 78 = .ok (.istore_n 3, 1) := by decide +kernel
theorem d_m_trim_79 : decode prog_6_method_44_code 79 = .ok (.iload_n 3, 1) := by decide +kernel
theorem d_m_trim_80 : decode prog_6_method_44_code 80 = .ok (.aload_n 0, 1) := by decide +kernel
theorem d_m_trim_81 : decode prog_6_method_44_code 81 = .ok (.getfield 199, 3) := by decide +kernel
theorem d_m_trim_84 : decode prog_6_method_44_code 84 = .ok (.if_icmp .ge 84, 3) := by decide +kernel
theorem d_m_trim_87 : decode prog_6_method_44_code 87 = .ok (.aload_n 0, 1) := by decide +kernel
theorem d_m_trim_88 : decode prog_6_method_44_code 88 = .ok (.getfield 44, 3) := by decide +kernel
theorem d_m_trim_91 : decode prog_6_method_44_code 91 = .ok (.bipush 6, 2) := by decide +kernel
theorem d_m_trim_93 : decode prog_6_method_44_code 93 = .ok (.iload_n 3, 1) := by decide +kernel
theorem d_m_trim_94 : decode prog_6_method_44_code 94 = .ok (.imul, 1) := by decide +kernel
theorem d_m_trim_95 : decode prog_6_method_44_code 95 = .ok (.iaload, 1) := by decide +kernel
theorem d_m_trim_96 : decode prog_6_method_44_code 96 = .ok (.bipush 16, 2) := by decide +kernel
theorem d_m_trim_98 : decode prog_6_method_44_code 98 = .ok (.if_icmp .ne 7, 3) := by decide +kernel
theorem d_m_trim_101 : decode prog_6_method_44_code 101 = .ok (.iconst 1, 1) := by decide +kernel
theorem d_m_trim_102 : decode prog_6_method_44_code 102 = .ok (.goto 22, 3) := by decide +kernel
theorem d_m_trim_105 : decode prog_6_method_44_code 105 = .ok (.aload_n 0, 1) := by decide +kernel
theorem d_m_trim_106 : decode prog_6_method_44_code 106 = .ok (.getfield 44, 3) := by decide +kernel
theorem d_m_trim_109 : decode prog_6_method_44_code 109 = .ok (.bipush 6, 2) := by decide +kernel
theorem d_m_trim_111 : decode prog_6_method_44_code 111 = .ok (.iload_n 3, 1) := by decide +kernel
theorem d_m_trim_112 : decode prog_6_method_44_code 112 = .ok (.imul, 1) := by decide +kernel
theorem d_m_trim_113 : decode prog_6_method_44_code 113 = .ok (.iaload, 1) := by decide +kernel
theorem d_m_trim_114 : decode prog_6_method_44_code 114 = .ok (.bipush 17, 2) := by decide +kernel
theorem d_m_trim_116 : decode prog_6_method_44_code 116 = .ok (.if_icmp .ne 7, 3) := by decide +kernel
theorem d_m_trim_119 : decode prog_6_method_44_code 119 = .ok (.iconst 2, 1) := by decide +kernel
theorem d_m_trim_120 : decode prog_6_method_44_code 120 = .ok (.goto 4, 3) := by decide +kernel
theorem d_m_trim_123 : decode prog_6_method_44_code 123 = .ok (.iconst 0, 1) := by decide +kernel
theorem d_m_trim_124 : decode prog_6_method_44_code 124 = .ok (.istore 4, 2) := by decide +kernel
theorem d_m_trim_126 : decode prog_6_method_44_code 126 = .ok (.iload 4, 2) := by decide +kernel
theorem d_m_trim_128 : decode prog_6_method_44_code 128 = .ok (.ifCond .le 34, 3) := by decide +kernel
theorem d_m_trim_131 : decode prog_6_method_44_code 131 = .ok (.aload_n 0, 1) := by decide +kernel
theorem d_m_trim_132 : decode prog_6_method_44_code 132 = .ok (.getfield 44, 3) := by decide +kernel
theorem d_m_trim_135 : decode prog_6_method_44_code 135 = .ok (.bipush 6, 2) := by decide +kernel
theorem d_m_trim_137 : decode prog_6_method_44_code 137 = .ok (.iload_n 3, 1) := by decide +kernel
theorem d_m_trim_138 : decode prog_6_method_44_code 138 = .ok (.imul, 1) := by decide +kernel
theorem d_m_trim_139 : decode prog_6_method_44_code 139 = .ok (.iload 4, 2) := by decide +kernel
theorem d_m_trim_141 : decode prog_6_method_44_code 141 = .ok (.iadd, 1) := by decide +kernel
theorem d_m_trim_142 : decode prog_6_method_44_code 142 = .ok (.dup2, 1) := by decide +kernel
theorem d_m_trim_143 : decode prog_6_method_44_code 143 = .ok (.iaload, 1) := by decide +kernel
theorem d_m_trim_144 : decode prog_6_method_44_code 144 = .ok (.aload_n 0, 1) := by decide +kernel
theorem d_m_trim_145 : decode prog_6_method_44_code 145 = .ok (.aload_n 0, 1) := by decide +kernel
theorem d_m_trim_146 : decode prog_6_method_44_code 146 = .ok (.getfield 44, 3) := by decide +kernel
theorem d_m_trim_149 : decode prog_6_method_44_code 149 = .ok (.bipush 6, 2) := by decide +kernel
theorem d_m_trim_151 : decode prog_6_method_44_code 151 = .ok (.iload_n 3, 1) := by decide +kernel
theorem d_m_trim_152 : decode prog_6_method_44_code 152 = .ok (.imul, 1) := by decide +kernel
theorem d_m_trim_153 : decode prog_6_method_44_code 153 = .ok (.iload 4, 2) := by decide +kernel
theorem d_m_trim_155 : decode prog_6_method_44_code 155 = .ok (.iadd, 1) := by decide +kernel
theorem d_m_trim_156 : decode prog_6_method_44_code 156 = .ok (.iaload, 1) := by decide +kernel
theorem d_m_trim_157 : decode prog_6_method_44_code 157 = .ok (.invokevirtual 275, 3) := by decide +kernel
theorem d_m_trim_160 : decode prog_6_method_44_code 160 = .ok (.isub, 1) := by decide +kernel
theorem d_m_trim_161 : decode prog_6_method_44_code 161 = .ok (.iastore, 1) := by decide +kernel
theorem d_m_trim_162 : decode prog_6_method_44_code 162 = .ok (.iinc 3 1, 3) := by decide +kernel
theorem d_m_trim_165 : decode prog_6_method_44_code 165 = .ok (.goto (-86), 3) := by decide +kernel
theorem d_m_trim_168 : decode prog_6_method_44_code 168 = .ok (.iconst 0, 1) := by decide +kernel
theorem d_m_trim_169 : decode prog_6_method_44_code 169 = .ok (.istore_n 3, 1) := by decide +kernel
theorem d_m_trim_170 : decode prog_6_method_44_code 170 = .ok (.iconst 0, 1) := by decide +kernel
theorem d_m_trim_171 : decode prog_6_method_44_code 171 = .ok (.istore 4, 2) := by decide +kernel
theorem d_m_trim_173 : decode prog_6_method_44_code 173 = .ok (.iload 4, 2) := by decide +kernel
theorem d_m_trim_175 : decode prog_6_method_44_code 175 = .ok (.aload_n 0, 1) := by decide +kernel
theorem d_m_trim_176 : decode prog_6_method_44_code 176 = .ok (.getfield 199, 3) := by decide +kernel
theorem d_m_trim_179 : decode prog_6_method_44_code 179 = .ok (.if_icmp .ge 63, 3) := by decide +kernel
theorem d_m_trim_182 : decode prog_6_method_44_code 182 = .ok (.aload_n 0, 1) := by decide +kernel
theorem d_m_trim_183 : decode prog_6_method_44_code 183 = .ok (.getfield 81, 3) := by decide +kernel
theorem d_m_trim_186 : decode prog_6_method_44_code 186 = .ok (.iload 4, 2) := by decide +kernel
theorem d_m_trim_188 : decode prog_6_method_44_code 188 = .ok (.baload, 1) := by decide +kernel
theorem d_m_trim_189 : decode prog_6_method_44_code 189 = .ok (.ifCond .ne 47, 3) := by decide +kernel
theorem d_m_trim_192 : decode prog_6_method_44_code 192 = .ok (.iconst 0, 1) := by decide +kernel
theorem d_m_trim_193 : decode prog_6_method_44_code 193 = .ok (.istore 5, 2) := by decide +kernel
theorem d_m_trim_195 : decode prog_6_method_44_code 195 = .ok (.iload 5, 2) := by decide +kernel
theorem d_m_trim_197 : decode prog_6_method_44_code 197 = .ok (.bipush 6, 2) := by decide +kernel
theorem d_m_trim_199 : decode prog_6_method_44_code 199 = .ok (.if_icmp .ge 34, 3) := by decide +kernel
theorem d_m_trim_202 : decode prog_6_method_44_code 202 = .ok (.aload_n 0, 1) := by decide +kernel
theorem d_m_trim_203 : decode prog_6_method_44_code 203 = .ok (.getfield 44, 3) := by decide +kernel
theorem d_m_trim_206 : decode prog_6_method_44_code 206 = .ok (.bipush 6, 2) := by decide +kernel
theorem d_m_trim_208 : decode prog_6_method_44_code 208 = .ok (.iload_n 3, 1) := by decide +kernel
theorem d_m_trim_209 : decode prog_6_method_44_code 209 = .ok (.imul, 1) := by decide +kernel
theorem d_m_trim_210 : decode prog_6_method_44_code 210 = .ok (.iload 5, 2) := by decide +kernel
theorem d_m_trim_212 : decode prog_6_method_44_code 212 = .ok (.iadd, 1) := by decide +kernel
theorem d_m_trim_213 : decode prog_6_method_44_code 213 = .ok (.aload_n 0, 1) := by decide +kernel
theorem d_m_trim_214 : decode prog_6_method_44_code 214 = .ok (.getfield 44, 3) := by decide +kernel
theorem d_m_trim_217 : decode prog_6_method_44_code 217 = .ok (.bipush 6, 2) := by decide +kernel
theorem d_m_trim_219 : decode prog_6_method_44_code 219 = .ok (.iload 4, 2) := by decide +kernel
theorem d_m_trim_221 : decode prog_6_method_44_code 221 = .ok (.imul, 1) := by decide +kernel
theorem d_m_trim_222 : decode prog_6_method_44_code 222 = .ok (.iload 5, 2) := by decide +kernel
theorem d_m_trim_224 : decode prog_6_method_44_code 224 = .ok (.iadd, 1) := by decide +kernel
theorem d_m_trim_225 : decode prog_6_method_44_code 225 = .ok (.iaload, 1) := by decide +kernel
theorem d_m_trim_226 : decode prog_6_method_44_code 226 = .ok (.iastore, 1) := by decide +kernel
theorem d_m_trim_227 : decode prog_6_method_44_code 227 = .ok (.iinc 5 1, 3) := by decide +kernel
theorem d_m_trim_230 : decode prog_6_method_44_code 230 = .ok (.goto (-35), 3) := by decide +kernel
theorem d_m_trim_233 : decode prog_6_method_44_code 233 = .ok (.iinc 3 1, 3) := by decide +kernel
theorem d_m_trim_236 : decode prog_6_method_44_code 236 = .ok (.iinc 4 1, 3) := by decide +kernel
theorem d_m_trim_239 : decode prog_6_method_44_code 239 = .ok (.goto (-66), 3) := by decide +kernel
theorem d_m_trim_242 : decode prog_6_method_44_code 242 = .ok (.aload_n 0, 1) := by decide +kernel
theorem d_m_trim_243 : decode prog_6_method_44_code 243 = .ok (.iload_n 3, 1) := by decide +kernel
theorem d_m_trim_244 : decode prog_6_method_44_code 244 = .ok (.putfield 199, 3) := by decide +kernel
theorem d_m_trim_247 : decode prog_6_method_44_code 247 = .ok (.iload_n 1, 1) := by decide +kernel
theorem d_m_trim_248 : decode prog_6_method_44_code 248 = .ok (.ireturn, 1) := by decide +kernel
theorem kc_m_trim : Kw (m_w (mi_m_trim )) := ⟨(in_t5 (List.mem_of_getElem? (i := 91) rfl)), rfl⟩
theorem mv_m_trim : MV (mi_m_trim ) "GuardedMovesModel" 0 := ⟨kw_1049, kw_1050, kc_m_trim , kw_7, ⟨⟨(by show ("GuardedMovesModel" : String) ≠ "java/lang/invoke/MethodHandle"; decide), (by show ("GuardedMovesModel" : String) ≠ "java/lang/invoke/VarHandle"; decide)⟩, (by show (parseMethodDescriptor "()I").map (fun d => d.parameters.length) = some 0; decide +kernel)⟩⟩
def w_m_trim_236 (K173 : Int32 → Int32 → Int32 → Sg → Prop) (Q : Int32 → Sg → Prop) (v1 : Int32) (v3 : Int32) (v4 : Int32) (σ : Sg) : Prop := ∀ x1 : Int32, x1 = v4 + 1 → (K173 v1 v3 x1 σ)
theorem b_m_trim_236 {Δ : Ly} {G : Gm} {K173 : Int32 → Int32 → Int32 → Sg → Prop} {Q : Int32 → Sg → Prop} (cx : Cx Δ G mi_m_trim) (hK173 : ∀ (v1 : Int32) (v3 : Int32) (v4 : Int32) (σ : Sg), K173 v1 v3 v4 σ → Y Δ G mi_m_trim (qI Q) noE 0 0 σ 173 [(0, .ref (Δ.1 58)), (1, .int v1), (3, .int v3), (4, .int v4)] []) : ∀ (v1 : Int32) (v3 : Int32) (v4 : Int32) (σ : Sg), w_m_trim_236 K173 Q v1 v3 v4 σ → Y Δ G mi_m_trim (qI Q) noE 0 0 σ 236 [(0, .ref (Δ.1 58)), (1, .int v1), (3, .int v3), (4, .int v4)] [] := by
  intro v1 v3 v4 σ h
  unfold w_m_trim_236 at h
  obtain ⟨x1, ex1⟩ : ∃ y : Int32, y = v4 + 1 := ⟨_, rfl⟩
  replace h := h x1 ex1
  refine y_iinc (v := x1) (lv' := [(4, .int x1), (0, .ref (Δ.1 58)), (1, .int v1), (3, .int v3)]) cx (pc := 236) d_m_trim_236 (j := 3) rfl (by rw [ex1]; rfl) (le_b rfl) rfl ?_
  refine y_goto cx (pc := 239) (tgt := 173) d_m_trim_239 (by decide) ?_
  refine y_sub [1, 2, 3, 0] rfl ?_
  exact hK173 v1 v3 x1 σ h
def w_m_trim_195 (K173 : Int32 → Int32 → Int32 → Sg → Prop) (Q : Int32 → Sg → Prop) : Nat → Int32 → Int32 → Int32 → Int32 → Sg → Prop
  | 0, _, _, _, _, _ => False
  | n + 1, v1, v3, v4, v5, σ => (6 ≤ v5 → (∀ x1 : Int32, x1 = v3 + 1 → (w_m_trim_236 K173 Q v1 x1 v4 σ))) ∧ (¬ 6 ≤ v5 → (vp_in ((6 * v4) + v5) 24000 ∧ (vp_in ((6 * v3) + v5) 24000 ∧ (∀ x2 : Int32, x2 = v5 + 1 → ((w_m_trim_195 K173 Q n) v1 v3 v4 x2 (up σ 70 (((6 * v3) + v5).toNatClampNeg) (σ 70 (((6 * v4) + v5).toNatClampNeg))))))))
theorem b_m_trim_195 {Δ : Ly} {G : Gm} {K173 : Int32 → Int32 → Int32 → Sg → Prop} {Q : Int32 → Sg → Prop} (cx : Cx Δ G mi_m_trim) (hK173 : ∀ (v1 : Int32) (v3 : Int32) (v4 : Int32) (σ : Sg), K173 v1 v3 v4 σ → Y Δ G mi_m_trim (qI Q) noE 0 0 σ 173 [(0, .ref (Δ.1 58)), (1, .int v1), (3, .int v3), (4, .int v4)] []) : ∀ (n : Nat) (v1 : Int32) (v3 : Int32) (v4 : Int32) (v5 : Int32) (σ : Sg), w_m_trim_195 K173 Q n v1 v3 v4 v5 σ → Y Δ G mi_m_trim (qI Q) noE 0 0 σ 195 [(0, .ref (Δ.1 58)), (1, .int v1), (3, .int v3), (4, .int v4), (5, .int v5)] [] := by
  intro n
  induction n with
  | zero => intro v1 v3 v4 v5 σ h; exact h.elim
  | succ n ih =>
    intro v1 v3 v4 v5 σ h
    unfold w_m_trim_195 at h
    refine y_iload cx (pc := 195) d_m_trim_195 4 rfl ?_
    refine y_bipush cx (pc := 197) bp_6 d_m_trim_197 ?_
    refine y_icmp_ge cx (pc := 199) (tgt := 233) d_m_trim_199 (by decide) (fun hc => ?_) (fun hc => ?_)
    · replace h := h.1 hc
      obtain ⟨x1, ex1⟩ : ∃ y : Int32, y = v3 + 1 := ⟨_, rfl⟩
      replace h := h x1 ex1
      refine y_iinc (v := x1) (lv' := [(3, .int x1), (0, .ref (Δ.1 58)), (1, .int v1), (4, .int v4), (5, .int v5)]) cx (pc := 233) d_m_trim_233 (j := 2) rfl (by rw [ex1]; rfl) (le_b rfl) rfl ?_
      refine y_sub [1, 2, 0, 3] rfl ?_
      exact b_m_trim_236 cx hK173 v1 x1 v4 σ h
    · replace h := h.2 hc
      refine y_aload_n cx (pc := 202) d_m_trim_202 rfl 0 rfl ?_
      refine y_get cx (pc := 203) (j := 19) (v := .ref (Δ.1 70)) (le_b rfl) ck_Md kw_767 (le_b rfl) (gf_58_19 Δ _) d_m_trim_203 ?_
      refine y_bipush cx (pc := 206) bp_6 d_m_trim_206 ?_
      refine y_iload_n cx (pc := 208) d_m_trim_208 rfl 2 rfl ?_
      refine y_imul cx (pc := 209) d_m_trim_209 ?_
      refine y_iload cx (pc := 210) d_m_trim_210 4 rfl ?_
      refine y_iadd cx (pc := 212) d_m_trim_212 ?_
      refine y_aload_n cx (pc := 213) d_m_trim_213 rfl 0 rfl ?_
      refine y_get cx (pc := 214) (j := 19) (v := .ref (Δ.1 70)) (le_b rfl) ck_Md kw_767 (le_b rfl) (gf_58_19 Δ _) d_m_trim_214 ?_
      refine y_bipush cx (pc := 217) bp_6 d_m_trim_217 ?_
      refine y_iload cx (pc := 219) d_m_trim_219 3 rfl ?_
      refine y_imul cx (pc := 221) d_m_trim_221 ?_
      refine y_iload cx (pc := 222) d_m_trim_222 4 rfl ?_
      refine y_iadd cx (pc := 224) d_m_trim_224 ?_
      obtain ⟨h0, h⟩ := h
      refine y_iald cx (pc := 225) ⟨(le_b rfl), fun _ => rfl⟩ h0 d_m_trim_225 ?_
      obtain ⟨h0, h⟩ := h
      refine y_iast cx (pc := 226) ⟨(le_b rfl), fun _ => rfl⟩ h0 d_m_trim_226 ?_
      obtain ⟨x2, ex2⟩ : ∃ y : Int32, y = v5 + 1 := ⟨_, rfl⟩
      replace h := h x2 ex2
      refine y_iinc (v := x2) (lv' := [(5, .int x2), (0, .ref (Δ.1 58)), (1, .int v1), (3, .int v3), (4, .int v4)]) cx (pc := 227) d_m_trim_227 (j := 4) rfl (by rw [ex2]; rfl) (le_b rfl) rfl ?_
      refine y_goto cx (pc := 230) (tgt := 195) d_m_trim_230 (by decide) ?_
      refine y_sub [1, 2, 3, 4, 0] rfl ?_
      exact ih v1 v3 v4 x2 (up σ 70 (((6 * v3) + v5).toNatClampNeg) (σ 70 (((6 * v4) + v5).toNatClampNeg))) h
def w_m_trim_173 (Q : Int32 → Sg → Prop) : Nat → Int32 → Int32 → Int32 → Sg → Prop
  | 0, _, _, _, _ => False
  | n + 1, v1, v3, v4, σ => ((σ 58 20) ≤ v4 → (Q v1 (up σ 58 20 v3))) ∧ (¬ (σ 58 20) ≤ v4 → (vp_in v4 4000 ∧ ((¬ (σ 81 (v4.toNatClampNeg)) = 0 → (w_m_trim_236 (w_m_trim_173 Q n) Q v1 v3 v4 σ)) ∧ ((σ 81 (v4.toNatClampNeg)) = 0 → (∃ q195, w_m_trim_195 (w_m_trim_173 Q n) Q q195 v1 v3 v4 0 σ)))))
theorem b_m_trim_173 {Δ : Ly} {G : Gm} {Q : Int32 → Sg → Prop} (cx : Cx Δ G mi_m_trim) : ∀ (n : Nat) (v1 : Int32) (v3 : Int32) (v4 : Int32) (σ : Sg), w_m_trim_173 Q n v1 v3 v4 σ → Y Δ G mi_m_trim (qI Q) noE 0 0 σ 173 [(0, .ref (Δ.1 58)), (1, .int v1), (3, .int v3), (4, .int v4)] [] := by
  intro n
  induction n with
  | zero => intro v1 v3 v4 σ h; exact h.elim
  | succ n ih =>
    intro v1 v3 v4 σ h
    unfold w_m_trim_173 at h
    refine y_iload cx (pc := 173) d_m_trim_173 3 rfl ?_
    refine y_aload_n cx (pc := 175) d_m_trim_175 rfl 0 rfl ?_
    refine y_get cx (pc := 176) (j := 20) (v := .int (σ 58 20)) (le_b rfl) ck_Md kw_768 (le_b rfl) (gf_58_20 Δ _) d_m_trim_176 ?_
    refine y_icmp_ge cx (pc := 179) (tgt := 242) d_m_trim_179 (by decide) (fun hc => ?_) (fun hc => ?_)
    · replace h := h.1 hc
      refine y_aload_n cx (pc := 242) d_m_trim_242 rfl 0 rfl ?_
      refine y_iload_n cx (pc := 243) d_m_trim_243 rfl 2 rfl ?_
      refine y_put cx (pc := 244) (j := 20) (ty := .int) (le_b rfl) ck_Md kw_768 (le_b rfl) rfl (t_Md_ok 20 (le_b rfl)) rfl rfl (pf_58_20 Δ) d_m_trim_244 ?_
      refine y_iload_n cx (pc := 247) d_m_trim_247 rfl 1 rfl ?_
      exact y_iret cx (pc := 248) rfl d_m_trim_248 (le_b rfl) (le_b rfl) h
    · replace h := h.2 hc
      refine y_aload_n cx (pc := 182) d_m_trim_182 rfl 0 rfl ?_
      refine y_get cx (pc := 183) (j := 35) (v := .ref (Δ.1 81)) (le_b rfl) ck_Md kw_783 (le_b rfl) (gf_58_35 Δ _) d_m_trim_183 ?_
      refine y_iload cx (pc := 186) d_m_trim_186 3 rfl ?_
      obtain ⟨h0, h⟩ := h
      refine y_zald cx (pc := 188) ⟨(le_b rfl), fun _ => rfl⟩ h0 d_m_trim_188 ?_
      refine y_if_ne cx (pc := 189) (tgt := 236) d_m_trim_189 (by decide) (fun hc => ?_) (fun hc => ?_)
      · replace h := h.1 hc
        exact b_m_trim_236 cx ih v1 v3 v4 σ h
      · replace h := h.2 hc
        refine y_iconst cx (pc := 192) ic_0 d_m_trim_192 ?_
        refine y_istore (lv' := [(5, .int 0), (0, .ref (Δ.1 58)), (1, .int v1), (3, .int v3), (4, .int v4)]) cx (pc := 193) d_m_trim_193 (le_b rfl) rfl ?_
        refine y_sub [1, 2, 3, 4, 0] rfl ?_
        obtain ⟨n, h⟩ := h
        exact b_m_trim_195 cx ih n v1 v3 v4 0 σ h
def w_m_trim_162 (K79 : Int32 → Int32 → Sg → Prop) (Q : Int32 → Sg → Prop) (v1 : Int32) (v3 : Int32) (σ : Sg) : Prop := ∀ x1 : Int32, x1 = v3 + 1 → (K79 v1 x1 σ)
theorem b_m_trim_162 {Δ : Ly} {G : Gm} {K79 : Int32 → Int32 → Sg → Prop} {Q : Int32 → Sg → Prop} (cx : Cx Δ G mi_m_trim) (hK79 : ∀ (v1 : Int32) (v3 : Int32) (σ : Sg), K79 v1 v3 σ → Y Δ G mi_m_trim (qI Q) noE 0 0 σ 79 [(0, .ref (Δ.1 58)), (1, .int v1), (3, .int v3)] []) : ∀ (v1 : Int32) (v3 : Int32) (σ : Sg), w_m_trim_162 K79 Q v1 v3 σ → Y Δ G mi_m_trim (qI Q) noE 0 0 σ 162 [(0, .ref (Δ.1 58)), (1, .int v1), (3, .int v3)] [] := by
  intro v1 v3 σ h
  unfold w_m_trim_162 at h
  obtain ⟨x1, ex1⟩ : ∃ y : Int32, y = v3 + 1 := ⟨_, rfl⟩
  replace h := h x1 ex1
  refine y_iinc (v := x1) (lv' := [(3, .int x1), (0, .ref (Δ.1 58)), (1, .int v1)]) cx (pc := 162) d_m_trim_162 (j := 2) rfl (by rw [ex1]; rfl) (le_b rfl) rfl ?_
  refine y_goto cx (pc := 165) (tgt := 79) d_m_trim_165 (by decide) ?_
  refine y_sub [1, 2, 0] rfl ?_
  exact hK79 v1 x1 σ h
def w_m_trim_124 (K79 : Int32 → Int32 → Sg → Prop) (Q : Int32 → Sg → Prop) (v1 : Int32) (v3 : Int32) (s0 : Int32) (σ : Sg) : Prop := (s0 ≤ 0 → (w_m_trim_162 K79 Q v1 v3 σ)) ∧ (¬ s0 ≤ 0 → (vp_in ((6 * v3) + s0) 24000 ∧ (vp_in ((6 * v3) + s0) 24000 ∧ (w_m_goneBefore (σ 70 (((6 * v3) + s0).toNatClampNeg)) σ (fun x1 σ2 => vp_in ((6 * v3) + s0) 24000 ∧ (w_m_trim_162 K79 Q v1 v3 (up σ2 70 (((6 * v3) + s0).toNatClampNeg) ((σ 70 (((6 * v3) + s0).toNatClampNeg)) - x1))))))))
theorem b_m_trim_124 {Δ : Ly} {G : Gm} {K79 : Int32 → Int32 → Sg → Prop} {Q : Int32 → Sg → Prop} (cx : Cx Δ G mi_m_trim) (hK79 : ∀ (v1 : Int32) (v3 : Int32) (σ : Sg), K79 v1 v3 σ → Y Δ G mi_m_trim (qI Q) noE 0 0 σ 79 [(0, .ref (Δ.1 58)), (1, .int v1), (3, .int v3)] []) : ∀ (v1 : Int32) (v3 : Int32) (s0 : Int32) (σ : Sg), w_m_trim_124 K79 Q v1 v3 s0 σ → Y Δ G mi_m_trim (qI Q) noE 0 0 σ 124 [(0, .ref (Δ.1 58)), (1, .int v1), (3, .int v3)] [.int s0] := by
  intro v1 v3 s0 σ h
  unfold w_m_trim_124 at h
  refine y_istore (lv' := [(4, .int s0), (0, .ref (Δ.1 58)), (1, .int v1), (3, .int v3)]) cx (pc := 124) d_m_trim_124 (le_b rfl) rfl ?_
  refine y_iload cx (pc := 126) d_m_trim_126 0 rfl ?_
  refine y_if_le cx (pc := 128) (tgt := 162) d_m_trim_128 (by decide) (fun hc => ?_) (fun hc => ?_)
  · replace h := h.1 hc
    refine y_sub [1, 2, 3] rfl ?_
    exact b_m_trim_162 cx hK79 v1 v3 σ h
  · replace h := h.2 hc
    refine y_aload_n cx (pc := 131) d_m_trim_131 rfl 1 rfl ?_
    refine y_get cx (pc := 132) (j := 19) (v := .ref (Δ.1 70)) (le_b rfl) ck_Md kw_767 (le_b rfl) (gf_58_19 Δ _) d_m_trim_132 ?_
    refine y_bipush cx (pc := 135) bp_6 d_m_trim_135 ?_
    refine y_iload_n cx (pc := 137) d_m_trim_137 rfl 3 rfl ?_
    refine y_imul cx (pc := 138) d_m_trim_138 ?_
    refine y_iload cx (pc := 139) d_m_trim_139 0 rfl ?_
    refine y_iadd cx (pc := 141) d_m_trim_141 ?_
    refine y_dup2 cx (pc := 142) rfl rfl d_m_trim_142 ?_
    obtain ⟨h0, h⟩ := h
    refine y_iald cx (pc := 143) ⟨(le_b rfl), fun _ => rfl⟩ h0 d_m_trim_143 ?_
    refine y_aload_n cx (pc := 144) d_m_trim_144 rfl 1 rfl ?_
    refine y_aload_n cx (pc := 145) d_m_trim_145 rfl 1 rfl ?_
    refine y_get cx (pc := 146) (j := 19) (v := .ref (Δ.1 70)) (le_b rfl) ck_Md kw_767 (le_b rfl) (gf_58_19 Δ _) d_m_trim_146 ?_
    refine y_bipush cx (pc := 149) bp_6 d_m_trim_149 ?_
    refine y_iload_n cx (pc := 151) d_m_trim_151 rfl 3 rfl ?_
    refine y_imul cx (pc := 152) d_m_trim_152 ?_
    refine y_iload cx (pc := 153) d_m_trim_153 0 rfl ?_
    refine y_iadd cx (pc := 155) d_m_trim_155 ?_
    obtain ⟨h0, h⟩ := h
    refine y_iald cx (pc := 156) ⟨(le_b rfl), fun _ => rfl⟩ h0 d_m_trim_156 ?_
    refine y_vI cx (pc := 157) (st := [.int (σ 70 (((6 * v3) + s0).toNatClampNeg)), .int ((6 * v3) + s0), .ref (Δ.1 70)]) [.int (σ 70 (((6 * v3) + s0).toNatClampNeg))] (c_m_goneBefore cx.fl Δ (σ 70 (((6 * v3) + s0).toNatClampNeg)) _ _ h) mv_m_goneBefore kw_1060 (oc_58 Δ) ck_Md rfl (le_b rfl) (le_b rfl) (le_b rfl) (le_b rfl) (le_b rfl) d_m_trim_157 (fun x1 σ2 h => ?_) (fun x σ2 h => yt_no h)
    refine y_isub cx (pc := 160) d_m_trim_160 ?_
    obtain ⟨h0, h⟩ := h
    refine y_iast cx (pc := 161) ⟨(le_b rfl), fun _ => rfl⟩ h0 d_m_trim_161 ?_
    refine y_sub [1, 2, 3] rfl ?_
    exact b_m_trim_162 cx hK79 v1 v3 (up σ2 70 (((6 * v3) + s0).toNatClampNeg) ((σ 70 (((6 * v3) + s0).toNatClampNeg)) - x1)) h
def w_m_trim_79 (Q : Int32 → Sg → Prop) : Nat → Int32 → Int32 → Sg → Prop
  | 0, _, _, _ => False
  | n + 1, v1, v3, σ => ((σ 58 20) ≤ v3 → (∃ q173, w_m_trim_173 Q q173 v1 0 0 σ)) ∧ (¬ (σ 58 20) ≤ v3 → (vp_in (6 * v3) 24000 ∧ ((¬ (σ 70 ((6 * v3).toNatClampNeg)) = 16 → (vp_in (6 * v3) 24000 ∧ ((¬ (σ 70 ((6 * v3).toNatClampNeg)) = 17 → (w_m_trim_124 (w_m_trim_79 Q n) Q v1 v3 0 σ)) ∧ ((σ 70 ((6 * v3).toNatClampNeg)) = 17 → (w_m_trim_124 (w_m_trim_79 Q n) Q v1 v3 2 σ))))) ∧ ((σ 70 ((6 * v3).toNatClampNeg)) = 16 → (w_m_trim_124 (w_m_trim_79 Q n) Q v1 v3 1 σ)))))
theorem b_m_trim_79 {Δ : Ly} {G : Gm} {Q : Int32 → Sg → Prop} (cx : Cx Δ G mi_m_trim) : ∀ (n : Nat) (v1 : Int32) (v3 : Int32) (σ : Sg), w_m_trim_79 Q n v1 v3 σ → Y Δ G mi_m_trim (qI Q) noE 0 0 σ 79 [(0, .ref (Δ.1 58)), (1, .int v1), (3, .int v3)] [] := by
  intro n
  induction n with
  | zero => intro v1 v3 σ h; exact h.elim
  | succ n ih =>
    intro v1 v3 σ h
    unfold w_m_trim_79 at h
    refine y_iload_n cx (pc := 79) d_m_trim_79 rfl 2 rfl ?_
    refine y_aload_n cx (pc := 80) d_m_trim_80 rfl 0 rfl ?_
    refine y_get cx (pc := 81) (j := 20) (v := .int (σ 58 20)) (le_b rfl) ck_Md kw_768 (le_b rfl) (gf_58_20 Δ _) d_m_trim_81 ?_
    refine y_icmp_ge cx (pc := 84) (tgt := 168) d_m_trim_84 (by decide) (fun hc => ?_) (fun hc => ?_)
    · replace h := h.1 hc
      refine y_iconst cx (pc := 168) ic_0 d_m_trim_168 ?_
      refine y_istore_n (lv' := [(3, .int 0), (0, .ref (Δ.1 58)), (1, .int v1)]) cx (pc := 169) d_m_trim_169 rfl (le_b rfl) rfl ?_
      refine y_iconst cx (pc := 170) ic_0 d_m_trim_170 ?_
      refine y_istore (lv' := [(4, .int 0), (3, .int 0), (0, .ref (Δ.1 58)), (1, .int v1)]) cx (pc := 171) d_m_trim_171 (le_b rfl) rfl ?_
      refine y_sub [2, 3, 1, 0] rfl ?_
      obtain ⟨n, h⟩ := h
      exact b_m_trim_173 cx n v1 0 0 σ h
    · replace h := h.2 hc
      refine y_aload_n cx (pc := 87) d_m_trim_87 rfl 0 rfl ?_
      refine y_get cx (pc := 88) (j := 19) (v := .ref (Δ.1 70)) (le_b rfl) ck_Md kw_767 (le_b rfl) (gf_58_19 Δ _) d_m_trim_88 ?_
      refine y_bipush cx (pc := 91) bp_6 d_m_trim_91 ?_
      refine y_iload_n cx (pc := 93) d_m_trim_93 rfl 2 rfl ?_
      refine y_imul cx (pc := 94) d_m_trim_94 ?_
      obtain ⟨h0, h⟩ := h
      refine y_iald cx (pc := 95) ⟨(le_b rfl), fun _ => rfl⟩ h0 d_m_trim_95 ?_
      refine y_bipush cx (pc := 96) bp_16 d_m_trim_96 ?_
      refine y_icmp_ne cx (pc := 98) (tgt := 105) d_m_trim_98 (by decide) (fun hc => ?_) (fun hc => ?_)
      · replace h := h.1 hc
        refine y_aload_n cx (pc := 105) d_m_trim_105 rfl 0 rfl ?_
        refine y_get cx (pc := 106) (j := 19) (v := .ref (Δ.1 70)) (le_b rfl) ck_Md kw_767 (le_b rfl) (gf_58_19 Δ _) d_m_trim_106 ?_
        refine y_bipush cx (pc := 109) bp_6 d_m_trim_109 ?_
        refine y_iload_n cx (pc := 111) d_m_trim_111 rfl 2 rfl ?_
        refine y_imul cx (pc := 112) d_m_trim_112 ?_
        obtain ⟨h0, h⟩ := h
        refine y_iald cx (pc := 113) ⟨(le_b rfl), fun _ => rfl⟩ h0 d_m_trim_113 ?_
        refine y_bipush cx (pc := 114) bp_17 d_m_trim_114 ?_
        refine y_icmp_ne cx (pc := 116) (tgt := 123) d_m_trim_116 (by decide) (fun hc => ?_) (fun hc => ?_)
        · replace h := h.1 hc
          refine y_iconst cx (pc := 123) ic_0 d_m_trim_123 ?_
          exact b_m_trim_124 cx ih v1 v3 0 σ h
        · replace h := h.2 hc
          refine y_iconst cx (pc := 119) ic_2 d_m_trim_119 ?_
          refine y_goto cx (pc := 120) (tgt := 124) d_m_trim_120 (by decide) ?_
          exact b_m_trim_124 cx ih v1 v3 2 σ h
      · replace h := h.2 hc
        refine y_iconst cx (pc := 101) ic_1 d_m_trim_101 ?_
        refine y_goto cx (pc := 102) (tgt := 124) d_m_trim_102 (by decide) ?_
        exact b_m_trim_124 cx ih v1 v3 1 σ h
def w_m_trim_68 (K32 : Int32 → Int32 → Sg → Prop) (K40 : Int32 → Int32 → Int32 → Sg → Prop) (Q : Int32 → Sg → Prop) (v1 : Int32) (v2 : Int32) (v3 : Int32) (σ : Sg) : Prop := ∀ x1 : Int32, x1 = v3 + 1 → (K40 v1 v2 x1 σ)
theorem b_m_trim_68 {Δ : Ly} {G : Gm} {K32 : Int32 → Int32 → Sg → Prop} {K40 : Int32 → Int32 → Int32 → Sg → Prop} {Q : Int32 → Sg → Prop} (cx : Cx Δ G mi_m_trim) (hK32 : ∀ (v1 : Int32) (v2 : Int32) (σ : Sg), K32 v1 v2 σ → Y Δ G mi_m_trim (qI Q) noE 0 0 σ 32 [(0, .ref (Δ.1 58)), (1, .int v1), (2, .int v2)] []) (hK40 : ∀ (v1 : Int32) (v2 : Int32) (v3 : Int32) (σ : Sg), K40 v1 v2 v3 σ → Y Δ G mi_m_trim (qI Q) noE 0 0 σ 40 [(0, .ref (Δ.1 58)), (1, .int v1), (2, .int v2), (3, .int v3)] []) : ∀ (v1 : Int32) (v2 : Int32) (v3 : Int32) (σ : Sg), w_m_trim_68 K32 K40 Q v1 v2 v3 σ → Y Δ G mi_m_trim (qI Q) noE 0 0 σ 68 [(0, .ref (Δ.1 58)), (1, .int v1), (2, .int v2), (3, .int v3)] [] := by
  intro v1 v2 v3 σ h
  unfold w_m_trim_68 at h
  obtain ⟨x1, ex1⟩ : ∃ y : Int32, y = v3 + 1 := ⟨_, rfl⟩
  replace h := h x1 ex1
  refine y_iinc (v := x1) (lv' := [(3, .int x1), (0, .ref (Δ.1 58)), (1, .int v1), (2, .int v2)]) cx (pc := 68) d_m_trim_68 (j := 3) rfl (by rw [ex1]; rfl) (le_b rfl) rfl ?_
  refine y_goto cx (pc := 71) (tgt := 40) d_m_trim_71 (by decide) ?_
  refine y_sub [1, 2, 3, 0] rfl ?_
  exact hK40 v1 v2 x1 σ h
def w_m_trim_40 (K32 : Int32 → Int32 → Sg → Prop) (Q : Int32 → Sg → Prop) : Nat → Int32 → Int32 → Int32 → Sg → Prop
  | 0, _, _, _, _ => False
  | n + 1, v1, v2, v3, σ => ((σ 58 20) ≤ v3 → (K32 v1 v2 σ)) ∧ (¬ (σ 58 20) ≤ v3 → (w_m_isUseless v3 σ (fun x1 σ2 => (x1 = 0 → (w_m_trim_68 K32 (w_m_trim_40 K32 Q n) Q v1 v2 v3 σ2)) ∧ (¬ x1 = 0 → (vp_in v3 4000 ∧ (∀ x3 : Int32, x3 = v1 + 1 → (w_m_trim_68 K32 (w_m_trim_40 K32 Q n) Q x3 1 v3 (up σ2 81 (v3.toNatClampNeg) 1))))))))
theorem b_m_trim_40 {Δ : Ly} {G : Gm} {K32 : Int32 → Int32 → Sg → Prop} {Q : Int32 → Sg → Prop} (cx : Cx Δ G mi_m_trim) (hK32 : ∀ (v1 : Int32) (v2 : Int32) (σ : Sg), K32 v1 v2 σ → Y Δ G mi_m_trim (qI Q) noE 0 0 σ 32 [(0, .ref (Δ.1 58)), (1, .int v1), (2, .int v2)] []) : ∀ (n : Nat) (v1 : Int32) (v2 : Int32) (v3 : Int32) (σ : Sg), w_m_trim_40 K32 Q n v1 v2 v3 σ → Y Δ G mi_m_trim (qI Q) noE 0 0 σ 40 [(0, .ref (Δ.1 58)), (1, .int v1), (2, .int v2), (3, .int v3)] [] := by
  intro n
  induction n with
  | zero => intro v1 v2 v3 σ h; exact h.elim
  | succ n ih =>
    intro v1 v2 v3 σ h
    unfold w_m_trim_40 at h
    refine y_iload_n cx (pc := 40) d_m_trim_40 rfl 3 rfl ?_
    refine y_aload_n cx (pc := 41) d_m_trim_41 rfl 0 rfl ?_
    refine y_get cx (pc := 42) (j := 20) (v := .int (σ 58 20)) (le_b rfl) ck_Md kw_768 (le_b rfl) (gf_58_20 Δ _) d_m_trim_42 ?_
    refine y_icmp_ge cx (pc := 45) (tgt := 74) d_m_trim_45 (by decide) (fun hc => ?_) (fun hc => ?_)
    · replace h := h.1 hc
      refine y_goto cx (pc := 74) (tgt := 32) d_m_trim_74 (by decide) ?_
      refine y_sub [0, 1, 2] rfl ?_
      exact hK32 v1 v2 σ h
    · replace h := h.2 hc
      refine y_aload_n cx (pc := 48) d_m_trim_48 rfl 0 rfl ?_
      refine y_iload_n cx (pc := 49) d_m_trim_49 rfl 3 rfl ?_
      refine y_vI cx (pc := 50) (st := []) [.int v3] (c_m_isUseless cx.fl Δ v3 _ _ h) mv_m_isUseless kw_1052 (oc_58 Δ) ck_Md rfl (le_b rfl) (le_b rfl) (le_b rfl) (le_b rfl) (le_b rfl) d_m_trim_50 (fun x1 σ2 h => ?_) (fun x σ2 h => yt_no h)
      refine y_if_eq cx (pc := 53) (tgt := 68) d_m_trim_53 (by decide) (fun hc => ?_) (fun hc => ?_)
      · replace h := h.1 hc
        exact b_m_trim_68 cx hK32 ih v1 v2 v3 σ2 h
      · replace h := h.2 hc
        refine y_aload_n cx (pc := 56) d_m_trim_56 rfl 0 rfl ?_
        refine y_get cx (pc := 57) (j := 35) (v := .ref (Δ.1 81)) (le_b rfl) ck_Md kw_783 (le_b rfl) (gf_58_35 Δ _) d_m_trim_57 ?_
        refine y_iload_n cx (pc := 60) d_m_trim_60 rfl 3 rfl ?_
        refine y_iconst cx (pc := 61) ic_1 d_m_trim_61 ?_
        obtain ⟨h0, h⟩ := h
        refine y_zastB cx (pc := 62) ⟨(le_b rfl), fun _ => rfl⟩ h0 bz_1 d_m_trim_62 ?_
        obtain ⟨x3, ex3⟩ : ∃ y : Int32, y = v1 + 1 := ⟨_, rfl⟩
        replace h := h x3 ex3
        refine y_iinc (v := x3) (lv' := [(1, .int x3), (0, .ref (Δ.1 58)), (2, .int v2), (3, .int v3)]) cx (pc := 63) d_m_trim_63 (j := 1) rfl (by rw [ex3]; rfl) (le_b rfl) rfl ?_
        refine y_iconst cx (pc := 66) ic_1 d_m_trim_66 ?_
        refine y_istore_n (lv' := [(2, .int 1), (1, .int x3), (0, .ref (Δ.1 58)), (3, .int v3)]) cx (pc := 67) d_m_trim_67 rfl (le_b rfl) rfl ?_
        refine y_sub [2, 1, 0, 3] rfl ?_
        exact b_m_trim_68 cx hK32 ih x3 1 v3 (up σ2 81 (v3.toNatClampNeg) 1) h
def w_m_trim_32 (Q : Int32 → Sg → Prop) : Nat → Int32 → Int32 → Sg → Prop
  | 0, _, _, _ => False
  | n + 1, v1, v2, σ => (v2 = 0 → (∃ q79, w_m_trim_79 Q q79 v1 0 σ)) ∧ (¬ v2 = 0 → (∃ q40, w_m_trim_40 (w_m_trim_32 Q n) Q q40 v1 0 0 σ))
theorem b_m_trim_32 {Δ : Ly} {G : Gm} {Q : Int32 → Sg → Prop} (cx : Cx Δ G mi_m_trim) : ∀ (n : Nat) (v1 : Int32) (v2 : Int32) (σ : Sg), w_m_trim_32 Q n v1 v2 σ → Y Δ G mi_m_trim (qI Q) noE 0 0 σ 32 [(0, .ref (Δ.1 58)), (1, .int v1), (2, .int v2)] [] := by
  intro n
  induction n with
  | zero => intro v1 v2 σ h; exact h.elim
  | succ n ih =>
    intro v1 v2 σ h
    unfold w_m_trim_32 at h
    refine y_iload_n cx (pc := 32) d_m_trim_32 rfl 2 rfl ?_
    refine y_if_eq cx (pc := 33) (tgt := 77) d_m_trim_33 (by decide) (fun hc => ?_) (fun hc => ?_)
    · replace h := h.1 hc
      refine y_iconst cx (pc := 77) ic_0 d_m_trim_77 ?_
      refine y_istore_n (lv' := [(3, .int 0), (0, .ref (Δ.1 58)), (1, .int v1), (2, .int v2)]) cx (pc := 78) d_m_trim_78 rfl (le_b rfl) rfl ?_
      refine y_sub [1, 2, 0] rfl ?_
      obtain ⟨n, h⟩ := h
      exact b_m_trim_79 cx n v1 0 σ h
    · replace h := h.2 hc
      refine y_iconst cx (pc := 36) ic_0 d_m_trim_36 ?_
      refine y_istore_n (lv' := [(2, .int 0), (0, .ref (Δ.1 58)), (1, .int v1)]) cx (pc := 37) d_m_trim_37 rfl (le_b rfl) rfl ?_
      refine y_iconst cx (pc := 38) ic_0 d_m_trim_38 ?_
      refine y_istore_n (lv' := [(3, .int 0), (2, .int 0), (0, .ref (Δ.1 58)), (1, .int v1)]) cx (pc := 39) d_m_trim_39 rfl (le_b rfl) rfl ?_
      refine y_sub [2, 3, 1, 0] rfl ?_
      obtain ⟨n, h⟩ := h
      exact b_m_trim_40 cx ih n v1 0 0 σ h
def w_m_trim_7 (Q : Int32 → Sg → Prop) : Nat → Int32 → Sg → Prop
  | 0, _, _ => False
  | n + 1, v1, σ => ((σ 58 20) ≤ v1 → (∃ q32, w_m_trim_32 Q q32 0 1 σ)) ∧ (¬ (σ 58 20) ≤ v1 → (vp_in v1 4000 ∧ (∀ x1 : Int32, x1 = v1 + 1 → ((w_m_trim_7 Q n) x1 (up σ 81 (v1.toNatClampNeg) 0)))))
theorem b_m_trim_7 {Δ : Ly} {G : Gm} {Q : Int32 → Sg → Prop} (cx : Cx Δ G mi_m_trim) : ∀ (n : Nat) (v1 : Int32) (σ : Sg), w_m_trim_7 Q n v1 σ → Y Δ G mi_m_trim (qI Q) noE 0 0 σ 7 [(0, .ref (Δ.1 58)), (1, .int v1)] [] := by
  intro n
  induction n with
  | zero => intro v1 σ h; exact h.elim
  | succ n ih =>
    intro v1 σ h
    unfold w_m_trim_7 at h
    refine y_iload_n cx (pc := 7) d_m_trim_7 rfl 1 rfl ?_
    refine y_aload_n cx (pc := 8) d_m_trim_8 rfl 0 rfl ?_
    refine y_get cx (pc := 9) (j := 20) (v := .int (σ 58 20)) (le_b rfl) ck_Md kw_768 (le_b rfl) (gf_58_20 Δ _) d_m_trim_9 ?_
    refine y_icmp_ge cx (pc := 12) (tgt := 28) d_m_trim_12 (by decide) (fun hc => ?_) (fun hc => ?_)
    · replace h := h.1 hc
      refine y_iconst cx (pc := 28) ic_0 d_m_trim_28 ?_
      refine y_istore_n (lv' := [(1, .int 0), (0, .ref (Δ.1 58))]) cx (pc := 29) d_m_trim_29 rfl (le_b rfl) rfl ?_
      refine y_iconst cx (pc := 30) ic_1 d_m_trim_30 ?_
      refine y_istore_n (lv' := [(2, .int 1), (1, .int 0), (0, .ref (Δ.1 58))]) cx (pc := 31) d_m_trim_31 rfl (le_b rfl) rfl ?_
      refine y_sub [2, 1, 0] rfl ?_
      obtain ⟨n, h⟩ := h
      exact b_m_trim_32 cx n 0 1 σ h
    · replace h := h.2 hc
      refine y_aload_n cx (pc := 15) d_m_trim_15 rfl 0 rfl ?_
      refine y_get cx (pc := 16) (j := 35) (v := .ref (Δ.1 81)) (le_b rfl) ck_Md kw_783 (le_b rfl) (gf_58_35 Δ _) d_m_trim_16 ?_
      refine y_iload_n cx (pc := 19) d_m_trim_19 rfl 1 rfl ?_
      refine y_iconst cx (pc := 20) ic_0 d_m_trim_20 ?_
      obtain ⟨h0, h⟩ := h
      refine y_zastB cx (pc := 21) ⟨(le_b rfl), fun _ => rfl⟩ h0 bz_0 d_m_trim_21 ?_
      obtain ⟨x1, ex1⟩ : ∃ y : Int32, y = v1 + 1 := ⟨_, rfl⟩
      replace h := h x1 ex1
      refine y_iinc (v := x1) (lv' := [(1, .int x1), (0, .ref (Δ.1 58))]) cx (pc := 22) d_m_trim_22 (j := 1) rfl (by rw [ex1]; rfl) (le_b rfl) rfl ?_
      refine y_goto cx (pc := 25) (tgt := 7) d_m_trim_25 (by decide) ?_
      refine y_sub [1, 0] rfl ?_
      exact ih x1 (up σ 81 (v1.toNatClampNeg) 0) h
def w_m_trim (σ : Sg) (Q : Int32 → Sg → Prop) : Prop := ∃ q7, w_m_trim_7 Q q7 0 (up σ 58 0 0)
theorem b_m_trim {Δ : Ly} {G : Gm} {Q : Int32 → Sg → Prop} (cx : Cx Δ G mi_m_trim) (σ : Sg) (h : w_m_trim σ Q) : Y Δ G mi_m_trim (qI Q) noE 0 0 σ 0 [(0, .ref (Δ.1 58))] [] := by
  unfold w_m_trim at h
  refine y_aload_n cx (pc := 0) d_m_trim_0 rfl 0 rfl ?_
  refine y_iconst cx (pc := 1) ic_0 d_m_trim_1 ?_
  refine y_put cx (pc := 2) (j := 0) (ty := .int) (le_b rfl) ck_Md kw_748 (le_b rfl) rfl (t_Md_ok 0 (le_b rfl)) rfl rfl (pf_58_0 Δ) d_m_trim_2 ?_
  refine y_iconst cx (pc := 5) ic_0 d_m_trim_5 ?_
  refine y_istore_n (lv' := [(1, .int 0), (0, .ref (Δ.1 58))]) cx (pc := 6) d_m_trim_6 rfl (le_b rfl) rfl ?_
  refine y_sub [1, 0] rfl ?_
  obtain ⟨n, h⟩ := h
  exact b_m_trim_7 cx n 0 (up σ 58 0 0) h
theorem c_m_trim {l : Launch} (hfl : l.flags = flags0) (Δ : Ly) (σ : Sg) (Q : Int32 → Sg → Prop) (h : w_m_trim σ Q) : Ct l Δ mi_m_trim [.ref (Δ.1 58)] σ (qI Q) noE :=
  Ct.of hfl (by show plainFor ⟨"GuardedMovesModel", "trim", "()I"⟩ = true; decide +kernel) rfl (le_b rfl) (fun G hl cx => b_m_trim cx σ h)
def mi_m_step : Mi := ("GuardedMovesModel", prog_6_method_46_code, 3, [], (some .int), 1, 29, 0, 0, ⟨"GuardedMovesModel", "step", "(II)I"⟩)
theorem d_m_step_0 : decode prog_6_method_46_code 0 = .ok (.aload_n 0, 1) := by decide +kernel
theorem d_m_step_1 : decode prog_6_method_46_code 1 = .ok (.iload_n 1, 1) := by decide +kernel
theorem d_m_step_2 : decode prog_6_method_46_code 2 = .ok (.i2l, 1) := by decide +kernel
theorem d_m_step_3 : decode prog_6_method_46_code 3 = .ok (.lconst 0, 1) := by decide +kernel
theorem d_m_step_4 : decode prog_6_method_46_code 4 = .ok (.aload_n 0, 1) := by decide +kernel
theorem d_m_step_5 : decode prog_6_method_46_code 5 = .ok (.getfield 199, 3) := by decide +kernel
theorem d_m_step_8 : decode prog_6_method_46_code 8 = .ok (.iconst 1, 1) := by decide +kernel
theorem d_m_step_9 : decode prog_6_method_46_code 9 = .ok (.isub, 1) := by decide +kernel
theorem d_m_step_10 : decode prog_6_method_46_code 10 = .ok (.i2l, 1) := by decide +kernel
theorem d_m_step_11 : decode prog_6_method_46_code 11 = .ok (.invokestatic 107, 3) := by decide +kernel
theorem d_m_step_14 : decode prog_6_method_46_code 14 = .ok (.iload_n 2, 1) := by decide +kernel
theorem d_m_step_15 : decode prog_6_method_46_code 15 = .ok (.i2l, 1) := by decide +kernel
theorem d_m_step_16 : decode prog_6_method_46_code 16 = .ok (.lconst 0, 1) := by decide +kernel
theorem d_m_step_17 : decode prog_6_method_46_code 17 = .ok (.ldc2_w 278, 3) := by decide +kernel
theorem d_m_step_20 : decode prog_6_method_46_code 20 = .ok (.invokestatic 107, 3) := by decide +kernel
theorem d_m_step_23 : decode prog_6_method_46_code 23 = .ok (.invokevirtual 111, 3) := by decide +kernel
theorem d_m_step_26 : decode prog_6_method_46_code 26 = .ok (.ifCond .ne 5, 3) := by decide +kernel
theorem d_m_step_29 : decode prog_6_method_46_code 29 = .ok (.iconst 0, 1) := by decide +kernel
theorem d_m_step_30 : decode prog_6_method_46_code 30 = .ok (.ireturn, 1) := by decide +kernel
theorem d_m_step_31 : decode prog_6_method_46_code 31 = .ok (.aload_n 0, 1) := by decide +kernel
theorem d_m_step_32 : decode prog_6_method_46_code 32 = .ok (.getfield 44, 3) := by decide +kernel
theorem d_m_step_35 : decode prog_6_method_46_code 35 = .ok (.bipush 6, 2) := by decide +kernel
theorem d_m_step_37 : decode prog_6_method_46_code 37 = .ok (.iload_n 1, 1) := by decide +kernel
theorem d_m_step_38 : decode prog_6_method_46_code 38 = .ok (.imul, 1) := by decide +kernel
theorem d_m_step_39 : decode prog_6_method_46_code 39 = .ok (.iload_n 2, 1) := by decide +kernel
theorem d_m_step_40 : decode prog_6_method_46_code 40 = .ok (.iadd, 1) := by decide +kernel
theorem d_m_step_41 : decode prog_6_method_46_code 41 = .ok (.iaload, 1) := by decide +kernel
theorem d_m_step_42 : decode prog_6_method_46_code 42 = .ok (.ireturn, 1) := by decide +kernel
theorem kc_m_step : Kw (m_w (mi_m_step )) := ⟨(in_t5 (List.mem_of_getElem? (i := 107) rfl)), rfl⟩
theorem mv_m_step : MV (mi_m_step ) "GuardedMovesModel" 2 := ⟨kw_1065, kw_1066, kc_m_step , kw_7, ⟨⟨(by show ("GuardedMovesModel" : String) ≠ "java/lang/invoke/MethodHandle"; decide), (by show ("GuardedMovesModel" : String) ≠ "java/lang/invoke/VarHandle"; decide)⟩, (by show (parseMethodDescriptor "(II)I").map (fun d => d.parameters.length) = some 2; decide +kernel)⟩⟩
def w_m_step (p1 : Int32) (p2 : Int32) (σ : Sg) (Q : Int32 → Sg → Prop) : Prop := w_m_isIn (p1.toInt64) 0 (((σ 58 20) - 1).toInt64) σ (fun x1 σ2 => w_m_isIn (p2.toInt64) 0 5 σ2 (fun x3 σ4 => w_m_may x1 x3 σ4 (fun x5 σ6 => (¬ x5 = 0 → (vp_in ((6 * p1) + p2) 24000 ∧ (Q (σ6 70 (((6 * p1) + p2).toNatClampNeg)) σ6))) ∧ (x5 = 0 → (Q 0 σ6)))))
theorem b_m_step {Δ : Ly} {G : Gm} {Q : Int32 → Sg → Prop} (cx : Cx Δ G mi_m_step) (p1 : Int32) (p2 : Int32) (σ : Sg) (h : w_m_step p1 p2 σ Q) : Y Δ G mi_m_step (qI Q) noE 0 0 σ 0 [(0, .ref (Δ.1 58)), (1, .int p1), (2, .int p2)] [] := by
  unfold w_m_step at h
  refine y_aload_n cx (pc := 0) d_m_step_0 rfl 0 rfl ?_
  refine y_iload_n cx (pc := 1) d_m_step_1 rfl 1 rfl ?_
  refine y_i2l cx (pc := 2) d_m_step_2 ?_
  refine y_lconst cx (pc := 3) (v := 0) lc_0 d_m_step_3 ?_
  refine y_aload_n cx (pc := 4) d_m_step_4 rfl 0 rfl ?_
  refine y_get cx (pc := 5) (j := 20) (v := .int (σ 58 20)) (le_b rfl) ck_Md kw_768 (le_b rfl) (gf_58_20 Δ _) d_m_step_5 ?_
  refine y_iconst cx (pc := 8) ic_1 d_m_step_8 ?_
  refine y_isub cx (pc := 9) d_m_step_9 ?_
  refine y_i2l cx (pc := 10) d_m_step_10 ?_
  refine y_sI cx (pc := 11) (st := [.ref (Δ.1 58)]) [.long (p1.toInt64), .long 0, .long (((σ 58 20) - 1).toInt64)] (c_m_isIn cx.fl Δ (p1.toInt64) 0 (((σ 58 20) - 1).toInt64) _ _ h) mv_m_isIn kw_893 rfl (le_b rfl) (le_b rfl) (le_b rfl) (le_b rfl) (le_b rfl) d_m_step_11 (fun x1 σ2 h => ?_) (fun x σ2 h => yt_no h)
  refine y_iload_n cx (pc := 14) d_m_step_14 rfl 2 rfl ?_
  refine y_i2l cx (pc := 15) d_m_step_15 ?_
  refine y_lconst cx (pc := 16) (v := 0) lc_0 d_m_step_16 ?_
  refine y_ldc2 cx (pc := 17) kw_1068 d_m_step_17 ?_
  refine y_sI cx (pc := 20) (st := [.int x1, .ref (Δ.1 58)]) [.long (p2.toInt64), .long 0, .long 5] (c_m_isIn cx.fl Δ (p2.toInt64) 0 5 _ _ h) mv_m_isIn kw_893 rfl (le_b rfl) (le_b rfl) (le_b rfl) (le_b rfl) (le_b rfl) d_m_step_20 (fun x3 σ4 h => ?_) (fun x σ4 h => yt_no h)
  refine y_vI cx (pc := 23) (st := []) [.int x1, .int x3] (c_m_may cx.fl Δ x1 x3 _ _ h) mv_m_may kw_896 (oc_58 Δ) ck_Md rfl (le_b rfl) (le_b rfl) (le_b rfl) (le_b rfl) (le_b rfl) d_m_step_23 (fun x5 σ6 h => ?_) (fun x σ6 h => yt_no h)
  refine y_if_ne cx (pc := 26) (tgt := 31) d_m_step_26 (by decide) (fun hc => ?_) (fun hc => ?_)
  · replace h := h.1 hc
    refine y_aload_n cx (pc := 31) d_m_step_31 rfl 0 rfl ?_
    refine y_get cx (pc := 32) (j := 19) (v := .ref (Δ.1 70)) (le_b rfl) ck_Md kw_767 (le_b rfl) (gf_58_19 Δ _) d_m_step_32 ?_
    refine y_bipush cx (pc := 35) bp_6 d_m_step_35 ?_
    refine y_iload_n cx (pc := 37) d_m_step_37 rfl 1 rfl ?_
    refine y_imul cx (pc := 38) d_m_step_38 ?_
    refine y_iload_n cx (pc := 39) d_m_step_39 rfl 2 rfl ?_
    refine y_iadd cx (pc := 40) d_m_step_40 ?_
    obtain ⟨h0, h⟩ := h
    refine y_iald cx (pc := 41) ⟨(le_b rfl), fun _ => rfl⟩ h0 d_m_step_41 ?_
    exact y_iret cx (pc := 42) rfl d_m_step_42 (le_b rfl) (le_b rfl) h
  · replace h := h.2 hc
    refine y_iconst cx (pc := 29) ic_0 d_m_step_29 ?_
    exact y_iret cx (pc := 30) rfl d_m_step_30 (le_b rfl) (le_b rfl) h
theorem c_m_step {l : Launch} (hfl : l.flags = flags0) (Δ : Ly) (p1 : Int32) (p2 : Int32) (σ : Sg) (Q : Int32 → Sg → Prop) (h : w_m_step p1 p2 σ Q) : Ct l Δ mi_m_step [.ref (Δ.1 58), .int p1, .int p2] σ (qI Q) noE :=
  Ct.of hfl (by show plainFor ⟨"GuardedMovesModel", "step", "(II)I"⟩ = true; decide +kernel) rfl (le_b rfl) (fun G hl cx => b_m_step cx p1 p2 σ h)
def mi_m_statement : Mi := ("GuardedMovesModel", prog_6_method_47_code, 5, [], (some .int), 1, 29, 0, 0, ⟨"GuardedMovesModel", "statement", "(II)I"⟩)
theorem d_m_statement_0 : decode prog_6_method_47_code 0 = .ok (.aload_n 0, 1) := by decide +kernel
theorem d_m_statement_1 : decode prog_6_method_47_code 1 = .ok (.iload_n 1, 1) := by decide +kernel
theorem d_m_statement_2 : decode prog_6_method_47_code 2 = .ok (.i2l, 1) := by decide +kernel
theorem d_m_statement_3 : decode prog_6_method_47_code 3 = .ok (.lconst 0, 1) := by decide +kernel
theorem d_m_statement_4 : decode prog_6_method_47_code 4 = .ok (.aload_n 0, 1) := by decide +kernel
theorem d_m_statement_5 : decode prog_6_method_47_code 5 = .ok (.getfield 192, 3) := by decide +kernel
theorem d_m_statement_8 : decode prog_6_method_47_code 8 = .ok (.iconst 1, 1) := by decide +kernel
theorem d_m_statement_9 : decode prog_6_method_47_code 9 = .ok (.isub, 1) := by decide +kernel
theorem d_m_statement_10 : decode prog_6_method_47_code 10 = .ok (.i2l, 1) := by decide +kernel
theorem d_m_statement_11 : decode prog_6_method_47_code 11 = .ok (.invokestatic 107, 3) := by decide +kernel
theorem d_m_statement_14 : decode prog_6_method_47_code 14 = .ok (.iload_n 2, 1) := by decide +kernel
theorem d_m_statement_15 : decode prog_6_method_47_code 15 = .ok (.i2l, 1) := by decide +kernel
theorem d_m_statement_16 : decode prog_6_method_47_code 16 = .ok (.lconst 0, 1) := by decide +kernel
theorem d_m_statement_17 : decode prog_6_method_47_code 17 = .ok (.ldc2_w 280, 3) := by decide +kernel
theorem d_m_statement_20 : decode prog_6_method_47_code 20 = .ok (.invokestatic 107, 3) := by decide +kernel
theorem d_m_statement_23 : decode prog_6_method_47_code 23 = .ok (.invokevirtual 111, 3) := by decide +kernel
theorem d_m_statement_26 : decode prog_6_method_47_code 26 = .ok (.ifCond .ne 5, 3) := by decide +kernel
theorem d_m_statement_29 : decode prog_6_method_47_code 29 = .ok (.iconst 0, 1) := by decide +kernel
theorem d_m_statement_30 : decode prog_6_method_47_code 30 = .ok (.ireturn, 1) := by decide +kernel
theorem d_m_statement_31 : decode prog_6_method_47_code 31 = .ok (.iload_n 2, 1) := by decide +kernel
theorem d_m_statement_32 : decode prog_6_method_47_code 32 = .ok (.ifCond .ne 10, 3) := by decide +kernel
theorem d_m_statement_35 : decode prog_6_method_47_code 35 = .ok (.aload_n 0, 1) := by decide +kernel
theorem d_m_statement_36 : decode prog_6_method_47_code 36 = .ok (.iload_n 1, 1) := by decide +kernel
theorem d_m_statement_37 : decode prog_6_method_47_code 37 = .ok (.iconst 0, 1) := by decide +kernel
theorem d_m_statement_38 : decode prog_6_method_47_code 38 = .ok (.invokevirtual 212, 3) := by decide +kernel
theorem d_m_statement_41 : decode prog_6_method_47_code 41 = .ok (.ireturn, 1) := by decide +kernel
theorem d_m_statement_42 : decode prog_6_method_47_code 42 = .ok (.iload_n 2, 1) := by decide +kernel
theorem d_m_statement_43 : decode prog_6_method_47_code 43 = .ok (.iconst 1, 1) := by decide +kernel
theorem d_m_statement_44 : decode prog_6_method_47_code 44 = .ok (.if_icmp .ne 11, 3) := by decide +kernel
theorem d_m_statement_47 : decode prog_6_method_47_code 47 = .ok (.aload_n 0, 1) := by decide +kernel
theorem d_m_statement_48 : decode prog_6_method_47_code 48 = .ok (.iload_n 1, 1) := by decide +kernel
theorem d_m_statement_49 : decode prog_6_method_47_code 49 = .ok (.bipush 7, 2) := by decide +kernel
theorem d_m_statement_51 : decode prog_6_method_47_code 51 = .ok (.invokevirtual 212, 3) := by decide +kernel
theorem d_m_statement_54 : decode prog_6_method_47_code 54 = .ok (.ireturn, 1) := by decide +kernel
theorem d_m_statement_55 : decode prog_6_method_47_code 55 = .ok (.iload_n 2, 1) := by decide +kernel
theorem d_m_statement_56 : decode prog_6_method_47_code 56 = .ok (.iconst 2, 1) := by decide +kernel
theorem d_m_statement_57 : decode prog_6_method_47_code 57 = .ok (.if_icmp .ne 18, 3) := by decide +kernel
theorem d_m_statement_60 : decode prog_6_method_47_code 60 = .ok (.aload_n 0, 1) := by decide +kernel
theorem d_m_statement_61 : decode prog_6_method_47_code 61 = .ok (.getfield 51, 3) := by decide +kernel
theorem d_m_statement_64 : decode prog_6_method_47_code 64 = .ok (.iload_n 1, 1) := by decide +kernel
theorem d_m_statement_65 : decode prog_6_method_47_code 65 = .ok (.baload, 1) := by decide +kernel
theorem d_m_statement_66 : decode prog_6_method_47_code 66 = .ok (.ifCond .eq 7, 3) := by decide +kernel
theorem d_m_statement_69 : decode prog_6_method_47_code 69 = .ok (.iconst 1, 1) := by decide +kernel
theorem d_m_statement_70 : decode prog_6_method_47_code 70 = .ok (.goto 4, 3) := by decide +kernel
theorem d_m_statement_73 : decode prog_6_method_47_code 73 = .ok (.iconst 0, 1) := by decide +kernel
theorem d_m_statement_74 : decode prog_6_method_47_code 74 = .ok (.ireturn, 1) := by decide +kernel
theorem d_m_statement_75 : decode prog_6_method_47_code 75 = .ok (.iconst 0, 1) := by decide +kernel
theorem d_m_statement_76 : decode prog_6_method_47_code 76 = .ok (.istore_n 3, 1) := by decide +kernel
theorem d_m_statement_77 : decode prog_6_method_47_code 77 = .ok (.iconst 0, 1) := by decide +kernel
theorem d_m_statement_78 : decode prog_6_method_47_code 78 = .ok (.istore 4, 2) := by decide +kernel
theorem d_m_statement_80 : decode prog_6_method_47_code 80 = .ok (.iload 4, 2) := by decide +kernel
theorem d_m_statement_82 : decode prog_6_method_47_code 82 = .ok (.aload_n 0, 1) := by decide +kernel
theorem d_m_statement_83 : decode prog_6_method_47_code 83 = .ok (.getfield 199, 3) := by decide +kernel
theorem d_m_statement_86 : decode prog_6_method_47_code 86 = .ok (.if_icmp .ge 33, 3) := by decide +kernel
theorem d_m_statement_89 : decode prog_6_method_47_code 89 = .ok (.iload_n 3, 1) := by decide +kernel
theorem d_m_statement_90 : decode prog_6_method_47_code 90 = .ok (.aload_n 0, 1) := by decide +kernel
theorem d_m_statement_91 : decode prog_6_method_47_code 91 = .ok (.getfield 44, 3) := by decide +kernel
theorem d_m_statement_94 : decode prog_6_method_47_code 94 = .ok (.bipush 6, 2) := by decide +kernel
theorem d_m_statement_96 : decode prog_6_method_47_code 96 = .ok (.iload 4, 2) := by decide +kernel
theorem d_m_statement_98 : decode prog_6_method_47_code 98 = .ok (.imul, 1) := by decide +kernel
theorem d_m_statement_99 : decode prog_6_method_47_code 99 = .ok (.iconst 5, 1) := by decide +kernel
theorem d_m_statement_100 : decode prog_6_method_47_code 100 = .ok (.iadd, 1) := by decide +kernel
theorem d_m_statement_101 : decode prog_6_method_47_code 101 = .ok (.iaload, 1) := by decide +kernel
theorem d_m_statement_102 : decode prog_6_method_47_code 102 = .ok (.iload_n 1, 1) := by decide +kernel
theorem d_m_statement_103 : decode prog_6_method_47_code 103 = .ok (.if_icmp .ne 7, 3) := by decide +kernel
theorem d_m_statement_106 : decode prog_6_method_47_code 106 = .ok (.iconst 1, 1) := by decide +kernel
theorem d_m_statement_107 : decode prog_6_method_47_code 107 = .ok (.goto 4, 3) := by decide +kernel
theorem d_m_statement_110 : decode prog_6_method_47_code 110 = .ok (.iconst 0, 1) := by decide +kernel
theorem d_m_statement_111 : decode prog_6_method_47_code 111 = .ok (.iadd, 1) := by decide +kernel
theorem d_m_statement_112 : decode prog_6_method_47_code 112 = .ok (.istore_n 3, 1) := by decide +kernel
theorem d_m_statement_113 : decode prog_6_method_47_code 113 = .ok (.iinc 4 1, 3) := by decide +kernel
theorem d_m_statement_116 : decode prog_6_method_47_code 116 = .ok (.goto (-36), 3) := by decide +kernel
theorem d_m_statement_119 : decode prog_6_method_47_code 119 = .ok (.iload_n 3, 1) := by decide +kernel
theorem d_m_statement_120 : decode prog_6_method_47_code 120 = .ok (.ireturn, 1) := by decide +kernel
theorem kc_m_statement : Kw (m_w (mi_m_statement )) := ⟨(in_t5 (List.mem_of_getElem? (i := 112) rfl)), rfl⟩
theorem mv_m_statement : MV (mi_m_statement ) "GuardedMovesModel" 2 := ⟨kw_1070, kw_1071, kc_m_statement , kw_7, ⟨⟨(by show ("GuardedMovesModel" : String) ≠ "java/lang/invoke/MethodHandle"; decide), (by show ("GuardedMovesModel" : String) ≠ "java/lang/invoke/VarHandle"; decide)⟩, (by show (parseMethodDescriptor "(II)I").map (fun d => d.parameters.length) = some 2; decide +kernel)⟩⟩
def w_m_statement_74 (Q : Int32 → Sg → Prop) (s0 : Int32) (σ : Sg) : Prop := Q s0 σ
theorem b_m_statement_74 {Δ : Ly} {G : Gm} {Q : Int32 → Sg → Prop} (cx : Cx Δ G mi_m_statement) : ∀ (s0 : Int32) (σ : Sg), w_m_statement_74 Q s0 σ → Y Δ G mi_m_statement (qI Q) noE 0 0 σ 74 [] [.int s0] := by
  intro s0 σ h
  unfold w_m_statement_74 at h
  exact y_iret cx (pc := 74) rfl d_m_statement_74 (le_b rfl) (le_b rfl) h
def w_m_statement_111 (K80 : Int32 → Int32 → Int32 → Sg → Prop) (Q : Int32 → Sg → Prop) (v1 : Int32) (v4 : Int32) (s0 : Int32) (s1 : Int32) (σ : Sg) : Prop := ∀ x1 : Int32, x1 = s1 + s0 → (∀ x2 : Int32, x2 = v4 + 1 → (K80 v1 x1 x2 σ))
theorem b_m_statement_111 {Δ : Ly} {G : Gm} {K80 : Int32 → Int32 → Int32 → Sg → Prop} {Q : Int32 → Sg → Prop} (cx : Cx Δ G mi_m_statement) (hK80 : ∀ (v1 : Int32) (v3 : Int32) (v4 : Int32) (σ : Sg), K80 v1 v3 v4 σ → Y Δ G mi_m_statement (qI Q) noE 0 0 σ 80 [(0, .ref (Δ.1 58)), (1, .int v1), (3, .int v3), (4, .int v4)] []) : ∀ (v1 : Int32) (v4 : Int32) (s0 : Int32) (s1 : Int32) (σ : Sg), w_m_statement_111 K80 Q v1 v4 s0 s1 σ → Y Δ G mi_m_statement (qI Q) noE 0 0 σ 111 [(0, .ref (Δ.1 58)), (1, .int v1), (4, .int v4)] [.int s0, .int s1] := by
  intro v1 v4 s0 s1 σ h
  unfold w_m_statement_111 at h
  refine y_iadd cx (pc := 111) d_m_statement_111 ?_
  refine y_topi (fun x1 ex1 => ?_)
  replace h := h x1 ex1
  refine y_istore_n (lv' := [(3, .int x1), (0, .ref (Δ.1 58)), (1, .int v1), (4, .int v4)]) cx (pc := 112) d_m_statement_112 rfl (le_b rfl) rfl ?_
  obtain ⟨x2, ex2⟩ : ∃ y : Int32, y = v4 + 1 := ⟨_, rfl⟩
  replace h := h x2 ex2
  refine y_iinc (v := x2) (lv' := [(4, .int x2), (3, .int x1), (0, .ref (Δ.1 58)), (1, .int v1)]) cx (pc := 113) d_m_statement_113 (j := 3) rfl (by rw [ex2]; rfl) (le_b rfl) rfl ?_
  refine y_goto cx (pc := 116) (tgt := 80) d_m_statement_116 (by decide) ?_
  refine y_sub [2, 3, 1, 0] rfl ?_
  exact hK80 v1 x1 x2 σ h
def w_m_statement_80 (Q : Int32 → Sg → Prop) : Nat → Int32 → Int32 → Int32 → Sg → Prop
  | 0, _, _, _, _ => False
  | n + 1, v1, v3, v4, σ => ((σ 58 20) ≤ v4 → (Q v3 σ)) ∧ (¬ (σ 58 20) ≤ v4 → (vp_in ((6 * v4) + 5) 24000 ∧ ((¬ (σ 70 (((6 * v4) + 5).toNatClampNeg)) = v1 → (w_m_statement_111 (w_m_statement_80 Q n) Q v1 v4 0 v3 σ)) ∧ ((σ 70 (((6 * v4) + 5).toNatClampNeg)) = v1 → (w_m_statement_111 (w_m_statement_80 Q n) Q v1 v4 1 v3 σ)))))
theorem b_m_statement_80 {Δ : Ly} {G : Gm} {Q : Int32 → Sg → Prop} (cx : Cx Δ G mi_m_statement) : ∀ (n : Nat) (v1 : Int32) (v3 : Int32) (v4 : Int32) (σ : Sg), w_m_statement_80 Q n v1 v3 v4 σ → Y Δ G mi_m_statement (qI Q) noE 0 0 σ 80 [(0, .ref (Δ.1 58)), (1, .int v1), (3, .int v3), (4, .int v4)] [] := by
  intro n
  induction n with
  | zero => intro v1 v3 v4 σ h; exact h.elim
  | succ n ih =>
    intro v1 v3 v4 σ h
    unfold w_m_statement_80 at h
    refine y_iload cx (pc := 80) d_m_statement_80 3 rfl ?_
    refine y_aload_n cx (pc := 82) d_m_statement_82 rfl 0 rfl ?_
    refine y_get cx (pc := 83) (j := 20) (v := .int (σ 58 20)) (le_b rfl) ck_Md kw_768 (le_b rfl) (gf_58_20 Δ _) d_m_statement_83 ?_
    refine y_icmp_ge cx (pc := 86) (tgt := 119) d_m_statement_86 (by decide) (fun hc => ?_) (fun hc => ?_)
    · replace h := h.1 hc
      refine y_iload_n cx (pc := 119) d_m_statement_119 rfl 2 rfl ?_
      exact y_iret cx (pc := 120) rfl d_m_statement_120 (le_b rfl) (le_b rfl) h
    · replace h := h.2 hc
      refine y_iload_n cx (pc := 89) d_m_statement_89 rfl 2 rfl ?_
      refine y_aload_n cx (pc := 90) d_m_statement_90 rfl 0 rfl ?_
      refine y_get cx (pc := 91) (j := 19) (v := .ref (Δ.1 70)) (le_b rfl) ck_Md kw_767 (le_b rfl) (gf_58_19 Δ _) d_m_statement_91 ?_
      refine y_bipush cx (pc := 94) bp_6 d_m_statement_94 ?_
      refine y_iload cx (pc := 96) d_m_statement_96 3 rfl ?_
      refine y_imul cx (pc := 98) d_m_statement_98 ?_
      refine y_iconst cx (pc := 99) ic_5 d_m_statement_99 ?_
      refine y_iadd cx (pc := 100) d_m_statement_100 ?_
      obtain ⟨h0, h⟩ := h
      refine y_iald cx (pc := 101) ⟨(le_b rfl), fun _ => rfl⟩ h0 d_m_statement_101 ?_
      refine y_iload_n cx (pc := 102) d_m_statement_102 rfl 1 rfl ?_
      refine y_icmp_ne cx (pc := 103) (tgt := 110) d_m_statement_103 (by decide) (fun hc => ?_) (fun hc => ?_)
      · replace h := h.1 hc
        refine y_iconst cx (pc := 110) ic_0 d_m_statement_110 ?_
        refine y_sub [0, 1, 3] rfl ?_
        exact b_m_statement_111 cx ih v1 v4 0 v3 σ h
      · replace h := h.2 hc
        refine y_iconst cx (pc := 106) ic_1 d_m_statement_106 ?_
        refine y_goto cx (pc := 107) (tgt := 111) d_m_statement_107 (by decide) ?_
        refine y_sub [0, 1, 3] rfl ?_
        exact b_m_statement_111 cx ih v1 v4 1 v3 σ h
def w_m_statement (p1 : Int32) (p2 : Int32) (σ : Sg) (Q : Int32 → Sg → Prop) : Prop := w_m_isIn (p1.toInt64) 0 (((σ 58 9) - 1).toInt64) σ (fun x1 σ2 => w_m_isIn (p2.toInt64) 0 3 σ2 (fun x3 σ4 => w_m_may x1 x3 σ4 (fun x5 σ6 => (¬ x5 = 0 → ((¬ p2 = 0 → ((¬ p2 = 1 → ((¬ p2 = 2 → (∃ q80, w_m_statement_80 Q q80 p1 0 0 σ6)) ∧ (p2 = 2 → (vp_in p1 60 ∧ (((σ6 71 (p1.toNatClampNeg)) = 0 → (w_m_statement_74 Q 0 σ6)) ∧ (¬ (σ6 71 (p1.toNatClampNeg)) = 0 → (w_m_statement_74 Q 1 σ6))))))) ∧ (p2 = 1 → (w_m_of p1 7 σ6 (fun x7 σ8 => Q x7 σ8))))) ∧ (p2 = 0 → (w_m_of p1 0 σ6 (fun x9 σ10 => Q x9 σ10))))) ∧ (x5 = 0 → (Q 0 σ6)))))
theorem b_m_statement {Δ : Ly} {G : Gm} {Q : Int32 → Sg → Prop} (cx : Cx Δ G mi_m_statement) (p1 : Int32) (p2 : Int32) (σ : Sg) (h : w_m_statement p1 p2 σ Q) : Y Δ G mi_m_statement (qI Q) noE 0 0 σ 0 [(0, .ref (Δ.1 58)), (1, .int p1), (2, .int p2)] [] := by
  unfold w_m_statement at h
  refine y_aload_n cx (pc := 0) d_m_statement_0 rfl 0 rfl ?_
  refine y_iload_n cx (pc := 1) d_m_statement_1 rfl 1 rfl ?_
  refine y_i2l cx (pc := 2) d_m_statement_2 ?_
  refine y_lconst cx (pc := 3) (v := 0) lc_0 d_m_statement_3 ?_
  refine y_aload_n cx (pc := 4) d_m_statement_4 rfl 0 rfl ?_
  refine y_get cx (pc := 5) (j := 9) (v := .int (σ 58 9)) (le_b rfl) ck_Md kw_757 (le_b rfl) (gf_58_9 Δ _) d_m_statement_5 ?_
  refine y_iconst cx (pc := 8) ic_1 d_m_statement_8 ?_
  refine y_isub cx (pc := 9) d_m_statement_9 ?_
  refine y_i2l cx (pc := 10) d_m_statement_10 ?_
  refine y_sI cx (pc := 11) (st := [.ref (Δ.1 58)]) [.long (p1.toInt64), .long 0, .long (((σ 58 9) - 1).toInt64)] (c_m_isIn cx.fl Δ (p1.toInt64) 0 (((σ 58 9) - 1).toInt64) _ _ h) mv_m_isIn kw_893 rfl (le_b rfl) (le_b rfl) (le_b rfl) (le_b rfl) (le_b rfl) d_m_statement_11 (fun x1 σ2 h => ?_) (fun x σ2 h => yt_no h)
  refine y_iload_n cx (pc := 14) d_m_statement_14 rfl 2 rfl ?_
  refine y_i2l cx (pc := 15) d_m_statement_15 ?_
  refine y_lconst cx (pc := 16) (v := 0) lc_0 d_m_statement_16 ?_
  refine y_ldc2 cx (pc := 17) kw_1073 d_m_statement_17 ?_
  refine y_sI cx (pc := 20) (st := [.int x1, .ref (Δ.1 58)]) [.long (p2.toInt64), .long 0, .long 3] (c_m_isIn cx.fl Δ (p2.toInt64) 0 3 _ _ h) mv_m_isIn kw_893 rfl (le_b rfl) (le_b rfl) (le_b rfl) (le_b rfl) (le_b rfl) d_m_statement_20 (fun x3 σ4 h => ?_) (fun x σ4 h => yt_no h)
  refine y_vI cx (pc := 23) (st := []) [.int x1, .int x3] (c_m_may cx.fl Δ x1 x3 _ _ h) mv_m_may kw_896 (oc_58 Δ) ck_Md rfl (le_b rfl) (le_b rfl) (le_b rfl) (le_b rfl) (le_b rfl) d_m_statement_23 (fun x5 σ6 h => ?_) (fun x σ6 h => yt_no h)
  refine y_if_ne cx (pc := 26) (tgt := 31) d_m_statement_26 (by decide) (fun hc => ?_) (fun hc => ?_)
  · replace h := h.1 hc
    refine y_iload_n cx (pc := 31) d_m_statement_31 rfl 2 rfl ?_
    refine y_if_ne cx (pc := 32) (tgt := 42) d_m_statement_32 (by decide) (fun hc => ?_) (fun hc => ?_)
    · replace h := h.1 hc
      refine y_iload_n cx (pc := 42) d_m_statement_42 rfl 2 rfl ?_
      refine y_iconst cx (pc := 43) ic_1 d_m_statement_43 ?_
      refine y_icmp_ne cx (pc := 44) (tgt := 55) d_m_statement_44 (by decide) (fun hc => ?_) (fun hc => ?_)
      · replace h := h.1 hc
        refine y_iload_n cx (pc := 55) d_m_statement_55 rfl 2 rfl ?_
        refine y_iconst cx (pc := 56) ic_2 d_m_statement_56 ?_
        refine y_icmp_ne cx (pc := 57) (tgt := 75) d_m_statement_57 (by decide) (fun hc => ?_) (fun hc => ?_)
        · replace h := h.1 hc
          refine y_iconst cx (pc := 75) ic_0 d_m_statement_75 ?_
          refine y_istore_n (lv' := [(3, .int 0), (0, .ref (Δ.1 58)), (1, .int p1), (2, .int p2)]) cx (pc := 76) d_m_statement_76 rfl (le_b rfl) rfl ?_
          refine y_iconst cx (pc := 77) ic_0 d_m_statement_77 ?_
          refine y_istore (lv' := [(4, .int 0), (3, .int 0), (0, .ref (Δ.1 58)), (1, .int p1), (2, .int p2)]) cx (pc := 78) d_m_statement_78 (le_b rfl) rfl ?_
          refine y_sub [2, 3, 1, 0] rfl ?_
          obtain ⟨n, h⟩ := h
          exact b_m_statement_80 cx n p1 0 0 σ6 h
        · replace h := h.2 hc
          refine y_aload_n cx (pc := 60) d_m_statement_60 rfl 0 rfl ?_
          refine y_get cx (pc := 61) (j := 23) (v := .ref (Δ.1 71)) (le_b rfl) ck_Md kw_771 (le_b rfl) (gf_58_23 Δ _) d_m_statement_61 ?_
          refine y_iload_n cx (pc := 64) d_m_statement_64 rfl 1 rfl ?_
          obtain ⟨h0, h⟩ := h
          refine y_zald cx (pc := 65) ⟨(le_b rfl), fun _ => rfl⟩ h0 d_m_statement_65 ?_
          refine y_if_eq cx (pc := 66) (tgt := 73) d_m_statement_66 (by decide) (fun hc => ?_) (fun hc => ?_)
          · replace h := h.1 hc
            refine y_iconst cx (pc := 73) ic_0 d_m_statement_73 ?_
            refine y_sub [] rfl ?_
            exact b_m_statement_74 cx 0 σ6 h
          · replace h := h.2 hc
            refine y_iconst cx (pc := 69) ic_1 d_m_statement_69 ?_
            refine y_goto cx (pc := 70) (tgt := 74) d_m_statement_70 (by decide) ?_
            refine y_sub [] rfl ?_
            exact b_m_statement_74 cx 1 σ6 h
      · replace h := h.2 hc
        refine y_aload_n cx (pc := 47) d_m_statement_47 rfl 0 rfl ?_
        refine y_iload_n cx (pc := 48) d_m_statement_48 rfl 1 rfl ?_
        refine y_bipush cx (pc := 49) bp_7 d_m_statement_49 ?_
        refine y_vI cx (pc := 51) (st := []) [.int p1, .int 7] (c_m_of cx.fl Δ p1 7 _ _ h) mv_m_of kw_976 (oc_58 Δ) ck_Md rfl (le_b rfl) (le_b rfl) (le_b rfl) (le_b rfl) (le_b rfl) d_m_statement_51 (fun x7 σ8 h => ?_) (fun x σ8 h => yt_no h)
        exact y_iret cx (pc := 54) rfl d_m_statement_54 (le_b rfl) (le_b rfl) h
    · replace h := h.2 hc
      refine y_aload_n cx (pc := 35) d_m_statement_35 rfl 0 rfl ?_
      refine y_iload_n cx (pc := 36) d_m_statement_36 rfl 1 rfl ?_
      refine y_iconst cx (pc := 37) ic_0 d_m_statement_37 ?_
      refine y_vI cx (pc := 38) (st := []) [.int p1, .int 0] (c_m_of cx.fl Δ p1 0 _ _ h) mv_m_of kw_976 (oc_58 Δ) ck_Md rfl (le_b rfl) (le_b rfl) (le_b rfl) (le_b rfl) (le_b rfl) d_m_statement_38 (fun x9 σ10 h => ?_) (fun x σ10 h => yt_no h)
      exact y_iret cx (pc := 41) rfl d_m_statement_41 (le_b rfl) (le_b rfl) h
  · replace h := h.2 hc
    refine y_iconst cx (pc := 29) ic_0 d_m_statement_29 ?_
    exact y_iret cx (pc := 30) rfl d_m_statement_30 (le_b rfl) (le_b rfl) h
theorem c_m_statement {l : Launch} (hfl : l.flags = flags0) (Δ : Ly) (p1 : Int32) (p2 : Int32) (σ : Sg) (Q : Int32 → Sg → Prop) (h : w_m_statement p1 p2 σ Q) : Ct l Δ mi_m_statement [.ref (Δ.1 58), .int p1, .int p2] σ (qI Q) noE :=
  Ct.of hfl (by show plainFor ⟨"GuardedMovesModel", "statement", "(II)I"⟩ = true; decide +kernel) rfl (le_b rfl) (fun G hl cx => b_m_statement cx p1 p2 σ h)
def mi_m_begin : Mi := ("GuardedMovesModel", prog_6_method_48_code, 2, [], none, 0, 0, 0, 0, ⟨"GuardedMovesModel", "begin", "()V"⟩)
theorem d_m_begin_0 : decode prog_6_method_48_code 0 = .ok (.iconst 0, 1) := by decide +kernel
theorem d_m_begin_1 : decode prog_6_method_48_code 1 = .ok (.istore_n 1, 1) := by decide +kernel
theorem d_m_begin_2 : decode prog_6_method_48_code 2 = .ok (.iload_n 1, 1) := by decide +kernel
theorem d_m_begin_3 : decode prog_6_method_48_code 3 = .ok (.bipush 16, 2) := by decide +kernel
theorem d_m_begin_5 : decode prog_6_method_48_code 5 = .ok (.if_icmp .ge 21, 3) := by decide +kernel
theorem d_m_begin_8 : decode prog_6_method_48_code 8 = .ok (.aload_n 0, 1) := by decide +kernel
theorem d_m_begin_9 : decode prog_6_method_48_code 9 = .ok (.getfield 96, 3) := by decide +kernel
theorem d_m_begin_12 : decode prog_6_method_48_code 12 = .ok (.iload_n 1, 1) := by decide +kernel
theorem d_m_begin_13 : decode prog_6_method_48_code 13 = .ok (.aload_n 0, 1) := by decide +kernel
theorem d_m_begin_14 : decode prog_6_method_48_code 14 = .ok (.getfield 7, 3) := by decide +kernel
theorem d_m_begin_17 : decode prog_6_method_48_code 17 = .ok (.iload_n 1, 1) := by decide +kernel
theorem d_m_begin_18 : decode prog_6_method_48_code 18 = .ok (.iaload, 1) := by decide +kernel
theorem d_m_begin_19 : decode prog_6_method_48_code 19 = .ok (.iastore, 1) := by decide +kernel
theorem d_m_begin_20 : decode prog_6_method_48_code 20 = .ok (.iinc 1 1, 3) := by decide +kernel
theorem d_m_begin_23 : decode prog_6_method_48_code 23 = .ok (.goto (-21), 3) := by decide +kernel
theorem d_m_begin_26 : decode prog_6_method_48_code 26 = .ok (.iconst 0, 1) := by decide +kernel
theorem d_m_begin_27 : decode prog_6_method_48_code 27 = .ok (.istore_n 1, 1) := by decide +kernel
theorem d_m_begin_28 : decode prog_6_method_48_code 28 = .ok (.iload_n 1, 1) := by decide +kernel
theorem d_m_begin_29 : decode prog_6_method_48_code 29 = .ok (.bipush 32, 2) := by decide +kernel
theorem d_m_begin_31 : decode prog_6_method_48_code 31 = .ok (.if_icmp .ge 21, 3) := by decide +kernel
theorem d_m_begin_34 : decode prog_6_method_48_code 34 = .ok (.aload_n 0, 1) := by decide +kernel
theorem d_m_begin_35 : decode prog_6_method_48_code 35 = .ok (.getfield 87, 3) := by decide +kernel
theorem d_m_begin_38 : decode prog_6_method_48_code 38 = .ok (.iload_n 1, 1) := by decide +kernel
theorem d_m_begin_39 : decode prog_6_method_48_code 39 = .ok (.aload_n 0, 1) := by decide +kernel
theorem d_m_begin_40 : decode prog_6_method_48_code 40 = .ok (.getfield 13, 3) := by decide +kernel
theorem d_m_begin_43 : decode prog_6_method_48_code 43 = .ok (.iload_n 1, 1) := by decide +kernel
theorem d_m_begin_44 : decode prog_6_method_48_code 44 = .ok (.iaload, 1) := by decide +kernel
theorem d_m_begin_45 : decode prog_6_method_48_code 45 = .ok (.iastore, 1) := by decide +kernel
theorem d_m_begin_46 : decode prog_6_method_48_code 46 = .ok (.iinc 1 1, 3) := by decide +kernel
theorem d_m_begin_49 : decode prog_6_method_48_code 49 = .ok (.goto (-21), 3) := by decide +kernel
theorem d_m_begin_52 : decode prog_6_method_48_code 52 = .ok (.aload_n 0, 1) := by decide +kernel
theorem d_m_begin_53 : decode prog_6_method_48_code 53 = .ok (.iconst 0, 1) := by decide +kernel
theorem d_m_begin_54 : decode prog_6_method_48_code 54 = .ok (.putfield 282, 3) := by decide +kernel
theorem d_m_begin_57 : decode prog_6_method_48_code 57 = .ok (.aload_n 0, 1) := by decide +kernel
theorem d_m_begin_58 : decode prog_6_method_48_code 58 = .ok (.iconst (-1), 1) := by decide +kernel
theorem d_m_begin_59 : decode prog_6_method_48_code 59 = .ok (.putfield 93, 3) := by decide +kernel
theorem d_m_begin_62 : decode prog_6_method_48_code 62 = .ok (.aload_n 0, 1) := by decide +kernel
theorem d_m_begin_63 : decode prog_6_method_48_code 63 = .ok (.iconst 0, 1) := by decide +kernel
theorem d_m_begin_64 : decode prog_6_method_48_code 64 = .ok (.putfield 285, 3) := by decide +kernel
theorem d_m_begin_67 : decode prog_6_method_48_code 67 = .ok (.aload_n 0, 1) := by decide +kernel
theorem d_m_begin_68 : decode prog_6_method_48_code 68 = .ok (.iconst 0, 1) := by decide +kernel
theorem d_m_begin_69 : decode prog_6_method_48_code 69 = .ok (.putfield 288, 3) := by decide +kernel
theorem d_m_begin_72 : decode prog_6_method_48_code 72 = .ok (.return_, 1) := by decide +kernel
theorem kc_m_begin : Kw (m_w (mi_m_begin )) := ⟨(in_t5 (List.mem_of_getElem? (i := 121) rfl)), rfl⟩
theorem mv_m_begin : MV (mi_m_begin ) "GuardedMovesModel" 0 := ⟨kw_1080, ks_75, kc_m_begin , kw_7, ⟨⟨(by show ("GuardedMovesModel" : String) ≠ "java/lang/invoke/MethodHandle"; decide), (by show ("GuardedMovesModel" : String) ≠ "java/lang/invoke/VarHandle"; decide)⟩, (by show (parseMethodDescriptor "()V").map (fun d => d.parameters.length) = some 0; decide +kernel)⟩⟩
def w_m_begin_28 (Q : Sg → Prop) : Nat → Int32 → Sg → Prop
  | 0, _, _ => False
  | n + 1, v1, σ => (32 ≤ v1 → (Q (up (up (up (up σ 58 39 0) 58 40 (-1)) 58 41 0) 58 42 0))) ∧ (¬ 32 ≤ v1 → (vp_in v1 32 ∧ (vp_in v1 32 ∧ (∀ x1 : Int32, x1 = v1 + 1 → ((w_m_begin_28 Q n) x1 (up σ 83 (v1.toNatClampNeg) (σ 60 (v1.toNatClampNeg))))))))
theorem b_m_begin_28 {Δ : Ly} {G : Gm} {Q : Sg → Prop} (cx : Cx Δ G mi_m_begin) : ∀ (n : Nat) (v1 : Int32) (σ : Sg), w_m_begin_28 Q n v1 σ → Y Δ G mi_m_begin (qV Q) noE 0 0 σ 28 [(0, .ref (Δ.1 58)), (1, .int v1)] [] := by
  intro n
  induction n with
  | zero => intro v1 σ h; exact h.elim
  | succ n ih =>
    intro v1 σ h
    unfold w_m_begin_28 at h
    refine y_iload_n cx (pc := 28) d_m_begin_28 rfl 1 rfl ?_
    refine y_bipush cx (pc := 29) bp_32 d_m_begin_29 ?_
    refine y_icmp_ge cx (pc := 31) (tgt := 52) d_m_begin_31 (by decide) (fun hc => ?_) (fun hc => ?_)
    · replace h := h.1 hc
      refine y_aload_n cx (pc := 52) d_m_begin_52 rfl 0 rfl ?_
      refine y_iconst cx (pc := 53) ic_0 d_m_begin_53 ?_
      refine y_put cx (pc := 54) (j := 39) (ty := .int) (le_b rfl) ck_Md kw_787 (le_b rfl) rfl (t_Md_ok 39 (le_b rfl)) rfl rfl (pf_58_39 Δ) d_m_begin_54 ?_
      refine y_aload_n cx (pc := 57) d_m_begin_57 rfl 0 rfl ?_
      refine y_iconst cx (pc := 58) ic_m1 d_m_begin_58 ?_
      refine y_put cx (pc := 59) (j := 40) (ty := .int) (le_b rfl) ck_Md kw_788 (le_b rfl) rfl (t_Md_ok 40 (le_b rfl)) rfl rfl (pf_58_40 Δ) d_m_begin_59 ?_
      refine y_aload_n cx (pc := 62) d_m_begin_62 rfl 0 rfl ?_
      refine y_iconst cx (pc := 63) ic_0 d_m_begin_63 ?_
      refine y_put cx (pc := 64) (j := 41) (ty := .int) (le_b rfl) ck_Md kw_789 (le_b rfl) rfl (t_Md_ok 41 (le_b rfl)) rfl rfl (pf_58_41 Δ) d_m_begin_64 ?_
      refine y_aload_n cx (pc := 67) d_m_begin_67 rfl 0 rfl ?_
      refine y_iconst cx (pc := 68) ic_0 d_m_begin_68 ?_
      refine y_put cx (pc := 69) (j := 42) (ty := .int) (le_b rfl) ck_Md kw_790 (le_b rfl) rfl (t_Md_ok 42 (le_b rfl)) rfl rfl (pf_58_42 Δ) d_m_begin_69 ?_
      exact y_vret cx (pc := 72) rfl d_m_begin_72 (le_b rfl) (le_b rfl) h
    · replace h := h.2 hc
      refine y_aload_n cx (pc := 34) d_m_begin_34 rfl 0 rfl ?_
      refine y_get cx (pc := 35) (j := 37) (v := .ref (Δ.1 83)) (le_b rfl) ck_Md kw_785 (le_b rfl) (gf_58_37 Δ _) d_m_begin_35 ?_
      refine y_iload_n cx (pc := 38) d_m_begin_38 rfl 1 rfl ?_
      refine y_aload_n cx (pc := 39) d_m_begin_39 rfl 0 rfl ?_
      refine y_get cx (pc := 40) (j := 2) (v := .ref (Δ.1 60)) (le_b rfl) ck_Md kw_750 (le_b rfl) (gf_58_2 Δ _) d_m_begin_40 ?_
      refine y_iload_n cx (pc := 43) d_m_begin_43 rfl 1 rfl ?_
      obtain ⟨h0, h⟩ := h
      refine y_iald cx (pc := 44) ⟨(le_b rfl), fun _ => rfl⟩ h0 d_m_begin_44 ?_
      obtain ⟨h0, h⟩ := h
      refine y_iast cx (pc := 45) ⟨(le_b rfl), fun _ => rfl⟩ h0 d_m_begin_45 ?_
      obtain ⟨x1, ex1⟩ : ∃ y : Int32, y = v1 + 1 := ⟨_, rfl⟩
      replace h := h x1 ex1
      refine y_iinc (v := x1) (lv' := [(1, .int x1), (0, .ref (Δ.1 58))]) cx (pc := 46) d_m_begin_46 (j := 1) rfl (by rw [ex1]; rfl) (le_b rfl) rfl ?_
      refine y_goto cx (pc := 49) (tgt := 28) d_m_begin_49 (by decide) ?_
      refine y_sub [1, 0] rfl ?_
      exact ih x1 (up σ 83 (v1.toNatClampNeg) (σ 60 (v1.toNatClampNeg))) h
def w_m_begin_2 (Q : Sg → Prop) : Nat → Int32 → Sg → Prop
  | 0, _, _ => False
  | n + 1, v1, σ => (16 ≤ v1 → (∃ q28, w_m_begin_28 Q q28 0 σ)) ∧ (¬ 16 ≤ v1 → (vp_in v1 16 ∧ (vp_in v1 4100 ∧ (∀ x1 : Int32, x1 = v1 + 1 → ((w_m_begin_2 Q n) x1 (up σ 85 (v1.toNatClampNeg) (σ 59 (v1.toNatClampNeg))))))))
theorem b_m_begin_2 {Δ : Ly} {G : Gm} {Q : Sg → Prop} (cx : Cx Δ G mi_m_begin) : ∀ (n : Nat) (v1 : Int32) (σ : Sg), w_m_begin_2 Q n v1 σ → Y Δ G mi_m_begin (qV Q) noE 0 0 σ 2 [(0, .ref (Δ.1 58)), (1, .int v1)] [] := by
  intro n
  induction n with
  | zero => intro v1 σ h; exact h.elim
  | succ n ih =>
    intro v1 σ h
    unfold w_m_begin_2 at h
    refine y_iload_n cx (pc := 2) d_m_begin_2 rfl 1 rfl ?_
    refine y_bipush cx (pc := 3) bp_16 d_m_begin_3 ?_
    refine y_icmp_ge cx (pc := 5) (tgt := 26) d_m_begin_5 (by decide) (fun hc => ?_) (fun hc => ?_)
    · replace h := h.1 hc
      refine y_iconst cx (pc := 26) ic_0 d_m_begin_26 ?_
      refine y_istore_n (lv' := [(1, .int 0), (0, .ref (Δ.1 58))]) cx (pc := 27) d_m_begin_27 rfl (le_b rfl) rfl ?_
      refine y_sub [1, 0] rfl ?_
      obtain ⟨n, h⟩ := h
      exact b_m_begin_28 cx n 0 σ h
    · replace h := h.2 hc
      refine y_aload_n cx (pc := 8) d_m_begin_8 rfl 0 rfl ?_
      refine y_get cx (pc := 9) (j := 43) (v := .ref (Δ.1 85)) (le_b rfl) ck_Md kw_791 (le_b rfl) (gf_58_43 Δ _) d_m_begin_9 ?_
      refine y_iload_n cx (pc := 12) d_m_begin_12 rfl 1 rfl ?_
      refine y_aload_n cx (pc := 13) d_m_begin_13 rfl 0 rfl ?_
      refine y_get cx (pc := 14) (j := 1) (v := .ref (Δ.1 59)) (le_b rfl) ck_Md kw_749 (le_b rfl) (gf_58_1 Δ _) d_m_begin_14 ?_
      refine y_iload_n cx (pc := 17) d_m_begin_17 rfl 1 rfl ?_
      obtain ⟨h0, h⟩ := h
      refine y_iald cx (pc := 18) ⟨(le_b rfl), fun _ => rfl⟩ h0 d_m_begin_18 ?_
      obtain ⟨h0, h⟩ := h
      refine y_iast cx (pc := 19) ⟨(le_b rfl), fun _ => rfl⟩ h0 d_m_begin_19 ?_
      obtain ⟨x1, ex1⟩ : ∃ y : Int32, y = v1 + 1 := ⟨_, rfl⟩
      replace h := h x1 ex1
      refine y_iinc (v := x1) (lv' := [(1, .int x1), (0, .ref (Δ.1 58))]) cx (pc := 20) d_m_begin_20 (j := 1) rfl (by rw [ex1]; rfl) (le_b rfl) rfl ?_
      refine y_goto cx (pc := 23) (tgt := 2) d_m_begin_23 (by decide) ?_
      refine y_sub [1, 0] rfl ?_
      exact ih x1 (up σ 85 (v1.toNatClampNeg) (σ 59 (v1.toNatClampNeg))) h
def w_m_begin (σ : Sg) (Q : Sg → Prop) : Prop := ∃ q2, w_m_begin_2 Q q2 0 σ
theorem b_m_begin {Δ : Ly} {G : Gm} {Q : Sg → Prop} (cx : Cx Δ G mi_m_begin) (σ : Sg) (h : w_m_begin σ Q) : Y Δ G mi_m_begin (qV Q) noE 0 0 σ 0 [(0, .ref (Δ.1 58))] [] := by
  unfold w_m_begin at h
  refine y_iconst cx (pc := 0) ic_0 d_m_begin_0 ?_
  refine y_istore_n (lv' := [(1, .int 0), (0, .ref (Δ.1 58))]) cx (pc := 1) d_m_begin_1 rfl (le_b rfl) rfl ?_
  refine y_sub [1, 0] rfl ?_
  obtain ⟨n, h⟩ := h
  exact b_m_begin_2 cx n 0 σ h
theorem c_m_begin {l : Launch} (hfl : l.flags = flags0) (Δ : Ly) (σ : Sg) (Q : Sg → Prop) (h : w_m_begin σ Q) : Ct l Δ mi_m_begin [.ref (Δ.1 58)] σ (qV Q) noE :=
  Ct.of hfl (by show plainFor ⟨"GuardedMovesModel", "begin", "()V"⟩ = true; decide +kernel) rfl (le_b rfl) (fun G hl cx => b_m_begin cx σ h)

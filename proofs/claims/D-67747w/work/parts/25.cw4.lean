def mi_x_reckon : Mi := ("GuardedMoves", prog_1_method_50_code, 5, [], (some .int), 1, 26, 0, 0, ⟨"GuardedMoves", "reckon", "(IIII)I"⟩)
theorem d_x_reckon_0 : decode prog_1_method_50_code 0 = .ok (.iload_n 1, 1) := by decide +kernel
theorem d_x_reckon_1 : decode prog_1_method_50_code 1 = .ok (.iconst 5, 1) := by decide +kernel
theorem d_x_reckon_2 : decode prog_1_method_50_code 2 = .ok (.if_icmp .eq 9, 3) := by decide +kernel
theorem d_x_reckon_5 : decode prog_1_method_50_code 5 = .ok (.iload_n 1, 1) := by decide +kernel
theorem d_x_reckon_6 : decode prog_1_method_50_code 6 = .ok (.bipush 6, 2) := by decide +kernel
theorem d_x_reckon_8 : decode prog_1_method_50_code 8 = .ok (.if_icmp .ne 15, 3) := by decide +kernel
theorem d_x_reckon_11 : decode prog_1_method_50_code 11 = .ok (.iload_n 3, 1) := by decide +kernel
theorem d_x_reckon_12 : decode prog_1_method_50_code 12 = .ok (.ifCond .ne 11, 3) := by decide +kernel
theorem d_x_reckon_15 : decode prog_1_method_50_code 15 = .ok (.aload_n 0, 1) := by decide +kernel
theorem d_x_reckon_16 : decode prog_1_method_50_code 16 = .ok (.iconst 1, 1) := by decide +kernel
theorem d_x_reckon_17 : decode prog_1_method_50_code 17 = .ok (.iload 4, 2) := by decide +kernel
theorem d_x_reckon_19 : decode prog_1_method_50_code 19 = .ok (.invokevirtual 329, 3) := by decide +kernel
theorem d_x_reckon_22 : decode prog_1_method_50_code 22 = .ok (.athrow, 1) := by decide +kernel
theorem d_x_reckon_23 : decode prog_1_method_50_code 23 = .ok (.iload_n 1, 1) := by decide +kernel
theorem d_x_reckon_24 : decode prog_1_method_50_code 24 = .ok (.tableswitch 130 2 11 #[56, 62, 68, 74, 80, 86, 92, 98, 104, 117], 56) := by decide +kernel
theorem d_x_reckon_80 : decode prog_1_method_50_code 80 = .ok (.iload_n 2, 1) := by decide +kernel
theorem d_x_reckon_81 : decode prog_1_method_50_code 81 = .ok (.iload_n 3, 1) := by decide +kernel
theorem d_x_reckon_82 : decode prog_1_method_50_code 82 = .ok (.iadd, 1) := by decide +kernel
theorem d_x_reckon_83 : decode prog_1_method_50_code 83 = .ok (.goto 81, 3) := by decide +kernel
theorem d_x_reckon_86 : decode prog_1_method_50_code 86 = .ok (.iload_n 2, 1) := by decide +kernel
theorem d_x_reckon_87 : decode prog_1_method_50_code 87 = .ok (.iload_n 3, 1) := by decide +kernel
theorem d_x_reckon_88 : decode prog_1_method_50_code 88 = .ok (.isub, 1) := by decide +kernel
theorem d_x_reckon_89 : decode prog_1_method_50_code 89 = .ok (.goto 75, 3) := by decide +kernel
theorem d_x_reckon_92 : decode prog_1_method_50_code 92 = .ok (.iload_n 2, 1) := by decide +kernel
theorem d_x_reckon_93 : decode prog_1_method_50_code 93 = .ok (.iload_n 3, 1) := by decide +kernel
theorem d_x_reckon_94 : decode prog_1_method_50_code 94 = .ok (.imul, 1) := by decide +kernel
theorem d_x_reckon_95 : decode prog_1_method_50_code 95 = .ok (.goto 69, 3) := by decide +kernel
theorem d_x_reckon_98 : decode prog_1_method_50_code 98 = .ok (.iload_n 2, 1) := by decide +kernel
theorem d_x_reckon_99 : decode prog_1_method_50_code 99 = .ok (.iload_n 3, 1) := by decide +kernel
theorem d_x_reckon_100 : decode prog_1_method_50_code 100 = .ok (.idiv, 1) := by decide +kernel
theorem d_x_reckon_101 : decode prog_1_method_50_code 101 = .ok (.goto 63, 3) := by decide +kernel
theorem d_x_reckon_104 : decode prog_1_method_50_code 104 = .ok (.iload_n 2, 1) := by decide +kernel
theorem d_x_reckon_105 : decode prog_1_method_50_code 105 = .ok (.iload_n 3, 1) := by decide +kernel
theorem d_x_reckon_106 : decode prog_1_method_50_code 106 = .ok (.irem, 1) := by decide +kernel
theorem d_x_reckon_107 : decode prog_1_method_50_code 107 = .ok (.goto 57, 3) := by decide +kernel
theorem d_x_reckon_110 : decode prog_1_method_50_code 110 = .ok (.iload_n 2, 1) := by decide +kernel
theorem d_x_reckon_111 : decode prog_1_method_50_code 111 = .ok (.iload_n 3, 1) := by decide +kernel
theorem d_x_reckon_112 : decode prog_1_method_50_code 112 = .ok (.iand, 1) := by decide +kernel
theorem d_x_reckon_113 : decode prog_1_method_50_code 113 = .ok (.goto 51, 3) := by decide +kernel
theorem d_x_reckon_116 : decode prog_1_method_50_code 116 = .ok (.iload_n 2, 1) := by decide +kernel
theorem d_x_reckon_117 : decode prog_1_method_50_code 117 = .ok (.iload_n 3, 1) := by decide +kernel
theorem d_x_reckon_118 : decode prog_1_method_50_code 118 = .ok (.ior, 1) := by decide +kernel
theorem d_x_reckon_119 : decode prog_1_method_50_code 119 = .ok (.goto 45, 3) := by decide +kernel
theorem d_x_reckon_122 : decode prog_1_method_50_code 122 = .ok (.iload_n 2, 1) := by decide +kernel
theorem d_x_reckon_123 : decode prog_1_method_50_code 123 = .ok (.iload_n 3, 1) := by decide +kernel
theorem d_x_reckon_124 : decode prog_1_method_50_code 124 = .ok (.ixor, 1) := by decide +kernel
theorem d_x_reckon_125 : decode prog_1_method_50_code 125 = .ok (.goto 39, 3) := by decide +kernel
theorem d_x_reckon_128 : decode prog_1_method_50_code 128 = .ok (.iload_n 2, 1) := by decide +kernel
theorem d_x_reckon_129 : decode prog_1_method_50_code 129 = .ok (.iload_n 3, 1) := by decide +kernel
theorem d_x_reckon_130 : decode prog_1_method_50_code 130 = .ok (.if_icmp .ne 7, 3) := by decide +kernel
theorem d_x_reckon_133 : decode prog_1_method_50_code 133 = .ok (.iconst 1, 1) := by decide +kernel
theorem d_x_reckon_134 : decode prog_1_method_50_code 134 = .ok (.goto 30, 3) := by decide +kernel
theorem d_x_reckon_137 : decode prog_1_method_50_code 137 = .ok (.iconst 0, 1) := by decide +kernel
theorem d_x_reckon_138 : decode prog_1_method_50_code 138 = .ok (.goto 26, 3) := by decide +kernel
theorem d_x_reckon_141 : decode prog_1_method_50_code 141 = .ok (.iload_n 2, 1) := by decide +kernel
theorem d_x_reckon_142 : decode prog_1_method_50_code 142 = .ok (.iload_n 3, 1) := by decide +kernel
theorem d_x_reckon_143 : decode prog_1_method_50_code 143 = .ok (.if_icmp .eq 7, 3) := by decide +kernel
theorem d_x_reckon_146 : decode prog_1_method_50_code 146 = .ok (.iconst 1, 1) := by decide +kernel
theorem d_x_reckon_147 : decode prog_1_method_50_code 147 = .ok (.goto 17, 3) := by decide +kernel
theorem d_x_reckon_150 : decode prog_1_method_50_code 150 = .ok (.iconst 0, 1) := by decide +kernel
theorem d_x_reckon_151 : decode prog_1_method_50_code 151 = .ok (.goto 13, 3) := by decide +kernel
theorem d_x_reckon_154 : decode prog_1_method_50_code 154 = .ok (.iload_n 2, 1) := by decide +kernel
theorem d_x_reckon_155 : decode prog_1_method_50_code 155 = .ok (.iload_n 3, 1) := by decide +kernel
theorem d_x_reckon_156 : decode prog_1_method_50_code 156 = .ok (.if_icmp .ge 7, 3) := by decide +kernel
theorem d_x_reckon_159 : decode prog_1_method_50_code 159 = .ok (.iconst 1, 1) := by decide +kernel
theorem d_x_reckon_160 : decode prog_1_method_50_code 160 = .ok (.goto 4, 3) := by decide +kernel
theorem d_x_reckon_163 : decode prog_1_method_50_code 163 = .ok (.iconst 0, 1) := by decide +kernel
theorem d_x_reckon_164 : decode prog_1_method_50_code 164 = .ok (.ireturn, 1) := by decide +kernel
theorem kc_x_reckon : Kw (m_w (mi_x_reckon )) := ⟨(in_t1 (List.mem_of_getElem? (i := 224) rfl)), rfl⟩
theorem mv_x_reckon : MV (mi_x_reckon ) "GuardedMoves" 4 := ⟨kw_223, ks_17, kc_x_reckon , kw_1, ⟨⟨(by show ("GuardedMoves" : String) ≠ "java/lang/invoke/MethodHandle"; decide), (by show ("GuardedMoves" : String) ≠ "java/lang/invoke/VarHandle"; decide)⟩, (by show (parseMethodDescriptor "(IIII)I").map (fun d => d.parameters.length) = some 4; decide +kernel)⟩⟩
def w_x_reckon_164 (Q : Int32 → Sg → Prop) (E : Nat → Sg → Prop) (s0 : Int32) (σ : Sg) : Prop := Q s0 σ
theorem b_x_reckon_164 {Δ : Ly} {G : Gm} {Q : Int32 → Sg → Prop} {E : Nat → Sg → Prop} (cx : Cx Δ G mi_x_reckon) : ∀ (s0 : Int32) (σ : Sg), w_x_reckon_164 Q E s0 σ → Y Δ G mi_x_reckon (qI Q) E 0 0 σ 164 [] [.int s0] := by
  intro s0 σ h
  unfold w_x_reckon_164 at h
  exact y_iret cx (pc := 164) rfl d_x_reckon_164 (le_b rfl) (le_b rfl) h
def w_x_reckon_23 (Q : Int32 → Sg → Prop) (E : Nat → Sg → Prop) (v1 : Int32) (v2 : Int32) (v3 : Int32) (σ : Sg) : Prop := (v1 = 2 → (w_x_reckon_164 Q E (v2 + v3) σ)) ∧ (¬ v1 = 2 → ((v1 = 3 → (w_x_reckon_164 Q E (v2 - v3) σ)) ∧ (¬ v1 = 3 → ((v1 = 4 → (w_x_reckon_164 Q E (v2 * v3) σ)) ∧ (¬ v1 = 4 → ((v1 = 5 → (¬ v3 = 0 ∧ (w_x_reckon_164 Q E (v2 / v3) σ))) ∧ (¬ v1 = 5 → ((v1 = 6 → (¬ v3 = 0 ∧ (w_x_reckon_164 Q E (v2 - v2 / v3 * v3) σ))) ∧ (¬ v1 = 6 → ((v1 = 7 → (w_x_reckon_164 Q E (v2 &&& v3) σ)) ∧ (¬ v1 = 7 → ((v1 = 8 → (w_x_reckon_164 Q E (v2 ||| v3) σ)) ∧ (¬ v1 = 8 → ((v1 = 9 → (w_x_reckon_164 Q E (v2 ^^^ v3) σ)) ∧ (¬ v1 = 9 → ((v1 = 10 → ((¬ v2 = v3 → (w_x_reckon_164 Q E 0 σ)) ∧ (v2 = v3 → (w_x_reckon_164 Q E 1 σ)))) ∧ (¬ v1 = 10 → ((v1 = 11 → ((v2 = v3 → (w_x_reckon_164 Q E 0 σ)) ∧ (¬ v2 = v3 → (w_x_reckon_164 Q E 1 σ)))) ∧ (¬ v1 = 11 → ((v3 ≤ v2 → (w_x_reckon_164 Q E 0 σ)) ∧ (¬ v3 ≤ v2 → (w_x_reckon_164 Q E 1 σ))))))))))))))))))))))
theorem b_x_reckon_23 {Δ : Ly} {G : Gm} {Q : Int32 → Sg → Prop} {E : Nat → Sg → Prop} (cx : Cx Δ G mi_x_reckon) : ∀ (v1 : Int32) (v2 : Int32) (v3 : Int32) (σ : Sg), w_x_reckon_23 Q E v1 v2 v3 σ → Y Δ G mi_x_reckon (qI Q) E 0 0 σ 23 [(1, .int v1), (2, .int v2), (3, .int v3)] [] := by
  intro v1 v2 v3 σ h
  unfold w_x_reckon_23 at h
  refine y_iload_n cx (pc := 23) d_x_reckon_23 rfl 0 rfl ?_
  by_cases hc0 : v1 = 2
  · replace h := h.1 hc0
    refine y_tIn cx (pc := 24) (tgt := 80) (c := 2) d_x_reckon_24 hc0 (by decide) (by decide) rfl (by decide) ?_
    refine y_iload_n cx (pc := 80) d_x_reckon_80 rfl 1 rfl ?_
    refine y_iload_n cx (pc := 81) d_x_reckon_81 rfl 2 rfl ?_
    refine y_iadd cx (pc := 82) d_x_reckon_82 ?_
    refine y_goto cx (pc := 83) (tgt := 164) d_x_reckon_83 (by decide) ?_
    refine y_sub [] rfl ?_
    exact b_x_reckon_164 cx (v2 + v3) σ h
  replace h := h.2 hc0
  by_cases hc1 : v1 = 3
  · replace h := h.1 hc1
    refine y_tIn cx (pc := 24) (tgt := 86) (c := 3) d_x_reckon_24 hc1 (by decide) (by decide) rfl (by decide) ?_
    refine y_iload_n cx (pc := 86) d_x_reckon_86 rfl 1 rfl ?_
    refine y_iload_n cx (pc := 87) d_x_reckon_87 rfl 2 rfl ?_
    refine y_isub cx (pc := 88) d_x_reckon_88 ?_
    refine y_goto cx (pc := 89) (tgt := 164) d_x_reckon_89 (by decide) ?_
    refine y_sub [] rfl ?_
    exact b_x_reckon_164 cx (v2 - v3) σ h
  replace h := h.2 hc1
  by_cases hc2 : v1 = 4
  · replace h := h.1 hc2
    refine y_tIn cx (pc := 24) (tgt := 92) (c := 4) d_x_reckon_24 hc2 (by decide) (by decide) rfl (by decide) ?_
    refine y_iload_n cx (pc := 92) d_x_reckon_92 rfl 1 rfl ?_
    refine y_iload_n cx (pc := 93) d_x_reckon_93 rfl 2 rfl ?_
    refine y_imul cx (pc := 94) d_x_reckon_94 ?_
    refine y_goto cx (pc := 95) (tgt := 164) d_x_reckon_95 (by decide) ?_
    refine y_sub [] rfl ?_
    exact b_x_reckon_164 cx (v2 * v3) σ h
  replace h := h.2 hc2
  by_cases hc3 : v1 = 5
  · replace h := h.1 hc3
    refine y_tIn cx (pc := 24) (tgt := 98) (c := 5) d_x_reckon_24 hc3 (by decide) (by decide) rfl (by decide) ?_
    refine y_iload_n cx (pc := 98) d_x_reckon_98 rfl 1 rfl ?_
    refine y_iload_n cx (pc := 99) d_x_reckon_99 rfl 2 rfl ?_
    obtain ⟨h0, h⟩ := h
    refine y_idiv cx (pc := 100) h0 d_x_reckon_100 ?_
    refine y_goto cx (pc := 101) (tgt := 164) d_x_reckon_101 (by decide) ?_
    refine y_sub [] rfl ?_
    exact b_x_reckon_164 cx (v2 / v3) σ h
  replace h := h.2 hc3
  by_cases hc4 : v1 = 6
  · replace h := h.1 hc4
    refine y_tIn cx (pc := 24) (tgt := 104) (c := 6) d_x_reckon_24 hc4 (by decide) (by decide) rfl (by decide) ?_
    refine y_iload_n cx (pc := 104) d_x_reckon_104 rfl 1 rfl ?_
    refine y_iload_n cx (pc := 105) d_x_reckon_105 rfl 2 rfl ?_
    obtain ⟨h0, h⟩ := h
    refine y_irem cx (pc := 106) h0 d_x_reckon_106 ?_
    refine y_goto cx (pc := 107) (tgt := 164) d_x_reckon_107 (by decide) ?_
    refine y_sub [] rfl ?_
    exact b_x_reckon_164 cx (v2 - v2 / v3 * v3) σ h
  replace h := h.2 hc4
  by_cases hc5 : v1 = 7
  · replace h := h.1 hc5
    refine y_tIn cx (pc := 24) (tgt := 110) (c := 7) d_x_reckon_24 hc5 (by decide) (by decide) rfl (by decide) ?_
    refine y_iload_n cx (pc := 110) d_x_reckon_110 rfl 1 rfl ?_
    refine y_iload_n cx (pc := 111) d_x_reckon_111 rfl 2 rfl ?_
    refine y_iand cx (pc := 112) d_x_reckon_112 ?_
    refine y_goto cx (pc := 113) (tgt := 164) d_x_reckon_113 (by decide) ?_
    refine y_sub [] rfl ?_
    exact b_x_reckon_164 cx (v2 &&& v3) σ h
  replace h := h.2 hc5
  by_cases hc6 : v1 = 8
  · replace h := h.1 hc6
    refine y_tIn cx (pc := 24) (tgt := 116) (c := 8) d_x_reckon_24 hc6 (by decide) (by decide) rfl (by decide) ?_
    refine y_iload_n cx (pc := 116) d_x_reckon_116 rfl 1 rfl ?_
    refine y_iload_n cx (pc := 117) d_x_reckon_117 rfl 2 rfl ?_
    refine y_ior cx (pc := 118) d_x_reckon_118 ?_
    refine y_goto cx (pc := 119) (tgt := 164) d_x_reckon_119 (by decide) ?_
    refine y_sub [] rfl ?_
    exact b_x_reckon_164 cx (v2 ||| v3) σ h
  replace h := h.2 hc6
  by_cases hc7 : v1 = 9
  · replace h := h.1 hc7
    refine y_tIn cx (pc := 24) (tgt := 122) (c := 9) d_x_reckon_24 hc7 (by decide) (by decide) rfl (by decide) ?_
    refine y_iload_n cx (pc := 122) d_x_reckon_122 rfl 1 rfl ?_
    refine y_iload_n cx (pc := 123) d_x_reckon_123 rfl 2 rfl ?_
    refine y_ixor cx (pc := 124) d_x_reckon_124 ?_
    refine y_goto cx (pc := 125) (tgt := 164) d_x_reckon_125 (by decide) ?_
    refine y_sub [] rfl ?_
    exact b_x_reckon_164 cx (v2 ^^^ v3) σ h
  replace h := h.2 hc7
  by_cases hc8 : v1 = 10
  · replace h := h.1 hc8
    refine y_tIn cx (pc := 24) (tgt := 128) (c := 10) d_x_reckon_24 hc8 (by decide) (by decide) rfl (by decide) ?_
    refine y_iload_n cx (pc := 128) d_x_reckon_128 rfl 1 rfl ?_
    refine y_iload_n cx (pc := 129) d_x_reckon_129 rfl 2 rfl ?_
    refine y_icmp_ne cx (pc := 130) (tgt := 137) d_x_reckon_130 (by decide) (fun hc => ?_) (fun hc => ?_)
    · replace h := h.1 hc
      refine y_iconst cx (pc := 137) ic_0 d_x_reckon_137 ?_
      refine y_goto cx (pc := 138) (tgt := 164) d_x_reckon_138 (by decide) ?_
      refine y_sub [] rfl ?_
      exact b_x_reckon_164 cx 0 σ h
    · replace h := h.2 hc
      refine y_iconst cx (pc := 133) ic_1 d_x_reckon_133 ?_
      refine y_goto cx (pc := 134) (tgt := 164) d_x_reckon_134 (by decide) ?_
      refine y_sub [] rfl ?_
      exact b_x_reckon_164 cx 1 σ h
  replace h := h.2 hc8
  by_cases hc9 : v1 = 11
  · replace h := h.1 hc9
    refine y_tIn cx (pc := 24) (tgt := 141) (c := 11) d_x_reckon_24 hc9 (by decide) (by decide) rfl (by decide) ?_
    refine y_iload_n cx (pc := 141) d_x_reckon_141 rfl 1 rfl ?_
    refine y_iload_n cx (pc := 142) d_x_reckon_142 rfl 2 rfl ?_
    refine y_icmp_eq cx (pc := 143) (tgt := 150) d_x_reckon_143 (by decide) (fun hc => ?_) (fun hc => ?_)
    · replace h := h.1 hc
      refine y_iconst cx (pc := 150) ic_0 d_x_reckon_150 ?_
      refine y_goto cx (pc := 151) (tgt := 164) d_x_reckon_151 (by decide) ?_
      refine y_sub [] rfl ?_
      exact b_x_reckon_164 cx 0 σ h
    · replace h := h.2 hc
      refine y_iconst cx (pc := 146) ic_1 d_x_reckon_146 ?_
      refine y_goto cx (pc := 147) (tgt := 164) d_x_reckon_147 (by decide) ?_
      refine y_sub [] rfl ?_
      exact b_x_reckon_164 cx 1 σ h
  replace h := h.2 hc9
  refine y_tOut cx (pc := 24) (tgt := 154) d_x_reckon_24 (by have z0 := lv_neT hc0 (show (2 : Int32).toInt = 2 from rfl); have z1 := lv_neT hc1 (show (3 : Int32).toInt = 3 from rfl); have z2 := lv_neT hc2 (show (4 : Int32).toInt = 4 from rfl); have z3 := lv_neT hc3 (show (5 : Int32).toInt = 5 from rfl); have z4 := lv_neT hc4 (show (6 : Int32).toInt = 6 from rfl); have z5 := lv_neT hc5 (show (7 : Int32).toInt = 7 from rfl); have z6 := lv_neT hc6 (show (8 : Int32).toInt = 8 from rfl); have z7 := lv_neT hc7 (show (9 : Int32).toInt = 9 from rfl); have z8 := lv_neT hc8 (show (10 : Int32).toInt = 10 from rfl); have z9 := lv_neT hc9 (show (11 : Int32).toInt = 11 from rfl); omega) (by decide) ?_
  refine y_iload_n cx (pc := 154) d_x_reckon_154 rfl 1 rfl ?_
  refine y_iload_n cx (pc := 155) d_x_reckon_155 rfl 2 rfl ?_
  refine y_icmp_ge cx (pc := 156) (tgt := 163) d_x_reckon_156 (by decide) (fun hc => ?_) (fun hc => ?_)
  · replace h := h.1 hc
    refine y_iconst cx (pc := 163) ic_0 d_x_reckon_163 ?_
    refine y_sub [] rfl ?_
    exact b_x_reckon_164 cx 0 σ h
  · replace h := h.2 hc
    refine y_iconst cx (pc := 159) ic_1 d_x_reckon_159 ?_
    refine y_goto cx (pc := 160) (tgt := 164) d_x_reckon_160 (by decide) ?_
    refine y_sub [] rfl ?_
    exact b_x_reckon_164 cx 1 σ h
def w_x_reckon_11 (Q : Int32 → Sg → Prop) (E : Nat → Sg → Prop) (v1 : Int32) (v2 : Int32) (v3 : Int32) (v4 : Int32) (σ : Sg) : Prop := (¬ v3 = 0 → (w_x_reckon_23 Q E v1 v2 v3 σ)) ∧ (v3 = 0 → (w_x_end 1 v4 σ (fun σ1 => E 1 σ1)))
theorem b_x_reckon_11 {Δ : Ly} {G : Gm} {Q : Int32 → Sg → Prop} {E : Nat → Sg → Prop} (cx : Cx Δ G mi_x_reckon) : ∀ (v1 : Int32) (v2 : Int32) (v3 : Int32) (v4 : Int32) (σ : Sg), w_x_reckon_11 Q E v1 v2 v3 v4 σ → Y Δ G mi_x_reckon (qI Q) E 0 0 σ 11 [(0, .ref (Δ.1 0)), (1, .int v1), (2, .int v2), (3, .int v3), (4, .int v4)] [] := by
  intro v1 v2 v3 v4 σ h
  unfold w_x_reckon_11 at h
  refine y_iload_n cx (pc := 11) d_x_reckon_11 rfl 3 rfl ?_
  refine y_if_ne cx (pc := 12) (tgt := 23) d_x_reckon_12 (by decide) (fun hc => ?_) (fun hc => ?_)
  · replace h := h.1 hc
    refine y_sub [1, 2, 3] rfl ?_
    exact b_x_reckon_23 cx v1 v2 v3 σ h
  · replace h := h.2 hc
    refine y_aload_n cx (pc := 15) d_x_reckon_15 rfl 0 rfl ?_
    refine y_iconst cx (pc := 16) ic_1 d_x_reckon_16 ?_
    refine y_iload cx (pc := 17) d_x_reckon_17 4 rfl ?_
    refine y_vR cx (pc := 19) (st := []) [.int 1, .int v4] (c_x_end cx.fl Δ 1 v4 _ _ h) mv_x_end kw_225 (oc_0 Δ) ck_GM rfl (le_b rfl) (le_b rfl) (le_b rfl) (le_b rfl) (le_b rfl) d_x_reckon_19 (fun σ1 h => ?_) (fun x σ1 h => yt_no h)
    refine y_athrow cx (pc := 22) (x := 1) d_x_reckon_22 (fun H hP => ex_end cx hP) ?_
    exact t_out cx rfl (le_b rfl) (le_b rfl) h
def w_x_reckon (p1 : Int32) (p2 : Int32) (p3 : Int32) (p4 : Int32) (σ : Sg) (Q : Int32 → Sg → Prop) (E : Nat → Sg → Prop) : Prop := (p1 = 5 → (w_x_reckon_11 Q E p1 p2 p3 p4 σ)) ∧ (¬ p1 = 5 → ((¬ p1 = 6 → (w_x_reckon_23 Q E p1 p2 p3 σ)) ∧ (p1 = 6 → (w_x_reckon_11 Q E p1 p2 p3 p4 σ))))
theorem b_x_reckon {Δ : Ly} {G : Gm} {Q : Int32 → Sg → Prop} {E : Nat → Sg → Prop} (cx : Cx Δ G mi_x_reckon) (p1 : Int32) (p2 : Int32) (p3 : Int32) (p4 : Int32) (σ : Sg) (h : w_x_reckon p1 p2 p3 p4 σ Q E) : Y Δ G mi_x_reckon (qI Q) E 0 0 σ 0 [(0, .ref (Δ.1 0)), (1, .int p1), (2, .int p2), (3, .int p3), (4, .int p4)] [] := by
  unfold w_x_reckon at h
  refine y_iload_n cx (pc := 0) d_x_reckon_0 rfl 1 rfl ?_
  refine y_iconst cx (pc := 1) ic_5 d_x_reckon_1 ?_
  refine y_icmp_eq cx (pc := 2) (tgt := 11) d_x_reckon_2 (by decide) (fun hc => ?_) (fun hc => ?_)
  · replace h := h.1 hc
    exact b_x_reckon_11 cx p1 p2 p3 p4 σ h
  · replace h := h.2 hc
    refine y_iload_n cx (pc := 5) d_x_reckon_5 rfl 1 rfl ?_
    refine y_bipush cx (pc := 6) bp_6 d_x_reckon_6 ?_
    refine y_icmp_ne cx (pc := 8) (tgt := 23) d_x_reckon_8 (by decide) (fun hc => ?_) (fun hc => ?_)
    · replace h := h.1 hc
      refine y_sub [1, 2, 3] rfl ?_
      exact b_x_reckon_23 cx p1 p2 p3 σ h
    · replace h := h.2 hc
      exact b_x_reckon_11 cx p1 p2 p3 p4 σ h
theorem c_x_reckon {l : Launch} (hfl : l.flags = flags0) (Δ : Ly) (p1 : Int32) (p2 : Int32) (p3 : Int32) (p4 : Int32) (σ : Sg) (Q : Int32 → Sg → Prop) (E : Nat → Sg → Prop) (h : w_x_reckon p1 p2 p3 p4 σ Q E) : Ct l Δ mi_x_reckon [.ref (Δ.1 0), .int p1, .int p2, .int p3, .int p4] σ (qI Q) E :=
  Ct.of hfl (by show plainFor ⟨"GuardedMoves", "reckon", "(IIII)I"⟩ = true; decide +kernel) rfl (le_b rfl) (fun G hl cx => b_x_reckon cx p1 p2 p3 p4 σ h)
def mi_x_second_I : Mi := ("GuardedMoves", prog_1_method_54_code, 2, [], (some .int), 0, 0, 0, 0, ⟨"GuardedMoves", "second", "(I)I"⟩)
theorem d_x_second_I_0 : decode prog_1_method_54_code 0 = .ok (.aload_n 0, 1) := by decide +kernel
theorem d_x_second_I_1 : decode prog_1_method_54_code 1 = .ok (.getfield 172, 3) := by decide +kernel
theorem d_x_second_I_4 : decode prog_1_method_54_code 4 = .ok (.getfield 97, 3) := by decide +kernel
theorem d_x_second_I_7 : decode prog_1_method_54_code 7 = .ok (.iload_n 1, 1) := by decide +kernel
theorem d_x_second_I_8 : decode prog_1_method_54_code 8 = .ok (.iaload, 1) := by decide +kernel
theorem d_x_second_I_9 : decode prog_1_method_54_code 9 = .ok (.iconst (-1), 1) := by decide +kernel
theorem d_x_second_I_10 : decode prog_1_method_54_code 10 = .ok (.if_icmp .ne 15, 3) := by decide +kernel
theorem d_x_second_I_13 : decode prog_1_method_54_code 13 = .ok (.aload_n 0, 1) := by decide +kernel
theorem d_x_second_I_14 : decode prog_1_method_54_code 14 = .ok (.getfield 172, 3) := by decide +kernel
theorem d_x_second_I_17 : decode prog_1_method_54_code 17 = .ok (.getfield 100, 3) := by decide +kernel
theorem d_x_second_I_20 : decode prog_1_method_54_code 20 = .ok (.iload_n 1, 1) := by decide +kernel
theorem d_x_second_I_21 : decode prog_1_method_54_code 21 = .ok (.iaload, 1) := by decide +kernel
theorem d_x_second_I_22 : decode prog_1_method_54_code 22 = .ok (.goto 17, 3) := by decide +kernel
theorem d_x_second_I_25 : decode prog_1_method_54_code 25 = .ok (.aload_n 0, 1) := by decide +kernel
theorem d_x_second_I_26 : decode prog_1_method_54_code 26 = .ok (.getfield 314, 3) := by decide +kernel
theorem d_x_second_I_29 : decode prog_1_method_54_code 29 = .ok (.aload_n 0, 1) := by decide +kernel
theorem d_x_second_I_30 : decode prog_1_method_54_code 30 = .ok (.getfield 172, 3) := by decide +kernel
theorem d_x_second_I_33 : decode prog_1_method_54_code 33 = .ok (.getfield 97, 3) := by decide +kernel
theorem d_x_second_I_36 : decode prog_1_method_54_code 36 = .ok (.iload_n 1, 1) := by decide +kernel
theorem d_x_second_I_37 : decode prog_1_method_54_code 37 = .ok (.iaload, 1) := by decide +kernel
theorem d_x_second_I_38 : decode prog_1_method_54_code 38 = .ok (.iaload, 1) := by decide +kernel
theorem d_x_second_I_39 : decode prog_1_method_54_code 39 = .ok (.ireturn, 1) := by decide +kernel
theorem kc_x_second_I : Kw (m_w (mi_x_second_I )) := ⟨(in_t1 (List.mem_of_getElem? (i := 220) rfl)), rfl⟩
theorem mv_x_second_I : MV (mi_x_second_I ) "GuardedMoves" 1 := ⟨kw_219, ks_16, kc_x_second_I , kw_1, ⟨⟨(by show ("GuardedMoves" : String) ≠ "java/lang/invoke/MethodHandle"; decide), (by show ("GuardedMoves" : String) ≠ "java/lang/invoke/VarHandle"; decide)⟩, (by show (parseMethodDescriptor "(I)I").map (fun d => d.parameters.length) = some 1; decide +kernel)⟩⟩
def w_x_second_I_39 (Q : Int32 → Sg → Prop) (s0 : Int32) (σ : Sg) : Prop := Q s0 σ
theorem b_x_second_I_39 {Δ : Ly} {G : Gm} {Q : Int32 → Sg → Prop} (cx : Cx Δ G mi_x_second_I) : ∀ (s0 : Int32) (σ : Sg), w_x_second_I_39 Q s0 σ → Y Δ G mi_x_second_I (qI Q) noE 0 0 σ 39 [] [.int s0] := by
  intro s0 σ h
  unfold w_x_second_I_39 at h
  exact y_iret cx (pc := 39) rfl d_x_second_I_39 (le_b rfl) (le_b rfl) h
def w_x_second_I (p1 : Int32) (σ : Sg) (Q : Int32 → Sg → Prop) : Prop := vp_in p1 60 ∧ ((¬ (σ 42 (p1.toNatClampNeg)) = (-1) → (vp_in p1 60 ∧ (vp_in (σ 42 (p1.toNatClampNeg)) 3016 ∧ (w_x_second_I_39 Q (σ 11 ((σ 42 (p1.toNatClampNeg)).toNatClampNeg)) σ)))) ∧ ((σ 42 (p1.toNatClampNeg)) = (-1) → (vp_in p1 60 ∧ (w_x_second_I_39 Q (σ 43 (p1.toNatClampNeg)) σ))))
theorem b_x_second_I {Δ : Ly} {G : Gm} {Q : Int32 → Sg → Prop} (cx : Cx Δ G mi_x_second_I) (p1 : Int32) (σ : Sg) (h : w_x_second_I p1 σ Q) : Y Δ G mi_x_second_I (qI Q) noE 0 0 σ 0 [(0, .ref (Δ.1 0)), (1, .int p1)] [] := by
  unfold w_x_second_I at h
  refine y_aload_n cx (pc := 0) d_x_second_I_0 rfl 0 rfl ?_
  refine y_get cx (pc := 1) (j := 0) (v := .ref (Δ.1 1)) (le_b rfl) ck_GM kw_397 (le_b rfl) (gf_0_0 Δ _) d_x_second_I_1 ?_
  refine y_getN cx (pc := 4) (j := 7) (v := .ref (Δ.1 42)) (le_b rfl) ck_Tx kw_270 (le_b rfl) (gf_1_7 Δ _) d_x_second_I_4 ?_
  refine y_iload_n cx (pc := 7) d_x_second_I_7 rfl 1 rfl ?_
  obtain ⟨h0, h⟩ := h
  refine y_iald cx (pc := 8) ⟨(le_b rfl), fun _ => rfl⟩ h0 d_x_second_I_8 ?_
  refine y_iconst cx (pc := 9) ic_m1 d_x_second_I_9 ?_
  refine y_icmp_ne cx (pc := 10) (tgt := 25) d_x_second_I_10 (by decide) (fun hc => ?_) (fun hc => ?_)
  · replace h := h.1 hc
    refine y_aload_n cx (pc := 25) d_x_second_I_25 rfl 0 rfl ?_
    refine y_get cx (pc := 26) (j := 20) (v := .ref (Δ.1 11)) (le_b rfl) ck_GM kw_417 (le_b rfl) (gf_0_20 Δ _) d_x_second_I_26 ?_
    refine y_aload_n cx (pc := 29) d_x_second_I_29 rfl 0 rfl ?_
    refine y_get cx (pc := 30) (j := 0) (v := .ref (Δ.1 1)) (le_b rfl) ck_GM kw_397 (le_b rfl) (gf_0_0 Δ _) d_x_second_I_30 ?_
    refine y_getN cx (pc := 33) (j := 7) (v := .ref (Δ.1 42)) (le_b rfl) ck_Tx kw_270 (le_b rfl) (gf_1_7 Δ _) d_x_second_I_33 ?_
    refine y_iload_n cx (pc := 36) d_x_second_I_36 rfl 1 rfl ?_
    obtain ⟨h0, h⟩ := h
    refine y_iald cx (pc := 37) ⟨(le_b rfl), fun _ => rfl⟩ h0 d_x_second_I_37 ?_
    obtain ⟨h0, h⟩ := h
    refine y_iald cx (pc := 38) ⟨(le_b rfl), fun _ => rfl⟩ h0 d_x_second_I_38 ?_
    refine y_sub [] rfl ?_
    exact b_x_second_I_39 cx (σ 11 ((σ 42 (p1.toNatClampNeg)).toNatClampNeg)) σ h
  · replace h := h.2 hc
    refine y_aload_n cx (pc := 13) d_x_second_I_13 rfl 0 rfl ?_
    refine y_get cx (pc := 14) (j := 0) (v := .ref (Δ.1 1)) (le_b rfl) ck_GM kw_397 (le_b rfl) (gf_0_0 Δ _) d_x_second_I_14 ?_
    refine y_getN cx (pc := 17) (j := 8) (v := .ref (Δ.1 43)) (le_b rfl) ck_Tx kw_272 (le_b rfl) (gf_1_8 Δ _) d_x_second_I_17 ?_
    refine y_iload_n cx (pc := 20) d_x_second_I_20 rfl 1 rfl ?_
    obtain ⟨h0, h⟩ := h
    refine y_iald cx (pc := 21) ⟨(le_b rfl), fun _ => rfl⟩ h0 d_x_second_I_21 ?_
    refine y_goto cx (pc := 22) (tgt := 39) d_x_second_I_22 (by decide) ?_
    refine y_sub [] rfl ?_
    exact b_x_second_I_39 cx (σ 43 (p1.toNatClampNeg)) σ h
theorem c_x_second_I {l : Launch} (hfl : l.flags = flags0) (Δ : Ly) (p1 : Int32) (σ : Sg) (Q : Int32 → Sg → Prop) (h : w_x_second_I p1 σ Q) : Ct l Δ mi_x_second_I [.ref (Δ.1 0), .int p1] σ (qI Q) noE :=
  Ct.of hfl (by show plainFor ⟨"GuardedMoves", "second", "(I)I"⟩ = true; decide +kernel) rfl (le_b rfl) (fun G hl cx => b_x_second_I cx p1 σ h)
def mi_x_tell_I : Mi := ("GuardedMoves", prog_1_method_52_code, 2, [], none, 0, 0, 0, 0, ⟨"GuardedMoves", "tell", "(I)V"⟩)
theorem d_x_tell_I_0 : decode prog_1_method_52_code 0 = .ok (.aload_n 0, 1) := by decide +kernel
theorem d_x_tell_I_1 : decode prog_1_method_52_code 1 = .ok (.getfield 333, 3) := by decide +kernel
theorem d_x_tell_I_4 : decode prog_1_method_52_code 4 = .ok (.aload_n 0, 1) := by decide +kernel
theorem d_x_tell_I_5 : decode prog_1_method_52_code 5 = .ok (.dup, 1) := by decide +kernel
theorem d_x_tell_I_6 : decode prog_1_method_52_code 6 = .ok (.getfield 320, 3) := by decide +kernel
theorem d_x_tell_I_9 : decode prog_1_method_52_code 9 = .ok (.dup_x1, 1) := by decide +kernel
theorem d_x_tell_I_10 : decode prog_1_method_52_code 10 = .ok (.iconst 1, 1) := by decide +kernel
theorem d_x_tell_I_11 : decode prog_1_method_52_code 11 = .ok (.iadd, 1) := by decide +kernel
theorem d_x_tell_I_12 : decode prog_1_method_52_code 12 = .ok (.putfield 320, 3) := by decide +kernel
theorem d_x_tell_I_15 : decode prog_1_method_52_code 15 = .ok (.iload_n 1, 1) := by decide +kernel
theorem d_x_tell_I_16 : decode prog_1_method_52_code 16 = .ok (.iastore, 1) := by decide +kernel
theorem d_x_tell_I_17 : decode prog_1_method_52_code 17 = .ok (.return_, 1) := by decide +kernel
theorem kc_x_tell_I : Kw (m_w (mi_x_tell_I )) := ⟨(in_t1 (List.mem_of_getElem? (i := 237) rfl)), rfl⟩
theorem mv_x_tell_I : MV (mi_x_tell_I ) "GuardedMoves" 1 := ⟨kw_236, ks_20, kc_x_tell_I , kw_1, ⟨⟨(by show ("GuardedMoves" : String) ≠ "java/lang/invoke/MethodHandle"; decide), (by show ("GuardedMoves" : String) ≠ "java/lang/invoke/VarHandle"; decide)⟩, (by show (parseMethodDescriptor "(I)V").map (fun d => d.parameters.length) = some 1; decide +kernel)⟩⟩
def w_x_tell_I (p1 : Int32) (σ : Sg) (Q : Sg → Prop) : Prop := vp_in (σ 0 23) 60 ∧ (Q (up (up σ 0 23 ((σ 0 23) + 1)) 13 ((σ 0 23).toNatClampNeg) p1))
theorem b_x_tell_I {Δ : Ly} {G : Gm} {Q : Sg → Prop} (cx : Cx Δ G mi_x_tell_I) (p1 : Int32) (σ : Sg) (h : w_x_tell_I p1 σ Q) : Y Δ G mi_x_tell_I (qV Q) noE 0 0 σ 0 [(0, .ref (Δ.1 0)), (1, .int p1)] [] := by
  unfold w_x_tell_I at h
  refine y_aload_n cx (pc := 0) d_x_tell_I_0 rfl 0 rfl ?_
  refine y_get cx (pc := 1) (j := 22) (v := .ref (Δ.1 13)) (le_b rfl) ck_GM kw_419 (le_b rfl) (gf_0_22 Δ _) d_x_tell_I_1 ?_
  refine y_aload_n cx (pc := 4) d_x_tell_I_4 rfl 0 rfl ?_
  refine y_dup cx (pc := 5) rfl d_x_tell_I_5 ?_
  refine y_get cx (pc := 6) (j := 23) (v := .int (σ 0 23)) (le_b rfl) ck_GM kw_420 (le_b rfl) (gf_0_23 Δ _) d_x_tell_I_6 ?_
  refine y_dup_x1 cx (pc := 9) rfl rfl d_x_tell_I_9 ?_
  refine y_iconst cx (pc := 10) ic_1 d_x_tell_I_10 ?_
  refine y_iadd cx (pc := 11) d_x_tell_I_11 ?_
  refine y_put cx (pc := 12) (j := 23) (ty := .int) (le_b rfl) ck_GM kw_420 (le_b rfl) rfl (t_GM_ok 23 (le_b rfl)) rfl rfl (pf_0_23 Δ) d_x_tell_I_12 ?_
  refine y_iload_n cx (pc := 15) d_x_tell_I_15 rfl 1 rfl ?_
  obtain ⟨h0, h⟩ := h
  refine y_iast cx (pc := 16) ⟨(le_b rfl), fun _ => rfl⟩ h0 d_x_tell_I_16 ?_
  exact y_vret cx (pc := 17) rfl d_x_tell_I_17 (le_b rfl) (le_b rfl) h
theorem c_x_tell_I {l : Launch} (hfl : l.flags = flags0) (Δ : Ly) (p1 : Int32) (σ : Sg) (Q : Sg → Prop) (h : w_x_tell_I p1 σ Q) : Ct l Δ mi_x_tell_I [.ref (Δ.1 0), .int p1] σ (qV Q) noE :=
  Ct.of hfl (by show plainFor ⟨"GuardedMoves", "tell", "(I)V"⟩ = true; decide +kernel) rfl (le_b rfl) (fun G hl cx => b_x_tell_I cx p1 σ h)
def mi_x_tellOne (d : Nat) : Mi := ("GuardedMoves", prog_1_method_56_code, 5, [], none, 2 + 2 * d + 1, 55 + 55 * d + 27, 0, 0, ⟨"GuardedMoves", "tellOne", "(I)V"⟩)
theorem d_x_tellOne_0 : decode prog_1_method_56_code 0 = .ok (.aload_n 0, 1) := by decide +kernel
theorem d_x_tellOne_1 : decode prog_1_method_56_code 1 = .ok (.dup, 1) := by decide +kernel
theorem d_x_tellOne_2 : decode prog_1_method_56_code 2 = .ok (.getfield 326, 3) := by decide +kernel
theorem d_x_tellOne_5 : decode prog_1_method_56_code 5 = .ok (.iconst 1, 1) := by decide +kernel
theorem d_x_tellOne_6 : decode prog_1_method_56_code 6 = .ok (.iadd, 1) := by decide +kernel
theorem d_x_tellOne_7 : decode prog_1_method_56_code 7 = .ok (.putfield 326, 3) := by decide +kernel
theorem d_x_tellOne_10 : decode prog_1_method_56_code 10 = .ok (.aload_n 0, 1) := by decide +kernel
theorem d_x_tellOne_11 : decode prog_1_method_56_code 11 = .ok (.iload_n 1, 1) := by decide +kernel
theorem d_x_tellOne_12 : decode prog_1_method_56_code 12 = .ok (.invokevirtual 339, 3) := by decide +kernel
theorem d_x_tellOne_15 : decode prog_1_method_56_code 15 = .ok (.istore_n 2, 1) := by decide +kernel
theorem d_x_tellOne_16 : decode prog_1_method_56_code 16 = .ok (.aload_n 0, 1) := by decide +kernel
theorem d_x_tellOne_17 : decode prog_1_method_56_code 17 = .ok (.iload_n 1, 1) := by decide +kernel
theorem d_x_tellOne_18 : decode prog_1_method_56_code 18 = .ok (.invokevirtual 341, 3) := by decide +kernel
theorem d_x_tellOne_21 : decode prog_1_method_56_code 21 = .ok (.istore_n 3, 1) := by decide +kernel
theorem d_x_tellOne_22 : decode prog_1_method_56_code 22 = .ok (.aload_n 0, 1) := by decide +kernel
theorem d_x_tellOne_23 : decode prog_1_method_56_code 23 = .ok (.getfield 172, 3) := by decide +kernel
theorem d_x_tellOne_26 : decode prog_1_method_56_code 26 = .ok (.getfield 129, 3) := by decide +kernel
theorem d_x_tellOne_29 : decode prog_1_method_56_code 29 = .ok (.iload_n 1, 1) := by decide +kernel
theorem d_x_tellOne_30 : decode prog_1_method_56_code 30 = .ok (.iaload, 1) := by decide +kernel
theorem d_x_tellOne_31 : decode prog_1_method_56_code 31 = .ok (.istore 4, 2) := by decide +kernel
theorem d_x_tellOne_33 : decode prog_1_method_56_code 33 = .ok (.aload_n 0, 1) := by decide +kernel
theorem d_x_tellOne_34 : decode prog_1_method_56_code 34 = .ok (.getfield 172, 3) := by decide +kernel
theorem d_x_tellOne_37 : decode prog_1_method_56_code 37 = .ok (.getfield 116, 3) := by decide +kernel
theorem d_x_tellOne_40 : decode prog_1_method_56_code 40 = .ok (.iload_n 1, 1) := by decide +kernel
theorem d_x_tellOne_41 : decode prog_1_method_56_code 41 = .ok (.iaload, 1) := by decide +kernel
theorem d_x_tellOne_42 : decode prog_1_method_56_code 42 = .ok (.tableswitch 117 0 4 #[34, 45, 73, 94, 109], 34) := by decide +kernel
theorem d_x_tellOne_76 : decode prog_1_method_56_code 76 = .ok (.aload_n 0, 1) := by decide +kernel
theorem d_x_tellOne_77 : decode prog_1_method_56_code 77 = .ok (.getfield 314, 3) := by decide +kernel
theorem d_x_tellOne_80 : decode prog_1_method_56_code 80 = .ok (.iload 4, 2) := by decide +kernel
theorem d_x_tellOne_82 : decode prog_1_method_56_code 82 = .ok (.iload_n 2, 1) := by decide +kernel
theorem d_x_tellOne_83 : decode prog_1_method_56_code 83 = .ok (.iastore, 1) := by decide +kernel
theorem d_x_tellOne_84 : decode prog_1_method_56_code 84 = .ok (.goto 139, 3) := by decide +kernel
theorem d_x_tellOne_87 : decode prog_1_method_56_code 87 = .ok (.aload_n 0, 1) := by decide +kernel
theorem d_x_tellOne_88 : decode prog_1_method_56_code 88 = .ok (.getfield 314, 3) := by decide +kernel
theorem d_x_tellOne_91 : decode prog_1_method_56_code 91 = .ok (.iload 4, 2) := by decide +kernel
theorem d_x_tellOne_93 : decode prog_1_method_56_code 93 = .ok (.aload_n 0, 1) := by decide +kernel
theorem d_x_tellOne_94 : decode prog_1_method_56_code 94 = .ok (.iconst 2, 1) := by decide +kernel
theorem d_x_tellOne_95 : decode prog_1_method_56_code 95 = .ok (.aload_n 0, 1) := by decide +kernel
theorem d_x_tellOne_96 : decode prog_1_method_56_code 96 = .ok (.getfield 172, 3) := by decide +kernel
theorem d_x_tellOne_99 : decode prog_1_method_56_code 99 = .ok (.getfield 143, 3) := by decide +kernel
theorem d_x_tellOne_102 : decode prog_1_method_56_code 102 = .ok (.iload_n 1, 1) := by decide +kernel
theorem d_x_tellOne_103 : decode prog_1_method_56_code 103 = .ok (.iaload, 1) := by decide +kernel
theorem d_x_tellOne_104 : decode prog_1_method_56_code 104 = .ok (.iadd, 1) := by decide +kernel
theorem d_x_tellOne_105 : decode prog_1_method_56_code 105 = .ok (.iload_n 2, 1) := by decide +kernel
theorem d_x_tellOne_106 : decode prog_1_method_56_code 106 = .ok (.iload_n 3, 1) := by decide +kernel
theorem d_x_tellOne_107 : decode prog_1_method_56_code 107 = .ok (.iload_n 1, 1) := by decide +kernel
theorem d_x_tellOne_108 : decode prog_1_method_56_code 108 = .ok (.invokevirtual 343, 3) := by decide +kernel
theorem d_x_tellOne_111 : decode prog_1_method_56_code 111 = .ok (.iastore, 1) := by decide +kernel
theorem d_x_tellOne_112 : decode prog_1_method_56_code 112 = .ok (.goto 111, 3) := by decide +kernel
theorem d_x_tellOne_115 : decode prog_1_method_56_code 115 = .ok (.aload_n 0, 1) := by decide +kernel
theorem d_x_tellOne_116 : decode prog_1_method_56_code 116 = .ok (.getfield 314, 3) := by decide +kernel
theorem d_x_tellOne_119 : decode prog_1_method_56_code 119 = .ok (.iload 4, 2) := by decide +kernel
theorem d_x_tellOne_121 : decode prog_1_method_56_code 121 = .ok (.aload_n 0, 1) := by decide +kernel
theorem d_x_tellOne_122 : decode prog_1_method_56_code 122 = .ok (.getfield 317, 3) := by decide +kernel
theorem d_x_tellOne_125 : decode prog_1_method_56_code 125 = .ok (.aload_n 0, 1) := by decide +kernel
theorem d_x_tellOne_126 : decode prog_1_method_56_code 126 = .ok (.iload_n 2, 1) := by decide +kernel
theorem d_x_tellOne_127 : decode prog_1_method_56_code 127 = .ok (.iload_n 1, 1) := by decide +kernel
theorem d_x_tellOne_128 : decode prog_1_method_56_code 128 = .ok (.invokevirtual 346, 3) := by decide +kernel
theorem d_x_tellOne_131 : decode prog_1_method_56_code 131 = .ok (.iaload, 1) := by decide +kernel
theorem d_x_tellOne_132 : decode prog_1_method_56_code 132 = .ok (.iastore, 1) := by decide +kernel
theorem d_x_tellOne_133 : decode prog_1_method_56_code 133 = .ok (.goto 90, 3) := by decide +kernel
theorem d_x_tellOne_136 : decode prog_1_method_56_code 136 = .ok (.aload_n 0, 1) := by decide +kernel
theorem d_x_tellOne_137 : decode prog_1_method_56_code 137 = .ok (.getfield 317, 3) := by decide +kernel
theorem d_x_tellOne_140 : decode prog_1_method_56_code 140 = .ok (.aload_n 0, 1) := by decide +kernel
theorem d_x_tellOne_141 : decode prog_1_method_56_code 141 = .ok (.iload_n 2, 1) := by decide +kernel
theorem d_x_tellOne_142 : decode prog_1_method_56_code 142 = .ok (.iload_n 1, 1) := by decide +kernel
theorem d_x_tellOne_143 : decode prog_1_method_56_code 143 = .ok (.invokevirtual 346, 3) := by decide +kernel
theorem d_x_tellOne_146 : decode prog_1_method_56_code 146 = .ok (.iload_n 3, 1) := by decide +kernel
theorem d_x_tellOne_147 : decode prog_1_method_56_code 147 = .ok (.iastore, 1) := by decide +kernel
theorem d_x_tellOne_148 : decode prog_1_method_56_code 148 = .ok (.goto 75, 3) := by decide +kernel
theorem d_x_tellOne_151 : decode prog_1_method_56_code 151 = .ok (.aload_n 0, 1) := by decide +kernel
theorem d_x_tellOne_152 : decode prog_1_method_56_code 152 = .ok (.iload_n 2, 1) := by decide +kernel
theorem d_x_tellOne_153 : decode prog_1_method_56_code 153 = .ok (.invokevirtual 348, 3) := by decide +kernel
theorem d_x_tellOne_156 : decode prog_1_method_56_code 156 = .ok (.goto 67, 3) := by decide +kernel
theorem d_x_tellOne_159 : decode prog_1_method_56_code 159 = .ok (.aload_n 0, 1) := by decide +kernel
theorem d_x_tellOne_160 : decode prog_1_method_56_code 160 = .ok (.bipush 10, 2) := by decide +kernel
theorem d_x_tellOne_162 : decode prog_1_method_56_code 162 = .ok (.aload_n 0, 1) := by decide +kernel
theorem d_x_tellOne_163 : decode prog_1_method_56_code 163 = .ok (.getfield 172, 3) := by decide +kernel
theorem d_x_tellOne_166 : decode prog_1_method_56_code 166 = .ok (.getfield 143, 3) := by decide +kernel
theorem d_x_tellOne_169 : decode prog_1_method_56_code 169 = .ok (.iload_n 1, 1) := by decide +kernel
theorem d_x_tellOne_170 : decode prog_1_method_56_code 170 = .ok (.iaload, 1) := by decide +kernel
theorem d_x_tellOne_171 : decode prog_1_method_56_code 171 = .ok (.iadd, 1) := by decide +kernel
theorem d_x_tellOne_172 : decode prog_1_method_56_code 172 = .ok (.iload_n 2, 1) := by decide +kernel
theorem d_x_tellOne_173 : decode prog_1_method_56_code 173 = .ok (.iload_n 3, 1) := by decide +kernel
theorem d_x_tellOne_174 : decode prog_1_method_56_code 174 = .ok (.iload_n 1, 1) := by decide +kernel
theorem d_x_tellOne_175 : decode prog_1_method_56_code 175 = .ok (.invokevirtual 343, 3) := by decide +kernel
theorem d_x_tellOne_178 : decode prog_1_method_56_code 178 = .ok (.iconst 1, 1) := by decide +kernel
theorem d_x_tellOne_179 : decode prog_1_method_56_code 179 = .ok (.if_icmp .ne 22, 3) := by decide +kernel
theorem d_x_tellOne_182 : decode prog_1_method_56_code 182 = .ok (.aload_n 0, 1) := by decide +kernel
theorem d_x_tellOne_183 : decode prog_1_method_56_code 183 = .ok (.iload_n 1, 1) := by decide +kernel
theorem d_x_tellOne_184 : decode prog_1_method_56_code 184 = .ok (.iconst 1, 1) := by decide +kernel
theorem d_x_tellOne_185 : decode prog_1_method_56_code 185 = .ok (.iadd, 1) := by decide +kernel
theorem d_x_tellOne_186 : decode prog_1_method_56_code 186 = .ok (.aload_n 0, 1) := by decide +kernel
theorem d_x_tellOne_187 : decode prog_1_method_56_code 187 = .ok (.getfield 172, 3) := by decide +kernel
theorem d_x_tellOne_190 : decode prog_1_method_56_code 190 = .ok (.getfield 151, 3) := by decide +kernel
theorem d_x_tellOne_193 : decode prog_1_method_56_code 193 = .ok (.iload_n 1, 1) := by decide +kernel
theorem d_x_tellOne_194 : decode prog_1_method_56_code 194 = .ok (.iaload, 1) := by decide +kernel
theorem d_x_tellOne_195 : decode prog_1_method_56_code 195 = .ok (.invokevirtual 351, 3) := by decide +kernel
theorem d_x_tellOne_198 : decode prog_1_method_56_code 198 = .ok (.goto 25, 3) := by decide +kernel
theorem d_x_tellOne_201 : decode prog_1_method_56_code 201 = .ok (.aload_n 0, 1) := by decide +kernel
theorem d_x_tellOne_202 : decode prog_1_method_56_code 202 = .ok (.aload_n 0, 1) := by decide +kernel
theorem d_x_tellOne_203 : decode prog_1_method_56_code 203 = .ok (.getfield 172, 3) := by decide +kernel
theorem d_x_tellOne_206 : decode prog_1_method_56_code 206 = .ok (.getfield 151, 3) := by decide +kernel
theorem d_x_tellOne_209 : decode prog_1_method_56_code 209 = .ok (.iload_n 1, 1) := by decide +kernel
theorem d_x_tellOne_210 : decode prog_1_method_56_code 210 = .ok (.iaload, 1) := by decide +kernel
theorem d_x_tellOne_211 : decode prog_1_method_56_code 211 = .ok (.aload_n 0, 1) := by decide +kernel
theorem d_x_tellOne_212 : decode prog_1_method_56_code 212 = .ok (.getfield 172, 3) := by decide +kernel
theorem d_x_tellOne_215 : decode prog_1_method_56_code 215 = .ok (.getfield 158, 3) := by decide +kernel
theorem d_x_tellOne_218 : decode prog_1_method_56_code 218 = .ok (.iload_n 1, 1) := by decide +kernel
theorem d_x_tellOne_219 : decode prog_1_method_56_code 219 = .ok (.iaload, 1) := by decide +kernel
theorem d_x_tellOne_220 : decode prog_1_method_56_code 220 = .ok (.invokevirtual 351, 3) := by decide +kernel
theorem d_x_tellOne_223 : decode prog_1_method_56_code 223 = .ok (.return_, 1) := by decide +kernel
theorem kc_x_tellOne (d : Nat) : Kw (m_w (mi_x_tellOne d )) := ⟨(in_t1 (List.mem_of_getElem? (i := 212) rfl)), rfl⟩
theorem mv_x_tellOne (d : Nat) : MV (mi_x_tellOne d ) "GuardedMoves" 1 := ⟨kw_211, ks_14, kc_x_tellOne d , kw_1, ⟨⟨(by show ("GuardedMoves" : String) ≠ "java/lang/invoke/MethodHandle"; decide), (by show ("GuardedMoves" : String) ≠ "java/lang/invoke/VarHandle"; decide)⟩, (by show (parseMethodDescriptor "(I)V").map (fun d => d.parameters.length) = some 1; decide +kernel)⟩⟩
def mi_x_tellAll (d : Nat) : Mi := ("GuardedMoves", prog_1_method_55_code, 4, [], none, 2 + 2 * d, 55 + 55 * d, 0, 0, ⟨"GuardedMoves", "tellAll", "(II)V"⟩)
theorem d_x_tellAll_0 : decode prog_1_method_55_code 0 = .ok (.iload_n 1, 1) := by decide +kernel
theorem d_x_tellAll_1 : decode prog_1_method_55_code 1 = .ok (.istore_n 3, 1) := by decide +kernel
theorem d_x_tellAll_2 : decode prog_1_method_55_code 2 = .ok (.iload_n 3, 1) := by decide +kernel
theorem d_x_tellAll_3 : decode prog_1_method_55_code 3 = .ok (.iload_n 2, 1) := by decide +kernel
theorem d_x_tellAll_4 : decode prog_1_method_55_code 4 = .ok (.if_icmp .ge 20, 3) := by decide +kernel
theorem d_x_tellAll_7 : decode prog_1_method_55_code 7 = .ok (.aload_n 0, 1) := by decide +kernel
theorem d_x_tellAll_8 : decode prog_1_method_55_code 8 = .ok (.iload_n 3, 1) := by decide +kernel
theorem d_x_tellAll_9 : decode prog_1_method_55_code 9 = .ok (.invokevirtual 336, 3) := by decide +kernel
theorem d_x_tellAll_12 : decode prog_1_method_55_code 12 = .ok (.aload_n 0, 1) := by decide +kernel
theorem d_x_tellAll_13 : decode prog_1_method_55_code 13 = .ok (.getfield 172, 3) := by decide +kernel
theorem d_x_tellAll_16 : decode prog_1_method_55_code 16 = .ok (.iload_n 3, 1) := by decide +kernel
theorem d_x_tellAll_17 : decode prog_1_method_55_code 17 = .ok (.invokevirtual 217, 3) := by decide +kernel
theorem d_x_tellAll_20 : decode prog_1_method_55_code 20 = .ok (.istore_n 3, 1) := by decide +kernel
theorem d_x_tellAll_21 : decode prog_1_method_55_code 21 = .ok (.goto (-19), 3) := by decide +kernel
theorem d_x_tellAll_24 : decode prog_1_method_55_code 24 = .ok (.return_, 1) := by decide +kernel
theorem kc_x_tellAll (d : Nat) : Kw (m_w (mi_x_tellAll d )) := ⟨(in_t1 (List.mem_of_getElem? (i := 208) rfl)), rfl⟩
theorem mv_x_tellAll (d : Nat) : MV (mi_x_tellAll d ) "GuardedMoves" 2 := ⟨kw_207, ks_13, kc_x_tellAll d , kw_1, ⟨⟨(by show ("GuardedMoves" : String) ≠ "java/lang/invoke/MethodHandle"; decide), (by show ("GuardedMoves" : String) ≠ "java/lang/invoke/VarHandle"; decide)⟩, (by show (parseMethodDescriptor "(II)V").map (fun d => d.parameters.length) = some 2; decide +kernel)⟩⟩
def w_x_tellOne_223 (RA : Int32 → Int32 → Sg → (Sg → Prop) → (Nat → Sg → Prop) → Prop) (Q : Sg → Prop) (E : Nat → Sg → Prop) (σ : Sg) : Prop := Q σ
theorem b_x_tellOne_223 {Δ : Ly} {G : Gm} {d : Nat} {RA : Int32 → Int32 → Sg → (Sg → Prop) → (Nat → Sg → Prop) → Prop} {Q : Sg → Prop} {E : Nat → Sg → Prop} (cx : Cx Δ G (mi_x_tellOne d)) (hRA : ∀ (p1 : Int32) (p2 : Int32) (σ : Sg) (Q : Sg → Prop) (E : Nat → Sg → Prop) , RA p1 p2 σ Q E → Ct (g_l G) Δ (mi_x_tellAll d) [.ref (Δ.1 0), .int p1, .int p2] σ (qV Q) E) : ∀ (σ : Sg), w_x_tellOne_223 RA Q E σ → Y Δ G (mi_x_tellOne d) (qV Q) E 0 0 σ 223 [] [] := by
  intro σ h
  unfold w_x_tellOne_223 at h
  exact y_vret cx (pc := 223) rfl d_x_tellOne_223 (le_b rfl) (le_b rfl) h
def w_x_tellOne (RA : Int32 → Int32 → Sg → (Sg → Prop) → (Nat → Sg → Prop) → Prop) (p1 : Int32) (σ : Sg) (Q : Sg → Prop) (E : Nat → Sg → Prop) : Prop := w_x_first_I p1 (up σ 0 25 ((σ 0 25) + 1)) (fun x1 σ2 => w_x_second_I p1 σ2 (fun x3 σ4 => vp_in p1 60 ∧ (∀ x5 : Int32, x5 = σ4 38 (p1.toNatClampNeg) → (vp_in p1 60 ∧ (((σ4 36 (p1.toNatClampNeg)) = 0 → (vp_in x5 3016 ∧ (w_x_tellOne_223 RA Q E (up σ4 11 (x5.toNatClampNeg) x1)))) ∧ (¬ (σ4 36 (p1.toNatClampNeg)) = 0 → (((σ4 36 (p1.toNatClampNeg)) = 1 → (vp_in p1 60 ∧ (w_x_reckon (2 + (σ4 39 (p1.toNatClampNeg))) x1 x3 p1 σ4 (fun x6 σ7 => vp_in x5 3016 ∧ (w_x_tellOne_223 RA Q E (up σ7 11 (x5.toNatClampNeg) x6))) E))) ∧ (¬ (σ4 36 (p1.toNatClampNeg)) = 1 → (((σ4 36 (p1.toNatClampNeg)) = 2 → (w_x_place x1 p1 σ4 (fun x8 σ9 => vp_in x8 32 ∧ (vp_in x5 3016 ∧ (w_x_tellOne_223 RA Q E (up σ9 11 (x5.toNatClampNeg) (σ9 12 (x8.toNatClampNeg)))))) E)) ∧ (¬ (σ4 36 (p1.toNatClampNeg)) = 2 → (((σ4 36 (p1.toNatClampNeg)) = 3 → (w_x_place x1 p1 σ4 (fun x10 σ11 => vp_in x10 32 ∧ (w_x_tellOne_223 RA Q E (up σ11 12 (x10.toNatClampNeg) x3))) E)) ∧ (¬ (σ4 36 (p1.toNatClampNeg)) = 3 → (((σ4 36 (p1.toNatClampNeg)) = 4 → (w_x_tell_I x1 σ4 (fun σ12 => w_x_tellOne_223 RA Q E σ12))) ∧ (¬ (σ4 36 (p1.toNatClampNeg)) = 4 → (vp_in p1 60 ∧ (w_x_reckon (10 + (σ4 39 (p1.toNatClampNeg))) x1 x3 p1 σ4 (fun x13 σ14 => (¬ x13 = 1 → (vp_in p1 60 ∧ (vp_in p1 60 ∧ (RA (σ14 44 (p1.toNatClampNeg)) (σ14 45 (p1.toNatClampNeg)) σ14 (fun σ15 => w_x_tellOne_223 RA Q E σ15) E)))) ∧ (x13 = 1 → (vp_in p1 60 ∧ (RA (p1 + 1) (σ14 44 (p1.toNatClampNeg)) σ14 (fun σ16 => w_x_tellOne_223 RA Q E σ16) E)))) E))))))))))))))))
theorem b_x_tellOne {Δ : Ly} {G : Gm} {d : Nat} {RA : Int32 → Int32 → Sg → (Sg → Prop) → (Nat → Sg → Prop) → Prop} {Q : Sg → Prop} {E : Nat → Sg → Prop} (cx : Cx Δ G (mi_x_tellOne d)) (hRA : ∀ (p1 : Int32) (p2 : Int32) (σ : Sg) (Q : Sg → Prop) (E : Nat → Sg → Prop) , RA p1 p2 σ Q E → Ct (g_l G) Δ (mi_x_tellAll d) [.ref (Δ.1 0), .int p1, .int p2] σ (qV Q) E) (p1 : Int32) (σ : Sg) (h : w_x_tellOne RA p1 σ Q E) : Y Δ G (mi_x_tellOne d) (qV Q) E 0 0 σ 0 [(0, .ref (Δ.1 0)), (1, .int p1)] [] := by
  unfold w_x_tellOne at h
  refine y_aload_n cx (pc := 0) d_x_tellOne_0 rfl 0 rfl ?_
  refine y_dup cx (pc := 1) rfl d_x_tellOne_1 ?_
  refine y_get cx (pc := 2) (j := 25) (v := .int (σ 0 25)) (le_b rfl) ck_GM kw_422 (le_b rfl) (gf_0_25 Δ _) d_x_tellOne_2 ?_
  refine y_iconst cx (pc := 5) ic_1 d_x_tellOne_5 ?_
  refine y_iadd cx (pc := 6) d_x_tellOne_6 ?_
  refine y_put cx (pc := 7) (j := 25) (ty := .int) (le_b rfl) ck_GM kw_422 (le_b rfl) rfl (t_GM_ok 25 (le_b rfl)) rfl rfl (pf_0_25 Δ) d_x_tellOne_7 ?_
  refine y_aload_n cx (pc := 10) d_x_tellOne_10 rfl 0 rfl ?_
  refine y_iload_n cx (pc := 11) d_x_tellOne_11 rfl 1 rfl ?_
  refine y_vI cx (pc := 12) (st := []) [.int p1] (c_x_first_I cx.fl Δ p1 _ _ h) mv_x_first_I kw_213 (oc_0 Δ) ck_GM rfl (le_b rfl) (by show 0 + 1 ≤ 2 + 2 * d + 1; omega) (by show 12 + (2 + 11) + (0) ≤ 55 + 55 * d + 27; omega) (le_b rfl) (le_b rfl) d_x_tellOne_12 (fun x1 σ2 h => ?_) (fun x σ2 h => yt_no h)
  refine y_istore_n (lv' := [(2, .int x1), (0, .ref (Δ.1 0)), (1, .int p1)]) cx (pc := 15) d_x_tellOne_15 rfl (le_b rfl) rfl ?_
  refine y_aload_n cx (pc := 16) d_x_tellOne_16 rfl 1 rfl ?_
  refine y_iload_n cx (pc := 17) d_x_tellOne_17 rfl 2 rfl ?_
  refine y_vI cx (pc := 18) (st := []) [.int p1] (c_x_second_I cx.fl Δ p1 _ _ h) mv_x_second_I kw_217 (oc_0 Δ) ck_GM rfl (le_b rfl) (by show 0 + 1 ≤ 2 + 2 * d + 1; omega) (by show 12 + (2 + 11) + (0) ≤ 55 + 55 * d + 27; omega) (le_b rfl) (le_b rfl) d_x_tellOne_18 (fun x3 σ4 h => ?_) (fun x σ4 h => yt_no h)
  refine y_istore_n (lv' := [(3, .int x3), (2, .int x1), (0, .ref (Δ.1 0)), (1, .int p1)]) cx (pc := 21) d_x_tellOne_21 rfl (le_b rfl) rfl ?_
  refine y_aload_n cx (pc := 22) d_x_tellOne_22 rfl 2 rfl ?_
  refine y_get cx (pc := 23) (j := 0) (v := .ref (Δ.1 1)) (le_b rfl) ck_GM kw_397 (le_b rfl) (gf_0_0 Δ _) d_x_tellOne_23 ?_
  refine y_getN cx (pc := 26) (j := 3) (v := .ref (Δ.1 38)) (le_b rfl) ck_Tx kw_262 (le_b rfl) (gf_1_3 Δ _) d_x_tellOne_26 ?_
  refine y_iload_n cx (pc := 29) d_x_tellOne_29 rfl 3 rfl ?_
  obtain ⟨h0, h⟩ := h
  refine y_iald cx (pc := 30) ⟨(le_b rfl), fun _ => rfl⟩ h0 d_x_tellOne_30 ?_
  refine y_topi (fun x5 ex5 => ?_)
  replace h := h x5 ex5
  refine y_istore (lv' := [(4, .int x5), (3, .int x3), (2, .int x1), (0, .ref (Δ.1 0)), (1, .int p1)]) cx (pc := 31) d_x_tellOne_31 (le_b rfl) rfl ?_
  refine y_aload_n cx (pc := 33) d_x_tellOne_33 rfl 3 rfl ?_
  refine y_get cx (pc := 34) (j := 0) (v := .ref (Δ.1 1)) (le_b rfl) ck_GM kw_397 (le_b rfl) (gf_0_0 Δ _) d_x_tellOne_34 ?_
  refine y_getN cx (pc := 37) (j := 1) (v := .ref (Δ.1 36)) (le_b rfl) ck_Tx kw_258 (le_b rfl) (gf_1_1 Δ _) d_x_tellOne_37 ?_
  refine y_iload_n cx (pc := 40) d_x_tellOne_40 rfl 4 rfl ?_
  obtain ⟨h0, h⟩ := h
  refine y_iald cx (pc := 41) ⟨(le_b rfl), fun _ => rfl⟩ h0 d_x_tellOne_41 ?_
  by_cases hc0 : (σ4 36 (p1.toNatClampNeg)) = 0
  · replace h := h.1 hc0
    refine y_tIn cx (pc := 42) (tgt := 76) (c := 0) d_x_tellOne_42 hc0 (by decide) (by decide) rfl (by decide) ?_
    refine y_aload_n cx (pc := 76) d_x_tellOne_76 rfl 3 rfl ?_
    refine y_get cx (pc := 77) (j := 20) (v := .ref (Δ.1 11)) (le_b rfl) ck_GM kw_417 (le_b rfl) (gf_0_20 Δ _) d_x_tellOne_77 ?_
    refine y_iload cx (pc := 80) d_x_tellOne_80 0 rfl ?_
    refine y_iload_n cx (pc := 82) d_x_tellOne_82 rfl 2 rfl ?_
    obtain ⟨h0, h⟩ := h
    refine y_iast cx (pc := 83) ⟨(le_b rfl), fun _ => rfl⟩ h0 d_x_tellOne_83 ?_
    refine y_goto cx (pc := 84) (tgt := 223) d_x_tellOne_84 (by decide) ?_
    refine y_sub [] rfl ?_
    exact b_x_tellOne_223 cx hRA (up σ4 11 (x5.toNatClampNeg) x1) h
  replace h := h.2 hc0
  by_cases hc1 : (σ4 36 (p1.toNatClampNeg)) = 1
  · replace h := h.1 hc1
    refine y_tIn cx (pc := 42) (tgt := 87) (c := 1) d_x_tellOne_42 hc1 (by decide) (by decide) rfl (by decide) ?_
    refine y_aload_n cx (pc := 87) d_x_tellOne_87 rfl 3 rfl ?_
    refine y_get cx (pc := 88) (j := 20) (v := .ref (Δ.1 11)) (le_b rfl) ck_GM kw_417 (le_b rfl) (gf_0_20 Δ _) d_x_tellOne_88 ?_
    refine y_iload cx (pc := 91) d_x_tellOne_91 0 rfl ?_
    refine y_aload_n cx (pc := 93) d_x_tellOne_93 rfl 3 rfl ?_
    refine y_iconst cx (pc := 94) ic_2 d_x_tellOne_94 ?_
    refine y_aload_n cx (pc := 95) d_x_tellOne_95 rfl 3 rfl ?_
    refine y_get cx (pc := 96) (j := 0) (v := .ref (Δ.1 1)) (le_b rfl) ck_GM kw_397 (le_b rfl) (gf_0_0 Δ _) d_x_tellOne_96 ?_
    refine y_getN cx (pc := 99) (j := 4) (v := .ref (Δ.1 39)) (le_b rfl) ck_Tx kw_264 (le_b rfl) (gf_1_4 Δ _) d_x_tellOne_99 ?_
    refine y_iload_n cx (pc := 102) d_x_tellOne_102 rfl 4 rfl ?_
    obtain ⟨h0, h⟩ := h
    refine y_iald cx (pc := 103) ⟨(le_b rfl), fun _ => rfl⟩ h0 d_x_tellOne_103 ?_
    refine y_iadd cx (pc := 104) d_x_tellOne_104 ?_
    refine y_iload_n cx (pc := 105) d_x_tellOne_105 rfl 2 rfl ?_
    refine y_iload_n cx (pc := 106) d_x_tellOne_106 rfl 1 rfl ?_
    refine y_iload_n cx (pc := 107) d_x_tellOne_107 rfl 4 rfl ?_
    refine y_vI cx (pc := 108) (st := [.int x5, .ref (Δ.1 11)]) [.int (2 + (σ4 39 (p1.toNatClampNeg))), .int x1, .int x3, .int p1] (c_x_reckon cx.fl Δ (2 + (σ4 39 (p1.toNatClampNeg))) x1 x3 p1 _ _ _ h) mv_x_reckon kw_221 (oc_0 Δ) ck_GM rfl (le_b rfl) (by show 1 + 1 ≤ 2 + 2 * d + 1; omega) (by show 12 + (5 + 11) + (26) ≤ 55 + 55 * d + 27; omega) (le_b rfl) (le_b rfl) d_x_tellOne_108 (fun x6 σ7 h => ?_) (fun x σ7 h => ?_)
    ·
      obtain ⟨h0, h⟩ := h
      refine y_iast cx (pc := 111) ⟨(le_b rfl), fun _ => rfl⟩ h0 d_x_tellOne_111 ?_
      refine y_goto cx (pc := 112) (tgt := 223) d_x_tellOne_112 (by decide) ?_
      refine y_sub [] rfl ?_
      exact b_x_tellOne_223 cx hRA (up σ7 11 (x5.toNatClampNeg) x6) h
    ·
      exact t_out cx rfl (le_b rfl) (le_b rfl) h
  replace h := h.2 hc1
  by_cases hc2 : (σ4 36 (p1.toNatClampNeg)) = 2
  · replace h := h.1 hc2
    refine y_tIn cx (pc := 42) (tgt := 115) (c := 2) d_x_tellOne_42 hc2 (by decide) (by decide) rfl (by decide) ?_
    refine y_aload_n cx (pc := 115) d_x_tellOne_115 rfl 3 rfl ?_
    refine y_get cx (pc := 116) (j := 20) (v := .ref (Δ.1 11)) (le_b rfl) ck_GM kw_417 (le_b rfl) (gf_0_20 Δ _) d_x_tellOne_116 ?_
    refine y_iload cx (pc := 119) d_x_tellOne_119 0 rfl ?_
    refine y_aload_n cx (pc := 121) d_x_tellOne_121 rfl 3 rfl ?_
    refine y_get cx (pc := 122) (j := 21) (v := .ref (Δ.1 12)) (le_b rfl) ck_GM kw_418 (le_b rfl) (gf_0_21 Δ _) d_x_tellOne_122 ?_
    refine y_aload_n cx (pc := 125) d_x_tellOne_125 rfl 3 rfl ?_
    refine y_iload_n cx (pc := 126) d_x_tellOne_126 rfl 2 rfl ?_
    refine y_iload_n cx (pc := 127) d_x_tellOne_127 rfl 4 rfl ?_
    refine y_vI cx (pc := 128) (st := [.ref (Δ.1 12), .int x5, .ref (Δ.1 11)]) [.int x1, .int p1] (c_x_place cx.fl Δ x1 p1 _ _ _ h) mv_x_place kw_229 (oc_0 Δ) ck_GM rfl (le_b rfl) (by show 1 + 1 ≤ 2 + 2 * d + 1; omega) (by show 12 + (3 + 11) + (29) ≤ 55 + 55 * d + 27; omega) (le_b rfl) (le_b rfl) d_x_tellOne_128 (fun x8 σ9 h => ?_) (fun x σ9 h => ?_)
    ·
      obtain ⟨h0, h⟩ := h
      refine y_iald cx (pc := 131) ⟨(le_b rfl), fun _ => rfl⟩ h0 d_x_tellOne_131 ?_
      obtain ⟨h0, h⟩ := h
      refine y_iast cx (pc := 132) ⟨(le_b rfl), fun _ => rfl⟩ h0 d_x_tellOne_132 ?_
      refine y_goto cx (pc := 133) (tgt := 223) d_x_tellOne_133 (by decide) ?_
      refine y_sub [] rfl ?_
      exact b_x_tellOne_223 cx hRA (up σ9 11 (x5.toNatClampNeg) (σ9 12 (x8.toNatClampNeg))) h
    ·
      exact t_out cx rfl (le_b rfl) (le_b rfl) h
  replace h := h.2 hc2
  by_cases hc3 : (σ4 36 (p1.toNatClampNeg)) = 3
  · replace h := h.1 hc3
    refine y_tIn cx (pc := 42) (tgt := 136) (c := 3) d_x_tellOne_42 hc3 (by decide) (by decide) rfl (by decide) ?_
    refine y_aload_n cx (pc := 136) d_x_tellOne_136 rfl 3 rfl ?_
    refine y_get cx (pc := 137) (j := 21) (v := .ref (Δ.1 12)) (le_b rfl) ck_GM kw_418 (le_b rfl) (gf_0_21 Δ _) d_x_tellOne_137 ?_
    refine y_aload_n cx (pc := 140) d_x_tellOne_140 rfl 3 rfl ?_
    refine y_iload_n cx (pc := 141) d_x_tellOne_141 rfl 2 rfl ?_
    refine y_iload_n cx (pc := 142) d_x_tellOne_142 rfl 4 rfl ?_
    refine y_vI cx (pc := 143) (st := [.ref (Δ.1 12)]) [.int x1, .int p1] (c_x_place cx.fl Δ x1 p1 _ _ _ h) mv_x_place kw_229 (oc_0 Δ) ck_GM rfl (le_b rfl) (by show 1 + 1 ≤ 2 + 2 * d + 1; omega) (by show 12 + (3 + 11) + (29) ≤ 55 + 55 * d + 27; omega) (le_b rfl) (le_b rfl) d_x_tellOne_143 (fun x10 σ11 h => ?_) (fun x σ11 h => ?_)
    ·
      refine y_iload_n cx (pc := 146) d_x_tellOne_146 rfl 1 rfl ?_
      obtain ⟨h0, h⟩ := h
      refine y_iast cx (pc := 147) ⟨(le_b rfl), fun _ => rfl⟩ h0 d_x_tellOne_147 ?_
      refine y_goto cx (pc := 148) (tgt := 223) d_x_tellOne_148 (by decide) ?_
      refine y_sub [] rfl ?_
      exact b_x_tellOne_223 cx hRA (up σ11 12 (x10.toNatClampNeg) x3) h
    ·
      exact t_out cx rfl (le_b rfl) (le_b rfl) h
  replace h := h.2 hc3
  by_cases hc4 : (σ4 36 (p1.toNatClampNeg)) = 4
  · replace h := h.1 hc4
    refine y_tIn cx (pc := 42) (tgt := 151) (c := 4) d_x_tellOne_42 hc4 (by decide) (by decide) rfl (by decide) ?_
    refine y_aload_n cx (pc := 151) d_x_tellOne_151 rfl 3 rfl ?_
    refine y_iload_n cx (pc := 152) d_x_tellOne_152 rfl 2 rfl ?_
    refine y_vV cx (pc := 153) (st := []) [.int x1] (c_x_tell_I cx.fl Δ x1 _ _ h) mv_x_tell_I kw_234 (oc_0 Δ) ck_GM rfl (le_b rfl) (by show 0 + 1 ≤ 2 + 2 * d + 1; omega) (by show 12 + (2 + 11) + (0) ≤ 55 + 55 * d + 27; omega) (le_b rfl) (le_b rfl) d_x_tellOne_153 (fun σ12 h => ?_) (fun x σ12 h => yt_no h)
    refine y_goto cx (pc := 156) (tgt := 223) d_x_tellOne_156 (by decide) ?_
    refine y_sub [] rfl ?_
    exact b_x_tellOne_223 cx hRA σ12 h
  replace h := h.2 hc4
  refine y_tOut cx (pc := 42) (tgt := 159) d_x_tellOne_42 (by have z0 := lv_neT hc0 (show (0 : Int32).toInt = 0 from rfl); have z1 := lv_neT hc1 (show (1 : Int32).toInt = 1 from rfl); have z2 := lv_neT hc2 (show (2 : Int32).toInt = 2 from rfl); have z3 := lv_neT hc3 (show (3 : Int32).toInt = 3 from rfl); have z4 := lv_neT hc4 (show (4 : Int32).toInt = 4 from rfl); omega) (by decide) ?_
  refine y_aload_n cx (pc := 159) d_x_tellOne_159 rfl 3 rfl ?_
  refine y_bipush cx (pc := 160) bp_10 d_x_tellOne_160 ?_
  refine y_aload_n cx (pc := 162) d_x_tellOne_162 rfl 3 rfl ?_
  refine y_get cx (pc := 163) (j := 0) (v := .ref (Δ.1 1)) (le_b rfl) ck_GM kw_397 (le_b rfl) (gf_0_0 Δ _) d_x_tellOne_163 ?_
  refine y_getN cx (pc := 166) (j := 4) (v := .ref (Δ.1 39)) (le_b rfl) ck_Tx kw_264 (le_b rfl) (gf_1_4 Δ _) d_x_tellOne_166 ?_
  refine y_iload_n cx (pc := 169) d_x_tellOne_169 rfl 4 rfl ?_
  obtain ⟨h0, h⟩ := h
  refine y_iald cx (pc := 170) ⟨(le_b rfl), fun _ => rfl⟩ h0 d_x_tellOne_170 ?_
  refine y_iadd cx (pc := 171) d_x_tellOne_171 ?_
  refine y_iload_n cx (pc := 172) d_x_tellOne_172 rfl 2 rfl ?_
  refine y_iload_n cx (pc := 173) d_x_tellOne_173 rfl 1 rfl ?_
  refine y_iload_n cx (pc := 174) d_x_tellOne_174 rfl 4 rfl ?_
  refine y_vI cx (pc := 175) (st := []) [.int (10 + (σ4 39 (p1.toNatClampNeg))), .int x1, .int x3, .int p1] (c_x_reckon cx.fl Δ (10 + (σ4 39 (p1.toNatClampNeg))) x1 x3 p1 _ _ _ h) mv_x_reckon kw_221 (oc_0 Δ) ck_GM rfl (le_b rfl) (by show 1 + 1 ≤ 2 + 2 * d + 1; omega) (by show 12 + (5 + 11) + (26) ≤ 55 + 55 * d + 27; omega) (le_b rfl) (le_b rfl) d_x_tellOne_175 (fun x13 σ14 h => ?_) (fun x σ14 h => ?_)
  ·
    refine y_iconst cx (pc := 178) ic_1 d_x_tellOne_178 ?_
    refine y_icmp_ne cx (pc := 179) (tgt := 201) d_x_tellOne_179 (by decide) (fun hc => ?_) (fun hc => ?_)
    · replace h := h.1 hc
      refine y_aload_n cx (pc := 201) d_x_tellOne_201 rfl 3 rfl ?_
      refine y_aload_n cx (pc := 202) d_x_tellOne_202 rfl 3 rfl ?_
      refine y_get cx (pc := 203) (j := 0) (v := .ref (Δ.1 1)) (le_b rfl) ck_GM kw_397 (le_b rfl) (gf_0_0 Δ _) d_x_tellOne_203 ?_
      refine y_getN cx (pc := 206) (j := 9) (v := .ref (Δ.1 44)) (le_b rfl) ck_Tx kw_274 (le_b rfl) (gf_1_9 Δ _) d_x_tellOne_206 ?_
      refine y_iload_n cx (pc := 209) d_x_tellOne_209 rfl 4 rfl ?_
      obtain ⟨h0, h⟩ := h
      refine y_iald cx (pc := 210) ⟨(le_b rfl), fun _ => rfl⟩ h0 d_x_tellOne_210 ?_
      refine y_aload_n cx (pc := 211) d_x_tellOne_211 rfl 3 rfl ?_
      refine y_get cx (pc := 212) (j := 0) (v := .ref (Δ.1 1)) (le_b rfl) ck_GM kw_397 (le_b rfl) (gf_0_0 Δ _) d_x_tellOne_212 ?_
      refine y_getN cx (pc := 215) (j := 10) (v := .ref (Δ.1 45)) (le_b rfl) ck_Tx kw_276 (le_b rfl) (gf_1_10 Δ _) d_x_tellOne_215 ?_
      refine y_iload_n cx (pc := 218) d_x_tellOne_218 rfl 4 rfl ?_
      obtain ⟨h0, h⟩ := h
      refine y_iald cx (pc := 219) ⟨(le_b rfl), fun _ => rfl⟩ h0 d_x_tellOne_219 ?_
      refine y_vV cx (pc := 220) (st := []) [.int (σ14 44 (p1.toNatClampNeg)), .int (σ14 45 (p1.toNatClampNeg))] (hRA (σ14 44 (p1.toNatClampNeg)) (σ14 45 (p1.toNatClampNeg)) _ _ _ h) (mv_x_tellAll d) kw_205 (oc_0 Δ) ck_GM rfl (le_b rfl) (by show 2 + 2 * d + 1 ≤ 2 + 2 * d + 1; omega) (by show 12 + (4 + 11) + (55 + 55 * d) ≤ 55 + 55 * d + 27; omega) (le_b rfl) (le_b rfl) d_x_tellOne_220 (fun σ15 h => ?_) (fun x σ15 h => ?_)
      ·
        refine y_sub [] rfl ?_
        exact b_x_tellOne_223 cx hRA σ15 h
      ·
        exact t_out cx rfl (le_b rfl) (le_b rfl) h
    · replace h := h.2 hc
      refine y_aload_n cx (pc := 182) d_x_tellOne_182 rfl 3 rfl ?_
      refine y_iload_n cx (pc := 183) d_x_tellOne_183 rfl 4 rfl ?_
      refine y_iconst cx (pc := 184) ic_1 d_x_tellOne_184 ?_
      refine y_iadd cx (pc := 185) d_x_tellOne_185 ?_
      refine y_aload_n cx (pc := 186) d_x_tellOne_186 rfl 3 rfl ?_
      refine y_get cx (pc := 187) (j := 0) (v := .ref (Δ.1 1)) (le_b rfl) ck_GM kw_397 (le_b rfl) (gf_0_0 Δ _) d_x_tellOne_187 ?_
      refine y_getN cx (pc := 190) (j := 9) (v := .ref (Δ.1 44)) (le_b rfl) ck_Tx kw_274 (le_b rfl) (gf_1_9 Δ _) d_x_tellOne_190 ?_
      refine y_iload_n cx (pc := 193) d_x_tellOne_193 rfl 4 rfl ?_
      obtain ⟨h0, h⟩ := h
      refine y_iald cx (pc := 194) ⟨(le_b rfl), fun _ => rfl⟩ h0 d_x_tellOne_194 ?_
      refine y_vV cx (pc := 195) (st := []) [.int (p1 + 1), .int (σ14 44 (p1.toNatClampNeg))] (hRA (p1 + 1) (σ14 44 (p1.toNatClampNeg)) _ _ _ h) (mv_x_tellAll d) kw_205 (oc_0 Δ) ck_GM rfl (le_b rfl) (by show 2 + 2 * d + 1 ≤ 2 + 2 * d + 1; omega) (by show 12 + (4 + 11) + (55 + 55 * d) ≤ 55 + 55 * d + 27; omega) (le_b rfl) (le_b rfl) d_x_tellOne_195 (fun σ16 h => ?_) (fun x σ16 h => ?_)
      ·
        refine y_goto cx (pc := 198) (tgt := 223) d_x_tellOne_198 (by decide) ?_
        refine y_sub [] rfl ?_
        exact b_x_tellOne_223 cx hRA σ16 h
      ·
        exact t_out cx rfl (le_b rfl) (le_b rfl) h
  ·
    exact t_out cx rfl (le_b rfl) (le_b rfl) h
theorem c_x_tellOne {l : Launch} (hfl : l.flags = flags0) (Δ : Ly) (RA : Int32 → Int32 → Sg → (Sg → Prop) → (Nat → Sg → Prop) → Prop) (d : Nat) (hRA : ∀ (p1 : Int32) (p2 : Int32) (σ : Sg) (Q : Sg → Prop) (E : Nat → Sg → Prop) , RA p1 p2 σ Q E → Ct l Δ (mi_x_tellAll d) [.ref (Δ.1 0), .int p1, .int p2] σ (qV Q) E) (p1 : Int32) (σ : Sg) (Q : Sg → Prop) (E : Nat → Sg → Prop) (h : w_x_tellOne RA p1 σ Q E) : Ct l Δ (mi_x_tellOne d) [.ref (Δ.1 0), .int p1] σ (qV Q) E :=
  Ct.of hfl (by show plainFor ⟨"GuardedMoves", "tellOne", "(I)V"⟩ = true; decide +kernel) rfl (le_b rfl) (fun G hl cx => by subst hl; exact b_x_tellOne cx hRA p1 σ h)
def w_x_tellAll_2 (RA : Int32 → Int32 → Sg → (Sg → Prop) → (Nat → Sg → Prop) → Prop) (Q : Sg → Prop) (E : Nat → Sg → Prop) : Nat → Int32 → Int32 → Sg → Prop
  | 0, _, _, _ => False
  | n + 1, v2, v3, σ => (v2 ≤ v3 → (Q σ)) ∧ (¬ v2 ≤ v3 → (w_x_tellOne RA v3 σ (fun σ1 => w_t_next v3 σ1 (fun x2 σ3 => (w_x_tellAll_2 RA Q E n) v2 x2 σ3)) E))
theorem b_x_tellAll_2 {Δ : Ly} {G : Gm} {d : Nat} {RA : Int32 → Int32 → Sg → (Sg → Prop) → (Nat → Sg → Prop) → Prop} {Q : Sg → Prop} {E : Nat → Sg → Prop} (cx : Cx Δ G (mi_x_tellAll (d + 1))) (hRA : ∀ (p1 : Int32) (p2 : Int32) (σ : Sg) (Q : Sg → Prop) (E : Nat → Sg → Prop) , RA p1 p2 σ Q E → Ct (g_l G) Δ (mi_x_tellAll d) [.ref (Δ.1 0), .int p1, .int p2] σ (qV Q) E) : ∀ (n : Nat) (v2 : Int32) (v3 : Int32) (σ : Sg), w_x_tellAll_2 RA Q E n v2 v3 σ → Y Δ G (mi_x_tellAll (d + 1)) (qV Q) E 0 0 σ 2 [(0, .ref (Δ.1 0)), (2, .int v2), (3, .int v3)] [] := by
  intro n
  induction n with
  | zero => intro v2 v3 σ h; exact h.elim
  | succ n ih =>
    intro v2 v3 σ h
    unfold w_x_tellAll_2 at h
    refine y_iload_n cx (pc := 2) d_x_tellAll_2 rfl 2 rfl ?_
    refine y_iload_n cx (pc := 3) d_x_tellAll_3 rfl 1 rfl ?_
    refine y_icmp_ge cx (pc := 4) (tgt := 24) d_x_tellAll_4 (by decide) (fun hc => ?_) (fun hc => ?_)
    · replace h := h.1 hc
      exact y_vret cx (pc := 24) rfl d_x_tellAll_24 (le_b rfl) (le_b rfl) h
    · replace h := h.2 hc
      refine y_aload_n cx (pc := 7) d_x_tellAll_7 rfl 0 rfl ?_
      refine y_iload_n cx (pc := 8) d_x_tellAll_8 rfl 2 rfl ?_
      refine y_vV cx (pc := 9) (st := []) [.int v3] (c_x_tellOne cx.fl Δ RA d hRA v3 _ _ _ h) (mv_x_tellOne d) kw_209 (oc_0 Δ) ck_GM rfl (le_b rfl) (by show 2 + 2 * d + 1 + 1 ≤ 2 + 2 * (d + 1); omega) (by show 12 + (5 + 11) + (55 + 55 * d + 27) ≤ 55 + 55 * (d + 1); omega) (le_b rfl) (le_b rfl) d_x_tellAll_9 (fun σ1 h => ?_) (fun x σ1 h => ?_)
      ·
        refine y_aload_n cx (pc := 12) d_x_tellAll_12 rfl 0 rfl ?_
        refine y_get cx (pc := 13) (j := 0) (v := .ref (Δ.1 1)) (le_b rfl) ck_GM kw_397 (le_b rfl) (gf_0_0 Δ _) d_x_tellAll_13 ?_
        refine y_iload_n cx (pc := 16) d_x_tellAll_16 rfl 2 rfl ?_
        refine y_vI cx (pc := 17) (st := []) [.int v3] (c_t_next cx.fl Δ v3 _ _ h) mv_t_next kw_238 (oc_1 Δ) ck_Tx rfl (le_b rfl) (by show 0 + 1 ≤ 2 + 2 * (d + 1); omega) (by show 12 + (2 + 11) + (0) ≤ 55 + 55 * (d + 1); omega) (le_b rfl) (le_b rfl) d_x_tellAll_17 (fun x2 σ3 h => ?_) (fun x σ3 h => yt_no h)
        refine y_istore_n (lv' := [(3, .int x2), (0, .ref (Δ.1 0)), (2, .int v2)]) cx (pc := 20) d_x_tellAll_20 rfl (le_b rfl) rfl ?_
        refine y_goto cx (pc := 21) (tgt := 2) d_x_tellAll_21 (by decide) ?_
        refine y_sub [1, 2, 0] rfl ?_
        exact ih v2 x2 σ3 h
      ·
        exact t_out cx rfl (le_b rfl) (le_b rfl) h
def w_x_tellAll_s (RA : Int32 → Int32 → Sg → (Sg → Prop) → (Nat → Sg → Prop) → Prop) (p1 : Int32) (p2 : Int32) (σ : Sg) (Q : Sg → Prop) (E : Nat → Sg → Prop) : Prop := ∃ q2, w_x_tellAll_2 RA Q E q2 p2 p1 σ
def w_x_tellAll : Nat → Int32 → Int32 → Sg → (Sg → Prop) → (Nat → Sg → Prop) → Prop
  | 0, _, _, _, _, _ => False
  | d + 1, p1, p2, σ, Q, E => w_x_tellAll_s (w_x_tellAll d) p1 p2 σ Q E
theorem b_x_tellAll {Δ : Ly} {G : Gm} {d : Nat} {RA : Int32 → Int32 → Sg → (Sg → Prop) → (Nat → Sg → Prop) → Prop} {Q : Sg → Prop} {E : Nat → Sg → Prop} (cx : Cx Δ G (mi_x_tellAll (d + 1))) (hRA : ∀ (p1 : Int32) (p2 : Int32) (σ : Sg) (Q : Sg → Prop) (E : Nat → Sg → Prop) , RA p1 p2 σ Q E → Ct (g_l G) Δ (mi_x_tellAll d) [.ref (Δ.1 0), .int p1, .int p2] σ (qV Q) E) (p1 : Int32) (p2 : Int32) (σ : Sg) (h : w_x_tellAll_s RA p1 p2 σ Q E) : Y Δ G (mi_x_tellAll (d + 1)) (qV Q) E 0 0 σ 0 [(0, .ref (Δ.1 0)), (1, .int p1), (2, .int p2)] [] := by
  unfold w_x_tellAll_s at h
  refine y_iload_n cx (pc := 0) d_x_tellAll_0 rfl 1 rfl ?_
  refine y_istore_n (lv' := [(3, .int p1), (0, .ref (Δ.1 0)), (1, .int p1), (2, .int p2)]) cx (pc := 1) d_x_tellAll_1 rfl (le_b rfl) rfl ?_
  refine y_sub [1, 3, 0] rfl ?_
  obtain ⟨n, h⟩ := h
  exact b_x_tellAll_2 cx hRA n p2 p1 σ h
theorem c_x_tellAll {l : Launch} (hfl : l.flags = flags0) (Δ : Ly) : ∀ (d : Nat) (p1 : Int32) (p2 : Int32) (σ : Sg) (Q : Sg → Prop) (E : Nat → Sg → Prop) (_ : w_x_tellAll d p1 p2 σ Q E), Ct l Δ (mi_x_tellAll d) [.ref (Δ.1 0), .int p1, .int p2] σ (qV Q) E := by
  intro d
  induction d with
  | zero => intro p1 p2 σ Q E h; exact h.elim
  | succ d ih =>
    intro p1 p2 σ Q E h
    refine Ct.of hfl (by show plainFor ⟨"GuardedMoves", "tellAll", "(II)V"⟩ = true; decide +kernel) rfl (le_b rfl) (fun G hl cx => ?_)
    subst hl
    exact b_x_tellAll cx ih p1 p2 σ h
def mi_x_tell_ : Mi := ("GuardedMoves", prog_1_method_57_code, 2, [(4, 17, 18, 307)], (some .int), 127, 3492, 0, 0, ⟨"GuardedMoves", "tell", "()I"⟩)
theorem d_x_tell__0 : decode prog_1_method_57_code 0 = .ok (.aload_n 0, 1) := by decide +kernel
theorem d_x_tell__1 : decode prog_1_method_57_code 1 = .ok (.invokevirtual 354, 3) := by decide +kernel
theorem d_x_tell__4 : decode prog_1_method_57_code 4 = .ok (.aload_n 0, 1) := by decide +kernel
theorem d_x_tell__5 : decode prog_1_method_57_code 5 = .ok (.iconst 0, 1) := by decide +kernel
theorem d_x_tell__6 : decode prog_1_method_57_code 6 = .ok (.aload_n 0, 1) := by decide +kernel
theorem d_x_tell__7 : decode prog_1_method_57_code 7 = .ok (.getfield 172, 3) := by decide +kernel
theorem d_x_tell__10 : decode prog_1_method_57_code 10 = .ok (.getfield 106, 3) := by decide +kernel
theorem d_x_tell__13 : decode prog_1_method_57_code 13 = .ok (.invokevirtual 351, 3) := by decide +kernel
theorem d_x_tell__16 : decode prog_1_method_57_code 16 = .ok (.iconst 0, 1) := by decide +kernel
theorem d_x_tell__17 : decode prog_1_method_57_code 17 = .ok (.ireturn, 1) := by decide +kernel
theorem d_x_tell__18 : decode prog_1_method_57_code 18 = .ok (.astore_n 1, 1) := by decide +kernel
theorem d_x_tell__19 : decode prog_1_method_57_code 19 = .ok (.aload_n 0, 1) := by decide +kernel
theorem d_x_tell__20 : decode prog_1_method_57_code 20 = .ok (.aload_n 1, 1) := by decide +kernel
theorem d_x_tell__21 : decode prog_1_method_57_code 21 = .ok (.getfield 311, 3) := by decide +kernel
theorem d_x_tell__24 : decode prog_1_method_57_code 24 = .ok (.putfield 323, 3) := by decide +kernel
theorem d_x_tell__27 : decode prog_1_method_57_code 27 = .ok (.aload_n 1, 1) := by decide +kernel
theorem d_x_tell__28 : decode prog_1_method_57_code 28 = .ok (.getfield 306, 3) := by decide +kernel
theorem d_x_tell__31 : decode prog_1_method_57_code 31 = .ok (.ireturn, 1) := by decide +kernel
theorem kc_x_tell_ : Kw (m_w (mi_x_tell_ )) := ⟨(in_t1 (List.mem_of_getElem? (i := 199) rfl)), rfl⟩
theorem mv_x_tell_ : MV (mi_x_tell_ ) "GuardedMoves" 0 := ⟨kw_197, kw_198, kc_x_tell_ , kw_1, ⟨⟨(by show ("GuardedMoves" : String) ≠ "java/lang/invoke/MethodHandle"; decide), (by show ("GuardedMoves" : String) ≠ "java/lang/invoke/VarHandle"; decide)⟩, (by show (parseMethodDescriptor "()I").map (fun d => d.parameters.length) = some 0; decide +kernel)⟩⟩
def w_x_tell__18 (Q : Int32 → Sg → Prop) (σ : Sg) : Prop := Q (σ 4 5) (up σ 0 24 (σ 4 6))
theorem b_x_tell__18 {Δ : Ly} {G : Gm} {Q : Int32 → Sg → Prop} (cx : Cx Δ G mi_x_tell_) : ∀ (σ : Sg), w_x_tell__18 Q σ → Y Δ G mi_x_tell_ (qI Q) noE 0 0 σ 18 [(0, .ref (Δ.1 0))] [.ref (Δ.1 4)] := by
  intro σ h
  unfold w_x_tell__18 at h
  refine y_astore_n (lv' := [(1, .ref (Δ.1 4)), (0, .ref (Δ.1 0))]) cx (pc := 18) d_x_tell__18 rfl (le_b rfl) rfl ?_
  refine y_aload_n cx (pc := 19) d_x_tell__19 rfl 1 rfl ?_
  refine y_aload_n cx (pc := 20) d_x_tell__20 rfl 0 rfl ?_
  refine y_getN cx (pc := 21) (j := 6) (v := .int (σ 4 6)) (le_b rfl) ck_En kw_390 (le_b rfl) (gf_4_6 Δ _) d_x_tell__21 ?_
  refine y_put cx (pc := 24) (j := 24) (ty := .int) (le_b rfl) ck_GM kw_421 (le_b rfl) rfl (t_GM_ok 24 (le_b rfl)) rfl rfl (pf_0_24 Δ) d_x_tell__24 ?_
  refine y_aload_n cx (pc := 27) d_x_tell__27 rfl 0 rfl ?_
  refine y_getN cx (pc := 28) (j := 5) (v := .int (σ 4 5)) (le_b rfl) ck_En kw_389 (le_b rfl) (gf_4_5 Δ _) d_x_tell__28 ?_
  exact y_iret cx (pc := 31) rfl d_x_tell__31 (le_b rfl) (le_b rfl) h
def w_x_tell_ (σ : Sg) (Q : Int32 → Sg → Prop) : Prop := w_x_beginRun σ (fun σ1 => w_x_tellAll 62 0 (σ1 1 0) σ1 (fun σ2 => Q 0 σ2) (fun x σ2 => (x = 1 ∧ (w_x_tell__18 Q σ2))))
theorem b_x_tell_ {Δ : Ly} {G : Gm} {Q : Int32 → Sg → Prop} (cx : Cx Δ G mi_x_tell_) (σ : Sg) (h : w_x_tell_ σ Q) : Y Δ G mi_x_tell_ (qI Q) noE 0 0 σ 0 [(0, .ref (Δ.1 0))] [] := by
  unfold w_x_tell_ at h
  refine y_aload_n cx (pc := 0) d_x_tell__0 rfl 0 rfl ?_
  refine y_vV cx (pc := 1) (st := []) [] (c_x_beginRun cx.fl Δ _ _ h) mv_x_beginRun kw_201 (oc_0 Δ) ck_GM rfl (le_b rfl) (le_b rfl) (le_b rfl) (le_b rfl) (le_b rfl) d_x_tell__1 (fun σ1 h => ?_) (fun x σ1 h => yt_no h)
  refine y_aload_n cx (pc := 4) d_x_tell__4 rfl 0 rfl ?_
  refine y_iconst cx (pc := 5) ic_0 d_x_tell__5 ?_
  refine y_aload_n cx (pc := 6) d_x_tell__6 rfl 0 rfl ?_
  refine y_get cx (pc := 7) (j := 0) (v := .ref (Δ.1 1)) (le_b rfl) ck_GM kw_397 (le_b rfl) (gf_0_0 Δ _) d_x_tell__7 ?_
  refine y_getN cx (pc := 10) (j := 0) (v := .int (σ1 1 0)) (le_b rfl) ck_Tx kw_256 (le_b rfl) (gf_1_0 Δ _) d_x_tell__10 ?_
  refine y_vV cx (pc := 13) (st := []) [.int 0, .int (σ1 1 0)] (c_x_tellAll cx.fl Δ 62 0 (σ1 1 0) _ _ _ h) (mv_x_tellAll 62) kw_205 (oc_0 Δ) ck_GM rfl (le_b rfl) (le_b rfl) (le_b rfl) (le_b rfl) (le_b rfl) d_x_tell__13 (fun σ2 h => ?_) (fun x σ2 h => ?_)
  ·
    refine y_iconst cx (pc := 16) ic_0 d_x_tell__16 ?_
    exact y_iret cx (pc := 17) rfl d_x_tell__17 (le_b rfl) (le_b rfl) h
  ·
    obtain ⟨rfl, h⟩ := h
    refine t_catch1 cx rfl (le_b rfl) (le_b rfl) (by decide) kw_200 (fun a ha hb => ?_)
    obtain rfl := hb rfl
    exact b_x_tell__18 cx σ2 h
theorem c_x_tell_ {l : Launch} (hfl : l.flags = flags0) (Δ : Ly) (σ : Sg) (Q : Int32 → Sg → Prop) (h : w_x_tell_ σ Q) : Ct l Δ mi_x_tell_ [.ref (Δ.1 0)] σ (qI Q) noE :=
  Ct.of hfl (by show plainFor ⟨"GuardedMoves", "tell", "()I"⟩ = true; decide +kernel) rfl (le_b rfl) (fun G hl cx => b_x_tell_ cx σ h)
def mi_x_variable : Mi := ("GuardedMoves", prog_1_method_46_code, 3, [], none, 9, 224, 1, 6, ⟨"GuardedMoves", "variable", "(II)V"⟩)
theorem d_x_variable_0 : decode prog_1_method_46_code 0 = .ok (.iload_n 1, 1) := by decide +kernel
theorem d_x_variable_1 : decode prog_1_method_46_code 1 = .ok (.i2l, 1) := by decide +kernel
theorem d_x_variable_2 : decode prog_1_method_46_code 2 = .ok (.lconst 0, 1) := by decide +kernel
theorem d_x_variable_3 : decode prog_1_method_46_code 3 = .ok (.ldc2_w 296, 3) := by decide +kernel
theorem d_x_variable_6 : decode prog_1_method_46_code 6 = .ok (.invokestatic 42, 3) := by decide +kernel
theorem d_x_variable_9 : decode prog_1_method_46_code 9 = .ok (.invokestatic 286, 3) := by decide +kernel
theorem d_x_variable_12 : decode prog_1_method_46_code 12 = .ok (.aload_n 0, 1) := by decide +kernel
theorem d_x_variable_13 : decode prog_1_method_46_code 13 = .ok (.getfield 298, 3) := by decide +kernel
theorem d_x_variable_16 : decode prog_1_method_46_code 16 = .ok (.iload_n 1, 1) := by decide +kernel
theorem d_x_variable_17 : decode prog_1_method_46_code 17 = .ok (.iload_n 2, 1) := by decide +kernel
theorem d_x_variable_18 : decode prog_1_method_46_code 18 = .ok (.iastore, 1) := by decide +kernel
theorem d_x_variable_19 : decode prog_1_method_46_code 19 = .ok (.return_, 1) := by decide +kernel
theorem kc_x_variable : Kw (m_w (mi_x_variable )) := ⟨(in_t3 (List.mem_of_getElem? (i := 36) rfl)), rfl⟩
theorem mv_x_variable : MV (mi_x_variable ) "GuardedMoves" 2 := ⟨kw_514, kw_515, kc_x_variable , kw_1, ⟨⟨(by show ("GuardedMoves" : String) ≠ "java/lang/invoke/MethodHandle"; decide), (by show ("GuardedMoves" : String) ≠ "java/lang/invoke/VarHandle"; decide)⟩, (by show (parseMethodDescriptor "(II)V").map (fun d => d.parameters.length) = some 2; decide +kernel)⟩⟩
def w_x_variable (p1 : Int32) (p2 : Int32) (σ : Sg) (Q : Sg → Prop) (E : Nat → Sg → Prop) : Prop := w_x_within (p1.toInt64) 0 15 σ (fun x1 σ2 => w_x_wantIndex x1 σ2 (fun σ3 => vp_in p1 16 ∧ (Q (up σ3 9 (p1.toNatClampNeg) p2))) E)
theorem b_x_variable {Δ : Ly} {G : Gm} {Q : Sg → Prop} {E : Nat → Sg → Prop} (cx : Cx Δ G mi_x_variable) (p1 : Int32) (p2 : Int32) (σ : Sg) (h : w_x_variable p1 p2 σ Q E) : Y Δ G mi_x_variable (qV Q) E 0 0 σ 0 [(0, .ref (Δ.1 0)), (1, .int p1), (2, .int p2)] [] := by
  unfold w_x_variable at h
  refine y_iload_n cx (pc := 0) d_x_variable_0 rfl 1 rfl ?_
  refine y_i2l cx (pc := 1) d_x_variable_1 ?_
  refine y_lconst cx (pc := 2) (v := 0) lc_0 d_x_variable_2 ?_
  refine y_ldc2 cx (pc := 3) kw_517 d_x_variable_3 ?_
  refine y_sI cx (pc := 6) (st := []) [.long (p1.toInt64), .long 0, .long 15] (c_x_within cx.fl Δ (p1.toInt64) 0 15 _ _ h) mv_x_within kw_41 rfl (le_b rfl) (le_b rfl) (le_b rfl) (le_b rfl) (le_b rfl) d_x_variable_6 (fun x1 σ2 h => ?_) (fun x σ2 h => yt_no h)
  refine y_sV cx (pc := 9) (st := []) [.int x1] (c_x_wantIndex cx.fl Δ x1 _ _ _ h) mv_x_wantIndex kw_518 rfl (le_b rfl) (le_b rfl) (le_b rfl) (le_b rfl) (le_b rfl) d_x_variable_9 (fun σ3 h => ?_) (fun x σ3 h => ?_)
  ·
    refine y_aload_n cx (pc := 12) d_x_variable_12 rfl 0 rfl ?_
    refine y_get cx (pc := 13) (j := 18) (v := .ref (Δ.1 9)) (le_b rfl) ck_GM kw_415 (le_b rfl) (gf_0_18 Δ _) d_x_variable_13 ?_
    refine y_iload_n cx (pc := 16) d_x_variable_16 rfl 1 rfl ?_
    refine y_iload_n cx (pc := 17) d_x_variable_17 rfl 2 rfl ?_
    obtain ⟨h0, h⟩ := h
    refine y_iast cx (pc := 18) ⟨(le_b rfl), fun _ => rfl⟩ h0 d_x_variable_18 ?_
    exact y_vret cx (pc := 19) rfl d_x_variable_19 (le_b rfl) (le_b rfl) h
  ·
    exact t_out cx rfl (le_b rfl) (le_b rfl) h
theorem c_x_variable {l : Launch} (hfl : l.flags = flags0) (Δ : Ly) (p1 : Int32) (p2 : Int32) (σ : Sg) (Q : Sg → Prop) (E : Nat → Sg → Prop) (h : w_x_variable p1 p2 σ Q E) : Ct l Δ mi_x_variable [.ref (Δ.1 0), .int p1, .int p2] σ (qV Q) E :=
  Ct.of hfl (by show plainFor ⟨"GuardedMoves", "variable", "(II)V"⟩ = true; decide +kernel) rfl (le_b rfl) (fun G hl cx => b_x_variable cx p1 p2 σ h)
def mi_x_word : Mi := ("GuardedMoves", prog_1_method_47_code, 3, [], none, 9, 224, 1, 6, ⟨"GuardedMoves", "word", "(II)V"⟩)
theorem d_x_word_0 : decode prog_1_method_47_code 0 = .ok (.iload_n 1, 1) := by decide +kernel
theorem d_x_word_1 : decode prog_1_method_47_code 1 = .ok (.i2l, 1) := by decide +kernel
theorem d_x_word_2 : decode prog_1_method_47_code 2 = .ok (.lconst 0, 1) := by decide +kernel
theorem d_x_word_3 : decode prog_1_method_47_code 3 = .ok (.ldc2_w 256, 3) := by decide +kernel
theorem d_x_word_6 : decode prog_1_method_47_code 6 = .ok (.invokestatic 42, 3) := by decide +kernel
theorem d_x_word_9 : decode prog_1_method_47_code 9 = .ok (.invokestatic 286, 3) := by decide +kernel
theorem d_x_word_12 : decode prog_1_method_47_code 12 = .ok (.aload_n 0, 1) := by decide +kernel
theorem d_x_word_13 : decode prog_1_method_47_code 13 = .ok (.getfield 299, 3) := by decide +kernel
theorem d_x_word_16 : decode prog_1_method_47_code 16 = .ok (.iload_n 1, 1) := by decide +kernel
theorem d_x_word_17 : decode prog_1_method_47_code 17 = .ok (.iload_n 2, 1) := by decide +kernel
theorem d_x_word_18 : decode prog_1_method_47_code 18 = .ok (.iastore, 1) := by decide +kernel
theorem d_x_word_19 : decode prog_1_method_47_code 19 = .ok (.return_, 1) := by decide +kernel
theorem kc_x_word : Kw (m_w (mi_x_word )) := ⟨(in_t3 (List.mem_of_getElem? (i := 68) rfl)), rfl⟩
theorem mv_x_word : MV (mi_x_word ) "GuardedMoves" 2 := ⟨kw_546, kw_547, kc_x_word , kw_1, ⟨⟨(by show ("GuardedMoves" : String) ≠ "java/lang/invoke/MethodHandle"; decide), (by show ("GuardedMoves" : String) ≠ "java/lang/invoke/VarHandle"; decide)⟩, (by show (parseMethodDescriptor "(II)V").map (fun d => d.parameters.length) = some 2; decide +kernel)⟩⟩
def w_x_word (p1 : Int32) (p2 : Int32) (σ : Sg) (Q : Sg → Prop) (E : Nat → Sg → Prop) : Prop := w_x_within (p1.toInt64) 0 31 σ (fun x1 σ2 => w_x_wantIndex x1 σ2 (fun σ3 => vp_in p1 32 ∧ (Q (up σ3 10 (p1.toNatClampNeg) p2))) E)
theorem b_x_word {Δ : Ly} {G : Gm} {Q : Sg → Prop} {E : Nat → Sg → Prop} (cx : Cx Δ G mi_x_word) (p1 : Int32) (p2 : Int32) (σ : Sg) (h : w_x_word p1 p2 σ Q E) : Y Δ G mi_x_word (qV Q) E 0 0 σ 0 [(0, .ref (Δ.1 0)), (1, .int p1), (2, .int p2)] [] := by
  unfold w_x_word at h
  refine y_iload_n cx (pc := 0) d_x_word_0 rfl 1 rfl ?_
  refine y_i2l cx (pc := 1) d_x_word_1 ?_
  refine y_lconst cx (pc := 2) (v := 0) lc_0 d_x_word_2 ?_
  refine y_ldc2 cx (pc := 3) kw_233 d_x_word_3 ?_
  refine y_sI cx (pc := 6) (st := []) [.long (p1.toInt64), .long 0, .long 31] (c_x_within cx.fl Δ (p1.toInt64) 0 31 _ _ h) mv_x_within kw_41 rfl (le_b rfl) (le_b rfl) (le_b rfl) (le_b rfl) (le_b rfl) d_x_word_6 (fun x1 σ2 h => ?_) (fun x σ2 h => yt_no h)
  refine y_sV cx (pc := 9) (st := []) [.int x1] (c_x_wantIndex cx.fl Δ x1 _ _ _ h) mv_x_wantIndex kw_518 rfl (le_b rfl) (le_b rfl) (le_b rfl) (le_b rfl) (le_b rfl) d_x_word_9 (fun σ3 h => ?_) (fun x σ3 h => ?_)
  ·
    refine y_aload_n cx (pc := 12) d_x_word_12 rfl 0 rfl ?_
    refine y_get cx (pc := 13) (j := 19) (v := .ref (Δ.1 10)) (le_b rfl) ck_GM kw_416 (le_b rfl) (gf_0_19 Δ _) d_x_word_13 ?_
    refine y_iload_n cx (pc := 16) d_x_word_16 rfl 1 rfl ?_
    refine y_iload_n cx (pc := 17) d_x_word_17 rfl 2 rfl ?_
    obtain ⟨h0, h⟩ := h
    refine y_iast cx (pc := 18) ⟨(le_b rfl), fun _ => rfl⟩ h0 d_x_word_18 ?_
    exact y_vret cx (pc := 19) rfl d_x_word_19 (le_b rfl) (le_b rfl) h
  ·
    exact t_out cx rfl (le_b rfl) (le_b rfl) h
theorem c_x_word {l : Launch} (hfl : l.flags = flags0) (Δ : Ly) (p1 : Int32) (p2 : Int32) (σ : Sg) (Q : Sg → Prop) (E : Nat → Sg → Prop) (h : w_x_word p1 p2 σ Q E) : Ct l Δ mi_x_word [.ref (Δ.1 0), .int p1, .int p2] σ (qV Q) E :=
  Ct.of hfl (by show plainFor ⟨"GuardedMoves", "word", "(II)V"⟩ = true; decide +kernel) rfl (le_b rfl) (fun G hl cx => b_x_word cx p1 p2 σ h)
def mi_x_feed : Mi := ("GuardedMoves", prog_1_method_16_code, 5, [], (some .int), 9, 224, 2, 12, ⟨"GuardedMoves", "feed", "(JI)I"⟩)
theorem d_x_feed_0 : decode prog_1_method_16_code 0 = .ok (.iload_n 3, 1) := by decide +kernel
theorem d_x_feed_1 : decode prog_1_method_16_code 1 = .ok (.i2l, 1) := by decide +kernel
theorem d_x_feed_2 : decode prog_1_method_16_code 2 = .ok (.lconst 1, 1) := by decide +kernel
theorem d_x_feed_3 : decode prog_1_method_16_code 3 = .ok (.ldc2_w 161, 3) := by decide +kernel
theorem d_x_feed_6 : decode prog_1_method_16_code 6 = .ok (.invokestatic 42, 3) := by decide +kernel
theorem d_x_feed_9 : decode prog_1_method_16_code 9 = .ok (.invokestatic 163, 3) := by decide +kernel
theorem d_x_feed_12 : decode prog_1_method_16_code 12 = .ok (.aload_n 0, 1) := by decide +kernel
theorem d_x_feed_13 : decode prog_1_method_16_code 13 = .ok (.getfield 31, 3) := by decide +kernel
theorem d_x_feed_16 : decode prog_1_method_16_code 16 = .ok (.iload_n 3, 1) := by decide +kernel
theorem d_x_feed_17 : decode prog_1_method_16_code 17 = .ok (.iadd, 1) := by decide +kernel
theorem d_x_feed_18 : decode prog_1_method_16_code 18 = .ok (.sipush 600, 3) := by decide +kernel
theorem d_x_feed_21 : decode prog_1_method_16_code 21 = .ok (.if_icmp .gt 7, 3) := by decide +kernel
theorem d_x_feed_24 : decode prog_1_method_16_code 24 = .ok (.iconst 1, 1) := by decide +kernel
theorem d_x_feed_25 : decode prog_1_method_16_code 25 = .ok (.goto 4, 3) := by decide +kernel
theorem d_x_feed_28 : decode prog_1_method_16_code 28 = .ok (.iconst 0, 1) := by decide +kernel
theorem d_x_feed_29 : decode prog_1_method_16_code 29 = .ok (.invokestatic 166, 3) := by decide +kernel
theorem d_x_feed_32 : decode prog_1_method_16_code 32 = .ok (.iload_n 3, 1) := by decide +kernel
theorem d_x_feed_33 : decode prog_1_method_16_code 33 = .ok (.iconst 1, 1) := by decide +kernel
theorem d_x_feed_34 : decode prog_1_method_16_code 34 = .ok (.isub, 1) := by decide +kernel
theorem d_x_feed_35 : decode prog_1_method_16_code 35 = .ok (.istore 4, 2) := by decide +kernel
theorem d_x_feed_37 : decode prog_1_method_16_code 37 = .ok (.iload 4, 2) := by decide +kernel
theorem d_x_feed_39 : decode prog_1_method_16_code 39 = .ok (.ifCond .lt 34, 3) := by decide +kernel
theorem d_x_feed_42 : decode prog_1_method_16_code 42 = .ok (.aload_n 0, 1) := by decide +kernel
theorem d_x_feed_43 : decode prog_1_method_16_code 43 = .ok (.getfield 34, 3) := by decide +kernel
theorem d_x_feed_46 : decode prog_1_method_16_code 46 = .ok (.aload_n 0, 1) := by decide +kernel
theorem d_x_feed_47 : decode prog_1_method_16_code 47 = .ok (.dup, 1) := by decide +kernel
theorem d_x_feed_48 : decode prog_1_method_16_code 48 = .ok (.getfield 31, 3) := by decide +kernel
theorem d_x_feed_51 : decode prog_1_method_16_code 51 = .ok (.dup_x1, 1) := by decide +kernel
theorem d_x_feed_52 : decode prog_1_method_16_code 52 = .ok (.iconst 1, 1) := by decide +kernel
theorem d_x_feed_53 : decode prog_1_method_16_code 53 = .ok (.iadd, 1) := by decide +kernel
theorem d_x_feed_54 : decode prog_1_method_16_code 54 = .ok (.putfield 31, 3) := by decide +kernel
theorem d_x_feed_57 : decode prog_1_method_16_code 57 = .ok (.lload_n 1, 1) := by decide +kernel
theorem d_x_feed_58 : decode prog_1_method_16_code 58 = .ok (.bipush 8, 2) := by decide +kernel
theorem d_x_feed_60 : decode prog_1_method_16_code 60 = .ok (.iload 4, 2) := by decide +kernel
theorem d_x_feed_62 : decode prog_1_method_16_code 62 = .ok (.imul, 1) := by decide +kernel
theorem d_x_feed_63 : decode prog_1_method_16_code 63 = .ok (.lshr, 1) := by decide +kernel
theorem d_x_feed_64 : decode prog_1_method_16_code 64 = .ok (.l2i, 1) := by decide +kernel
theorem d_x_feed_65 : decode prog_1_method_16_code 65 = .ok (.i2b, 1) := by decide +kernel
theorem d_x_feed_66 : decode prog_1_method_16_code 66 = .ok (.bastore, 1) := by decide +kernel
theorem d_x_feed_67 : decode prog_1_method_16_code 67 = .ok (.iinc 4 (-1), 3) := by decide +kernel
theorem d_x_feed_70 : decode prog_1_method_16_code 70 = .ok (.goto (-33), 3) := by decide +kernel
theorem d_x_feed_73 : decode prog_1_method_16_code 73 = .ok (.aload_n 0, 1) := by decide +kernel
theorem d_x_feed_74 : decode prog_1_method_16_code 74 = .ok (.getfield 31, 3) := by decide +kernel
theorem d_x_feed_77 : decode prog_1_method_16_code 77 = .ok (.ireturn, 1) := by decide +kernel
theorem kc_x_feed : Kw (m_w (mi_x_feed )) := ⟨(in_t3 (List.mem_of_getElem? (i := 77) rfl)), rfl⟩
theorem mv_x_feed : MV (mi_x_feed ) "GuardedMoves" 2 := ⟨kw_555, kw_556, kc_x_feed , kw_1, ⟨⟨(by show ("GuardedMoves" : String) ≠ "java/lang/invoke/MethodHandle"; decide), (by show ("GuardedMoves" : String) ≠ "java/lang/invoke/VarHandle"; decide)⟩, (by show (parseMethodDescriptor "(JI)I").map (fun d => d.parameters.length) = some 2; decide +kernel)⟩⟩
def w_x_feed_37 (Q : Int32 → Sg → Prop) (E : Nat → Sg → Prop) : Nat → Int64 → Int32 → Sg → Prop
  | 0, _, _, _ => False
  | n + 1, v1, v4, σ => (v4 < 0 → (Q (σ 0 4) σ)) ∧ (¬ v4 < 0 → (vp_in (σ 0 4) 600 ∧ (∀ x1 : Int32, x1 = v4 + (-1) → ((w_x_feed_37 Q E n) v1 x1 (up (up σ 0 4 ((σ 0 4) + 1)) 5 ((σ 0 4).toNatClampNeg) ((((v1 >>> ((8 * v4).toInt64 &&& 63)).toInt32).toInt8.toInt32).toInt8.toInt32))))))
theorem b_x_feed_37 {Δ : Ly} {G : Gm} {Q : Int32 → Sg → Prop} {E : Nat → Sg → Prop} (cx : Cx Δ G mi_x_feed) : ∀ (n : Nat) (v1 : Int64) (v4 : Int32) (σ : Sg), w_x_feed_37 Q E n v1 v4 σ → Y Δ G mi_x_feed (qI Q) E 2 12 σ 37 [(0, .ref (Δ.1 0)), (1, .long v1), (4, .int v4)] [] := by
  intro n
  induction n with
  | zero => intro v1 v4 σ h; exact h.elim
  | succ n ih =>
    intro v1 v4 σ h
    unfold w_x_feed_37 at h
    refine y_iload cx (pc := 37) d_x_feed_37 2 rfl ?_
    refine y_if_lt cx (pc := 39) (tgt := 73) d_x_feed_39 (by decide) (fun hc => ?_) (fun hc => ?_)
    · replace h := h.1 hc
      refine y_aload_n cx (pc := 73) d_x_feed_73 rfl 0 rfl ?_
      refine y_get cx (pc := 74) (j := 4) (v := .int (σ 0 4)) (le_b rfl) ck_GM kw_401 (le_b rfl) (gf_0_4 Δ _) d_x_feed_74 ?_
      exact y_iret cx (pc := 77) rfl d_x_feed_77 (le_b rfl) (le_b rfl) h
    · replace h := h.2 hc
      refine y_aload_n cx (pc := 42) d_x_feed_42 rfl 0 rfl ?_
      refine y_get cx (pc := 43) (j := 3) (v := .ref (Δ.1 5)) (le_b rfl) ck_GM kw_400 (le_b rfl) (gf_0_3 Δ _) d_x_feed_43 ?_
      refine y_aload_n cx (pc := 46) d_x_feed_46 rfl 0 rfl ?_
      refine y_dup cx (pc := 47) rfl d_x_feed_47 ?_
      refine y_get cx (pc := 48) (j := 4) (v := .int (σ 0 4)) (le_b rfl) ck_GM kw_401 (le_b rfl) (gf_0_4 Δ _) d_x_feed_48 ?_
      refine y_dup_x1 cx (pc := 51) rfl rfl d_x_feed_51 ?_
      refine y_iconst cx (pc := 52) ic_1 d_x_feed_52 ?_
      refine y_iadd cx (pc := 53) d_x_feed_53 ?_
      refine y_put cx (pc := 54) (j := 4) (ty := .int) (le_b rfl) ck_GM kw_401 (le_b rfl) rfl (t_GM_ok 4 (le_b rfl)) rfl rfl (pf_0_4 Δ) d_x_feed_54 ?_
      refine y_lload_n cx (pc := 57) d_x_feed_57 rfl 1 rfl ?_
      refine y_bipush cx (pc := 58) bp_8 d_x_feed_58 ?_
      refine y_iload cx (pc := 60) d_x_feed_60 2 rfl ?_
      refine y_imul cx (pc := 62) d_x_feed_62 ?_
      refine y_lshr cx (pc := 63) d_x_feed_63 ?_
      refine y_l2i cx (pc := 64) d_x_feed_64 ?_
      refine y_i2b cx (pc := 65) d_x_feed_65 ?_
      obtain ⟨h0, h⟩ := h
      refine y_bast cx (pc := 66) ⟨(le_b rfl), fun _ => rfl⟩ h0 d_x_feed_66 ?_
      obtain ⟨x1, ex1⟩ : ∃ y : Int32, y = v4 + (-1) := ⟨_, rfl⟩
      replace h := h x1 ex1
      refine y_iinc (v := x1) (lv' := [(4, .int x1), (0, .ref (Δ.1 0)), (1, .long v1)]) cx (pc := 67) d_x_feed_67 (j := 2) rfl (by rw [ex1]; rfl) (le_b rfl) rfl ?_
      refine y_goto cx (pc := 70) (tgt := 37) d_x_feed_70 (by decide) ?_
      refine y_sub [1, 2, 0] rfl ?_
      exact ih v1 x1 (up (up σ 0 4 ((σ 0 4) + 1)) 5 ((σ 0 4).toNatClampNeg) ((((v1 >>> ((8 * v4).toInt64 &&& 63)).toInt32).toInt8.toInt32).toInt8.toInt32)) h
def w_x_feed_29 (Q : Int32 → Sg → Prop) (E : Nat → Sg → Prop) (v1 : Int64) (v3 : Int32) (s0 : Int32) (σ : Sg) : Prop := w_x_wantState s0 σ (fun σ1 => ∀ x2 : Int32, x2 = v3 - 1 → (∃ q37, w_x_feed_37 Q E q37 v1 x2 σ1)) E
theorem b_x_feed_29 {Δ : Ly} {G : Gm} {Q : Int32 → Sg → Prop} {E : Nat → Sg → Prop} (cx : Cx Δ G mi_x_feed) : ∀ (v1 : Int64) (v3 : Int32) (s0 : Int32) (σ : Sg), w_x_feed_29 Q E v1 v3 s0 σ → Y Δ G mi_x_feed (qI Q) E 1 6 σ 29 [(0, .ref (Δ.1 0)), (1, .long v1), (3, .int v3)] [.int s0] := by
  intro v1 v3 s0 σ h
  unfold w_x_feed_29 at h
  refine y_sV cx (pc := 29) (st := []) [.int s0] (c_x_wantState cx.fl Δ s0 _ _ _ h) mv_x_wantState kw_577 rfl (le_b rfl) (le_b rfl) (le_b rfl) (le_b rfl) (le_b rfl) d_x_feed_29 (fun σ1 h => ?_) (fun x σ1 h => ?_)
  ·
    refine y_iload_n cx (pc := 32) d_x_feed_32 rfl 2 rfl ?_
    refine y_iconst cx (pc := 33) ic_1 d_x_feed_33 ?_
    refine y_isub cx (pc := 34) d_x_feed_34 ?_
    refine y_topi (fun x2 ex2 => ?_)
    replace h := h x2 ex2
    refine y_istore (lv' := [(4, .int x2), (0, .ref (Δ.1 0)), (1, .long v1), (3, .int v3)]) cx (pc := 35) d_x_feed_35 (le_b rfl) rfl ?_
    refine y_sub [1, 2, 0] rfl ?_
    obtain ⟨n, h⟩ := h
    exact b_x_feed_37 cx n v1 x2 σ1 h
  ·
    exact t_out cx rfl (le_b rfl) (le_b rfl) h
def w_x_feed (p1 : Int64) (p2 : Int32) (σ : Sg) (Q : Int32 → Sg → Prop) (E : Nat → Sg → Prop) : Prop := w_x_within (p2.toInt64) 1 8 σ (fun x1 σ2 => w_x_want_Z x1 σ2 (fun σ3 => (600 < ((σ3 0 4) + p2) → (w_x_feed_29 Q E p1 p2 0 σ3)) ∧ (¬ 600 < ((σ3 0 4) + p2) → (w_x_feed_29 Q E p1 p2 1 σ3))) E)
theorem b_x_feed {Δ : Ly} {G : Gm} {Q : Int32 → Sg → Prop} {E : Nat → Sg → Prop} (cx : Cx Δ G mi_x_feed) (p1 : Int64) (p2 : Int32) (σ : Sg) (h : w_x_feed p1 p2 σ Q E) : Y Δ G mi_x_feed (qI Q) E 0 0 σ 0 [(0, .ref (Δ.1 0)), (1, .long p1), (3, .int p2)] [] := by
  unfold w_x_feed at h
  refine y_iload_n cx (pc := 0) d_x_feed_0 rfl 2 rfl ?_
  refine y_i2l cx (pc := 1) d_x_feed_1 ?_
  refine y_lconst cx (pc := 2) (v := 1) lc_1 d_x_feed_2 ?_
  refine y_ldc2 cx (pc := 3) kw_558 d_x_feed_3 ?_
  refine y_sI cx (pc := 6) (st := []) [.long (p2.toInt64), .long 1, .long 8] (c_x_within cx.fl Δ (p2.toInt64) 1 8 _ _ h) mv_x_within kw_41 rfl (le_b rfl) (le_b rfl) (le_b rfl) (le_b rfl) (le_b rfl) d_x_feed_6 (fun x1 σ2 h => ?_) (fun x σ2 h => yt_no h)
  refine y_sV cx (pc := 9) (st := []) [.int x1] (c_x_want_Z cx.fl Δ x1 _ _ _ h) mv_x_want_Z kw_559 rfl (le_b rfl) (le_b rfl) (le_b rfl) (le_b rfl) (le_b rfl) d_x_feed_9 (fun σ3 h => ?_) (fun x σ3 h => ?_)
  ·
    refine y_aload_n cx (pc := 12) d_x_feed_12 rfl 0 rfl ?_
    refine y_get cx (pc := 13) (j := 4) (v := .int (σ3 0 4)) (le_b rfl) ck_GM kw_401 (le_b rfl) (gf_0_4 Δ _) d_x_feed_13 ?_
    refine y_iload_n cx (pc := 16) d_x_feed_16 rfl 2 rfl ?_
    refine y_iadd cx (pc := 17) d_x_feed_17 ?_
    refine y_sipush cx (pc := 18) sp_600 d_x_feed_18 ?_
    refine y_icmp_gt cx (pc := 21) (tgt := 28) d_x_feed_21 (by decide) (fun hc => ?_) (fun hc => ?_)
    · replace h := h.1 hc
      refine y_iconst cx (pc := 28) ic_0 d_x_feed_28 ?_
      exact b_x_feed_29 cx p1 p2 0 σ3 h
    · replace h := h.2 hc
      refine y_iconst cx (pc := 24) ic_1 d_x_feed_24 ?_
      refine y_goto cx (pc := 25) (tgt := 29) d_x_feed_25 (by decide) ?_
      exact b_x_feed_29 cx p1 p2 1 σ3 h
  ·
    exact t_out cx rfl (le_b rfl) (le_b rfl) h
theorem c_x_feed {l : Launch} (hfl : l.flags = flags0) (Δ : Ly) (p1 : Int64) (p2 : Int32) (σ : Sg) (Q : Int32 → Sg → Prop) (E : Nat → Sg → Prop) (h : w_x_feed p1 p2 σ Q E) : Ct l Δ mi_x_feed [.ref (Δ.1 0), .long p1, .int p2] σ (qI Q) E :=
  Ct.of hfl (by show plainFor ⟨"GuardedMoves", "feed", "(JI)I"⟩ = true; decide +kernel) rfl (le_b rfl) (fun G hl cx => b_x_feed cx p1 p2 σ h)
def mi_x_stepsOf : Mi := ("GuardedMoves", prog_1_method_44_code, 4, [], (some .int), 0, 0, 0, 0, ⟨"GuardedMoves", "stepsOf", "(I)I"⟩)
theorem d_x_stepsOf_0 : decode prog_1_method_44_code 0 = .ok (.iconst 0, 1) := by decide +kernel
theorem d_x_stepsOf_1 : decode prog_1_method_44_code 1 = .ok (.istore_n 2, 1) := by decide +kernel
theorem d_x_stepsOf_2 : decode prog_1_method_44_code 2 = .ok (.iconst 0, 1) := by decide +kernel
theorem d_x_stepsOf_3 : decode prog_1_method_44_code 3 = .ok (.istore_n 3, 1) := by decide +kernel
theorem d_x_stepsOf_4 : decode prog_1_method_44_code 4 = .ok (.iload_n 3, 1) := by decide +kernel
theorem d_x_stepsOf_5 : decode prog_1_method_44_code 5 = .ok (.aload_n 0, 1) := by decide +kernel
theorem d_x_stepsOf_6 : decode prog_1_method_44_code 6 = .ok (.getfield 183, 3) := by decide +kernel
theorem d_x_stepsOf_9 : decode prog_1_method_44_code 9 = .ok (.if_icmp .ge 27, 3) := by decide +kernel
theorem d_x_stepsOf_12 : decode prog_1_method_44_code 12 = .ok (.iload_n 2, 1) := by decide +kernel
theorem d_x_stepsOf_13 : decode prog_1_method_44_code 13 = .ok (.aload_n 0, 1) := by decide +kernel
theorem d_x_stepsOf_14 : decode prog_1_method_44_code 14 = .ok (.getfield 193, 3) := by decide +kernel
theorem d_x_stepsOf_17 : decode prog_1_method_44_code 17 = .ok (.iload_n 3, 1) := by decide +kernel
theorem d_x_stepsOf_18 : decode prog_1_method_44_code 18 = .ok (.iaload, 1) := by decide +kernel
theorem d_x_stepsOf_19 : decode prog_1_method_44_code 19 = .ok (.iload_n 1, 1) := by decide +kernel
theorem d_x_stepsOf_20 : decode prog_1_method_44_code 20 = .ok (.if_icmp .ne 7, 3) := by decide +kernel
theorem d_x_stepsOf_23 : decode prog_1_method_44_code 23 = .ok (.iconst 1, 1) := by decide +kernel
theorem d_x_stepsOf_24 : decode prog_1_method_44_code 24 = .ok (.goto 4, 3) := by decide +kernel
theorem d_x_stepsOf_27 : decode prog_1_method_44_code 27 = .ok (.iconst 0, 1) := by decide +kernel
theorem d_x_stepsOf_28 : decode prog_1_method_44_code 28 = .ok (.iadd, 1) := by decide +kernel
theorem d_x_stepsOf_29 : decode prog_1_method_44_code 29 = .ok (.istore_n 2, 1) := by decide +kernel
theorem d_x_stepsOf_30 : decode prog_1_method_44_code 30 = .ok (.iinc 3 1, 3) := by decide +kernel
theorem d_x_stepsOf_33 : decode prog_1_method_44_code 33 = .ok (.goto (-29), 3) := by decide +kernel
theorem d_x_stepsOf_36 : decode prog_1_method_44_code 36 = .ok (.iload_n 2, 1) := by decide +kernel
theorem d_x_stepsOf_37 : decode prog_1_method_44_code 37 = .ok (.ireturn, 1) := by decide +kernel
theorem kc_x_stepsOf : Kw (m_w (mi_x_stepsOf )) := ⟨(in_t3 (List.mem_of_getElem? (i := 126) rfl)), rfl⟩
theorem mv_x_stepsOf : MV (mi_x_stepsOf ) "GuardedMoves" 1 := ⟨kw_605, ks_22, kc_x_stepsOf , kw_1, ⟨⟨(by show ("GuardedMoves" : String) ≠ "java/lang/invoke/MethodHandle"; decide), (by show ("GuardedMoves" : String) ≠ "java/lang/invoke/VarHandle"; decide)⟩, (by show (parseMethodDescriptor "(I)I").map (fun d => d.parameters.length) = some 1; decide +kernel)⟩⟩
def w_x_stepsOf_28 (K4 : Int32 → Int32 → Int32 → Sg → Prop) (Q : Int32 → Sg → Prop) (v1 : Int32) (v3 : Int32) (s0 : Int32) (s1 : Int32) (σ : Sg) : Prop := ∀ x1 : Int32, x1 = s1 + s0 → (∀ x2 : Int32, x2 = v3 + 1 → (K4 v1 x1 x2 σ))
theorem b_x_stepsOf_28 {Δ : Ly} {G : Gm} {K4 : Int32 → Int32 → Int32 → Sg → Prop} {Q : Int32 → Sg → Prop} (cx : Cx Δ G mi_x_stepsOf) (hK4 : ∀ (v1 : Int32) (v2 : Int32) (v3 : Int32) (σ : Sg), K4 v1 v2 v3 σ → Y Δ G mi_x_stepsOf (qI Q) noE 0 0 σ 4 [(0, .ref (Δ.1 0)), (1, .int v1), (2, .int v2), (3, .int v3)] []) : ∀ (v1 : Int32) (v3 : Int32) (s0 : Int32) (s1 : Int32) (σ : Sg), w_x_stepsOf_28 K4 Q v1 v3 s0 s1 σ → Y Δ G mi_x_stepsOf (qI Q) noE 0 0 σ 28 [(0, .ref (Δ.1 0)), (1, .int v1), (3, .int v3)] [.int s0, .int s1] := by
  intro v1 v3 s0 s1 σ h
  unfold w_x_stepsOf_28 at h
  refine y_iadd cx (pc := 28) d_x_stepsOf_28 ?_
  refine y_topi (fun x1 ex1 => ?_)
  replace h := h x1 ex1
  refine y_istore_n (lv' := [(2, .int x1), (0, .ref (Δ.1 0)), (1, .int v1), (3, .int v3)]) cx (pc := 29) d_x_stepsOf_29 rfl (le_b rfl) rfl ?_
  obtain ⟨x2, ex2⟩ : ∃ y : Int32, y = v3 + 1 := ⟨_, rfl⟩
  replace h := h x2 ex2
  refine y_iinc (v := x2) (lv' := [(3, .int x2), (2, .int x1), (0, .ref (Δ.1 0)), (1, .int v1)]) cx (pc := 30) d_x_stepsOf_30 (j := 3) rfl (by rw [ex2]; rfl) (le_b rfl) rfl ?_
  refine y_goto cx (pc := 33) (tgt := 4) d_x_stepsOf_33 (by decide) ?_
  refine y_sub [2, 3, 1, 0] rfl ?_
  exact hK4 v1 x1 x2 σ h
def w_x_stepsOf_4 (Q : Int32 → Sg → Prop) : Nat → Int32 → Int32 → Int32 → Sg → Prop
  | 0, _, _, _, _ => False
  | n + 1, v1, v2, v3, σ => ((σ 0 12) ≤ v3 → (Q v2 σ)) ∧ (¬ (σ 0 12) ≤ v3 → (vp_in v3 3000 ∧ ((¬ (σ 7 (v3.toNatClampNeg)) = v1 → (w_x_stepsOf_28 (w_x_stepsOf_4 Q n) Q v1 v3 0 v2 σ)) ∧ ((σ 7 (v3.toNatClampNeg)) = v1 → (w_x_stepsOf_28 (w_x_stepsOf_4 Q n) Q v1 v3 1 v2 σ)))))
theorem b_x_stepsOf_4 {Δ : Ly} {G : Gm} {Q : Int32 → Sg → Prop} (cx : Cx Δ G mi_x_stepsOf) : ∀ (n : Nat) (v1 : Int32) (v2 : Int32) (v3 : Int32) (σ : Sg), w_x_stepsOf_4 Q n v1 v2 v3 σ → Y Δ G mi_x_stepsOf (qI Q) noE 0 0 σ 4 [(0, .ref (Δ.1 0)), (1, .int v1), (2, .int v2), (3, .int v3)] [] := by
  intro n
  induction n with
  | zero => intro v1 v2 v3 σ h; exact h.elim
  | succ n ih =>
    intro v1 v2 v3 σ h
    unfold w_x_stepsOf_4 at h
    refine y_iload_n cx (pc := 4) d_x_stepsOf_4 rfl 3 rfl ?_
    refine y_aload_n cx (pc := 5) d_x_stepsOf_5 rfl 0 rfl ?_
    refine y_get cx (pc := 6) (j := 12) (v := .int (σ 0 12)) (le_b rfl) ck_GM kw_409 (le_b rfl) (gf_0_12 Δ _) d_x_stepsOf_6 ?_
    refine y_icmp_ge cx (pc := 9) (tgt := 36) d_x_stepsOf_9 (by decide) (fun hc => ?_) (fun hc => ?_)
    · replace h := h.1 hc
      refine y_iload_n cx (pc := 36) d_x_stepsOf_36 rfl 2 rfl ?_
      exact y_iret cx (pc := 37) rfl d_x_stepsOf_37 (le_b rfl) (le_b rfl) h
    · replace h := h.2 hc
      refine y_iload_n cx (pc := 12) d_x_stepsOf_12 rfl 2 rfl ?_
      refine y_aload_n cx (pc := 13) d_x_stepsOf_13 rfl 0 rfl ?_
      refine y_get cx (pc := 14) (j := 11) (v := .ref (Δ.1 7)) (le_b rfl) ck_GM kw_408 (le_b rfl) (gf_0_11 Δ _) d_x_stepsOf_14 ?_
      refine y_iload_n cx (pc := 17) d_x_stepsOf_17 rfl 3 rfl ?_
      obtain ⟨h0, h⟩ := h
      refine y_iald cx (pc := 18) ⟨(le_b rfl), fun _ => rfl⟩ h0 d_x_stepsOf_18 ?_
      refine y_iload_n cx (pc := 19) d_x_stepsOf_19 rfl 1 rfl ?_
      refine y_icmp_ne cx (pc := 20) (tgt := 27) d_x_stepsOf_20 (by decide) (fun hc => ?_) (fun hc => ?_)
      · replace h := h.1 hc
        refine y_iconst cx (pc := 27) ic_0 d_x_stepsOf_27 ?_
        refine y_sub [0, 1, 3] rfl ?_
        exact b_x_stepsOf_28 cx ih v1 v3 0 v2 σ h
      · replace h := h.2 hc
        refine y_iconst cx (pc := 23) ic_1 d_x_stepsOf_23 ?_
        refine y_goto cx (pc := 24) (tgt := 28) d_x_stepsOf_24 (by decide) ?_
        refine y_sub [0, 1, 3] rfl ?_
        exact b_x_stepsOf_28 cx ih v1 v3 1 v2 σ h
def w_x_stepsOf (p1 : Int32) (σ : Sg) (Q : Int32 → Sg → Prop) : Prop := ∃ q4, w_x_stepsOf_4 Q q4 p1 0 0 σ
theorem b_x_stepsOf {Δ : Ly} {G : Gm} {Q : Int32 → Sg → Prop} (cx : Cx Δ G mi_x_stepsOf) (p1 : Int32) (σ : Sg) (h : w_x_stepsOf p1 σ Q) : Y Δ G mi_x_stepsOf (qI Q) noE 0 0 σ 0 [(0, .ref (Δ.1 0)), (1, .int p1)] [] := by
  unfold w_x_stepsOf at h
  refine y_iconst cx (pc := 0) ic_0 d_x_stepsOf_0 ?_
  refine y_istore_n (lv' := [(2, .int 0), (0, .ref (Δ.1 0)), (1, .int p1)]) cx (pc := 1) d_x_stepsOf_1 rfl (le_b rfl) rfl ?_
  refine y_iconst cx (pc := 2) ic_0 d_x_stepsOf_2 ?_
  refine y_istore_n (lv' := [(3, .int 0), (2, .int 0), (0, .ref (Δ.1 0)), (1, .int p1)]) cx (pc := 3) d_x_stepsOf_3 rfl (le_b rfl) rfl ?_
  refine y_sub [2, 3, 1, 0] rfl ?_
  obtain ⟨n, h⟩ := h
  exact b_x_stepsOf_4 cx n p1 0 0 σ h
theorem c_x_stepsOf {l : Launch} (hfl : l.flags = flags0) (Δ : Ly) (p1 : Int32) (σ : Sg) (Q : Int32 → Sg → Prop) (h : w_x_stepsOf p1 σ Q) : Ct l Δ mi_x_stepsOf [.ref (Δ.1 0), .int p1] σ (qI Q) noE :=
  Ct.of hfl (by show plainFor ⟨"GuardedMoves", "stepsOf", "(I)I"⟩ = true; decide +kernel) rfl (le_b rfl) (fun G hl cx => b_x_stepsOf cx p1 σ h)

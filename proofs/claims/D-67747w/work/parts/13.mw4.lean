def mi_m_endFirst : Mi := ("GuardedMovesModel", prog_6_method_31_code, 7, [], none, 2, 58, 0, 0, ⟨"GuardedMovesModel", "endFirst", "(I)V"⟩)
theorem d_m_endFirst_0 : decode prog_6_method_31_code 0 = .ok (.aload_n 0, 1) := by decide +kernel
theorem d_m_endFirst_1 : decode prog_6_method_31_code 1 = .ok (.getfield 57, 3) := by decide +kernel
theorem d_m_endFirst_4 : decode prog_6_method_31_code 4 = .ok (.iload_n 1, 1) := by decide +kernel
theorem d_m_endFirst_5 : decode prog_6_method_31_code 5 = .ok (.iaload, 1) := by decide +kernel
theorem d_m_endFirst_6 : decode prog_6_method_31_code 6 = .ok (.istore_n 2, 1) := by decide +kernel
theorem d_m_endFirst_7 : decode prog_6_method_31_code 7 = .ok (.aload_n 0, 1) := by decide +kernel
theorem d_m_endFirst_8 : decode prog_6_method_31_code 8 = .ok (.getfield 34, 3) := by decide +kernel
theorem d_m_endFirst_11 : decode prog_6_method_31_code 11 = .ok (.iload_n 2, 1) := by decide +kernel
theorem d_m_endFirst_12 : decode prog_6_method_31_code 12 = .ok (.iaload, 1) := by decide +kernel
theorem d_m_endFirst_13 : decode prog_6_method_31_code 13 = .ok (.aload_n 0, 1) := by decide +kernel
theorem d_m_endFirst_14 : decode prog_6_method_31_code 14 = .ok (.getfield 31, 3) := by decide +kernel
theorem d_m_endFirst_17 : decode prog_6_method_31_code 17 = .ok (.iload_n 2, 1) := by decide +kernel
theorem d_m_endFirst_18 : decode prog_6_method_31_code 18 = .ok (.iaload, 1) := by decide +kernel
theorem d_m_endFirst_19 : decode prog_6_method_31_code 19 = .ok (.if_icmp .le 7, 3) := by decide +kernel
theorem d_m_endFirst_22 : decode prog_6_method_31_code 22 = .ok (.iconst 1, 1) := by decide +kernel
theorem d_m_endFirst_23 : decode prog_6_method_31_code 23 = .ok (.goto 4, 3) := by decide +kernel
theorem d_m_endFirst_26 : decode prog_6_method_31_code 26 = .ok (.iconst 0, 1) := by decide +kernel
theorem d_m_endFirst_27 : decode prog_6_method_31_code 27 = .ok (.istore_n 3, 1) := by decide +kernel
theorem d_m_endFirst_28 : decode prog_6_method_31_code 28 = .ok (.aload_n 0, 1) := by decide +kernel
theorem d_m_endFirst_29 : decode prog_6_method_31_code 29 = .ok (.getfield 60, 3) := by decide +kernel
theorem d_m_endFirst_32 : decode prog_6_method_31_code 32 = .ok (.iload_n 1, 1) := by decide +kernel
theorem d_m_endFirst_33 : decode prog_6_method_31_code 33 = .ok (.iconst 1, 1) := by decide +kernel
theorem d_m_endFirst_34 : decode prog_6_method_31_code 34 = .ok (.bastore, 1) := by decide +kernel
theorem d_m_endFirst_35 : decode prog_6_method_31_code 35 = .ok (.aload_n 0, 1) := by decide +kernel
theorem d_m_endFirst_36 : decode prog_6_method_31_code 36 = .ok (.iload_n 2, 1) := by decide +kernel
theorem d_m_endFirst_37 : decode prog_6_method_31_code 37 = .ok (.putfield 202, 3) := by decide +kernel
theorem d_m_endFirst_40 : decode prog_6_method_31_code 40 = .ok (.aload_n 0, 1) := by decide +kernel
theorem d_m_endFirst_41 : decode prog_6_method_31_code 41 = .ok (.getfield 63, 3) := by decide +kernel
theorem d_m_endFirst_44 : decode prog_6_method_31_code 44 = .ok (.iload_n 1, 1) := by decide +kernel
theorem d_m_endFirst_45 : decode prog_6_method_31_code 45 = .ok (.baload, 1) := by decide +kernel
theorem d_m_endFirst_46 : decode prog_6_method_31_code 46 = .ok (.ifCond .eq 107, 3) := by decide +kernel
theorem d_m_endFirst_49 : decode prog_6_method_31_code 49 = .ok (.iconst 0, 1) := by decide +kernel
theorem d_m_endFirst_50 : decode prog_6_method_31_code 50 = .ok (.istore 4, 2) := by decide +kernel
theorem d_m_endFirst_52 : decode prog_6_method_31_code 52 = .ok (.iload 4, 2) := by decide +kernel
theorem d_m_endFirst_54 : decode prog_6_method_31_code 54 = .ok (.bipush 16, 2) := by decide +kernel
theorem d_m_endFirst_56 : decode prog_6_method_31_code 56 = .ok (.if_icmp .ge 47, 3) := by decide +kernel
theorem d_m_endFirst_59 : decode prog_6_method_31_code 59 = .ok (.aload_n 0, 1) := by decide +kernel
theorem d_m_endFirst_60 : decode prog_6_method_31_code 60 = .ok (.getfield 78, 3) := by decide +kernel
theorem d_m_endFirst_63 : decode prog_6_method_31_code 63 = .ok (.bipush 16, 2) := by decide +kernel
theorem d_m_endFirst_65 : decode prog_6_method_31_code 65 = .ok (.iload_n 1, 1) := by decide +kernel
theorem d_m_endFirst_66 : decode prog_6_method_31_code 66 = .ok (.imul, 1) := by decide +kernel
theorem d_m_endFirst_67 : decode prog_6_method_31_code 67 = .ok (.iload 4, 2) := by decide +kernel
theorem d_m_endFirst_69 : decode prog_6_method_31_code 69 = .ok (.iadd, 1) := by decide +kernel
theorem d_m_endFirst_70 : decode prog_6_method_31_code 70 = .ok (.aload_n 0, 1) := by decide +kernel
theorem d_m_endFirst_71 : decode prog_6_method_31_code 71 = .ok (.getfield 54, 3) := by decide +kernel
theorem d_m_endFirst_74 : decode prog_6_method_31_code 74 = .ok (.iload 4, 2) := by decide +kernel
theorem d_m_endFirst_76 : decode prog_6_method_31_code 76 = .ok (.iaload, 1) := by decide +kernel
theorem d_m_endFirst_77 : decode prog_6_method_31_code 77 = .ok (.iastore, 1) := by decide +kernel
theorem d_m_endFirst_78 : decode prog_6_method_31_code 78 = .ok (.aload_n 0, 1) := by decide +kernel
theorem d_m_endFirst_79 : decode prog_6_method_31_code 79 = .ok (.getfield 54, 3) := by decide +kernel
theorem d_m_endFirst_82 : decode prog_6_method_31_code 82 = .ok (.iload 4, 2) := by decide +kernel
theorem d_m_endFirst_84 : decode prog_6_method_31_code 84 = .ok (.aload_n 0, 1) := by decide +kernel
theorem d_m_endFirst_85 : decode prog_6_method_31_code 85 = .ok (.getfield 75, 3) := by decide +kernel
theorem d_m_endFirst_88 : decode prog_6_method_31_code 88 = .ok (.bipush 16, 2) := by decide +kernel
theorem d_m_endFirst_90 : decode prog_6_method_31_code 90 = .ok (.iload_n 1, 1) := by decide +kernel
theorem d_m_endFirst_91 : decode prog_6_method_31_code 91 = .ok (.imul, 1) := by decide +kernel
theorem d_m_endFirst_92 : decode prog_6_method_31_code 92 = .ok (.iload 4, 2) := by decide +kernel
theorem d_m_endFirst_94 : decode prog_6_method_31_code 94 = .ok (.iadd, 1) := by decide +kernel
theorem d_m_endFirst_95 : decode prog_6_method_31_code 95 = .ok (.iaload, 1) := by decide +kernel
theorem d_m_endFirst_96 : decode prog_6_method_31_code 96 = .ok (.iastore, 1) := by decide +kernel
theorem d_m_endFirst_97 : decode prog_6_method_31_code 97 = .ok (.iinc 4 1, 3) := by decide +kernel
theorem d_m_endFirst_100 : decode prog_6_method_31_code 100 = .ok (.goto (-48), 3) := by decide +kernel
theorem d_m_endFirst_103 : decode prog_6_method_31_code 103 = .ok (.iload_n 3, 1) := by decide +kernel
theorem d_m_endFirst_104 : decode prog_6_method_31_code 104 = .ok (.ifCond .eq 48, 3) := by decide +kernel
theorem d_m_endFirst_107 : decode prog_6_method_31_code 107 = .ok (.aload_n 0, 1) := by decide +kernel
theorem d_m_endFirst_108 : decode prog_6_method_31_code 108 = .ok (.iconst 0, 1) := by decide +kernel
theorem d_m_endFirst_109 : decode prog_6_method_31_code 109 = .ok (.invokevirtual 216, 3) := by decide +kernel
theorem d_m_endFirst_112 : decode prog_6_method_31_code 112 = .ok (.istore 4, 2) := by decide +kernel
theorem d_m_endFirst_114 : decode prog_6_method_31_code 114 = .ok (.aload_n 0, 1) := by decide +kernel
theorem d_m_endFirst_115 : decode prog_6_method_31_code 115 = .ok (.invokevirtual 205, 3) := by decide +kernel
theorem d_m_endFirst_118 : decode prog_6_method_31_code 118 = .ok (.istore 5, 2) := by decide +kernel
theorem d_m_endFirst_120 : decode prog_6_method_31_code 120 = .ok (.aload_n 0, 1) := by decide +kernel
theorem d_m_endFirst_121 : decode prog_6_method_31_code 121 = .ok (.bipush 10, 2) := by decide +kernel
theorem d_m_endFirst_123 : decode prog_6_method_31_code 123 = .ok (.iload 5, 2) := by decide +kernel
theorem d_m_endFirst_125 : decode prog_6_method_31_code 125 = .ok (.aload_n 0, 1) := by decide +kernel
theorem d_m_endFirst_126 : decode prog_6_method_31_code 126 = .ok (.getfield 66, 3) := by decide +kernel
theorem d_m_endFirst_129 : decode prog_6_method_31_code 129 = .ok (.iload_n 1, 1) := by decide +kernel
theorem d_m_endFirst_130 : decode prog_6_method_31_code 130 = .ok (.iaload, 1) := by decide +kernel
theorem d_m_endFirst_131 : decode prog_6_method_31_code 131 = .ok (.iload 4, 2) := by decide +kernel
theorem d_m_endFirst_133 : decode prog_6_method_31_code 133 = .ok (.iconst 0, 1) := by decide +kernel
theorem d_m_endFirst_134 : decode prog_6_method_31_code 134 = .ok (.invokevirtual 208, 3) := by decide +kernel
theorem d_m_endFirst_137 : decode prog_6_method_31_code 137 = .ok (.istore 6, 2) := by decide +kernel
theorem d_m_endFirst_139 : decode prog_6_method_31_code 139 = .ok (.aload_n 0, 1) := by decide +kernel
theorem d_m_endFirst_140 : decode prog_6_method_31_code 140 = .ok (.getfield 69, 3) := by decide +kernel
theorem d_m_endFirst_143 : decode prog_6_method_31_code 143 = .ok (.iload_n 1, 1) := by decide +kernel
theorem d_m_endFirst_144 : decode prog_6_method_31_code 144 = .ok (.aload_n 0, 1) := by decide +kernel
theorem d_m_endFirst_145 : decode prog_6_method_31_code 145 = .ok (.iload_n 1, 1) := by decide +kernel
theorem d_m_endFirst_146 : decode prog_6_method_31_code 146 = .ok (.iload 5, 2) := by decide +kernel
theorem d_m_endFirst_148 : decode prog_6_method_31_code 148 = .ok (.invokevirtual 225, 3) := by decide +kernel
theorem d_m_endFirst_151 : decode prog_6_method_31_code 151 = .ok (.iastore, 1) := by decide +kernel
theorem d_m_endFirst_152 : decode prog_6_method_31_code 152 = .ok (.return_, 1) := by decide +kernel
theorem d_m_endFirst_153 : decode prog_6_method_31_code 153 = .ok (.iload_n 3, 1) := by decide +kernel
theorem d_m_endFirst_154 : decode prog_6_method_31_code 154 = .ok (.ifCond .eq 16, 3) := by decide +kernel
theorem d_m_endFirst_157 : decode prog_6_method_31_code 157 = .ok (.aload_n 0, 1) := by decide +kernel
theorem d_m_endFirst_158 : decode prog_6_method_31_code 158 = .ok (.bipush 16, 2) := by decide +kernel
theorem d_m_endFirst_160 : decode prog_6_method_31_code 160 = .ok (.iconst 0, 1) := by decide +kernel
theorem d_m_endFirst_161 : decode prog_6_method_31_code 161 = .ok (.iconst 0, 1) := by decide +kernel
theorem d_m_endFirst_162 : decode prog_6_method_31_code 162 = .ok (.iconst 0, 1) := by decide +kernel
theorem d_m_endFirst_163 : decode prog_6_method_31_code 163 = .ok (.iconst 0, 1) := by decide +kernel
theorem d_m_endFirst_164 : decode prog_6_method_31_code 164 = .ok (.invokevirtual 208, 3) := by decide +kernel
theorem d_m_endFirst_167 : decode prog_6_method_31_code 167 = .ok (.goto 4, 3) := by decide +kernel
theorem d_m_endFirst_170 : decode prog_6_method_31_code 170 = .ok (.iconst (-1), 1) := by decide +kernel
theorem d_m_endFirst_171 : decode prog_6_method_31_code 171 = .ok (.istore 4, 2) := by decide +kernel
theorem d_m_endFirst_173 : decode prog_6_method_31_code 173 = .ok (.aload_n 0, 1) := by decide +kernel
theorem d_m_endFirst_174 : decode prog_6_method_31_code 174 = .ok (.getfield 44, 3) := by decide +kernel
theorem d_m_endFirst_177 : decode prog_6_method_31_code 177 = .ok (.bipush 6, 2) := by decide +kernel
theorem d_m_endFirst_179 : decode prog_6_method_31_code 179 = .ok (.aload_n 0, 1) := by decide +kernel
theorem d_m_endFirst_180 : decode prog_6_method_31_code 180 = .ok (.getfield 72, 3) := by decide +kernel
theorem d_m_endFirst_183 : decode prog_6_method_31_code 183 = .ok (.iload_n 1, 1) := by decide +kernel
theorem d_m_endFirst_184 : decode prog_6_method_31_code 184 = .ok (.iaload, 1) := by decide +kernel
theorem d_m_endFirst_185 : decode prog_6_method_31_code 185 = .ok (.imul, 1) := by decide +kernel
theorem d_m_endFirst_186 : decode prog_6_method_31_code 186 = .ok (.iconst 2, 1) := by decide +kernel
theorem d_m_endFirst_187 : decode prog_6_method_31_code 187 = .ok (.iadd, 1) := by decide +kernel
theorem d_m_endFirst_188 : decode prog_6_method_31_code 188 = .ok (.aload_n 0, 1) := by decide +kernel
theorem d_m_endFirst_189 : decode prog_6_method_31_code 189 = .ok (.getfield 199, 3) := by decide +kernel
theorem d_m_endFirst_192 : decode prog_6_method_31_code 192 = .ok (.iastore, 1) := by decide +kernel
theorem d_m_endFirst_193 : decode prog_6_method_31_code 193 = .ok (.aload_n 0, 1) := by decide +kernel
theorem d_m_endFirst_194 : decode prog_6_method_31_code 194 = .ok (.getfield 72, 3) := by decide +kernel
theorem d_m_endFirst_197 : decode prog_6_method_31_code 197 = .ok (.iload_n 1, 1) := by decide +kernel
theorem d_m_endFirst_198 : decode prog_6_method_31_code 198 = .ok (.iload 4, 2) := by decide +kernel
theorem d_m_endFirst_200 : decode prog_6_method_31_code 200 = .ok (.iastore, 1) := by decide +kernel
theorem d_m_endFirst_201 : decode prog_6_method_31_code 201 = .ok (.return_, 1) := by decide +kernel
theorem kc_m_endFirst : Kw (m_w (mi_m_endFirst )) := ⟨(in_t5 (List.mem_of_getElem? (i := 47) rfl)), rfl⟩
theorem mv_m_endFirst : MV (mi_m_endFirst ) "GuardedMovesModel" 1 := ⟨kw_1006, ks_61, kc_m_endFirst , kw_7, ⟨⟨(by show ("GuardedMovesModel" : String) ≠ "java/lang/invoke/MethodHandle"; decide), (by show ("GuardedMovesModel" : String) ≠ "java/lang/invoke/VarHandle"; decide)⟩, (by show (parseMethodDescriptor "(I)V").map (fun d => d.parameters.length) = some 1; decide +kernel)⟩⟩
def w_m_endFirst_171 (Q : Sg → Prop) (v1 : Int32) (s0 : Int32) (σ : Sg) : Prop := vp_in v1 8 ∧ (vp_in ((6 * (σ 78 (v1.toNatClampNeg))) + 2) 24000 ∧ (vp_in v1 8 ∧ (Q (up (up σ 70 (((6 * (σ 78 (v1.toNatClampNeg))) + 2).toNatClampNeg) (σ 58 20)) 78 (v1.toNatClampNeg) s0))))
theorem b_m_endFirst_171 {Δ : Ly} {G : Gm} {Q : Sg → Prop} (cx : Cx Δ G mi_m_endFirst) : ∀ (v1 : Int32) (s0 : Int32) (σ : Sg), w_m_endFirst_171 Q v1 s0 σ → Y Δ G mi_m_endFirst (qV Q) noE 0 0 σ 171 [(0, .ref (Δ.1 58)), (1, .int v1)] [.int s0] := by
  intro v1 s0 σ h
  unfold w_m_endFirst_171 at h
  refine y_istore (lv' := [(4, .int s0), (0, .ref (Δ.1 58)), (1, .int v1)]) cx (pc := 171) d_m_endFirst_171 (le_b rfl) rfl ?_
  refine y_aload_n cx (pc := 173) d_m_endFirst_173 rfl 1 rfl ?_
  refine y_get cx (pc := 174) (j := 19) (v := .ref (Δ.1 70)) (le_b rfl) ck_Md kw_767 (le_b rfl) (gf_58_19 Δ _) d_m_endFirst_174 ?_
  refine y_bipush cx (pc := 177) bp_6 d_m_endFirst_177 ?_
  refine y_aload_n cx (pc := 179) d_m_endFirst_179 rfl 1 rfl ?_
  refine y_get cx (pc := 180) (j := 32) (v := .ref (Δ.1 78)) (le_b rfl) ck_Md kw_780 (le_b rfl) (gf_58_32 Δ _) d_m_endFirst_180 ?_
  refine y_iload_n cx (pc := 183) d_m_endFirst_183 rfl 2 rfl ?_
  obtain ⟨h0, h⟩ := h
  refine y_iald cx (pc := 184) ⟨(le_b rfl), fun _ => rfl⟩ h0 d_m_endFirst_184 ?_
  refine y_imul cx (pc := 185) d_m_endFirst_185 ?_
  refine y_iconst cx (pc := 186) ic_2 d_m_endFirst_186 ?_
  refine y_iadd cx (pc := 187) d_m_endFirst_187 ?_
  refine y_aload_n cx (pc := 188) d_m_endFirst_188 rfl 1 rfl ?_
  refine y_get cx (pc := 189) (j := 20) (v := .int (σ 58 20)) (le_b rfl) ck_Md kw_768 (le_b rfl) (gf_58_20 Δ _) d_m_endFirst_189 ?_
  obtain ⟨h0, h⟩ := h
  refine y_iast cx (pc := 192) ⟨(le_b rfl), fun _ => rfl⟩ h0 d_m_endFirst_192 ?_
  refine y_aload_n cx (pc := 193) d_m_endFirst_193 rfl 1 rfl ?_
  refine y_get cx (pc := 194) (j := 32) (v := .ref (Δ.1 78)) (le_b rfl) ck_Md kw_780 (le_b rfl) (gf_58_32 Δ _) d_m_endFirst_194 ?_
  refine y_iload_n cx (pc := 197) d_m_endFirst_197 rfl 2 rfl ?_
  refine y_iload cx (pc := 198) d_m_endFirst_198 0 rfl ?_
  obtain ⟨h0, h⟩ := h
  refine y_iast cx (pc := 200) ⟨(le_b rfl), fun _ => rfl⟩ h0 d_m_endFirst_200 ?_
  exact y_vret cx (pc := 201) rfl d_m_endFirst_201 (le_b rfl) (le_b rfl) h
def w_m_endFirst_152 (Q : Sg → Prop) (σ : Sg) : Prop := Q σ
theorem b_m_endFirst_152 {Δ : Ly} {G : Gm} {Q : Sg → Prop} (cx : Cx Δ G mi_m_endFirst) : ∀ (σ : Sg), w_m_endFirst_152 Q σ → Y Δ G mi_m_endFirst (qV Q) noE 0 0 σ 152 [] [] := by
  intro σ h
  unfold w_m_endFirst_152 at h
  exact y_vret cx (pc := 152) rfl d_m_endFirst_152 (le_b rfl) (le_b rfl) h
def w_m_endFirst_52 (Q : Sg → Prop) : Nat → Int32 → Int32 → Int32 → Sg → Prop
  | 0, _, _, _, _ => False
  | n + 1, v1, v3, v4, σ => (16 ≤ v4 → ((v3 = 0 → (w_m_endFirst_152 Q σ)) ∧ (¬ v3 = 0 → (w_m_setNew 0 σ (fun x1 σ2 => w_m_fresh1 σ2 (fun x3 σ4 => vp_in v1 8 ∧ (w_m_emit 10 x3 (σ4 76 (v1.toNatClampNeg)) x1 0 σ4 (fun x5 σ6 => w_m_guarded v1 x3 σ6 (fun x7 σ8 => vp_in v1 8 ∧ (w_m_endFirst_152 Q (up σ8 77 (v1.toNatClampNeg) x7))))))))))) ∧ (¬ 16 ≤ v4 → (vp_in v4 16 ∧ (vp_in ((16 * v1) + v4) 128 ∧ (vp_in ((16 * v1) + v4) 128 ∧ (vp_in v4 16 ∧ (∀ x9 : Int32, x9 = v4 + 1 → ((w_m_endFirst_52 Q n) v1 v3 x9 (up (up σ 80 (((16 * v1) + v4).toNatClampNeg) (σ 72 (v4.toNatClampNeg))) 72 (v4.toNatClampNeg) (σ 79 (((16 * v1) + v4).toNatClampNeg))))))))))
theorem b_m_endFirst_52 {Δ : Ly} {G : Gm} {Q : Sg → Prop} (cx : Cx Δ G mi_m_endFirst) : ∀ (n : Nat) (v1 : Int32) (v3 : Int32) (v4 : Int32) (σ : Sg), w_m_endFirst_52 Q n v1 v3 v4 σ → Y Δ G mi_m_endFirst (qV Q) noE 0 0 σ 52 [(0, .ref (Δ.1 58)), (1, .int v1), (3, .int v3), (4, .int v4)] [] := by
  intro n
  induction n with
  | zero => intro v1 v3 v4 σ h; exact h.elim
  | succ n ih =>
    intro v1 v3 v4 σ h
    unfold w_m_endFirst_52 at h
    refine y_iload cx (pc := 52) d_m_endFirst_52 3 rfl ?_
    refine y_bipush cx (pc := 54) bp_16 d_m_endFirst_54 ?_
    refine y_icmp_ge cx (pc := 56) (tgt := 103) d_m_endFirst_56 (by decide) (fun hc => ?_) (fun hc => ?_)
    · replace h := h.1 hc
      refine y_iload_n cx (pc := 103) d_m_endFirst_103 rfl 2 rfl ?_
      refine y_if_eq cx (pc := 104) (tgt := 152) d_m_endFirst_104 (by decide) (fun hc => ?_) (fun hc => ?_)
      · replace h := h.1 hc
        refine y_sub [] rfl ?_
        exact b_m_endFirst_152 cx σ h
      · replace h := h.2 hc
        refine y_aload_n cx (pc := 107) d_m_endFirst_107 rfl 0 rfl ?_
        refine y_iconst cx (pc := 108) ic_0 d_m_endFirst_108 ?_
        refine y_vI cx (pc := 109) (st := []) [.int 0] (c_m_setNew cx.fl Δ 0 _ _ h) mv_m_setNew kw_1008 (oc_58 Δ) ck_Md rfl (le_b rfl) (le_b rfl) (le_b rfl) (le_b rfl) (le_b rfl) d_m_endFirst_109 (fun x1 σ2 h => ?_) (fun x σ2 h => yt_no h)
        refine y_istore (lv' := [(4, .int x1), (0, .ref (Δ.1 58)), (1, .int v1), (3, .int v3)]) cx (pc := 112) d_m_endFirst_112 (le_b rfl) rfl ?_
        refine y_aload_n cx (pc := 114) d_m_endFirst_114 rfl 1 rfl ?_
        refine y_vI cx (pc := 115) (st := []) [] (c_m_fresh1 cx.fl Δ _ _ h) mv_m_fresh1 kw_992 (oc_58 Δ) ck_Md rfl (le_b rfl) (le_b rfl) (le_b rfl) (le_b rfl) (le_b rfl) d_m_endFirst_115 (fun x3 σ4 h => ?_) (fun x σ4 h => yt_no h)
        refine y_istore (lv' := [(5, .int x3), (4, .int x1), (0, .ref (Δ.1 58)), (1, .int v1), (3, .int v3)]) cx (pc := 118) d_m_endFirst_118 (le_b rfl) rfl ?_
        refine y_aload_n cx (pc := 120) d_m_endFirst_120 rfl 2 rfl ?_
        refine y_bipush cx (pc := 121) bp_10 d_m_endFirst_121 ?_
        refine y_iload cx (pc := 123) d_m_endFirst_123 0 rfl ?_
        refine y_aload_n cx (pc := 125) d_m_endFirst_125 rfl 2 rfl ?_
        refine y_get cx (pc := 126) (j := 30) (v := .ref (Δ.1 76)) (le_b rfl) ck_Md kw_778 (le_b rfl) (gf_58_30 Δ _) d_m_endFirst_126 ?_
        refine y_iload_n cx (pc := 129) d_m_endFirst_129 rfl 3 rfl ?_
        obtain ⟨h0, h⟩ := h
        refine y_iald cx (pc := 130) ⟨(le_b rfl), fun _ => rfl⟩ h0 d_m_endFirst_130 ?_
        refine y_iload cx (pc := 131) d_m_endFirst_131 1 rfl ?_
        refine y_iconst cx (pc := 133) ic_0 d_m_endFirst_133 ?_
        refine y_vI cx (pc := 134) (st := []) [.int 10, .int x3, .int (σ4 76 (v1.toNatClampNeg)), .int x1, .int 0] (c_m_emit cx.fl Δ 10 x3 (σ4 76 (v1.toNatClampNeg)) x1 0 _ _ h) mv_m_emit kw_996 (oc_58 Δ) ck_Md rfl (le_b rfl) (le_b rfl) (le_b rfl) (le_b rfl) (le_b rfl) d_m_endFirst_134 (fun x5 σ6 h => ?_) (fun x σ6 h => yt_no h)
        refine y_istore (lv' := [(6, .int x5), (5, .int x3), (4, .int x1), (0, .ref (Δ.1 58)), (1, .int v1), (3, .int v3)]) cx (pc := 137) d_m_endFirst_137 (le_b rfl) rfl ?_
        refine y_aload_n cx (pc := 139) d_m_endFirst_139 rfl 3 rfl ?_
        refine y_get cx (pc := 140) (j := 31) (v := .ref (Δ.1 77)) (le_b rfl) ck_Md kw_779 (le_b rfl) (gf_58_31 Δ _) d_m_endFirst_140 ?_
        refine y_iload_n cx (pc := 143) d_m_endFirst_143 rfl 4 rfl ?_
        refine y_aload_n cx (pc := 144) d_m_endFirst_144 rfl 3 rfl ?_
        refine y_iload_n cx (pc := 145) d_m_endFirst_145 rfl 4 rfl ?_
        refine y_iload cx (pc := 146) d_m_endFirst_146 1 rfl ?_
        refine y_vI cx (pc := 148) (st := [.int v1, .ref (Δ.1 77)]) [.int v1, .int x3] (c_m_guarded cx.fl Δ v1 x3 _ _ h) mv_m_guarded kw_1012 (oc_58 Δ) ck_Md rfl (le_b rfl) (le_b rfl) (le_b rfl) (le_b rfl) (le_b rfl) d_m_endFirst_148 (fun x7 σ8 h => ?_) (fun x σ8 h => yt_no h)
        obtain ⟨h0, h⟩ := h
        refine y_iast cx (pc := 151) ⟨(le_b rfl), fun _ => rfl⟩ h0 d_m_endFirst_151 ?_
        refine y_sub [] rfl ?_
        exact b_m_endFirst_152 cx (up σ8 77 (v1.toNatClampNeg) x7) h
    · replace h := h.2 hc
      refine y_aload_n cx (pc := 59) d_m_endFirst_59 rfl 0 rfl ?_
      refine y_get cx (pc := 60) (j := 34) (v := .ref (Δ.1 80)) (le_b rfl) ck_Md kw_782 (le_b rfl) (gf_58_34 Δ _) d_m_endFirst_60 ?_
      refine y_bipush cx (pc := 63) bp_16 d_m_endFirst_63 ?_
      refine y_iload_n cx (pc := 65) d_m_endFirst_65 rfl 1 rfl ?_
      refine y_imul cx (pc := 66) d_m_endFirst_66 ?_
      refine y_iload cx (pc := 67) d_m_endFirst_67 3 rfl ?_
      refine y_iadd cx (pc := 69) d_m_endFirst_69 ?_
      refine y_aload_n cx (pc := 70) d_m_endFirst_70 rfl 0 rfl ?_
      refine y_get cx (pc := 71) (j := 25) (v := .ref (Δ.1 72)) (le_b rfl) ck_Md kw_773 (le_b rfl) (gf_58_25 Δ _) d_m_endFirst_71 ?_
      refine y_iload cx (pc := 74) d_m_endFirst_74 3 rfl ?_
      obtain ⟨h0, h⟩ := h
      refine y_iald cx (pc := 76) ⟨(le_b rfl), fun _ => rfl⟩ h0 d_m_endFirst_76 ?_
      obtain ⟨h0, h⟩ := h
      refine y_iast cx (pc := 77) ⟨(le_b rfl), fun _ => rfl⟩ h0 d_m_endFirst_77 ?_
      refine y_aload_n cx (pc := 78) d_m_endFirst_78 rfl 0 rfl ?_
      refine y_get cx (pc := 79) (j := 25) (v := .ref (Δ.1 72)) (le_b rfl) ck_Md kw_773 (le_b rfl) (gf_58_25 Δ _) d_m_endFirst_79 ?_
      refine y_iload cx (pc := 82) d_m_endFirst_82 3 rfl ?_
      refine y_aload_n cx (pc := 84) d_m_endFirst_84 rfl 0 rfl ?_
      refine y_get cx (pc := 85) (j := 33) (v := .ref (Δ.1 79)) (le_b rfl) ck_Md kw_781 (le_b rfl) (gf_58_33 Δ _) d_m_endFirst_85 ?_
      refine y_bipush cx (pc := 88) bp_16 d_m_endFirst_88 ?_
      refine y_iload_n cx (pc := 90) d_m_endFirst_90 rfl 1 rfl ?_
      refine y_imul cx (pc := 91) d_m_endFirst_91 ?_
      refine y_iload cx (pc := 92) d_m_endFirst_92 3 rfl ?_
      refine y_iadd cx (pc := 94) d_m_endFirst_94 ?_
      obtain ⟨h0, h⟩ := h
      refine y_iald cx (pc := 95) ⟨(le_b rfl), fun _ => rfl⟩ h0 d_m_endFirst_95 ?_
      obtain ⟨h0, h⟩ := h
      refine y_iast cx (pc := 96) ⟨(le_b rfl), fun _ => rfl⟩ h0 d_m_endFirst_96 ?_
      obtain ⟨x9, ex9⟩ : ∃ y : Int32, y = v4 + 1 := ⟨_, rfl⟩
      replace h := h x9 ex9
      refine y_iinc (v := x9) (lv' := [(4, .int x9), (0, .ref (Δ.1 58)), (1, .int v1), (3, .int v3)]) cx (pc := 97) d_m_endFirst_97 (j := 3) rfl (by rw [ex9]; rfl) (le_b rfl) rfl ?_
      refine y_goto cx (pc := 100) (tgt := 52) d_m_endFirst_100 (by decide) ?_
      refine y_sub [1, 2, 3, 0] rfl ?_
      exact ih v1 v3 x9 (up (up σ 80 (((16 * v1) + v4).toNatClampNeg) (σ 72 (v4.toNatClampNeg))) 72 (v4.toNatClampNeg) (σ 79 (((16 * v1) + v4).toNatClampNeg))) h
def w_m_endFirst_27 (Q : Sg → Prop) (v1 : Int32) (v2 : Int32) (s0 : Int32) (σ : Sg) : Prop := vp_in v1 8 ∧ (vp_in v1 8 ∧ (((σ 75 (v1.toNatClampNeg)) = 0 → ((s0 = 0 → (w_m_endFirst_171 Q v1 (-1) (up (up σ 74 (v1.toNatClampNeg) 1) 58 24 v2))) ∧ (¬ s0 = 0 → (w_m_emit 16 0 0 0 0 (up (up σ 74 (v1.toNatClampNeg) 1) 58 24 v2) (fun x1 σ2 => w_m_endFirst_171 Q v1 x1 σ2))))) ∧ (¬ (σ 75 (v1.toNatClampNeg)) = 0 → (∃ q52, w_m_endFirst_52 Q q52 v1 s0 0 (up (up σ 74 (v1.toNatClampNeg) 1) 58 24 v2)))))
theorem b_m_endFirst_27 {Δ : Ly} {G : Gm} {Q : Sg → Prop} (cx : Cx Δ G mi_m_endFirst) : ∀ (v1 : Int32) (v2 : Int32) (s0 : Int32) (σ : Sg), w_m_endFirst_27 Q v1 v2 s0 σ → Y Δ G mi_m_endFirst (qV Q) noE 0 0 σ 27 [(0, .ref (Δ.1 58)), (1, .int v1), (2, .int v2)] [.int s0] := by
  intro v1 v2 s0 σ h
  unfold w_m_endFirst_27 at h
  refine y_istore_n (lv' := [(3, .int s0), (0, .ref (Δ.1 58)), (1, .int v1), (2, .int v2)]) cx (pc := 27) d_m_endFirst_27 rfl (le_b rfl) rfl ?_
  refine y_aload_n cx (pc := 28) d_m_endFirst_28 rfl 1 rfl ?_
  refine y_get cx (pc := 29) (j := 28) (v := .ref (Δ.1 74)) (le_b rfl) ck_Md kw_776 (le_b rfl) (gf_58_28 Δ _) d_m_endFirst_29 ?_
  refine y_iload_n cx (pc := 32) d_m_endFirst_32 rfl 2 rfl ?_
  refine y_iconst cx (pc := 33) ic_1 d_m_endFirst_33 ?_
  obtain ⟨h0, h⟩ := h
  refine y_zastB cx (pc := 34) ⟨(le_b rfl), fun _ => rfl⟩ h0 bz_1 d_m_endFirst_34 ?_
  refine y_aload_n cx (pc := 35) d_m_endFirst_35 rfl 1 rfl ?_
  refine y_iload_n cx (pc := 36) d_m_endFirst_36 rfl 3 rfl ?_
  refine y_put cx (pc := 37) (j := 24) (ty := .int) (le_b rfl) ck_Md kw_772 (le_b rfl) rfl (t_Md_ok 24 (le_b rfl)) rfl rfl (pf_58_24 Δ) d_m_endFirst_37 ?_
  refine y_aload_n cx (pc := 40) d_m_endFirst_40 rfl 1 rfl ?_
  refine y_get cx (pc := 41) (j := 29) (v := .ref (Δ.1 75)) (le_b rfl) ck_Md kw_777 (le_b rfl) (gf_58_29 Δ _) d_m_endFirst_41 ?_
  refine y_iload_n cx (pc := 44) d_m_endFirst_44 rfl 2 rfl ?_
  obtain ⟨h0, h⟩ := h
  refine y_zald cx (pc := 45) ⟨(le_b rfl), fun _ => rfl⟩ h0 d_m_endFirst_45 ?_
  refine y_if_eq cx (pc := 46) (tgt := 153) d_m_endFirst_46 (by decide) (fun hc => ?_) (fun hc => ?_)
  · replace h := h.1 hc
    refine y_iload_n cx (pc := 153) d_m_endFirst_153 rfl 0 rfl ?_
    refine y_if_eq cx (pc := 154) (tgt := 170) d_m_endFirst_154 (by decide) (fun hc => ?_) (fun hc => ?_)
    · replace h := h.1 hc
      refine y_iconst cx (pc := 170) ic_m1 d_m_endFirst_170 ?_
      refine y_sub [1, 2] rfl ?_
      exact b_m_endFirst_171 cx v1 (-1) (up (up σ 74 (v1.toNatClampNeg) 1) 58 24 v2) h
    · replace h := h.2 hc
      refine y_aload_n cx (pc := 157) d_m_endFirst_157 rfl 1 rfl ?_
      refine y_bipush cx (pc := 158) bp_16 d_m_endFirst_158 ?_
      refine y_iconst cx (pc := 160) ic_0 d_m_endFirst_160 ?_
      refine y_iconst cx (pc := 161) ic_0 d_m_endFirst_161 ?_
      refine y_iconst cx (pc := 162) ic_0 d_m_endFirst_162 ?_
      refine y_iconst cx (pc := 163) ic_0 d_m_endFirst_163 ?_
      refine y_vI cx (pc := 164) (st := []) [.int 16, .int 0, .int 0, .int 0, .int 0] (c_m_emit cx.fl Δ 16 0 0 0 0 _ _ h) mv_m_emit kw_996 (oc_58 Δ) ck_Md rfl (le_b rfl) (le_b rfl) (le_b rfl) (le_b rfl) (le_b rfl) d_m_endFirst_164 (fun x1 σ2 h => ?_) (fun x σ2 h => yt_no h)
      refine y_goto cx (pc := 167) (tgt := 171) d_m_endFirst_167 (by decide) ?_
      refine y_sub [1, 2] rfl ?_
      exact b_m_endFirst_171 cx v1 x1 σ2 h
  · replace h := h.2 hc
    refine y_iconst cx (pc := 49) ic_0 d_m_endFirst_49 ?_
    refine y_istore (lv' := [(4, .int 0), (3, .int s0), (0, .ref (Δ.1 58)), (1, .int v1), (2, .int v2)]) cx (pc := 50) d_m_endFirst_50 (le_b rfl) rfl ?_
    refine y_sub [2, 3, 1, 0] rfl ?_
    obtain ⟨n, h⟩ := h
    exact b_m_endFirst_52 cx n v1 s0 0 (up (up σ 74 (v1.toNatClampNeg) 1) 58 24 v2) h
def w_m_endFirst (p1 : Int32) (σ : Sg) (Q : Sg → Prop) : Prop := vp_in p1 8 ∧ (∀ x1 : Int32, x1 = σ 73 (p1.toNatClampNeg) → (vp_in x1 60 ∧ (vp_in x1 60 ∧ (((σ 67 (x1.toNatClampNeg)) ≤ (σ 66 (x1.toNatClampNeg)) → (w_m_endFirst_27 Q p1 x1 0 σ)) ∧ (¬ (σ 67 (x1.toNatClampNeg)) ≤ (σ 66 (x1.toNatClampNeg)) → (w_m_endFirst_27 Q p1 x1 1 σ))))))
theorem b_m_endFirst {Δ : Ly} {G : Gm} {Q : Sg → Prop} (cx : Cx Δ G mi_m_endFirst) (p1 : Int32) (σ : Sg) (h : w_m_endFirst p1 σ Q) : Y Δ G mi_m_endFirst (qV Q) noE 0 0 σ 0 [(0, .ref (Δ.1 58)), (1, .int p1)] [] := by
  unfold w_m_endFirst at h
  refine y_aload_n cx (pc := 0) d_m_endFirst_0 rfl 0 rfl ?_
  refine y_get cx (pc := 1) (j := 27) (v := .ref (Δ.1 73)) (le_b rfl) ck_Md kw_775 (le_b rfl) (gf_58_27 Δ _) d_m_endFirst_1 ?_
  refine y_iload_n cx (pc := 4) d_m_endFirst_4 rfl 1 rfl ?_
  obtain ⟨h0, h⟩ := h
  refine y_iald cx (pc := 5) ⟨(le_b rfl), fun _ => rfl⟩ h0 d_m_endFirst_5 ?_
  refine y_topi (fun x1 ex1 => ?_)
  replace h := h x1 ex1
  refine y_istore_n (lv' := [(2, .int x1), (0, .ref (Δ.1 58)), (1, .int p1)]) cx (pc := 6) d_m_endFirst_6 rfl (le_b rfl) rfl ?_
  refine y_aload_n cx (pc := 7) d_m_endFirst_7 rfl 1 rfl ?_
  refine y_get cx (pc := 8) (j := 15) (v := .ref (Δ.1 67)) (le_b rfl) ck_Md kw_763 (le_b rfl) (gf_58_15 Δ _) d_m_endFirst_8 ?_
  refine y_iload_n cx (pc := 11) d_m_endFirst_11 rfl 0 rfl ?_
  obtain ⟨h0, h⟩ := h
  refine y_iald cx (pc := 12) ⟨(le_b rfl), fun _ => rfl⟩ h0 d_m_endFirst_12 ?_
  refine y_aload_n cx (pc := 13) d_m_endFirst_13 rfl 1 rfl ?_
  refine y_get cx (pc := 14) (j := 14) (v := .ref (Δ.1 66)) (le_b rfl) ck_Md kw_762 (le_b rfl) (gf_58_14 Δ _) d_m_endFirst_14 ?_
  refine y_iload_n cx (pc := 17) d_m_endFirst_17 rfl 0 rfl ?_
  obtain ⟨h0, h⟩ := h
  refine y_iald cx (pc := 18) ⟨(le_b rfl), fun _ => rfl⟩ h0 d_m_endFirst_18 ?_
  refine y_icmp_le cx (pc := 19) (tgt := 26) d_m_endFirst_19 (by decide) (fun hc => ?_) (fun hc => ?_)
  · replace h := h.1 hc
    refine y_iconst cx (pc := 26) ic_0 d_m_endFirst_26 ?_
    refine y_sub [1, 2, 0] rfl ?_
    exact b_m_endFirst_27 cx p1 x1 0 σ h
  · replace h := h.2 hc
    refine y_iconst cx (pc := 22) ic_1 d_m_endFirst_22 ?_
    refine y_goto cx (pc := 23) (tgt := 27) d_m_endFirst_23 (by decide) ?_
    refine y_sub [1, 2, 0] rfl ?_
    exact b_m_endFirst_27 cx p1 x1 1 σ h
theorem c_m_endFirst {l : Launch} (hfl : l.flags = flags0) (Δ : Ly) (p1 : Int32) (σ : Sg) (Q : Sg → Prop) (h : w_m_endFirst p1 σ Q) : Ct l Δ mi_m_endFirst [.ref (Δ.1 58), .int p1] σ (qV Q) noE :=
  Ct.of hfl (by show plainFor ⟨"GuardedMovesModel", "endFirst", "(I)V"⟩ = true; decide +kernel) rfl (le_b rfl) (fun G hl cx => b_m_endFirst cx p1 σ h)
def mi_m_isOnSide : Mi := ("GuardedMovesModel", prog_6_method_28_code, 1, [], (some .boolean), 0, 0, 0, 0, ⟨"GuardedMovesModel", "isOnSide", "()Z"⟩)
theorem d_m_isOnSide_0 : decode prog_6_method_28_code 0 = .ok (.aload_n 0, 1) := by decide +kernel
theorem d_m_isOnSide_1 : decode prog_6_method_28_code 1 = .ok (.getfield 219, 3) := by decide +kernel
theorem d_m_isOnSide_4 : decode prog_6_method_28_code 4 = .ok (.ifCond .le 21, 3) := by decide +kernel
theorem d_m_isOnSide_7 : decode prog_6_method_28_code 7 = .ok (.aload_n 0, 1) := by decide +kernel
theorem d_m_isOnSide_8 : decode prog_6_method_28_code 8 = .ok (.getfield 63, 3) := by decide +kernel
theorem d_m_isOnSide_11 : decode prog_6_method_28_code 11 = .ok (.aload_n 0, 1) := by decide +kernel
theorem d_m_isOnSide_12 : decode prog_6_method_28_code 12 = .ok (.getfield 219, 3) := by decide +kernel
theorem d_m_isOnSide_15 : decode prog_6_method_28_code 15 = .ok (.iconst 1, 1) := by decide +kernel
theorem d_m_isOnSide_16 : decode prog_6_method_28_code 16 = .ok (.isub, 1) := by decide +kernel
theorem d_m_isOnSide_17 : decode prog_6_method_28_code 17 = .ok (.baload, 1) := by decide +kernel
theorem d_m_isOnSide_18 : decode prog_6_method_28_code 18 = .ok (.ifCond .eq 7, 3) := by decide +kernel
theorem d_m_isOnSide_21 : decode prog_6_method_28_code 21 = .ok (.iconst 1, 1) := by decide +kernel
theorem d_m_isOnSide_22 : decode prog_6_method_28_code 22 = .ok (.goto 4, 3) := by decide +kernel
theorem d_m_isOnSide_25 : decode prog_6_method_28_code 25 = .ok (.iconst 0, 1) := by decide +kernel
theorem d_m_isOnSide_26 : decode prog_6_method_28_code 26 = .ok (.ireturn, 1) := by decide +kernel
theorem kc_m_isOnSide : Kw (m_w (mi_m_isOnSide )) := ⟨(in_t5 (List.mem_of_getElem? (i := 43) rfl)), rfl⟩
theorem mv_m_isOnSide : MV (mi_m_isOnSide ) "GuardedMovesModel" 0 := ⟨kw_1002, ks_60, kc_m_isOnSide , kw_7, ⟨⟨(by show ("GuardedMovesModel" : String) ≠ "java/lang/invoke/MethodHandle"; decide), (by show ("GuardedMovesModel" : String) ≠ "java/lang/invoke/VarHandle"; decide)⟩, (by show (parseMethodDescriptor "()Z").map (fun d => d.parameters.length) = some 0; decide +kernel)⟩⟩
def w_m_isOnSide_26 (Q : Int32 → Sg → Prop) (s0 : Int32) (σ : Sg) : Prop := bz s0 ∧ (Q s0 σ)
theorem b_m_isOnSide_26 {Δ : Ly} {G : Gm} {Q : Int32 → Sg → Prop} (cx : Cx Δ G mi_m_isOnSide) : ∀ (s0 : Int32) (σ : Sg), w_m_isOnSide_26 Q s0 σ → Y Δ G mi_m_isOnSide (qI Q) noE 0 0 σ 26 [] [.int s0] := by
  intro s0 σ h
  unfold w_m_isOnSide_26 at h
  obtain ⟨hb, h⟩ := h
  exact y_zret cx (pc := 26) rfl hb d_m_isOnSide_26 (le_b rfl) (le_b rfl) h
def w_m_isOnSide_25 (Q : Int32 → Sg → Prop) (σ : Sg) : Prop := w_m_isOnSide_26 Q 0 σ
theorem b_m_isOnSide_25 {Δ : Ly} {G : Gm} {Q : Int32 → Sg → Prop} (cx : Cx Δ G mi_m_isOnSide) : ∀ (σ : Sg), w_m_isOnSide_25 Q σ → Y Δ G mi_m_isOnSide (qI Q) noE 0 0 σ 25 [] [] := by
  intro σ h
  unfold w_m_isOnSide_25 at h
  refine y_iconst cx (pc := 25) ic_0 d_m_isOnSide_25 ?_
  exact b_m_isOnSide_26 cx 0 σ h
def w_m_isOnSide (σ : Sg) (Q : Int32 → Sg → Prop) : Prop := ((σ 58 26) ≤ 0 → (w_m_isOnSide_25 Q σ)) ∧ (¬ (σ 58 26) ≤ 0 → (vp_in ((σ 58 26) - 1) 8 ∧ (((σ 75 (((σ 58 26) - 1).toNatClampNeg)) = 0 → (w_m_isOnSide_25 Q σ)) ∧ (¬ (σ 75 (((σ 58 26) - 1).toNatClampNeg)) = 0 → (w_m_isOnSide_26 Q 1 σ)))))
theorem b_m_isOnSide {Δ : Ly} {G : Gm} {Q : Int32 → Sg → Prop} (cx : Cx Δ G mi_m_isOnSide) (σ : Sg) (h : w_m_isOnSide σ Q) : Y Δ G mi_m_isOnSide (qI Q) noE 0 0 σ 0 [(0, .ref (Δ.1 58))] [] := by
  unfold w_m_isOnSide at h
  refine y_aload_n cx (pc := 0) d_m_isOnSide_0 rfl 0 rfl ?_
  refine y_get cx (pc := 1) (j := 26) (v := .int (σ 58 26)) (le_b rfl) ck_Md kw_774 (le_b rfl) (gf_58_26 Δ _) d_m_isOnSide_1 ?_
  refine y_if_le cx (pc := 4) (tgt := 25) d_m_isOnSide_4 (by decide) (fun hc => ?_) (fun hc => ?_)
  · replace h := h.1 hc
    refine y_sub [] rfl ?_
    exact b_m_isOnSide_25 cx σ h
  · replace h := h.2 hc
    refine y_aload_n cx (pc := 7) d_m_isOnSide_7 rfl 0 rfl ?_
    refine y_get cx (pc := 8) (j := 29) (v := .ref (Δ.1 75)) (le_b rfl) ck_Md kw_777 (le_b rfl) (gf_58_29 Δ _) d_m_isOnSide_8 ?_
    refine y_aload_n cx (pc := 11) d_m_isOnSide_11 rfl 0 rfl ?_
    refine y_get cx (pc := 12) (j := 26) (v := .int (σ 58 26)) (le_b rfl) ck_Md kw_774 (le_b rfl) (gf_58_26 Δ _) d_m_isOnSide_12 ?_
    refine y_iconst cx (pc := 15) ic_1 d_m_isOnSide_15 ?_
    refine y_isub cx (pc := 16) d_m_isOnSide_16 ?_
    obtain ⟨h0, h⟩ := h
    refine y_zald cx (pc := 17) ⟨(le_b rfl), fun _ => rfl⟩ h0 d_m_isOnSide_17 ?_
    refine y_if_eq cx (pc := 18) (tgt := 25) d_m_isOnSide_18 (by decide) (fun hc => ?_) (fun hc => ?_)
    · replace h := h.1 hc
      refine y_sub [] rfl ?_
      exact b_m_isOnSide_25 cx σ h
    · replace h := h.2 hc
      refine y_iconst cx (pc := 21) ic_1 d_m_isOnSide_21 ?_
      refine y_goto cx (pc := 22) (tgt := 26) d_m_isOnSide_22 (by decide) ?_
      refine y_sub [] rfl ?_
      exact b_m_isOnSide_26 cx 1 σ h
theorem c_m_isOnSide {l : Launch} (hfl : l.flags = flags0) (Δ : Ly) (σ : Sg) (Q : Int32 → Sg → Prop) (h : w_m_isOnSide σ Q) : Ct l Δ mi_m_isOnSide [.ref (Δ.1 58)] σ (qI Q) noE :=
  Ct.of hfl (by show plainFor ⟨"GuardedMovesModel", "isOnSide", "()Z"⟩ = true; decide +kernel) rfl (le_b rfl) (fun G hl cx => b_m_isOnSide cx σ h)
def mi_m_endSecond : Mi := ("GuardedMovesModel", prog_6_method_32_code, 7, [], none, 1, 30, 0, 0, ⟨"GuardedMovesModel", "endSecond", "(I)V"⟩)
theorem d_m_endSecond_0 : decode prog_6_method_32_code 0 = .ok (.aload_n 0, 1) := by decide +kernel
theorem d_m_endSecond_1 : decode prog_6_method_32_code 1 = .ok (.aload_n 0, 1) := by decide +kernel
theorem d_m_endSecond_2 : decode prog_6_method_32_code 2 = .ok (.getfield 57, 3) := by decide +kernel
theorem d_m_endSecond_5 : decode prog_6_method_32_code 5 = .ok (.iload_n 1, 1) := by decide +kernel
theorem d_m_endSecond_6 : decode prog_6_method_32_code 6 = .ok (.iaload, 1) := by decide +kernel
theorem d_m_endSecond_7 : decode prog_6_method_32_code 7 = .ok (.putfield 202, 3) := by decide +kernel
theorem d_m_endSecond_10 : decode prog_6_method_32_code 10 = .ok (.aload_n 0, 1) := by decide +kernel
theorem d_m_endSecond_11 : decode prog_6_method_32_code 11 = .ok (.dup, 1) := by decide +kernel
theorem d_m_endSecond_12 : decode prog_6_method_32_code 12 = .ok (.getfield 219, 3) := by decide +kernel
theorem d_m_endSecond_15 : decode prog_6_method_32_code 15 = .ok (.iconst 1, 1) := by decide +kernel
theorem d_m_endSecond_16 : decode prog_6_method_32_code 16 = .ok (.isub, 1) := by decide +kernel
theorem d_m_endSecond_17 : decode prog_6_method_32_code 17 = .ok (.putfield 219, 3) := by decide +kernel
theorem d_m_endSecond_20 : decode prog_6_method_32_code 20 = .ok (.aload_n 0, 1) := by decide +kernel
theorem d_m_endSecond_21 : decode prog_6_method_32_code 21 = .ok (.getfield 63, 3) := by decide +kernel
theorem d_m_endSecond_24 : decode prog_6_method_32_code 24 = .ok (.iload_n 1, 1) := by decide +kernel
theorem d_m_endSecond_25 : decode prog_6_method_32_code 25 = .ok (.baload, 1) := by decide +kernel
theorem d_m_endSecond_26 : decode prog_6_method_32_code 26 = .ok (.ifCond .ne 34, 3) := by decide +kernel
theorem d_m_endSecond_29 : decode prog_6_method_32_code 29 = .ok (.aload_n 0, 1) := by decide +kernel
theorem d_m_endSecond_30 : decode prog_6_method_32_code 30 = .ok (.getfield 72, 3) := by decide +kernel
theorem d_m_endSecond_33 : decode prog_6_method_32_code 33 = .ok (.iload_n 1, 1) := by decide +kernel
theorem d_m_endSecond_34 : decode prog_6_method_32_code 34 = .ok (.iaload, 1) := by decide +kernel
theorem d_m_endSecond_35 : decode prog_6_method_32_code 35 = .ok (.iconst (-1), 1) := by decide +kernel
theorem d_m_endSecond_36 : decode prog_6_method_32_code 36 = .ok (.if_icmp .eq 23, 3) := by decide +kernel
theorem d_m_endSecond_39 : decode prog_6_method_32_code 39 = .ok (.aload_n 0, 1) := by decide +kernel
theorem d_m_endSecond_40 : decode prog_6_method_32_code 40 = .ok (.getfield 44, 3) := by decide +kernel
theorem d_m_endSecond_43 : decode prog_6_method_32_code 43 = .ok (.bipush 6, 2) := by decide +kernel
theorem d_m_endSecond_45 : decode prog_6_method_32_code 45 = .ok (.aload_n 0, 1) := by decide +kernel
theorem d_m_endSecond_46 : decode prog_6_method_32_code 46 = .ok (.getfield 72, 3) := by decide +kernel
theorem d_m_endSecond_49 : decode prog_6_method_32_code 49 = .ok (.iload_n 1, 1) := by decide +kernel
theorem d_m_endSecond_50 : decode prog_6_method_32_code 50 = .ok (.iaload, 1) := by decide +kernel
theorem d_m_endSecond_51 : decode prog_6_method_32_code 51 = .ok (.imul, 1) := by decide +kernel
theorem d_m_endSecond_52 : decode prog_6_method_32_code 52 = .ok (.iconst 1, 1) := by decide +kernel
theorem d_m_endSecond_53 : decode prog_6_method_32_code 53 = .ok (.iadd, 1) := by decide +kernel
theorem d_m_endSecond_54 : decode prog_6_method_32_code 54 = .ok (.aload_n 0, 1) := by decide +kernel
theorem d_m_endSecond_55 : decode prog_6_method_32_code 55 = .ok (.getfield 199, 3) := by decide +kernel
theorem d_m_endSecond_58 : decode prog_6_method_32_code 58 = .ok (.iastore, 1) := by decide +kernel
theorem d_m_endSecond_59 : decode prog_6_method_32_code 59 = .ok (.return_, 1) := by decide +kernel
theorem d_m_endSecond_60 : decode prog_6_method_32_code 60 = .ok (.iconst 0, 1) := by decide +kernel
theorem d_m_endSecond_61 : decode prog_6_method_32_code 61 = .ok (.istore_n 2, 1) := by decide +kernel
theorem d_m_endSecond_62 : decode prog_6_method_32_code 62 = .ok (.iload_n 2, 1) := by decide +kernel
theorem d_m_endSecond_63 : decode prog_6_method_32_code 63 = .ok (.bipush 16, 2) := by decide +kernel
theorem d_m_endSecond_65 : decode prog_6_method_32_code 65 = .ok (.if_icmp .ge 88, 3) := by decide +kernel
theorem d_m_endSecond_68 : decode prog_6_method_32_code 68 = .ok (.aload_n 0, 1) := by decide +kernel
theorem d_m_endSecond_69 : decode prog_6_method_32_code 69 = .ok (.getfield 78, 3) := by decide +kernel
theorem d_m_endSecond_72 : decode prog_6_method_32_code 72 = .ok (.bipush 16, 2) := by decide +kernel
theorem d_m_endSecond_74 : decode prog_6_method_32_code 74 = .ok (.iload_n 1, 1) := by decide +kernel
theorem d_m_endSecond_75 : decode prog_6_method_32_code 75 = .ok (.imul, 1) := by decide +kernel
theorem d_m_endSecond_76 : decode prog_6_method_32_code 76 = .ok (.iload_n 2, 1) := by decide +kernel
theorem d_m_endSecond_77 : decode prog_6_method_32_code 77 = .ok (.iadd, 1) := by decide +kernel
theorem d_m_endSecond_78 : decode prog_6_method_32_code 78 = .ok (.iaload, 1) := by decide +kernel
theorem d_m_endSecond_79 : decode prog_6_method_32_code 79 = .ok (.istore_n 3, 1) := by decide +kernel
theorem d_m_endSecond_80 : decode prog_6_method_32_code 80 = .ok (.aload_n 0, 1) := by decide +kernel
theorem d_m_endSecond_81 : decode prog_6_method_32_code 81 = .ok (.getfield 75, 3) := by decide +kernel
theorem d_m_endSecond_84 : decode prog_6_method_32_code 84 = .ok (.bipush 16, 2) := by decide +kernel
theorem d_m_endSecond_86 : decode prog_6_method_32_code 86 = .ok (.iload_n 1, 1) := by decide +kernel
theorem d_m_endSecond_87 : decode prog_6_method_32_code 87 = .ok (.imul, 1) := by decide +kernel
theorem d_m_endSecond_88 : decode prog_6_method_32_code 88 = .ok (.iload_n 2, 1) := by decide +kernel
theorem d_m_endSecond_89 : decode prog_6_method_32_code 89 = .ok (.iadd, 1) := by decide +kernel
theorem d_m_endSecond_90 : decode prog_6_method_32_code 90 = .ok (.iaload, 1) := by decide +kernel
theorem d_m_endSecond_91 : decode prog_6_method_32_code 91 = .ok (.istore 4, 2) := by decide +kernel
theorem d_m_endSecond_93 : decode prog_6_method_32_code 93 = .ok (.iload_n 3, 1) := by decide +kernel
theorem d_m_endSecond_94 : decode prog_6_method_32_code 94 = .ok (.iload 4, 2) := by decide +kernel
theorem d_m_endSecond_96 : decode prog_6_method_32_code 96 = .ok (.if_icmp .ne 14, 3) := by decide +kernel
theorem d_m_endSecond_99 : decode prog_6_method_32_code 99 = .ok (.aload_n 0, 1) := by decide +kernel
theorem d_m_endSecond_100 : decode prog_6_method_32_code 100 = .ok (.getfield 54, 3) := by decide +kernel
theorem d_m_endSecond_103 : decode prog_6_method_32_code 103 = .ok (.iload_n 2, 1) := by decide +kernel
theorem d_m_endSecond_104 : decode prog_6_method_32_code 104 = .ok (.iaload, 1) := by decide +kernel
theorem d_m_endSecond_105 : decode prog_6_method_32_code 105 = .ok (.iload 4, 2) := by decide +kernel
theorem d_m_endSecond_107 : decode prog_6_method_32_code 107 = .ok (.if_icmp .eq 40, 3) := by decide +kernel
theorem d_m_endSecond_110 : decode prog_6_method_32_code 110 = .ok (.aload_n 0, 1) := by decide +kernel
theorem d_m_endSecond_111 : decode prog_6_method_32_code 111 = .ok (.invokevirtual 205, 3) := by decide +kernel
theorem d_m_endSecond_114 : decode prog_6_method_32_code 114 = .ok (.istore 5, 2) := by decide +kernel
theorem d_m_endSecond_116 : decode prog_6_method_32_code 116 = .ok (.aload_n 0, 1) := by decide +kernel
theorem d_m_endSecond_117 : decode prog_6_method_32_code 117 = .ok (.bipush 13, 2) := by decide +kernel
theorem d_m_endSecond_119 : decode prog_6_method_32_code 119 = .ok (.iload 5, 2) := by decide +kernel
theorem d_m_endSecond_121 : decode prog_6_method_32_code 121 = .ok (.aload_n 0, 1) := by decide +kernel
theorem d_m_endSecond_122 : decode prog_6_method_32_code 122 = .ok (.getfield 66, 3) := by decide +kernel
theorem d_m_endSecond_125 : decode prog_6_method_32_code 125 = .ok (.iload_n 1, 1) := by decide +kernel
theorem d_m_endSecond_126 : decode prog_6_method_32_code 126 = .ok (.iaload, 1) := by decide +kernel
theorem d_m_endSecond_127 : decode prog_6_method_32_code 127 = .ok (.iload_n 3, 1) := by decide +kernel
theorem d_m_endSecond_128 : decode prog_6_method_32_code 128 = .ok (.aload_n 0, 1) := by decide +kernel
theorem d_m_endSecond_129 : decode prog_6_method_32_code 129 = .ok (.getfield 54, 3) := by decide +kernel
theorem d_m_endSecond_132 : decode prog_6_method_32_code 132 = .ok (.iload_n 2, 1) := by decide +kernel
theorem d_m_endSecond_133 : decode prog_6_method_32_code 133 = .ok (.iaload, 1) := by decide +kernel
theorem d_m_endSecond_134 : decode prog_6_method_32_code 134 = .ok (.invokevirtual 208, 3) := by decide +kernel
theorem d_m_endSecond_137 : decode prog_6_method_32_code 137 = .ok (.istore 6, 2) := by decide +kernel
theorem d_m_endSecond_139 : decode prog_6_method_32_code 139 = .ok (.aload_n 0, 1) := by decide +kernel
theorem d_m_endSecond_140 : decode prog_6_method_32_code 140 = .ok (.getfield 54, 3) := by decide +kernel
theorem d_m_endSecond_143 : decode prog_6_method_32_code 143 = .ok (.iload_n 2, 1) := by decide +kernel
theorem d_m_endSecond_144 : decode prog_6_method_32_code 144 = .ok (.iload 5, 2) := by decide +kernel
theorem d_m_endSecond_146 : decode prog_6_method_32_code 146 = .ok (.iastore, 1) := by decide +kernel
theorem d_m_endSecond_147 : decode prog_6_method_32_code 147 = .ok (.iinc 2 1, 3) := by decide +kernel
theorem d_m_endSecond_150 : decode prog_6_method_32_code 150 = .ok (.goto (-88), 3) := by decide +kernel
theorem d_m_endSecond_153 : decode prog_6_method_32_code 153 = .ok (.aload_n 0, 1) := by decide +kernel
theorem d_m_endSecond_154 : decode prog_6_method_32_code 154 = .ok (.invokevirtual 228, 3) := by decide +kernel
theorem d_m_endSecond_157 : decode prog_6_method_32_code 157 = .ok (.ifCond .ne 49, 3) := by decide +kernel
theorem d_m_endSecond_160 : decode prog_6_method_32_code 160 = .ok (.iconst 0, 1) := by decide +kernel
theorem d_m_endSecond_161 : decode prog_6_method_32_code 161 = .ok (.istore_n 2, 1) := by decide +kernel
theorem d_m_endSecond_162 : decode prog_6_method_32_code 162 = .ok (.iload_n 2, 1) := by decide +kernel
theorem d_m_endSecond_163 : decode prog_6_method_32_code 163 = .ok (.bipush 16, 2) := by decide +kernel
theorem d_m_endSecond_165 : decode prog_6_method_32_code 165 = .ok (.if_icmp .ge 41, 3) := by decide +kernel
theorem d_m_endSecond_168 : decode prog_6_method_32_code 168 = .ok (.aload_n 0, 1) := by decide +kernel
theorem d_m_endSecond_169 : decode prog_6_method_32_code 169 = .ok (.getfield 54, 3) := by decide +kernel
theorem d_m_endSecond_172 : decode prog_6_method_32_code 172 = .ok (.iload_n 2, 1) := by decide +kernel
theorem d_m_endSecond_173 : decode prog_6_method_32_code 173 = .ok (.iaload, 1) := by decide +kernel
theorem d_m_endSecond_174 : decode prog_6_method_32_code 174 = .ok (.iload_n 2, 1) := by decide +kernel
theorem d_m_endSecond_175 : decode prog_6_method_32_code 175 = .ok (.if_icmp .eq 25, 3) := by decide +kernel
theorem d_m_endSecond_178 : decode prog_6_method_32_code 178 = .ok (.aload_n 0, 1) := by decide +kernel
theorem d_m_endSecond_179 : decode prog_6_method_32_code 179 = .ok (.iconst 1, 1) := by decide +kernel
theorem d_m_endSecond_180 : decode prog_6_method_32_code 180 = .ok (.iload_n 2, 1) := by decide +kernel
theorem d_m_endSecond_181 : decode prog_6_method_32_code 181 = .ok (.aload_n 0, 1) := by decide +kernel
theorem d_m_endSecond_182 : decode prog_6_method_32_code 182 = .ok (.getfield 54, 3) := by decide +kernel
theorem d_m_endSecond_185 : decode prog_6_method_32_code 185 = .ok (.iload_n 2, 1) := by decide +kernel
theorem d_m_endSecond_186 : decode prog_6_method_32_code 186 = .ok (.iaload, 1) := by decide +kernel
theorem d_m_endSecond_187 : decode prog_6_method_32_code 187 = .ok (.iconst 0, 1) := by decide +kernel
theorem d_m_endSecond_188 : decode prog_6_method_32_code 188 = .ok (.iconst 0, 1) := by decide +kernel
theorem d_m_endSecond_189 : decode prog_6_method_32_code 189 = .ok (.invokevirtual 208, 3) := by decide +kernel
theorem d_m_endSecond_192 : decode prog_6_method_32_code 192 = .ok (.istore_n 3, 1) := by decide +kernel
theorem d_m_endSecond_193 : decode prog_6_method_32_code 193 = .ok (.aload_n 0, 1) := by decide +kernel
theorem d_m_endSecond_194 : decode prog_6_method_32_code 194 = .ok (.getfield 54, 3) := by decide +kernel
theorem d_m_endSecond_197 : decode prog_6_method_32_code 197 = .ok (.iload_n 2, 1) := by decide +kernel
theorem d_m_endSecond_198 : decode prog_6_method_32_code 198 = .ok (.iload_n 2, 1) := by decide +kernel
theorem d_m_endSecond_199 : decode prog_6_method_32_code 199 = .ok (.iastore, 1) := by decide +kernel
theorem d_m_endSecond_200 : decode prog_6_method_32_code 200 = .ok (.iinc 2 1, 3) := by decide +kernel
theorem d_m_endSecond_203 : decode prog_6_method_32_code 203 = .ok (.goto (-41), 3) := by decide +kernel
theorem d_m_endSecond_206 : decode prog_6_method_32_code 206 = .ok (.return_, 1) := by decide +kernel
theorem kc_m_endSecond : Kw (m_w (mi_m_endSecond )) := ⟨(in_t5 (List.mem_of_getElem? (i := 31) rfl)), rfl⟩
theorem mv_m_endSecond : MV (mi_m_endSecond ) "GuardedMovesModel" 1 := ⟨kw_990, ks_57, kc_m_endSecond , kw_7, ⟨⟨(by show ("GuardedMovesModel" : String) ≠ "java/lang/invoke/MethodHandle"; decide), (by show ("GuardedMovesModel" : String) ≠ "java/lang/invoke/VarHandle"; decide)⟩, (by show (parseMethodDescriptor "(I)V").map (fun d => d.parameters.length) = some 1; decide +kernel)⟩⟩
def w_m_endSecond_59 (Q : Sg → Prop) (σ : Sg) : Prop := Q σ
theorem b_m_endSecond_59 {Δ : Ly} {G : Gm} {Q : Sg → Prop} (cx : Cx Δ G mi_m_endSecond) : ∀ (σ : Sg), w_m_endSecond_59 Q σ → Y Δ G mi_m_endSecond (qV Q) noE 0 0 σ 59 [] [] := by
  intro σ h
  unfold w_m_endSecond_59 at h
  exact y_vret cx (pc := 59) rfl d_m_endSecond_59 (le_b rfl) (le_b rfl) h
def w_m_endSecond_206 (Q : Sg → Prop) (σ : Sg) : Prop := Q σ
theorem b_m_endSecond_206 {Δ : Ly} {G : Gm} {Q : Sg → Prop} (cx : Cx Δ G mi_m_endSecond) : ∀ (σ : Sg), w_m_endSecond_206 Q σ → Y Δ G mi_m_endSecond (qV Q) noE 0 0 σ 206 [] [] := by
  intro σ h
  unfold w_m_endSecond_206 at h
  exact y_vret cx (pc := 206) rfl d_m_endSecond_206 (le_b rfl) (le_b rfl) h
def w_m_endSecond_200 (K162 : Int32 → Sg → Prop) (Q : Sg → Prop) (v2 : Int32) (σ : Sg) : Prop := ∀ x1 : Int32, x1 = v2 + 1 → (K162 x1 σ)
theorem b_m_endSecond_200 {Δ : Ly} {G : Gm} {K162 : Int32 → Sg → Prop} {Q : Sg → Prop} (cx : Cx Δ G mi_m_endSecond) (hK162 : ∀ (v2 : Int32) (σ : Sg), K162 v2 σ → Y Δ G mi_m_endSecond (qV Q) noE 0 0 σ 162 [(0, .ref (Δ.1 58)), (2, .int v2)] []) : ∀ (v2 : Int32) (σ : Sg), w_m_endSecond_200 K162 Q v2 σ → Y Δ G mi_m_endSecond (qV Q) noE 0 0 σ 200 [(0, .ref (Δ.1 58)), (2, .int v2)] [] := by
  intro v2 σ h
  unfold w_m_endSecond_200 at h
  obtain ⟨x1, ex1⟩ : ∃ y : Int32, y = v2 + 1 := ⟨_, rfl⟩
  replace h := h x1 ex1
  refine y_iinc (v := x1) (lv' := [(2, .int x1), (0, .ref (Δ.1 58))]) cx (pc := 200) d_m_endSecond_200 (j := 1) rfl (by rw [ex1]; rfl) (le_b rfl) rfl ?_
  refine y_goto cx (pc := 203) (tgt := 162) d_m_endSecond_203 (by decide) ?_
  refine y_sub [1, 0] rfl ?_
  exact hK162 x1 σ h
def w_m_endSecond_162 (Q : Sg → Prop) : Nat → Int32 → Sg → Prop
  | 0, _, _ => False
  | n + 1, v2, σ => (16 ≤ v2 → (w_m_endSecond_206 Q σ)) ∧ (¬ 16 ≤ v2 → (vp_in v2 16 ∧ (((σ 72 (v2.toNatClampNeg)) = v2 → (w_m_endSecond_200 (w_m_endSecond_162 Q n) Q v2 σ)) ∧ (¬ (σ 72 (v2.toNatClampNeg)) = v2 → (vp_in v2 16 ∧ (w_m_emit 1 v2 (σ 72 (v2.toNatClampNeg)) 0 0 σ (fun x1 σ2 => vp_in v2 16 ∧ (w_m_endSecond_200 (w_m_endSecond_162 Q n) Q v2 (up σ2 72 (v2.toNatClampNeg) v2)))))))))
theorem b_m_endSecond_162 {Δ : Ly} {G : Gm} {Q : Sg → Prop} (cx : Cx Δ G mi_m_endSecond) : ∀ (n : Nat) (v2 : Int32) (σ : Sg), w_m_endSecond_162 Q n v2 σ → Y Δ G mi_m_endSecond (qV Q) noE 0 0 σ 162 [(0, .ref (Δ.1 58)), (2, .int v2)] [] := by
  intro n
  induction n with
  | zero => intro v2 σ h; exact h.elim
  | succ n ih =>
    intro v2 σ h
    unfold w_m_endSecond_162 at h
    refine y_iload_n cx (pc := 162) d_m_endSecond_162 rfl 1 rfl ?_
    refine y_bipush cx (pc := 163) bp_16 d_m_endSecond_163 ?_
    refine y_icmp_ge cx (pc := 165) (tgt := 206) d_m_endSecond_165 (by decide) (fun hc => ?_) (fun hc => ?_)
    · replace h := h.1 hc
      refine y_sub [] rfl ?_
      exact b_m_endSecond_206 cx σ h
    · replace h := h.2 hc
      refine y_aload_n cx (pc := 168) d_m_endSecond_168 rfl 0 rfl ?_
      refine y_get cx (pc := 169) (j := 25) (v := .ref (Δ.1 72)) (le_b rfl) ck_Md kw_773 (le_b rfl) (gf_58_25 Δ _) d_m_endSecond_169 ?_
      refine y_iload_n cx (pc := 172) d_m_endSecond_172 rfl 1 rfl ?_
      obtain ⟨h0, h⟩ := h
      refine y_iald cx (pc := 173) ⟨(le_b rfl), fun _ => rfl⟩ h0 d_m_endSecond_173 ?_
      refine y_iload_n cx (pc := 174) d_m_endSecond_174 rfl 1 rfl ?_
      refine y_icmp_eq cx (pc := 175) (tgt := 200) d_m_endSecond_175 (by decide) (fun hc => ?_) (fun hc => ?_)
      · replace h := h.1 hc
        exact b_m_endSecond_200 cx ih v2 σ h
      · replace h := h.2 hc
        refine y_aload_n cx (pc := 178) d_m_endSecond_178 rfl 0 rfl ?_
        refine y_iconst cx (pc := 179) ic_1 d_m_endSecond_179 ?_
        refine y_iload_n cx (pc := 180) d_m_endSecond_180 rfl 1 rfl ?_
        refine y_aload_n cx (pc := 181) d_m_endSecond_181 rfl 0 rfl ?_
        refine y_get cx (pc := 182) (j := 25) (v := .ref (Δ.1 72)) (le_b rfl) ck_Md kw_773 (le_b rfl) (gf_58_25 Δ _) d_m_endSecond_182 ?_
        refine y_iload_n cx (pc := 185) d_m_endSecond_185 rfl 1 rfl ?_
        obtain ⟨h0, h⟩ := h
        refine y_iald cx (pc := 186) ⟨(le_b rfl), fun _ => rfl⟩ h0 d_m_endSecond_186 ?_
        refine y_iconst cx (pc := 187) ic_0 d_m_endSecond_187 ?_
        refine y_iconst cx (pc := 188) ic_0 d_m_endSecond_188 ?_
        refine y_vI cx (pc := 189) (st := []) [.int 1, .int v2, .int (σ 72 (v2.toNatClampNeg)), .int 0, .int 0] (c_m_emit cx.fl Δ 1 v2 (σ 72 (v2.toNatClampNeg)) 0 0 _ _ h) mv_m_emit kw_996 (oc_58 Δ) ck_Md rfl (le_b rfl) (le_b rfl) (le_b rfl) (le_b rfl) (le_b rfl) d_m_endSecond_189 (fun x1 σ2 h => ?_) (fun x σ2 h => yt_no h)
        refine y_istore_n (lv' := [(3, .int x1), (0, .ref (Δ.1 58)), (2, .int v2)]) cx (pc := 192) d_m_endSecond_192 rfl (le_b rfl) rfl ?_
        refine y_aload_n cx (pc := 193) d_m_endSecond_193 rfl 1 rfl ?_
        refine y_get cx (pc := 194) (j := 25) (v := .ref (Δ.1 72)) (le_b rfl) ck_Md kw_773 (le_b rfl) (gf_58_25 Δ _) d_m_endSecond_194 ?_
        refine y_iload_n cx (pc := 197) d_m_endSecond_197 rfl 2 rfl ?_
        refine y_iload_n cx (pc := 198) d_m_endSecond_198 rfl 2 rfl ?_
        obtain ⟨h0, h⟩ := h
        refine y_iast cx (pc := 199) ⟨(le_b rfl), fun _ => rfl⟩ h0 d_m_endSecond_199 ?_
        refine y_sub [1, 2] rfl ?_
        exact b_m_endSecond_200 cx ih v2 (up σ2 72 (v2.toNatClampNeg) v2) h
def w_m_endSecond_147 (K62 : Int32 → Int32 → Sg → Prop) (Q : Sg → Prop) (v1 : Int32) (v2 : Int32) (σ : Sg) : Prop := ∀ x1 : Int32, x1 = v2 + 1 → (K62 v1 x1 σ)
theorem b_m_endSecond_147 {Δ : Ly} {G : Gm} {K62 : Int32 → Int32 → Sg → Prop} {Q : Sg → Prop} (cx : Cx Δ G mi_m_endSecond) (hK62 : ∀ (v1 : Int32) (v2 : Int32) (σ : Sg), K62 v1 v2 σ → Y Δ G mi_m_endSecond (qV Q) noE 0 0 σ 62 [(0, .ref (Δ.1 58)), (1, .int v1), (2, .int v2)] []) : ∀ (v1 : Int32) (v2 : Int32) (σ : Sg), w_m_endSecond_147 K62 Q v1 v2 σ → Y Δ G mi_m_endSecond (qV Q) noE 0 0 σ 147 [(0, .ref (Δ.1 58)), (1, .int v1), (2, .int v2)] [] := by
  intro v1 v2 σ h
  unfold w_m_endSecond_147 at h
  obtain ⟨x1, ex1⟩ : ∃ y : Int32, y = v2 + 1 := ⟨_, rfl⟩
  replace h := h x1 ex1
  refine y_iinc (v := x1) (lv' := [(2, .int x1), (0, .ref (Δ.1 58)), (1, .int v1)]) cx (pc := 147) d_m_endSecond_147 (j := 2) rfl (by rw [ex1]; rfl) (le_b rfl) rfl ?_
  refine y_goto cx (pc := 150) (tgt := 62) d_m_endSecond_150 (by decide) ?_
  refine y_sub [1, 2, 0] rfl ?_
  exact hK62 v1 x1 σ h
def w_m_endSecond_110 (K62 : Int32 → Int32 → Sg → Prop) (Q : Sg → Prop) (v1 : Int32) (v2 : Int32) (v3 : Int32) (σ : Sg) : Prop := w_m_fresh1 σ (fun x1 σ2 => vp_in v1 8 ∧ (vp_in v2 16 ∧ (w_m_emit 13 x1 (σ2 76 (v1.toNatClampNeg)) v3 (σ2 72 (v2.toNatClampNeg)) σ2 (fun x3 σ4 => vp_in v2 16 ∧ (w_m_endSecond_147 K62 Q v1 v2 (up σ4 72 (v2.toNatClampNeg) x1))))))
theorem b_m_endSecond_110 {Δ : Ly} {G : Gm} {K62 : Int32 → Int32 → Sg → Prop} {Q : Sg → Prop} (cx : Cx Δ G mi_m_endSecond) (hK62 : ∀ (v1 : Int32) (v2 : Int32) (σ : Sg), K62 v1 v2 σ → Y Δ G mi_m_endSecond (qV Q) noE 0 0 σ 62 [(0, .ref (Δ.1 58)), (1, .int v1), (2, .int v2)] []) : ∀ (v1 : Int32) (v2 : Int32) (v3 : Int32) (σ : Sg), w_m_endSecond_110 K62 Q v1 v2 v3 σ → Y Δ G mi_m_endSecond (qV Q) noE 0 0 σ 110 [(0, .ref (Δ.1 58)), (1, .int v1), (2, .int v2), (3, .int v3)] [] := by
  intro v1 v2 v3 σ h
  unfold w_m_endSecond_110 at h
  refine y_aload_n cx (pc := 110) d_m_endSecond_110 rfl 0 rfl ?_
  refine y_vI cx (pc := 111) (st := []) [] (c_m_fresh1 cx.fl Δ _ _ h) mv_m_fresh1 kw_992 (oc_58 Δ) ck_Md rfl (le_b rfl) (le_b rfl) (le_b rfl) (le_b rfl) (le_b rfl) d_m_endSecond_111 (fun x1 σ2 h => ?_) (fun x σ2 h => yt_no h)
  refine y_istore (lv' := [(5, .int x1), (0, .ref (Δ.1 58)), (1, .int v1), (2, .int v2), (3, .int v3)]) cx (pc := 114) d_m_endSecond_114 (le_b rfl) rfl ?_
  refine y_aload_n cx (pc := 116) d_m_endSecond_116 rfl 1 rfl ?_
  refine y_bipush cx (pc := 117) bp_13 d_m_endSecond_117 ?_
  refine y_iload cx (pc := 119) d_m_endSecond_119 0 rfl ?_
  refine y_aload_n cx (pc := 121) d_m_endSecond_121 rfl 1 rfl ?_
  refine y_get cx (pc := 122) (j := 30) (v := .ref (Δ.1 76)) (le_b rfl) ck_Md kw_778 (le_b rfl) (gf_58_30 Δ _) d_m_endSecond_122 ?_
  refine y_iload_n cx (pc := 125) d_m_endSecond_125 rfl 2 rfl ?_
  obtain ⟨h0, h⟩ := h
  refine y_iald cx (pc := 126) ⟨(le_b rfl), fun _ => rfl⟩ h0 d_m_endSecond_126 ?_
  refine y_iload_n cx (pc := 127) d_m_endSecond_127 rfl 4 rfl ?_
  refine y_aload_n cx (pc := 128) d_m_endSecond_128 rfl 1 rfl ?_
  refine y_get cx (pc := 129) (j := 25) (v := .ref (Δ.1 72)) (le_b rfl) ck_Md kw_773 (le_b rfl) (gf_58_25 Δ _) d_m_endSecond_129 ?_
  refine y_iload_n cx (pc := 132) d_m_endSecond_132 rfl 3 rfl ?_
  obtain ⟨h0, h⟩ := h
  refine y_iald cx (pc := 133) ⟨(le_b rfl), fun _ => rfl⟩ h0 d_m_endSecond_133 ?_
  refine y_vI cx (pc := 134) (st := []) [.int 13, .int x1, .int (σ2 76 (v1.toNatClampNeg)), .int v3, .int (σ2 72 (v2.toNatClampNeg))] (c_m_emit cx.fl Δ 13 x1 (σ2 76 (v1.toNatClampNeg)) v3 (σ2 72 (v2.toNatClampNeg)) _ _ h) mv_m_emit kw_996 (oc_58 Δ) ck_Md rfl (le_b rfl) (le_b rfl) (le_b rfl) (le_b rfl) (le_b rfl) d_m_endSecond_134 (fun x3 σ4 h => ?_) (fun x σ4 h => yt_no h)
  refine y_istore (lv' := [(6, .int x3), (5, .int x1), (0, .ref (Δ.1 58)), (1, .int v1), (2, .int v2), (3, .int v3)]) cx (pc := 137) d_m_endSecond_137 (le_b rfl) rfl ?_
  refine y_aload_n cx (pc := 139) d_m_endSecond_139 rfl 2 rfl ?_
  refine y_get cx (pc := 140) (j := 25) (v := .ref (Δ.1 72)) (le_b rfl) ck_Md kw_773 (le_b rfl) (gf_58_25 Δ _) d_m_endSecond_140 ?_
  refine y_iload_n cx (pc := 143) d_m_endSecond_143 rfl 4 rfl ?_
  refine y_iload cx (pc := 144) d_m_endSecond_144 1 rfl ?_
  obtain ⟨h0, h⟩ := h
  refine y_iast cx (pc := 146) ⟨(le_b rfl), fun _ => rfl⟩ h0 d_m_endSecond_146 ?_
  refine y_sub [2, 3, 4] rfl ?_
  exact b_m_endSecond_147 cx hK62 v1 v2 (up σ4 72 (v2.toNatClampNeg) x1) h
def w_m_endSecond_62 (Q : Sg → Prop) : Nat → Int32 → Int32 → Sg → Prop
  | 0, _, _, _ => False
  | n + 1, v1, v2, σ => (16 ≤ v2 → (w_m_isOnSide σ (fun x1 σ2 => (¬ x1 = 0 → (w_m_endSecond_206 Q σ2)) ∧ (x1 = 0 → (∃ q162, w_m_endSecond_162 Q q162 0 σ2))))) ∧ (¬ 16 ≤ v2 → (vp_in ((16 * v1) + v2) 128 ∧ (∀ x3 : Int32, x3 = σ 80 (((16 * v1) + v2).toNatClampNeg) → (vp_in ((16 * v1) + v2) 128 ∧ (∀ x4 : Int32, x4 = σ 79 (((16 * v1) + v2).toNatClampNeg) → ((¬ x3 = x4 → (w_m_endSecond_110 (w_m_endSecond_62 Q n) Q v1 v2 x3 σ)) ∧ (x3 = x4 → (vp_in v2 16 ∧ (((σ 72 (v2.toNatClampNeg)) = x4 → (w_m_endSecond_147 (w_m_endSecond_62 Q n) Q v1 v2 σ)) ∧ (¬ (σ 72 (v2.toNatClampNeg)) = x4 → (w_m_endSecond_110 (w_m_endSecond_62 Q n) Q v1 v2 x3 σ)))))))))))
theorem b_m_endSecond_62 {Δ : Ly} {G : Gm} {Q : Sg → Prop} (cx : Cx Δ G mi_m_endSecond) : ∀ (n : Nat) (v1 : Int32) (v2 : Int32) (σ : Sg), w_m_endSecond_62 Q n v1 v2 σ → Y Δ G mi_m_endSecond (qV Q) noE 0 0 σ 62 [(0, .ref (Δ.1 58)), (1, .int v1), (2, .int v2)] [] := by
  intro n
  induction n with
  | zero => intro v1 v2 σ h; exact h.elim
  | succ n ih =>
    intro v1 v2 σ h
    unfold w_m_endSecond_62 at h
    refine y_iload_n cx (pc := 62) d_m_endSecond_62 rfl 2 rfl ?_
    refine y_bipush cx (pc := 63) bp_16 d_m_endSecond_63 ?_
    refine y_icmp_ge cx (pc := 65) (tgt := 153) d_m_endSecond_65 (by decide) (fun hc => ?_) (fun hc => ?_)
    · replace h := h.1 hc
      refine y_aload_n cx (pc := 153) d_m_endSecond_153 rfl 0 rfl ?_
      refine y_vI cx (pc := 154) (st := []) [] (c_m_isOnSide cx.fl Δ _ _ h) mv_m_isOnSide kw_1000 (oc_58 Δ) ck_Md rfl (le_b rfl) (le_b rfl) (le_b rfl) (le_b rfl) (le_b rfl) d_m_endSecond_154 (fun x1 σ2 h => ?_) (fun x σ2 h => yt_no h)
      refine y_if_ne cx (pc := 157) (tgt := 206) d_m_endSecond_157 (by decide) (fun hc => ?_) (fun hc => ?_)
      · replace h := h.1 hc
        refine y_sub [] rfl ?_
        exact b_m_endSecond_206 cx σ2 h
      · replace h := h.2 hc
        refine y_iconst cx (pc := 160) ic_0 d_m_endSecond_160 ?_
        refine y_istore_n (lv' := [(2, .int 0), (0, .ref (Δ.1 58)), (1, .int v1)]) cx (pc := 161) d_m_endSecond_161 rfl (le_b rfl) rfl ?_
        refine y_sub [1, 0] rfl ?_
        obtain ⟨n, h⟩ := h
        exact b_m_endSecond_162 cx n 0 σ2 h
    · replace h := h.2 hc
      refine y_aload_n cx (pc := 68) d_m_endSecond_68 rfl 0 rfl ?_
      refine y_get cx (pc := 69) (j := 34) (v := .ref (Δ.1 80)) (le_b rfl) ck_Md kw_782 (le_b rfl) (gf_58_34 Δ _) d_m_endSecond_69 ?_
      refine y_bipush cx (pc := 72) bp_16 d_m_endSecond_72 ?_
      refine y_iload_n cx (pc := 74) d_m_endSecond_74 rfl 1 rfl ?_
      refine y_imul cx (pc := 75) d_m_endSecond_75 ?_
      refine y_iload_n cx (pc := 76) d_m_endSecond_76 rfl 2 rfl ?_
      refine y_iadd cx (pc := 77) d_m_endSecond_77 ?_
      obtain ⟨h0, h⟩ := h
      refine y_iald cx (pc := 78) ⟨(le_b rfl), fun _ => rfl⟩ h0 d_m_endSecond_78 ?_
      refine y_topi (fun x3 ex3 => ?_)
      replace h := h x3 ex3
      refine y_istore_n (lv' := [(3, .int x3), (0, .ref (Δ.1 58)), (1, .int v1), (2, .int v2)]) cx (pc := 79) d_m_endSecond_79 rfl (le_b rfl) rfl ?_
      refine y_aload_n cx (pc := 80) d_m_endSecond_80 rfl 1 rfl ?_
      refine y_get cx (pc := 81) (j := 33) (v := .ref (Δ.1 79)) (le_b rfl) ck_Md kw_781 (le_b rfl) (gf_58_33 Δ _) d_m_endSecond_81 ?_
      refine y_bipush cx (pc := 84) bp_16 d_m_endSecond_84 ?_
      refine y_iload_n cx (pc := 86) d_m_endSecond_86 rfl 2 rfl ?_
      refine y_imul cx (pc := 87) d_m_endSecond_87 ?_
      refine y_iload_n cx (pc := 88) d_m_endSecond_88 rfl 3 rfl ?_
      refine y_iadd cx (pc := 89) d_m_endSecond_89 ?_
      obtain ⟨h0, h⟩ := h
      refine y_iald cx (pc := 90) ⟨(le_b rfl), fun _ => rfl⟩ h0 d_m_endSecond_90 ?_
      refine y_topi (fun x4 ex4 => ?_)
      replace h := h x4 ex4
      refine y_istore (lv' := [(4, .int x4), (3, .int x3), (0, .ref (Δ.1 58)), (1, .int v1), (2, .int v2)]) cx (pc := 91) d_m_endSecond_91 (le_b rfl) rfl ?_
      refine y_iload_n cx (pc := 93) d_m_endSecond_93 rfl 1 rfl ?_
      refine y_iload cx (pc := 94) d_m_endSecond_94 0 rfl ?_
      refine y_icmp_ne cx (pc := 96) (tgt := 110) d_m_endSecond_96 (by decide) (fun hc => ?_) (fun hc => ?_)
      · replace h := h.1 hc
        refine y_sub [2, 3, 4, 1] rfl ?_
        exact b_m_endSecond_110 cx ih v1 v2 x3 σ h
      · replace h := h.2 hc
        refine y_aload_n cx (pc := 99) d_m_endSecond_99 rfl 2 rfl ?_
        refine y_get cx (pc := 100) (j := 25) (v := .ref (Δ.1 72)) (le_b rfl) ck_Md kw_773 (le_b rfl) (gf_58_25 Δ _) d_m_endSecond_100 ?_
        refine y_iload_n cx (pc := 103) d_m_endSecond_103 rfl 4 rfl ?_
        obtain ⟨h0, h⟩ := h
        refine y_iald cx (pc := 104) ⟨(le_b rfl), fun _ => rfl⟩ h0 d_m_endSecond_104 ?_
        refine y_iload cx (pc := 105) d_m_endSecond_105 0 rfl ?_
        refine y_icmp_eq cx (pc := 107) (tgt := 147) d_m_endSecond_107 (by decide) (fun hc => ?_) (fun hc => ?_)
        · replace h := h.1 hc
          refine y_sub [2, 3, 4] rfl ?_
          exact b_m_endSecond_147 cx ih v1 v2 σ h
        · replace h := h.2 hc
          refine y_sub [2, 3, 4, 1] rfl ?_
          exact b_m_endSecond_110 cx ih v1 v2 x3 σ h
def w_m_endSecond (p1 : Int32) (σ : Sg) (Q : Sg → Prop) : Prop := vp_in p1 8 ∧ (vp_in p1 8 ∧ ((¬ (σ 75 (p1.toNatClampNeg)) = 0 → (∃ q62, w_m_endSecond_62 Q q62 p1 0 (up (up σ 58 24 (σ 73 (p1.toNatClampNeg))) 58 26 ((σ 58 26) - 1)))) ∧ ((σ 75 (p1.toNatClampNeg)) = 0 → (vp_in p1 8 ∧ (((σ 78 (p1.toNatClampNeg)) = (-1) → (w_m_endSecond_59 Q (up (up σ 58 24 (σ 73 (p1.toNatClampNeg))) 58 26 ((σ 58 26) - 1)))) ∧ (¬ (σ 78 (p1.toNatClampNeg)) = (-1) → (vp_in p1 8 ∧ (vp_in ((6 * (σ 78 (p1.toNatClampNeg))) + 1) 24000 ∧ (w_m_endSecond_59 Q (up (up (up σ 58 24 (σ 73 (p1.toNatClampNeg))) 58 26 ((σ 58 26) - 1)) 70 (((6 * (σ 78 (p1.toNatClampNeg))) + 1).toNatClampNeg) (σ 58 20)))))))))))
theorem b_m_endSecond {Δ : Ly} {G : Gm} {Q : Sg → Prop} (cx : Cx Δ G mi_m_endSecond) (p1 : Int32) (σ : Sg) (h : w_m_endSecond p1 σ Q) : Y Δ G mi_m_endSecond (qV Q) noE 0 0 σ 0 [(0, .ref (Δ.1 58)), (1, .int p1)] [] := by
  unfold w_m_endSecond at h
  refine y_aload_n cx (pc := 0) d_m_endSecond_0 rfl 0 rfl ?_
  refine y_aload_n cx (pc := 1) d_m_endSecond_1 rfl 0 rfl ?_
  refine y_get cx (pc := 2) (j := 27) (v := .ref (Δ.1 73)) (le_b rfl) ck_Md kw_775 (le_b rfl) (gf_58_27 Δ _) d_m_endSecond_2 ?_
  refine y_iload_n cx (pc := 5) d_m_endSecond_5 rfl 1 rfl ?_
  obtain ⟨h0, h⟩ := h
  refine y_iald cx (pc := 6) ⟨(le_b rfl), fun _ => rfl⟩ h0 d_m_endSecond_6 ?_
  refine y_put cx (pc := 7) (j := 24) (ty := .int) (le_b rfl) ck_Md kw_772 (le_b rfl) rfl (t_Md_ok 24 (le_b rfl)) rfl rfl (pf_58_24 Δ) d_m_endSecond_7 ?_
  refine y_aload_n cx (pc := 10) d_m_endSecond_10 rfl 0 rfl ?_
  refine y_dup cx (pc := 11) rfl d_m_endSecond_11 ?_
  refine y_get cx (pc := 12) (j := 26) (v := .int (σ 58 26)) (le_b rfl) ck_Md kw_774 (le_b rfl) (gf_58_26 Δ _) d_m_endSecond_12 ?_
  refine y_iconst cx (pc := 15) ic_1 d_m_endSecond_15 ?_
  refine y_isub cx (pc := 16) d_m_endSecond_16 ?_
  refine y_put cx (pc := 17) (j := 26) (ty := .int) (le_b rfl) ck_Md kw_774 (le_b rfl) rfl (t_Md_ok 26 (le_b rfl)) rfl rfl (pf_58_26 Δ) d_m_endSecond_17 ?_
  refine y_aload_n cx (pc := 20) d_m_endSecond_20 rfl 0 rfl ?_
  refine y_get cx (pc := 21) (j := 29) (v := .ref (Δ.1 75)) (le_b rfl) ck_Md kw_777 (le_b rfl) (gf_58_29 Δ _) d_m_endSecond_21 ?_
  refine y_iload_n cx (pc := 24) d_m_endSecond_24 rfl 1 rfl ?_
  obtain ⟨h0, h⟩ := h
  refine y_zald cx (pc := 25) ⟨(le_b rfl), fun _ => rfl⟩ h0 d_m_endSecond_25 ?_
  refine y_if_ne cx (pc := 26) (tgt := 60) d_m_endSecond_26 (by decide) (fun hc => ?_) (fun hc => ?_)
  · replace h := h.1 hc
    refine y_iconst cx (pc := 60) ic_0 d_m_endSecond_60 ?_
    refine y_istore_n (lv' := [(2, .int 0), (0, .ref (Δ.1 58)), (1, .int p1)]) cx (pc := 61) d_m_endSecond_61 rfl (le_b rfl) rfl ?_
    refine y_sub [1, 2, 0] rfl ?_
    obtain ⟨n, h⟩ := h
    exact b_m_endSecond_62 cx n p1 0 (up (up σ 58 24 (σ 73 (p1.toNatClampNeg))) 58 26 ((σ 58 26) - 1)) h
  · replace h := h.2 hc
    refine y_aload_n cx (pc := 29) d_m_endSecond_29 rfl 0 rfl ?_
    refine y_get cx (pc := 30) (j := 32) (v := .ref (Δ.1 78)) (le_b rfl) ck_Md kw_780 (le_b rfl) (gf_58_32 Δ _) d_m_endSecond_30 ?_
    refine y_iload_n cx (pc := 33) d_m_endSecond_33 rfl 1 rfl ?_
    obtain ⟨h0, h⟩ := h
    refine y_iald cx (pc := 34) ⟨(le_b rfl), fun _ => rfl⟩ h0 d_m_endSecond_34 ?_
    refine y_iconst cx (pc := 35) ic_m1 d_m_endSecond_35 ?_
    refine y_icmp_eq cx (pc := 36) (tgt := 59) d_m_endSecond_36 (by decide) (fun hc => ?_) (fun hc => ?_)
    · replace h := h.1 hc
      refine y_sub [] rfl ?_
      exact b_m_endSecond_59 cx (up (up σ 58 24 (σ 73 (p1.toNatClampNeg))) 58 26 ((σ 58 26) - 1)) h
    · replace h := h.2 hc
      refine y_aload_n cx (pc := 39) d_m_endSecond_39 rfl 0 rfl ?_
      refine y_get cx (pc := 40) (j := 19) (v := .ref (Δ.1 70)) (le_b rfl) ck_Md kw_767 (le_b rfl) (gf_58_19 Δ _) d_m_endSecond_40 ?_
      refine y_bipush cx (pc := 43) bp_6 d_m_endSecond_43 ?_
      refine y_aload_n cx (pc := 45) d_m_endSecond_45 rfl 0 rfl ?_
      refine y_get cx (pc := 46) (j := 32) (v := .ref (Δ.1 78)) (le_b rfl) ck_Md kw_780 (le_b rfl) (gf_58_32 Δ _) d_m_endSecond_46 ?_
      refine y_iload_n cx (pc := 49) d_m_endSecond_49 rfl 1 rfl ?_
      obtain ⟨h0, h⟩ := h
      refine y_iald cx (pc := 50) ⟨(le_b rfl), fun _ => rfl⟩ h0 d_m_endSecond_50 ?_
      refine y_imul cx (pc := 51) d_m_endSecond_51 ?_
      refine y_iconst cx (pc := 52) ic_1 d_m_endSecond_52 ?_
      refine y_iadd cx (pc := 53) d_m_endSecond_53 ?_
      refine y_aload_n cx (pc := 54) d_m_endSecond_54 rfl 0 rfl ?_
      refine y_get cx (pc := 55) (j := 20) (v := .int (σ 58 20)) (le_b rfl) ck_Md kw_768 (le_b rfl) (gf_58_20 Δ _) d_m_endSecond_55 ?_
      obtain ⟨h0, h⟩ := h
      refine y_iast cx (pc := 58) ⟨(le_b rfl), fun _ => rfl⟩ h0 d_m_endSecond_58 ?_
      refine y_sub [] rfl ?_
      exact b_m_endSecond_59 cx (up (up (up σ 58 24 (σ 73 (p1.toNatClampNeg))) 58 26 ((σ 58 26) - 1)) 70 (((6 * (σ 78 (p1.toNatClampNeg))) + 1).toNatClampNeg) (σ 58 20)) h
theorem c_m_endSecond {l : Launch} (hfl : l.flags = flags0) (Δ : Ly) (p1 : Int32) (σ : Sg) (Q : Sg → Prop) (h : w_m_endSecond p1 σ Q) : Ct l Δ mi_m_endSecond [.ref (Δ.1 58), .int p1] σ (qV Q) noE :=
  Ct.of hfl (by show plainFor ⟨"GuardedMovesModel", "endSecond", "(I)V"⟩ = true; decide +kernel) rfl (le_b rfl) (fun G hl cx => b_m_endSecond cx p1 σ h)
def mi_m_of : Mi := ("GuardedMovesModel", prog_6_method_23_code, 3, [], (some .int), 0, 0, 0, 0, ⟨"GuardedMovesModel", "of", "(II)I"⟩)
theorem d_m_of_0 : decode prog_6_method_23_code 0 = .ok (.aload_n 0, 1) := by decide +kernel
theorem d_m_of_1 : decode prog_6_method_23_code 1 = .ok (.getfield 22, 3) := by decide +kernel
theorem d_m_of_4 : decode prog_6_method_23_code 4 = .ok (.bipush 9, 2) := by decide +kernel
theorem d_m_of_6 : decode prog_6_method_23_code 6 = .ok (.iload_n 1, 1) := by decide +kernel
theorem d_m_of_7 : decode prog_6_method_23_code 7 = .ok (.imul, 1) := by decide +kernel
theorem d_m_of_8 : decode prog_6_method_23_code 8 = .ok (.iload_n 2, 1) := by decide +kernel
theorem d_m_of_9 : decode prog_6_method_23_code 9 = .ok (.iadd, 1) := by decide +kernel
theorem d_m_of_10 : decode prog_6_method_23_code 10 = .ok (.iaload, 1) := by decide +kernel
theorem d_m_of_11 : decode prog_6_method_23_code 11 = .ok (.ireturn, 1) := by decide +kernel
theorem kc_m_of : Kw (m_w (mi_m_of )) := ⟨(in_t5 (List.mem_of_getElem? (i := 19) rfl)), rfl⟩
theorem mv_m_of : MV (mi_m_of ) "GuardedMovesModel" 2 := ⟨kw_978, ks_54, kc_m_of , kw_7, ⟨⟨(by show ("GuardedMovesModel" : String) ≠ "java/lang/invoke/MethodHandle"; decide), (by show ("GuardedMovesModel" : String) ≠ "java/lang/invoke/VarHandle"; decide)⟩, (by show (parseMethodDescriptor "(II)I").map (fun d => d.parameters.length) = some 2; decide +kernel)⟩⟩
def w_m_of (p1 : Int32) (p2 : Int32) (σ : Sg) (Q : Int32 → Sg → Prop) : Prop := vp_in ((9 * p1) + p2) 540 ∧ (Q (σ 63 (((9 * p1) + p2).toNatClampNeg)) σ)
theorem b_m_of {Δ : Ly} {G : Gm} {Q : Int32 → Sg → Prop} (cx : Cx Δ G mi_m_of) (p1 : Int32) (p2 : Int32) (σ : Sg) (h : w_m_of p1 p2 σ Q) : Y Δ G mi_m_of (qI Q) noE 0 0 σ 0 [(0, .ref (Δ.1 58)), (1, .int p1), (2, .int p2)] [] := by
  unfold w_m_of at h
  refine y_aload_n cx (pc := 0) d_m_of_0 rfl 0 rfl ?_
  refine y_get cx (pc := 1) (j := 11) (v := .ref (Δ.1 63)) (le_b rfl) ck_Md kw_759 (le_b rfl) (gf_58_11 Δ _) d_m_of_1 ?_
  refine y_bipush cx (pc := 4) bp_9 d_m_of_4 ?_
  refine y_iload_n cx (pc := 6) d_m_of_6 rfl 1 rfl ?_
  refine y_imul cx (pc := 7) d_m_of_7 ?_
  refine y_iload_n cx (pc := 8) d_m_of_8 rfl 2 rfl ?_
  refine y_iadd cx (pc := 9) d_m_of_9 ?_
  obtain ⟨h0, h⟩ := h
  refine y_iald cx (pc := 10) ⟨(le_b rfl), fun _ => rfl⟩ h0 d_m_of_10 ?_
  exact y_iret cx (pc := 11) rfl d_m_of_11 (le_b rfl) (le_b rfl) h
theorem c_m_of {l : Launch} (hfl : l.flags = flags0) (Δ : Ly) (p1 : Int32) (p2 : Int32) (σ : Sg) (Q : Int32 → Sg → Prop) (h : w_m_of p1 p2 σ Q) : Ct l Δ mi_m_of [.ref (Δ.1 58), .int p1, .int p2] σ (qI Q) noE :=
  Ct.of hfl (by show plainFor ⟨"GuardedMovesModel", "of", "(II)I"⟩ = true; decide +kernel) rfl (le_b rfl) (fun G hl cx => b_m_of cx p1 p2 σ h)
def mi_m_value : Mi := ("GuardedMovesModel", prog_6_method_27_code, 3, [], (some .int), 2, 57, 0, 0, ⟨"GuardedMovesModel", "value", "(II)I"⟩)
theorem d_m_value_0 : decode prog_6_method_27_code 0 = .ok (.aload_n 0, 1) := by decide +kernel
theorem d_m_value_1 : decode prog_6_method_27_code 1 = .ok (.iload_n 1, 1) := by decide +kernel
theorem d_m_value_2 : decode prog_6_method_27_code 2 = .ok (.iload_n 2, 1) := by decide +kernel
theorem d_m_value_3 : decode prog_6_method_27_code 3 = .ok (.invokevirtual 212, 3) := by decide +kernel
theorem d_m_value_6 : decode prog_6_method_27_code 6 = .ok (.iconst 1, 1) := by decide +kernel
theorem d_m_value_7 : decode prog_6_method_27_code 7 = .ok (.if_icmp .ne 19, 3) := by decide +kernel
theorem d_m_value_10 : decode prog_6_method_27_code 10 = .ok (.aload_n 0, 1) := by decide +kernel
theorem d_m_value_11 : decode prog_6_method_27_code 11 = .ok (.getfield 54, 3) := by decide +kernel
theorem d_m_value_14 : decode prog_6_method_27_code 14 = .ok (.aload_n 0, 1) := by decide +kernel
theorem d_m_value_15 : decode prog_6_method_27_code 15 = .ok (.iload_n 1, 1) := by decide +kernel
theorem d_m_value_16 : decode prog_6_method_27_code 16 = .ok (.iload_n 2, 1) := by decide +kernel
theorem d_m_value_17 : decode prog_6_method_27_code 17 = .ok (.iconst 1, 1) := by decide +kernel
theorem d_m_value_18 : decode prog_6_method_27_code 18 = .ok (.iadd, 1) := by decide +kernel
theorem d_m_value_19 : decode prog_6_method_27_code 19 = .ok (.invokevirtual 212, 3) := by decide +kernel
theorem d_m_value_22 : decode prog_6_method_27_code 22 = .ok (.iaload, 1) := by decide +kernel
theorem d_m_value_23 : decode prog_6_method_27_code 23 = .ok (.goto 15, 3) := by decide +kernel
theorem d_m_value_26 : decode prog_6_method_27_code 26 = .ok (.aload_n 0, 1) := by decide +kernel
theorem d_m_value_27 : decode prog_6_method_27_code 27 = .ok (.aload_n 0, 1) := by decide +kernel
theorem d_m_value_28 : decode prog_6_method_27_code 28 = .ok (.iload_n 1, 1) := by decide +kernel
theorem d_m_value_29 : decode prog_6_method_27_code 29 = .ok (.iload_n 2, 1) := by decide +kernel
theorem d_m_value_30 : decode prog_6_method_27_code 30 = .ok (.iconst 1, 1) := by decide +kernel
theorem d_m_value_31 : decode prog_6_method_27_code 31 = .ok (.iadd, 1) := by decide +kernel
theorem d_m_value_32 : decode prog_6_method_27_code 32 = .ok (.invokevirtual 212, 3) := by decide +kernel
theorem d_m_value_35 : decode prog_6_method_27_code 35 = .ok (.invokevirtual 216, 3) := by decide +kernel
theorem d_m_value_38 : decode prog_6_method_27_code 38 = .ok (.ireturn, 1) := by decide +kernel
theorem kc_m_value : Kw (m_w (mi_m_value )) := ⟨(in_t5 (List.mem_of_getElem? (i := 71) rfl)), rfl⟩
theorem mv_m_value : MV (mi_m_value ) "GuardedMovesModel" 2 := ⟨kw_1030, ks_67, kc_m_value , kw_7, ⟨⟨(by show ("GuardedMovesModel" : String) ≠ "java/lang/invoke/MethodHandle"; decide), (by show ("GuardedMovesModel" : String) ≠ "java/lang/invoke/VarHandle"; decide)⟩, (by show (parseMethodDescriptor "(II)I").map (fun d => d.parameters.length) = some 2; decide +kernel)⟩⟩
def w_m_value_38 (Q : Int32 → Sg → Prop) (s0 : Int32) (σ : Sg) : Prop := Q s0 σ
theorem b_m_value_38 {Δ : Ly} {G : Gm} {Q : Int32 → Sg → Prop} (cx : Cx Δ G mi_m_value) : ∀ (s0 : Int32) (σ : Sg), w_m_value_38 Q s0 σ → Y Δ G mi_m_value (qI Q) noE 0 0 σ 38 [] [.int s0] := by
  intro s0 σ h
  unfold w_m_value_38 at h
  exact y_iret cx (pc := 38) rfl d_m_value_38 (le_b rfl) (le_b rfl) h
def w_m_value (p1 : Int32) (p2 : Int32) (σ : Sg) (Q : Int32 → Sg → Prop) : Prop := w_m_of p1 p2 σ (fun x1 σ2 => (¬ x1 = 1 → (w_m_of p1 (p2 + 1) σ2 (fun x3 σ4 => w_m_setNew x3 σ4 (fun x5 σ6 => w_m_value_38 Q x5 σ6)))) ∧ (x1 = 1 → (w_m_of p1 (p2 + 1) σ2 (fun x7 σ8 => vp_in x7 16 ∧ (w_m_value_38 Q (σ8 72 (x7.toNatClampNeg)) σ8)))))
theorem b_m_value {Δ : Ly} {G : Gm} {Q : Int32 → Sg → Prop} (cx : Cx Δ G mi_m_value) (p1 : Int32) (p2 : Int32) (σ : Sg) (h : w_m_value p1 p2 σ Q) : Y Δ G mi_m_value (qI Q) noE 0 0 σ 0 [(0, .ref (Δ.1 58)), (1, .int p1), (2, .int p2)] [] := by
  unfold w_m_value at h
  refine y_aload_n cx (pc := 0) d_m_value_0 rfl 0 rfl ?_
  refine y_iload_n cx (pc := 1) d_m_value_1 rfl 1 rfl ?_
  refine y_iload_n cx (pc := 2) d_m_value_2 rfl 2 rfl ?_
  refine y_vI cx (pc := 3) (st := []) [.int p1, .int p2] (c_m_of cx.fl Δ p1 p2 _ _ h) mv_m_of kw_976 (oc_58 Δ) ck_Md rfl (le_b rfl) (le_b rfl) (le_b rfl) (le_b rfl) (le_b rfl) d_m_value_3 (fun x1 σ2 h => ?_) (fun x σ2 h => yt_no h)
  refine y_iconst cx (pc := 6) ic_1 d_m_value_6 ?_
  refine y_icmp_ne cx (pc := 7) (tgt := 26) d_m_value_7 (by decide) (fun hc => ?_) (fun hc => ?_)
  · replace h := h.1 hc
    refine y_aload_n cx (pc := 26) d_m_value_26 rfl 0 rfl ?_
    refine y_aload_n cx (pc := 27) d_m_value_27 rfl 0 rfl ?_
    refine y_iload_n cx (pc := 28) d_m_value_28 rfl 1 rfl ?_
    refine y_iload_n cx (pc := 29) d_m_value_29 rfl 2 rfl ?_
    refine y_iconst cx (pc := 30) ic_1 d_m_value_30 ?_
    refine y_iadd cx (pc := 31) d_m_value_31 ?_
    refine y_vI cx (pc := 32) (st := [.ref (Δ.1 58)]) [.int p1, .int (p2 + 1)] (c_m_of cx.fl Δ p1 (p2 + 1) _ _ h) mv_m_of kw_976 (oc_58 Δ) ck_Md rfl (le_b rfl) (le_b rfl) (le_b rfl) (le_b rfl) (le_b rfl) d_m_value_32 (fun x3 σ4 h => ?_) (fun x σ4 h => yt_no h)
    refine y_vI cx (pc := 35) (st := []) [.int x3] (c_m_setNew cx.fl Δ x3 _ _ h) mv_m_setNew kw_1008 (oc_58 Δ) ck_Md rfl (le_b rfl) (le_b rfl) (le_b rfl) (le_b rfl) (le_b rfl) d_m_value_35 (fun x5 σ6 h => ?_) (fun x σ6 h => yt_no h)
    refine y_sub [] rfl ?_
    exact b_m_value_38 cx x5 σ6 h
  · replace h := h.2 hc
    refine y_aload_n cx (pc := 10) d_m_value_10 rfl 0 rfl ?_
    refine y_get cx (pc := 11) (j := 25) (v := .ref (Δ.1 72)) (le_b rfl) ck_Md kw_773 (le_b rfl) (gf_58_25 Δ _) d_m_value_11 ?_
    refine y_aload_n cx (pc := 14) d_m_value_14 rfl 0 rfl ?_
    refine y_iload_n cx (pc := 15) d_m_value_15 rfl 1 rfl ?_
    refine y_iload_n cx (pc := 16) d_m_value_16 rfl 2 rfl ?_
    refine y_iconst cx (pc := 17) ic_1 d_m_value_17 ?_
    refine y_iadd cx (pc := 18) d_m_value_18 ?_
    refine y_vI cx (pc := 19) (st := [.ref (Δ.1 72)]) [.int p1, .int (p2 + 1)] (c_m_of cx.fl Δ p1 (p2 + 1) _ _ h) mv_m_of kw_976 (oc_58 Δ) ck_Md rfl (le_b rfl) (le_b rfl) (le_b rfl) (le_b rfl) (le_b rfl) d_m_value_19 (fun x7 σ8 h => ?_) (fun x σ8 h => yt_no h)
    obtain ⟨h0, h⟩ := h
    refine y_iald cx (pc := 22) ⟨(le_b rfl), fun _ => rfl⟩ h0 d_m_value_22 ?_
    refine y_goto cx (pc := 23) (tgt := 38) d_m_value_23 (by decide) ?_
    refine y_sub [] rfl ?_
    exact b_m_value_38 cx (σ8 72 (x7.toNatClampNeg)) σ8 h
theorem c_m_value {l : Launch} (hfl : l.flags = flags0) (Δ : Ly) (p1 : Int32) (p2 : Int32) (σ : Sg) (Q : Int32 → Sg → Prop) (h : w_m_value p1 p2 σ Q) : Ct l Δ mi_m_value [.ref (Δ.1 58), .int p1, .int p2] σ (qI Q) noE :=
  Ct.of hfl (by show plainFor ⟨"GuardedMovesModel", "value", "(II)I"⟩ = true; decide +kernel) rfl (le_b rfl) (fun G hl cx => b_m_value cx p1 p2 σ h)
def mi_m_beginTest : Mi := ("GuardedMovesModel", prog_6_method_30_code, 8, [], none, 3, 83, 0, 0, ⟨"GuardedMovesModel", "beginTest", "(I)V"⟩)
theorem d_m_beginTest_0 : decode prog_6_method_30_code 0 = .ok (.aload_n 0, 1) := by decide +kernel
theorem d_m_beginTest_1 : decode prog_6_method_30_code 1 = .ok (.iload_n 1, 1) := by decide +kernel
theorem d_m_beginTest_2 : decode prog_6_method_30_code 2 = .ok (.iconst 3, 1) := by decide +kernel
theorem d_m_beginTest_3 : decode prog_6_method_30_code 3 = .ok (.invokevirtual 222, 3) := by decide +kernel
theorem d_m_beginTest_6 : decode prog_6_method_30_code 6 = .ok (.istore_n 2, 1) := by decide +kernel
theorem d_m_beginTest_7 : decode prog_6_method_30_code 7 = .ok (.aload_n 0, 1) := by decide +kernel
theorem d_m_beginTest_8 : decode prog_6_method_30_code 8 = .ok (.iload_n 1, 1) := by decide +kernel
theorem d_m_beginTest_9 : decode prog_6_method_30_code 9 = .ok (.iconst 5, 1) := by decide +kernel
theorem d_m_beginTest_10 : decode prog_6_method_30_code 10 = .ok (.invokevirtual 222, 3) := by decide +kernel
theorem d_m_beginTest_13 : decode prog_6_method_30_code 13 = .ok (.istore_n 3, 1) := by decide +kernel
theorem d_m_beginTest_14 : decode prog_6_method_30_code 14 = .ok (.aload_n 0, 1) := by decide +kernel
theorem d_m_beginTest_15 : decode prog_6_method_30_code 15 = .ok (.invokevirtual 205, 3) := by decide +kernel
theorem d_m_beginTest_18 : decode prog_6_method_30_code 18 = .ok (.istore 4, 2) := by decide +kernel
theorem d_m_beginTest_20 : decode prog_6_method_30_code 20 = .ok (.aload_n 0, 1) := by decide +kernel
theorem d_m_beginTest_21 : decode prog_6_method_30_code 21 = .ok (.aload_n 0, 1) := by decide +kernel
theorem d_m_beginTest_22 : decode prog_6_method_30_code 22 = .ok (.iload_n 1, 1) := by decide +kernel
theorem d_m_beginTest_23 : decode prog_6_method_30_code 23 = .ok (.iconst 2, 1) := by decide +kernel
theorem d_m_beginTest_24 : decode prog_6_method_30_code 24 = .ok (.invokevirtual 212, 3) := by decide +kernel
theorem d_m_beginTest_27 : decode prog_6_method_30_code 27 = .ok (.iload 4, 2) := by decide +kernel
theorem d_m_beginTest_29 : decode prog_6_method_30_code 29 = .ok (.iload_n 2, 1) := by decide +kernel
theorem d_m_beginTest_30 : decode prog_6_method_30_code 30 = .ok (.iload_n 3, 1) := by decide +kernel
theorem d_m_beginTest_31 : decode prog_6_method_30_code 31 = .ok (.iconst 0, 1) := by decide +kernel
theorem d_m_beginTest_32 : decode prog_6_method_30_code 32 = .ok (.invokevirtual 208, 3) := by decide +kernel
theorem d_m_beginTest_35 : decode prog_6_method_30_code 35 = .ok (.istore 5, 2) := by decide +kernel
theorem d_m_beginTest_37 : decode prog_6_method_30_code 37 = .ok (.aload_n 0, 1) := by decide +kernel
theorem d_m_beginTest_38 : decode prog_6_method_30_code 38 = .ok (.getfield 219, 3) := by decide +kernel
theorem d_m_beginTest_41 : decode prog_6_method_30_code 41 = .ok (.istore 6, 2) := by decide +kernel
theorem d_m_beginTest_43 : decode prog_6_method_30_code 43 = .ok (.aload_n 0, 1) := by decide +kernel
theorem d_m_beginTest_44 : decode prog_6_method_30_code 44 = .ok (.getfield 57, 3) := by decide +kernel
theorem d_m_beginTest_47 : decode prog_6_method_30_code 47 = .ok (.iload 6, 2) := by decide +kernel
theorem d_m_beginTest_49 : decode prog_6_method_30_code 49 = .ok (.iload_n 1, 1) := by decide +kernel
theorem d_m_beginTest_50 : decode prog_6_method_30_code 50 = .ok (.iastore, 1) := by decide +kernel
theorem d_m_beginTest_51 : decode prog_6_method_30_code 51 = .ok (.aload_n 0, 1) := by decide +kernel
theorem d_m_beginTest_52 : decode prog_6_method_30_code 52 = .ok (.getfield 60, 3) := by decide +kernel
theorem d_m_beginTest_55 : decode prog_6_method_30_code 55 = .ok (.iload 6, 2) := by decide +kernel
theorem d_m_beginTest_57 : decode prog_6_method_30_code 57 = .ok (.iconst 0, 1) := by decide +kernel
theorem d_m_beginTest_58 : decode prog_6_method_30_code 58 = .ok (.bastore, 1) := by decide +kernel
theorem d_m_beginTest_59 : decode prog_6_method_30_code 59 = .ok (.aload_n 0, 1) := by decide +kernel
theorem d_m_beginTest_60 : decode prog_6_method_30_code 60 = .ok (.getfield 63, 3) := by decide +kernel
theorem d_m_beginTest_63 : decode prog_6_method_30_code 63 = .ok (.iload 6, 2) := by decide +kernel
theorem d_m_beginTest_65 : decode prog_6_method_30_code 65 = .ok (.aload_n 0, 1) := by decide +kernel
theorem d_m_beginTest_66 : decode prog_6_method_30_code 66 = .ok (.getfield 51, 3) := by decide +kernel
theorem d_m_beginTest_69 : decode prog_6_method_30_code 69 = .ok (.iload_n 1, 1) := by decide +kernel
theorem d_m_beginTest_70 : decode prog_6_method_30_code 70 = .ok (.baload, 1) := by decide +kernel
theorem d_m_beginTest_71 : decode prog_6_method_30_code 71 = .ok (.bastore, 1) := by decide +kernel
theorem d_m_beginTest_72 : decode prog_6_method_30_code 72 = .ok (.aload_n 0, 1) := by decide +kernel
theorem d_m_beginTest_73 : decode prog_6_method_30_code 73 = .ok (.getfield 66, 3) := by decide +kernel
theorem d_m_beginTest_76 : decode prog_6_method_30_code 76 = .ok (.iload 6, 2) := by decide +kernel
theorem d_m_beginTest_78 : decode prog_6_method_30_code 78 = .ok (.iload 4, 2) := by decide +kernel
theorem d_m_beginTest_80 : decode prog_6_method_30_code 80 = .ok (.iastore, 1) := by decide +kernel
theorem d_m_beginTest_81 : decode prog_6_method_30_code 81 = .ok (.aload_n 0, 1) := by decide +kernel
theorem d_m_beginTest_82 : decode prog_6_method_30_code 82 = .ok (.getfield 51, 3) := by decide +kernel
theorem d_m_beginTest_85 : decode prog_6_method_30_code 85 = .ok (.iload_n 1, 1) := by decide +kernel
theorem d_m_beginTest_86 : decode prog_6_method_30_code 86 = .ok (.baload, 1) := by decide +kernel
theorem d_m_beginTest_87 : decode prog_6_method_30_code 87 = .ok (.ifCond .eq 69, 3) := by decide +kernel
theorem d_m_beginTest_90 : decode prog_6_method_30_code 90 = .ok (.iconst 0, 1) := by decide +kernel
theorem d_m_beginTest_91 : decode prog_6_method_30_code 91 = .ok (.istore 7, 2) := by decide +kernel
theorem d_m_beginTest_93 : decode prog_6_method_30_code 93 = .ok (.iload 7, 2) := by decide +kernel
theorem d_m_beginTest_95 : decode prog_6_method_30_code 95 = .ok (.bipush 16, 2) := by decide +kernel
theorem d_m_beginTest_97 : decode prog_6_method_30_code 97 = .ok (.if_icmp .ge 29, 3) := by decide +kernel
theorem d_m_beginTest_100 : decode prog_6_method_30_code 100 = .ok (.aload_n 0, 1) := by decide +kernel
theorem d_m_beginTest_101 : decode prog_6_method_30_code 101 = .ok (.getfield 75, 3) := by decide +kernel
theorem d_m_beginTest_104 : decode prog_6_method_30_code 104 = .ok (.bipush 16, 2) := by decide +kernel
theorem d_m_beginTest_106 : decode prog_6_method_30_code 106 = .ok (.iload 6, 2) := by decide +kernel
theorem d_m_beginTest_108 : decode prog_6_method_30_code 108 = .ok (.imul, 1) := by decide +kernel
theorem d_m_beginTest_109 : decode prog_6_method_30_code 109 = .ok (.iload 7, 2) := by decide +kernel
theorem d_m_beginTest_111 : decode prog_6_method_30_code 111 = .ok (.iadd, 1) := by decide +kernel
theorem d_m_beginTest_112 : decode prog_6_method_30_code 112 = .ok (.aload_n 0, 1) := by decide +kernel
theorem d_m_beginTest_113 : decode prog_6_method_30_code 113 = .ok (.getfield 54, 3) := by decide +kernel
theorem d_m_beginTest_116 : decode prog_6_method_30_code 116 = .ok (.iload 7, 2) := by decide +kernel
theorem d_m_beginTest_118 : decode prog_6_method_30_code 118 = .ok (.iaload, 1) := by decide +kernel
theorem d_m_beginTest_119 : decode prog_6_method_30_code 119 = .ok (.iastore, 1) := by decide +kernel
theorem d_m_beginTest_120 : decode prog_6_method_30_code 120 = .ok (.iinc 7 1, 3) := by decide +kernel
theorem d_m_beginTest_123 : decode prog_6_method_30_code 123 = .ok (.goto (-30), 3) := by decide +kernel
theorem d_m_beginTest_126 : decode prog_6_method_30_code 126 = .ok (.aload_n 0, 1) := by decide +kernel
theorem d_m_beginTest_127 : decode prog_6_method_30_code 127 = .ok (.getfield 31, 3) := by decide +kernel
theorem d_m_beginTest_130 : decode prog_6_method_30_code 130 = .ok (.iload_n 1, 1) := by decide +kernel
theorem d_m_beginTest_131 : decode prog_6_method_30_code 131 = .ok (.iaload, 1) := by decide +kernel
theorem d_m_beginTest_132 : decode prog_6_method_30_code 132 = .ok (.iload_n 1, 1) := by decide +kernel
theorem d_m_beginTest_133 : decode prog_6_method_30_code 133 = .ok (.iconst 1, 1) := by decide +kernel
theorem d_m_beginTest_134 : decode prog_6_method_30_code 134 = .ok (.iadd, 1) := by decide +kernel
theorem d_m_beginTest_135 : decode prog_6_method_30_code 135 = .ok (.if_icmp .le 39, 3) := by decide +kernel
theorem d_m_beginTest_138 : decode prog_6_method_30_code 138 = .ok (.aload_n 0, 1) := by decide +kernel
theorem d_m_beginTest_139 : decode prog_6_method_30_code 139 = .ok (.getfield 69, 3) := by decide +kernel
theorem d_m_beginTest_142 : decode prog_6_method_30_code 142 = .ok (.iload 6, 2) := by decide +kernel
theorem d_m_beginTest_144 : decode prog_6_method_30_code 144 = .ok (.aload_n 0, 1) := by decide +kernel
theorem d_m_beginTest_145 : decode prog_6_method_30_code 145 = .ok (.iload 6, 2) := by decide +kernel
theorem d_m_beginTest_147 : decode prog_6_method_30_code 147 = .ok (.iload 4, 2) := by decide +kernel
theorem d_m_beginTest_149 : decode prog_6_method_30_code 149 = .ok (.invokevirtual 225, 3) := by decide +kernel
theorem d_m_beginTest_152 : decode prog_6_method_30_code 152 = .ok (.iastore, 1) := by decide +kernel
theorem d_m_beginTest_153 : decode prog_6_method_30_code 153 = .ok (.goto 21, 3) := by decide +kernel
theorem d_m_beginTest_156 : decode prog_6_method_30_code 156 = .ok (.aload_n 0, 1) := by decide +kernel
theorem d_m_beginTest_157 : decode prog_6_method_30_code 157 = .ok (.getfield 72, 3) := by decide +kernel
theorem d_m_beginTest_160 : decode prog_6_method_30_code 160 = .ok (.iload 6, 2) := by decide +kernel
theorem d_m_beginTest_162 : decode prog_6_method_30_code 162 = .ok (.aload_n 0, 1) := by decide +kernel
theorem d_m_beginTest_163 : decode prog_6_method_30_code 163 = .ok (.bipush 17, 2) := by decide +kernel
theorem d_m_beginTest_165 : decode prog_6_method_30_code 165 = .ok (.iload 4, 2) := by decide +kernel
theorem d_m_beginTest_167 : decode prog_6_method_30_code 167 = .ok (.iconst 0, 1) := by decide +kernel
theorem d_m_beginTest_168 : decode prog_6_method_30_code 168 = .ok (.iconst 0, 1) := by decide +kernel
theorem d_m_beginTest_169 : decode prog_6_method_30_code 169 = .ok (.iconst 0, 1) := by decide +kernel
theorem d_m_beginTest_170 : decode prog_6_method_30_code 170 = .ok (.invokevirtual 208, 3) := by decide +kernel
theorem d_m_beginTest_173 : decode prog_6_method_30_code 173 = .ok (.iastore, 1) := by decide +kernel
theorem d_m_beginTest_174 : decode prog_6_method_30_code 174 = .ok (.aload_n 0, 1) := by decide +kernel
theorem d_m_beginTest_175 : decode prog_6_method_30_code 175 = .ok (.dup, 1) := by decide +kernel
theorem d_m_beginTest_176 : decode prog_6_method_30_code 176 = .ok (.getfield 219, 3) := by decide +kernel
theorem d_m_beginTest_179 : decode prog_6_method_30_code 179 = .ok (.iconst 1, 1) := by decide +kernel
theorem d_m_beginTest_180 : decode prog_6_method_30_code 180 = .ok (.iadd, 1) := by decide +kernel
theorem d_m_beginTest_181 : decode prog_6_method_30_code 181 = .ok (.putfield 219, 3) := by decide +kernel
theorem d_m_beginTest_184 : decode prog_6_method_30_code 184 = .ok (.return_, 1) := by decide +kernel
theorem kc_m_beginTest : Kw (m_w (mi_m_beginTest )) := ⟨(in_t5 (List.mem_of_getElem? (i := 87) rfl)), rfl⟩
theorem mv_m_beginTest : MV (mi_m_beginTest ) "GuardedMovesModel" 1 := ⟨kw_1046, ks_71, kc_m_beginTest , kw_7, ⟨⟨(by show ("GuardedMovesModel" : String) ≠ "java/lang/invoke/MethodHandle"; decide), (by show ("GuardedMovesModel" : String) ≠ "java/lang/invoke/VarHandle"; decide)⟩, (by show (parseMethodDescriptor "(I)V").map (fun d => d.parameters.length) = some 1; decide +kernel)⟩⟩
def w_m_beginTest_174 (Q : Sg → Prop) (σ : Sg) : Prop := Q (up σ 58 26 ((σ 58 26) + 1))
theorem b_m_beginTest_174 {Δ : Ly} {G : Gm} {Q : Sg → Prop} (cx : Cx Δ G mi_m_beginTest) : ∀ (σ : Sg), w_m_beginTest_174 Q σ → Y Δ G mi_m_beginTest (qV Q) noE 0 0 σ 174 [(0, .ref (Δ.1 58))] [] := by
  intro σ h
  unfold w_m_beginTest_174 at h
  refine y_aload_n cx (pc := 174) d_m_beginTest_174 rfl 0 rfl ?_
  refine y_dup cx (pc := 175) rfl d_m_beginTest_175 ?_
  refine y_get cx (pc := 176) (j := 26) (v := .int (σ 58 26)) (le_b rfl) ck_Md kw_774 (le_b rfl) (gf_58_26 Δ _) d_m_beginTest_176 ?_
  refine y_iconst cx (pc := 179) ic_1 d_m_beginTest_179 ?_
  refine y_iadd cx (pc := 180) d_m_beginTest_180 ?_
  refine y_put cx (pc := 181) (j := 26) (ty := .int) (le_b rfl) ck_Md kw_774 (le_b rfl) rfl (t_Md_ok 26 (le_b rfl)) rfl rfl (pf_58_26 Δ) d_m_beginTest_181 ?_
  exact y_vret cx (pc := 184) rfl d_m_beginTest_184 (le_b rfl) (le_b rfl) h
def w_m_beginTest_93 (Q : Sg → Prop) : Nat → Int32 → Int32 → Int32 → Int32 → Sg → Prop
  | 0, _, _, _, _, _ => False
  | n + 1, v1, v4, v6, v7, σ => (16 ≤ v7 → (vp_in v1 60 ∧ (((σ 66 (v1.toNatClampNeg)) ≤ (v1 + 1) → (w_m_beginTest_174 Q σ)) ∧ (¬ (σ 66 (v1.toNatClampNeg)) ≤ (v1 + 1) → (w_m_guarded v6 v4 σ (fun x1 σ2 => vp_in v6 8 ∧ (w_m_beginTest_174 Q (up σ2 77 (v6.toNatClampNeg) x1)))))))) ∧ (¬ 16 ≤ v7 → (vp_in v7 16 ∧ (vp_in ((16 * v6) + v7) 128 ∧ (∀ x3 : Int32, x3 = v7 + 1 → ((w_m_beginTest_93 Q n) v1 v4 v6 x3 (up σ 79 (((16 * v6) + v7).toNatClampNeg) (σ 72 (v7.toNatClampNeg))))))))
theorem b_m_beginTest_93 {Δ : Ly} {G : Gm} {Q : Sg → Prop} (cx : Cx Δ G mi_m_beginTest) : ∀ (n : Nat) (v1 : Int32) (v4 : Int32) (v6 : Int32) (v7 : Int32) (σ : Sg), w_m_beginTest_93 Q n v1 v4 v6 v7 σ → Y Δ G mi_m_beginTest (qV Q) noE 0 0 σ 93 [(0, .ref (Δ.1 58)), (1, .int v1), (4, .int v4), (6, .int v6), (7, .int v7)] [] := by
  intro n
  induction n with
  | zero => intro v1 v4 v6 v7 σ h; exact h.elim
  | succ n ih =>
    intro v1 v4 v6 v7 σ h
    unfold w_m_beginTest_93 at h
    refine y_iload cx (pc := 93) d_m_beginTest_93 4 rfl ?_
    refine y_bipush cx (pc := 95) bp_16 d_m_beginTest_95 ?_
    refine y_icmp_ge cx (pc := 97) (tgt := 126) d_m_beginTest_97 (by decide) (fun hc => ?_) (fun hc => ?_)
    · replace h := h.1 hc
      refine y_aload_n cx (pc := 126) d_m_beginTest_126 rfl 0 rfl ?_
      refine y_get cx (pc := 127) (j := 14) (v := .ref (Δ.1 66)) (le_b rfl) ck_Md kw_762 (le_b rfl) (gf_58_14 Δ _) d_m_beginTest_127 ?_
      refine y_iload_n cx (pc := 130) d_m_beginTest_130 rfl 1 rfl ?_
      obtain ⟨h0, h⟩ := h
      refine y_iald cx (pc := 131) ⟨(le_b rfl), fun _ => rfl⟩ h0 d_m_beginTest_131 ?_
      refine y_iload_n cx (pc := 132) d_m_beginTest_132 rfl 1 rfl ?_
      refine y_iconst cx (pc := 133) ic_1 d_m_beginTest_133 ?_
      refine y_iadd cx (pc := 134) d_m_beginTest_134 ?_
      refine y_icmp_le cx (pc := 135) (tgt := 174) d_m_beginTest_135 (by decide) (fun hc => ?_) (fun hc => ?_)
      · replace h := h.1 hc
        refine y_sub [0] rfl ?_
        exact b_m_beginTest_174 cx σ h
      · replace h := h.2 hc
        refine y_aload_n cx (pc := 138) d_m_beginTest_138 rfl 0 rfl ?_
        refine y_get cx (pc := 139) (j := 31) (v := .ref (Δ.1 77)) (le_b rfl) ck_Md kw_779 (le_b rfl) (gf_58_31 Δ _) d_m_beginTest_139 ?_
        refine y_iload cx (pc := 142) d_m_beginTest_142 3 rfl ?_
        refine y_aload_n cx (pc := 144) d_m_beginTest_144 rfl 0 rfl ?_
        refine y_iload cx (pc := 145) d_m_beginTest_145 3 rfl ?_
        refine y_iload cx (pc := 147) d_m_beginTest_147 2 rfl ?_
        refine y_vI cx (pc := 149) (st := [.int v6, .ref (Δ.1 77)]) [.int v6, .int v4] (c_m_guarded cx.fl Δ v6 v4 _ _ h) mv_m_guarded kw_1012 (oc_58 Δ) ck_Md rfl (le_b rfl) (le_b rfl) (le_b rfl) (le_b rfl) (le_b rfl) d_m_beginTest_149 (fun x1 σ2 h => ?_) (fun x σ2 h => yt_no h)
        obtain ⟨h0, h⟩ := h
        refine y_iast cx (pc := 152) ⟨(le_b rfl), fun _ => rfl⟩ h0 d_m_beginTest_152 ?_
        refine y_goto cx (pc := 153) (tgt := 174) d_m_beginTest_153 (by decide) ?_
        refine y_sub [0] rfl ?_
        exact b_m_beginTest_174 cx (up σ2 77 (v6.toNatClampNeg) x1) h
    · replace h := h.2 hc
      refine y_aload_n cx (pc := 100) d_m_beginTest_100 rfl 0 rfl ?_
      refine y_get cx (pc := 101) (j := 33) (v := .ref (Δ.1 79)) (le_b rfl) ck_Md kw_781 (le_b rfl) (gf_58_33 Δ _) d_m_beginTest_101 ?_
      refine y_bipush cx (pc := 104) bp_16 d_m_beginTest_104 ?_
      refine y_iload cx (pc := 106) d_m_beginTest_106 3 rfl ?_
      refine y_imul cx (pc := 108) d_m_beginTest_108 ?_
      refine y_iload cx (pc := 109) d_m_beginTest_109 4 rfl ?_
      refine y_iadd cx (pc := 111) d_m_beginTest_111 ?_
      refine y_aload_n cx (pc := 112) d_m_beginTest_112 rfl 0 rfl ?_
      refine y_get cx (pc := 113) (j := 25) (v := .ref (Δ.1 72)) (le_b rfl) ck_Md kw_773 (le_b rfl) (gf_58_25 Δ _) d_m_beginTest_113 ?_
      refine y_iload cx (pc := 116) d_m_beginTest_116 4 rfl ?_
      obtain ⟨h0, h⟩ := h
      refine y_iald cx (pc := 118) ⟨(le_b rfl), fun _ => rfl⟩ h0 d_m_beginTest_118 ?_
      obtain ⟨h0, h⟩ := h
      refine y_iast cx (pc := 119) ⟨(le_b rfl), fun _ => rfl⟩ h0 d_m_beginTest_119 ?_
      obtain ⟨x3, ex3⟩ : ∃ y : Int32, y = v7 + 1 := ⟨_, rfl⟩
      replace h := h x3 ex3
      refine y_iinc (v := x3) (lv' := [(7, .int x3), (0, .ref (Δ.1 58)), (1, .int v1), (4, .int v4), (6, .int v6)]) cx (pc := 120) d_m_beginTest_120 (j := 4) rfl (by rw [ex3]; rfl) (le_b rfl) rfl ?_
      refine y_goto cx (pc := 123) (tgt := 93) d_m_beginTest_123 (by decide) ?_
      refine y_sub [1, 2, 3, 4, 0] rfl ?_
      exact ih v1 v4 v6 x3 (up σ 79 (((16 * v6) + v7).toNatClampNeg) (σ 72 (v7.toNatClampNeg))) h
def w_m_beginTest (p1 : Int32) (σ : Sg) (Q : Sg → Prop) : Prop := w_m_value p1 3 σ (fun x1 σ2 => w_m_value p1 5 σ2 (fun x3 σ4 => w_m_fresh1 σ4 (fun x5 σ6 => w_m_of p1 2 σ6 (fun x7 σ8 => w_m_emit x7 x5 x1 x3 0 σ8 (fun x9 σ10 => ∀ x11 : Int32, x11 = σ10 58 26 → (vp_in x11 8 ∧ (vp_in x11 8 ∧ (vp_in p1 60 ∧ (vp_in x11 8 ∧ (bz (σ10 71 (p1.toNatClampNeg)) ∧ (vp_in x11 8 ∧ (vp_in p1 60 ∧ (((σ10 71 (p1.toNatClampNeg)) = 0 → (w_m_emit 17 x5 0 0 0 (up (up (up (up σ10 73 (x11.toNatClampNeg) p1) 74 (x11.toNatClampNeg) 0) 75 (x11.toNatClampNeg) (σ10 71 (p1.toNatClampNeg))) 76 (x11.toNatClampNeg) x5) (fun x12 σ13 => vp_in x11 8 ∧ (w_m_beginTest_174 Q (up σ13 78 (x11.toNatClampNeg) x12))))) ∧ (¬ (σ10 71 (p1.toNatClampNeg)) = 0 → (∃ q93, w_m_beginTest_93 Q q93 p1 x5 x11 0 (up (up (up (up σ10 73 (x11.toNatClampNeg) p1) 74 (x11.toNatClampNeg) 0) 75 (x11.toNatClampNeg) (σ10 71 (p1.toNatClampNeg))) 76 (x11.toNatClampNeg) x5))))))))))))))))
theorem b_m_beginTest {Δ : Ly} {G : Gm} {Q : Sg → Prop} (cx : Cx Δ G mi_m_beginTest) (p1 : Int32) (σ : Sg) (h : w_m_beginTest p1 σ Q) : Y Δ G mi_m_beginTest (qV Q) noE 0 0 σ 0 [(0, .ref (Δ.1 58)), (1, .int p1)] [] := by
  unfold w_m_beginTest at h
  refine y_aload_n cx (pc := 0) d_m_beginTest_0 rfl 0 rfl ?_
  refine y_iload_n cx (pc := 1) d_m_beginTest_1 rfl 1 rfl ?_
  refine y_iconst cx (pc := 2) ic_3 d_m_beginTest_2 ?_
  refine y_vI cx (pc := 3) (st := []) [.int p1, .int 3] (c_m_value cx.fl Δ p1 3 _ _ h) mv_m_value kw_1028 (oc_58 Δ) ck_Md rfl (le_b rfl) (le_b rfl) (le_b rfl) (le_b rfl) (le_b rfl) d_m_beginTest_3 (fun x1 σ2 h => ?_) (fun x σ2 h => yt_no h)
  refine y_istore_n (lv' := [(2, .int x1), (0, .ref (Δ.1 58)), (1, .int p1)]) cx (pc := 6) d_m_beginTest_6 rfl (le_b rfl) rfl ?_
  refine y_aload_n cx (pc := 7) d_m_beginTest_7 rfl 1 rfl ?_
  refine y_iload_n cx (pc := 8) d_m_beginTest_8 rfl 2 rfl ?_
  refine y_iconst cx (pc := 9) ic_5 d_m_beginTest_9 ?_
  refine y_vI cx (pc := 10) (st := []) [.int p1, .int 5] (c_m_value cx.fl Δ p1 5 _ _ h) mv_m_value kw_1028 (oc_58 Δ) ck_Md rfl (le_b rfl) (le_b rfl) (le_b rfl) (le_b rfl) (le_b rfl) d_m_beginTest_10 (fun x3 σ4 h => ?_) (fun x σ4 h => yt_no h)
  refine y_istore_n (lv' := [(3, .int x3), (2, .int x1), (0, .ref (Δ.1 58)), (1, .int p1)]) cx (pc := 13) d_m_beginTest_13 rfl (le_b rfl) rfl ?_
  refine y_aload_n cx (pc := 14) d_m_beginTest_14 rfl 2 rfl ?_
  refine y_vI cx (pc := 15) (st := []) [] (c_m_fresh1 cx.fl Δ _ _ h) mv_m_fresh1 kw_992 (oc_58 Δ) ck_Md rfl (le_b rfl) (le_b rfl) (le_b rfl) (le_b rfl) (le_b rfl) d_m_beginTest_15 (fun x5 σ6 h => ?_) (fun x σ6 h => yt_no h)
  refine y_istore (lv' := [(4, .int x5), (3, .int x3), (2, .int x1), (0, .ref (Δ.1 58)), (1, .int p1)]) cx (pc := 18) d_m_beginTest_18 (le_b rfl) rfl ?_
  refine y_aload_n cx (pc := 20) d_m_beginTest_20 rfl 3 rfl ?_
  refine y_aload_n cx (pc := 21) d_m_beginTest_21 rfl 3 rfl ?_
  refine y_iload_n cx (pc := 22) d_m_beginTest_22 rfl 4 rfl ?_
  refine y_iconst cx (pc := 23) ic_2 d_m_beginTest_23 ?_
  refine y_vI cx (pc := 24) (st := [.ref (Δ.1 58)]) [.int p1, .int 2] (c_m_of cx.fl Δ p1 2 _ _ h) mv_m_of kw_976 (oc_58 Δ) ck_Md rfl (le_b rfl) (le_b rfl) (le_b rfl) (le_b rfl) (le_b rfl) d_m_beginTest_24 (fun x7 σ8 h => ?_) (fun x σ8 h => yt_no h)
  refine y_iload cx (pc := 27) d_m_beginTest_27 0 rfl ?_
  refine y_iload_n cx (pc := 29) d_m_beginTest_29 rfl 2 rfl ?_
  refine y_iload_n cx (pc := 30) d_m_beginTest_30 rfl 1 rfl ?_
  refine y_iconst cx (pc := 31) ic_0 d_m_beginTest_31 ?_
  refine y_vI cx (pc := 32) (st := []) [.int x7, .int x5, .int x1, .int x3, .int 0] (c_m_emit cx.fl Δ x7 x5 x1 x3 0 _ _ h) mv_m_emit kw_996 (oc_58 Δ) ck_Md rfl (le_b rfl) (le_b rfl) (le_b rfl) (le_b rfl) (le_b rfl) d_m_beginTest_32 (fun x9 σ10 h => ?_) (fun x σ10 h => yt_no h)
  refine y_istore (lv' := [(5, .int x9), (4, .int x5), (3, .int x3), (2, .int x1), (0, .ref (Δ.1 58)), (1, .int p1)]) cx (pc := 35) d_m_beginTest_35 (le_b rfl) rfl ?_
  refine y_aload_n cx (pc := 37) d_m_beginTest_37 rfl 4 rfl ?_
  refine y_get cx (pc := 38) (j := 26) (v := .int (σ10 58 26)) (le_b rfl) ck_Md kw_774 (le_b rfl) (gf_58_26 Δ _) d_m_beginTest_38 ?_
  refine y_topi (fun x11 ex11 => ?_)
  replace h := h x11 ex11
  refine y_istore (lv' := [(6, .int x11), (5, .int x9), (4, .int x5), (3, .int x3), (2, .int x1), (0, .ref (Δ.1 58)), (1, .int p1)]) cx (pc := 41) d_m_beginTest_41 (le_b rfl) rfl ?_
  refine y_aload_n cx (pc := 43) d_m_beginTest_43 rfl 5 rfl ?_
  refine y_get cx (pc := 44) (j := 27) (v := .ref (Δ.1 73)) (le_b rfl) ck_Md kw_775 (le_b rfl) (gf_58_27 Δ _) d_m_beginTest_44 ?_
  refine y_iload cx (pc := 47) d_m_beginTest_47 0 rfl ?_
  refine y_iload_n cx (pc := 49) d_m_beginTest_49 rfl 6 rfl ?_
  obtain ⟨h0, h⟩ := h
  refine y_iast cx (pc := 50) ⟨(le_b rfl), fun _ => rfl⟩ h0 d_m_beginTest_50 ?_
  refine y_aload_n cx (pc := 51) d_m_beginTest_51 rfl 5 rfl ?_
  refine y_get cx (pc := 52) (j := 28) (v := .ref (Δ.1 74)) (le_b rfl) ck_Md kw_776 (le_b rfl) (gf_58_28 Δ _) d_m_beginTest_52 ?_
  refine y_iload cx (pc := 55) d_m_beginTest_55 0 rfl ?_
  refine y_iconst cx (pc := 57) ic_0 d_m_beginTest_57 ?_
  obtain ⟨h0, h⟩ := h
  refine y_zastB cx (pc := 58) ⟨(le_b rfl), fun _ => rfl⟩ h0 bz_0 d_m_beginTest_58 ?_
  refine y_aload_n cx (pc := 59) d_m_beginTest_59 rfl 5 rfl ?_
  refine y_get cx (pc := 60) (j := 29) (v := .ref (Δ.1 75)) (le_b rfl) ck_Md kw_777 (le_b rfl) (gf_58_29 Δ _) d_m_beginTest_60 ?_
  refine y_iload cx (pc := 63) d_m_beginTest_63 0 rfl ?_
  refine y_aload_n cx (pc := 65) d_m_beginTest_65 rfl 5 rfl ?_
  refine y_get cx (pc := 66) (j := 23) (v := .ref (Δ.1 71)) (le_b rfl) ck_Md kw_771 (le_b rfl) (gf_58_23 Δ _) d_m_beginTest_66 ?_
  refine y_iload_n cx (pc := 69) d_m_beginTest_69 rfl 6 rfl ?_
  obtain ⟨h0, h⟩ := h
  refine y_zald cx (pc := 70) ⟨(le_b rfl), fun _ => rfl⟩ h0 d_m_beginTest_70 ?_
  obtain ⟨h0, h⟩ := h
  obtain ⟨hb, h⟩ := h
  refine y_zastB cx (pc := 71) ⟨(le_b rfl), fun _ => rfl⟩ h0 hb d_m_beginTest_71 ?_
  refine y_aload_n cx (pc := 72) d_m_beginTest_72 rfl 5 rfl ?_
  refine y_get cx (pc := 73) (j := 30) (v := .ref (Δ.1 76)) (le_b rfl) ck_Md kw_778 (le_b rfl) (gf_58_30 Δ _) d_m_beginTest_73 ?_
  refine y_iload cx (pc := 76) d_m_beginTest_76 0 rfl ?_
  refine y_iload cx (pc := 78) d_m_beginTest_78 2 rfl ?_
  obtain ⟨h0, h⟩ := h
  refine y_iast cx (pc := 80) ⟨(le_b rfl), fun _ => rfl⟩ h0 d_m_beginTest_80 ?_
  refine y_aload_n cx (pc := 81) d_m_beginTest_81 rfl 5 rfl ?_
  refine y_get cx (pc := 82) (j := 23) (v := .ref (Δ.1 71)) (le_b rfl) ck_Md kw_771 (le_b rfl) (gf_58_23 Δ _) d_m_beginTest_82 ?_
  refine y_iload_n cx (pc := 85) d_m_beginTest_85 rfl 6 rfl ?_
  obtain ⟨h0, h⟩ := h
  refine y_zald cx (pc := 86) ⟨(le_b rfl), fun _ => rfl⟩ h0 d_m_beginTest_86 ?_
  refine y_if_eq cx (pc := 87) (tgt := 156) d_m_beginTest_87 (by decide) (fun hc => ?_) (fun hc => ?_)
  · replace h := h.1 hc
    refine y_aload_n cx (pc := 156) d_m_beginTest_156 rfl 5 rfl ?_
    refine y_get cx (pc := 157) (j := 32) (v := .ref (Δ.1 78)) (le_b rfl) ck_Md kw_780 (le_b rfl) (gf_58_32 Δ _) d_m_beginTest_157 ?_
    refine y_iload cx (pc := 160) d_m_beginTest_160 0 rfl ?_
    refine y_aload_n cx (pc := 162) d_m_beginTest_162 rfl 5 rfl ?_
    refine y_bipush cx (pc := 163) bp_17 d_m_beginTest_163 ?_
    refine y_iload cx (pc := 165) d_m_beginTest_165 2 rfl ?_
    refine y_iconst cx (pc := 167) ic_0 d_m_beginTest_167 ?_
    refine y_iconst cx (pc := 168) ic_0 d_m_beginTest_168 ?_
    refine y_iconst cx (pc := 169) ic_0 d_m_beginTest_169 ?_
    refine y_vI cx (pc := 170) (st := [.int x11, .ref (Δ.1 78)]) [.int 17, .int x5, .int 0, .int 0, .int 0] (c_m_emit cx.fl Δ 17 x5 0 0 0 _ _ h) mv_m_emit kw_996 (oc_58 Δ) ck_Md rfl (le_b rfl) (le_b rfl) (le_b rfl) (le_b rfl) (le_b rfl) d_m_beginTest_170 (fun x12 σ13 h => ?_) (fun x σ13 h => yt_no h)
    obtain ⟨h0, h⟩ := h
    refine y_iast cx (pc := 173) ⟨(le_b rfl), fun _ => rfl⟩ h0 d_m_beginTest_173 ?_
    refine y_sub [5] rfl ?_
    exact b_m_beginTest_174 cx (up σ13 78 (x11.toNatClampNeg) x12) h
  · replace h := h.2 hc
    refine y_iconst cx (pc := 90) ic_0 d_m_beginTest_90 ?_
    refine y_istore (lv' := [(7, .int 0), (6, .int x11), (5, .int x9), (4, .int x5), (3, .int x3), (2, .int x1), (0, .ref (Δ.1 58)), (1, .int p1)]) cx (pc := 91) d_m_beginTest_91 (le_b rfl) rfl ?_
    refine y_sub [6, 7, 3, 1, 0] rfl ?_
    obtain ⟨n, h⟩ := h
    exact b_m_beginTest_93 cx n p1 x5 x11 0 (up (up (up (up σ10 73 (x11.toNatClampNeg) p1) 74 (x11.toNatClampNeg) 0) 75 (x11.toNatClampNeg) (σ10 71 (p1.toNatClampNeg))) 76 (x11.toNatClampNeg) x5) h
theorem c_m_beginTest {l : Launch} (hfl : l.flags = flags0) (Δ : Ly) (p1 : Int32) (σ : Sg) (Q : Sg → Prop) (h : w_m_beginTest p1 σ Q) : Ct l Δ mi_m_beginTest [.ref (Δ.1 58), .int p1] σ (qV Q) noE :=
  Ct.of hfl (by show plainFor ⟨"GuardedMovesModel", "beginTest", "(I)V"⟩ = true; decide +kernel) rfl (le_b rfl) (fun G hl cx => b_m_beginTest cx p1 σ h)

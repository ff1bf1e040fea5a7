def mi_m_lowerAll : Mi := ("GuardedMovesModel", prog_6_method_39_code, 8, [], none, 5, 149, 0, 0, ⟨"GuardedMovesModel", "lowerAll", "(II)V"⟩)
theorem d_m_lowerAll_0 : decode prog_6_method_39_code 0 = .ok (.aload_n 0, 1) := by decide +kernel
theorem d_m_lowerAll_1 : decode prog_6_method_39_code 1 = .ok (.iconst 0, 1) := by decide +kernel
theorem d_m_lowerAll_2 : decode prog_6_method_39_code 2 = .ok (.putfield 199, 3) := by decide +kernel
theorem d_m_lowerAll_5 : decode prog_6_method_39_code 5 = .ok (.aload_n 0, 1) := by decide +kernel
theorem d_m_lowerAll_6 : decode prog_6_method_39_code 6 = .ok (.bipush 16, 2) := by decide +kernel
theorem d_m_lowerAll_8 : decode prog_6_method_39_code 8 = .ok (.putfield 47, 3) := by decide +kernel
theorem d_m_lowerAll_11 : decode prog_6_method_39_code 11 = .ok (.aload_n 0, 1) := by decide +kernel
theorem d_m_lowerAll_12 : decode prog_6_method_39_code 12 = .ok (.iconst 0, 1) := by decide +kernel
theorem d_m_lowerAll_13 : decode prog_6_method_39_code 13 = .ok (.putfield 219, 3) := by decide +kernel
theorem d_m_lowerAll_16 : decode prog_6_method_39_code 16 = .ok (.iconst 0, 1) := by decide +kernel
theorem d_m_lowerAll_17 : decode prog_6_method_39_code 17 = .ok (.istore_n 3, 1) := by decide +kernel
theorem d_m_lowerAll_18 : decode prog_6_method_39_code 18 = .ok (.iload_n 3, 1) := by decide +kernel
theorem d_m_lowerAll_19 : decode prog_6_method_39_code 19 = .ok (.bipush 16, 2) := by decide +kernel
theorem d_m_lowerAll_21 : decode prog_6_method_39_code 21 = .ok (.if_icmp .ge 16, 3) := by decide +kernel
theorem d_m_lowerAll_24 : decode prog_6_method_39_code 24 = .ok (.aload_n 0, 1) := by decide +kernel
theorem d_m_lowerAll_25 : decode prog_6_method_39_code 25 = .ok (.getfield 54, 3) := by decide +kernel
theorem d_m_lowerAll_28 : decode prog_6_method_39_code 28 = .ok (.iload_n 3, 1) := by decide +kernel
theorem d_m_lowerAll_29 : decode prog_6_method_39_code 29 = .ok (.iload_n 3, 1) := by decide +kernel
theorem d_m_lowerAll_30 : decode prog_6_method_39_code 30 = .ok (.iastore, 1) := by decide +kernel
theorem d_m_lowerAll_31 : decode prog_6_method_39_code 31 = .ok (.iinc 3 1, 3) := by decide +kernel
theorem d_m_lowerAll_34 : decode prog_6_method_39_code 34 = .ok (.goto (-16), 3) := by decide +kernel
theorem d_m_lowerAll_37 : decode prog_6_method_39_code 37 = .ok (.iload_n 1, 1) := by decide +kernel
theorem d_m_lowerAll_38 : decode prog_6_method_39_code 38 = .ok (.istore_n 3, 1) := by decide +kernel
theorem d_m_lowerAll_39 : decode prog_6_method_39_code 39 = .ok (.iconst 1, 1) := by decide +kernel
theorem d_m_lowerAll_40 : decode prog_6_method_39_code 40 = .ok (.istore 4, 2) := by decide +kernel
theorem d_m_lowerAll_42 : decode prog_6_method_39_code 42 = .ok (.iload 4, 2) := by decide +kernel
theorem d_m_lowerAll_44 : decode prog_6_method_39_code 44 = .ok (.ifCond .eq 139, 3) := by decide +kernel
theorem d_m_lowerAll_47 : decode prog_6_method_39_code 47 = .ok (.iconst 1, 1) := by decide +kernel
theorem d_m_lowerAll_48 : decode prog_6_method_39_code 48 = .ok (.istore 5, 2) := by decide +kernel
theorem d_m_lowerAll_50 : decode prog_6_method_39_code 50 = .ok (.iload 5, 2) := by decide +kernel
theorem d_m_lowerAll_52 : decode prog_6_method_39_code 52 = .ok (.ifCond .eq 103, 3) := by decide +kernel
theorem d_m_lowerAll_55 : decode prog_6_method_39_code 55 = .ok (.aload_n 0, 1) := by decide +kernel
theorem d_m_lowerAll_56 : decode prog_6_method_39_code 56 = .ok (.getfield 219, 3) := by decide +kernel
theorem d_m_lowerAll_59 : decode prog_6_method_39_code 59 = .ok (.ifCond .le 96, 3) := by decide +kernel
theorem d_m_lowerAll_62 : decode prog_6_method_39_code 62 = .ok (.aload_n 0, 1) := by decide +kernel
theorem d_m_lowerAll_63 : decode prog_6_method_39_code 63 = .ok (.getfield 219, 3) := by decide +kernel
theorem d_m_lowerAll_66 : decode prog_6_method_39_code 66 = .ok (.iconst 1, 1) := by decide +kernel
theorem d_m_lowerAll_67 : decode prog_6_method_39_code 67 = .ok (.isub, 1) := by decide +kernel
theorem d_m_lowerAll_68 : decode prog_6_method_39_code 68 = .ok (.istore 6, 2) := by decide +kernel
theorem d_m_lowerAll_70 : decode prog_6_method_39_code 70 = .ok (.aload_n 0, 1) := by decide +kernel
theorem d_m_lowerAll_71 : decode prog_6_method_39_code 71 = .ok (.getfield 57, 3) := by decide +kernel
theorem d_m_lowerAll_74 : decode prog_6_method_39_code 74 = .ok (.iload 6, 2) := by decide +kernel
theorem d_m_lowerAll_76 : decode prog_6_method_39_code 76 = .ok (.iaload, 1) := by decide +kernel
theorem d_m_lowerAll_77 : decode prog_6_method_39_code 77 = .ok (.istore 7, 2) := by decide +kernel
theorem d_m_lowerAll_79 : decode prog_6_method_39_code 79 = .ok (.iload_n 3, 1) := by decide +kernel
theorem d_m_lowerAll_80 : decode prog_6_method_39_code 80 = .ok (.aload_n 0, 1) := by decide +kernel
theorem d_m_lowerAll_81 : decode prog_6_method_39_code 81 = .ok (.getfield 60, 3) := by decide +kernel
theorem d_m_lowerAll_84 : decode prog_6_method_39_code 84 = .ok (.iload 6, 2) := by decide +kernel
theorem d_m_lowerAll_86 : decode prog_6_method_39_code 86 = .ok (.baload, 1) := by decide +kernel
theorem d_m_lowerAll_87 : decode prog_6_method_39_code 87 = .ok (.ifCond .eq 13, 3) := by decide +kernel
theorem d_m_lowerAll_90 : decode prog_6_method_39_code 90 = .ok (.aload_n 0, 1) := by decide +kernel
theorem d_m_lowerAll_91 : decode prog_6_method_39_code 91 = .ok (.getfield 34, 3) := by decide +kernel
theorem d_m_lowerAll_94 : decode prog_6_method_39_code 94 = .ok (.iload 7, 2) := by decide +kernel
theorem d_m_lowerAll_96 : decode prog_6_method_39_code 96 = .ok (.iaload, 1) := by decide +kernel
theorem d_m_lowerAll_97 : decode prog_6_method_39_code 97 = .ok (.goto 10, 3) := by decide +kernel
theorem d_m_lowerAll_100 : decode prog_6_method_39_code 100 = .ok (.aload_n 0, 1) := by decide +kernel
theorem d_m_lowerAll_101 : decode prog_6_method_39_code 101 = .ok (.getfield 31, 3) := by decide +kernel
theorem d_m_lowerAll_104 : decode prog_6_method_39_code 104 = .ok (.iload 7, 2) := by decide +kernel
theorem d_m_lowerAll_106 : decode prog_6_method_39_code 106 = .ok (.iaload, 1) := by decide +kernel
theorem d_m_lowerAll_107 : decode prog_6_method_39_code 107 = .ok (.if_icmp .ne 7, 3) := by decide +kernel
theorem d_m_lowerAll_110 : decode prog_6_method_39_code 110 = .ok (.iconst 1, 1) := by decide +kernel
theorem d_m_lowerAll_111 : decode prog_6_method_39_code 111 = .ok (.goto 4, 3) := by decide +kernel
theorem d_m_lowerAll_114 : decode prog_6_method_39_code 114 = .ok (.iconst 0, 1) := by decide +kernel
theorem d_m_lowerAll_115 : decode prog_6_method_39_code 115 = .ok (.istore 5, 2) := by decide +kernel
theorem d_m_lowerAll_117 : decode prog_6_method_39_code 117 = .ok (.iload 5, 2) := by decide +kernel
theorem d_m_lowerAll_119 : decode prog_6_method_39_code 119 = .ok (.ifCond .eq 22, 3) := by decide +kernel
theorem d_m_lowerAll_122 : decode prog_6_method_39_code 122 = .ok (.aload_n 0, 1) := by decide +kernel
theorem d_m_lowerAll_123 : decode prog_6_method_39_code 123 = .ok (.getfield 60, 3) := by decide +kernel
theorem d_m_lowerAll_126 : decode prog_6_method_39_code 126 = .ok (.iload 6, 2) := by decide +kernel
theorem d_m_lowerAll_128 : decode prog_6_method_39_code 128 = .ok (.baload, 1) := by decide +kernel
theorem d_m_lowerAll_129 : decode prog_6_method_39_code 129 = .ok (.ifCond .eq 12, 3) := by decide +kernel
theorem d_m_lowerAll_132 : decode prog_6_method_39_code 132 = .ok (.aload_n 0, 1) := by decide +kernel
theorem d_m_lowerAll_133 : decode prog_6_method_39_code 133 = .ok (.iload 6, 2) := by decide +kernel
theorem d_m_lowerAll_135 : decode prog_6_method_39_code 135 = .ok (.invokevirtual 251, 3) := by decide +kernel
theorem d_m_lowerAll_138 : decode prog_6_method_39_code 138 = .ok (.goto 14, 3) := by decide +kernel
theorem d_m_lowerAll_141 : decode prog_6_method_39_code 141 = .ok (.iload 5, 2) := by decide +kernel
theorem d_m_lowerAll_143 : decode prog_6_method_39_code 143 = .ok (.ifCond .eq 9, 3) := by decide +kernel
theorem d_m_lowerAll_146 : decode prog_6_method_39_code 146 = .ok (.aload_n 0, 1) := by decide +kernel
theorem d_m_lowerAll_147 : decode prog_6_method_39_code 147 = .ok (.iload 6, 2) := by decide +kernel
theorem d_m_lowerAll_149 : decode prog_6_method_39_code 149 = .ok (.invokevirtual 254, 3) := by decide +kernel
theorem d_m_lowerAll_152 : decode prog_6_method_39_code 152 = .ok (.goto (-102), 3) := by decide +kernel
theorem d_m_lowerAll_155 : decode prog_6_method_39_code 155 = .ok (.iload_n 3, 1) := by decide +kernel
theorem d_m_lowerAll_156 : decode prog_6_method_39_code 156 = .ok (.iload_n 2, 1) := by decide +kernel
theorem d_m_lowerAll_157 : decode prog_6_method_39_code 157 = .ok (.if_icmp .ge 7, 3) := by decide +kernel
theorem d_m_lowerAll_160 : decode prog_6_method_39_code 160 = .ok (.iconst 1, 1) := by decide +kernel
theorem d_m_lowerAll_161 : decode prog_6_method_39_code 161 = .ok (.goto 4, 3) := by decide +kernel
theorem d_m_lowerAll_164 : decode prog_6_method_39_code 164 = .ok (.iconst 0, 1) := by decide +kernel
theorem d_m_lowerAll_165 : decode prog_6_method_39_code 165 = .ok (.istore 4, 2) := by decide +kernel
theorem d_m_lowerAll_167 : decode prog_6_method_39_code 167 = .ok (.iload 4, 2) := by decide +kernel
theorem d_m_lowerAll_169 : decode prog_6_method_39_code 169 = .ok (.ifCond .eq 11, 3) := by decide +kernel
theorem d_m_lowerAll_172 : decode prog_6_method_39_code 172 = .ok (.aload_n 0, 1) := by decide +kernel
theorem d_m_lowerAll_173 : decode prog_6_method_39_code 173 = .ok (.iload_n 3, 1) := by decide +kernel
theorem d_m_lowerAll_174 : decode prog_6_method_39_code 174 = .ok (.invokevirtual 257, 3) := by decide +kernel
theorem d_m_lowerAll_177 : decode prog_6_method_39_code 177 = .ok (.iinc 3 1, 3) := by decide +kernel
theorem d_m_lowerAll_180 : decode prog_6_method_39_code 180 = .ok (.goto (-138), 3) := by decide +kernel
theorem d_m_lowerAll_183 : decode prog_6_method_39_code 183 = .ok (.return_, 1) := by decide +kernel
theorem kc_m_lowerAll : Kw (m_w (mi_m_lowerAll )) := ⟨(in_t5 (List.mem_of_getElem? (i := 27) rfl)), rfl⟩
theorem mv_m_lowerAll : MV (mi_m_lowerAll ) "GuardedMovesModel" 2 := ⟨kw_986, ks_56, kc_m_lowerAll , kw_7, ⟨⟨(by show ("GuardedMovesModel" : String) ≠ "java/lang/invoke/MethodHandle"; decide), (by show ("GuardedMovesModel" : String) ≠ "java/lang/invoke/VarHandle"; decide)⟩, (by show (parseMethodDescriptor "(II)V").map (fun d => d.parameters.length) = some 2; decide +kernel)⟩⟩
def w_m_lowerAll_180 (K42 : Int32 → Int32 → Int32 → Sg → Prop) (Q : Sg → Prop) (v2 : Int32) (v3 : Int32) (v4 : Int32) (σ : Sg) : Prop := K42 v2 v3 v4 σ
theorem b_m_lowerAll_180 {Δ : Ly} {G : Gm} {K42 : Int32 → Int32 → Int32 → Sg → Prop} {Q : Sg → Prop} (cx : Cx Δ G mi_m_lowerAll) (hK42 : ∀ (v2 : Int32) (v3 : Int32) (v4 : Int32) (σ : Sg), K42 v2 v3 v4 σ → Y Δ G mi_m_lowerAll (qV Q) noE 0 0 σ 42 [(0, .ref (Δ.1 58)), (2, .int v2), (3, .int v3), (4, .int v4)] []) : ∀ (v2 : Int32) (v3 : Int32) (v4 : Int32) (σ : Sg), w_m_lowerAll_180 K42 Q v2 v3 v4 σ → Y Δ G mi_m_lowerAll (qV Q) noE 0 0 σ 180 [(0, .ref (Δ.1 58)), (2, .int v2), (3, .int v3), (4, .int v4)] [] := by
  intro v2 v3 v4 σ h
  unfold w_m_lowerAll_180 at h
  refine y_goto cx (pc := 180) (tgt := 42) d_m_lowerAll_180 (by decide) ?_
  exact hK42 v2 v3 v4 σ h
def w_m_lowerAll_165 (K42 : Int32 → Int32 → Int32 → Sg → Prop) (Q : Sg → Prop) (v2 : Int32) (v3 : Int32) (s0 : Int32) (σ : Sg) : Prop := (s0 = 0 → (w_m_lowerAll_180 K42 Q v2 v3 s0 σ)) ∧ (¬ s0 = 0 → (w_m_lowerOne v3 σ (fun σ1 => ∀ x2 : Int32, x2 = v3 + 1 → (w_m_lowerAll_180 K42 Q v2 x2 s0 σ1))))
theorem b_m_lowerAll_165 {Δ : Ly} {G : Gm} {K42 : Int32 → Int32 → Int32 → Sg → Prop} {Q : Sg → Prop} (cx : Cx Δ G mi_m_lowerAll) (hK42 : ∀ (v2 : Int32) (v3 : Int32) (v4 : Int32) (σ : Sg), K42 v2 v3 v4 σ → Y Δ G mi_m_lowerAll (qV Q) noE 0 0 σ 42 [(0, .ref (Δ.1 58)), (2, .int v2), (3, .int v3), (4, .int v4)] []) : ∀ (v2 : Int32) (v3 : Int32) (s0 : Int32) (σ : Sg), w_m_lowerAll_165 K42 Q v2 v3 s0 σ → Y Δ G mi_m_lowerAll (qV Q) noE 0 0 σ 165 [(0, .ref (Δ.1 58)), (2, .int v2), (3, .int v3)] [.int s0] := by
  intro v2 v3 s0 σ h
  unfold w_m_lowerAll_165 at h
  refine y_istore (lv' := [(4, .int s0), (0, .ref (Δ.1 58)), (2, .int v2), (3, .int v3)]) cx (pc := 165) d_m_lowerAll_165 (le_b rfl) rfl ?_
  refine y_iload cx (pc := 167) d_m_lowerAll_167 0 rfl ?_
  refine y_if_eq cx (pc := 169) (tgt := 180) d_m_lowerAll_169 (by decide) (fun hc => ?_) (fun hc => ?_)
  · replace h := h.1 hc
    refine y_sub [1, 2, 3, 0] rfl ?_
    exact b_m_lowerAll_180 cx hK42 v2 v3 s0 σ h
  · replace h := h.2 hc
    refine y_aload_n cx (pc := 172) d_m_lowerAll_172 rfl 1 rfl ?_
    refine y_iload_n cx (pc := 173) d_m_lowerAll_173 rfl 3 rfl ?_
    refine y_vV cx (pc := 174) (st := []) [.int v3] (c_m_lowerOne cx.fl Δ v3 _ _ h) mv_m_lowerOne kw_1016 (oc_58 Δ) ck_Md rfl (le_b rfl) (le_b rfl) (le_b rfl) (le_b rfl) (le_b rfl) d_m_lowerAll_174 (fun σ1 h => ?_) (fun x σ1 h => yt_no h)
    obtain ⟨x2, ex2⟩ : ∃ y : Int32, y = v3 + 1 := ⟨_, rfl⟩
    replace h := h x2 ex2
    refine y_iinc (v := x2) (lv' := [(3, .int x2), (4, .int s0), (0, .ref (Δ.1 58)), (2, .int v2)]) cx (pc := 177) d_m_lowerAll_177 (j := 3) rfl (by rw [ex2]; rfl) (le_b rfl) rfl ?_
    refine y_sub [2, 3, 0, 1] rfl ?_
    exact b_m_lowerAll_180 cx hK42 v2 x2 s0 σ1 h
def w_m_lowerAll_155 (K42 : Int32 → Int32 → Int32 → Sg → Prop) (Q : Sg → Prop) (v2 : Int32) (v3 : Int32) (σ : Sg) : Prop := (v2 ≤ v3 → (w_m_lowerAll_165 K42 Q v2 v3 0 σ)) ∧ (¬ v2 ≤ v3 → (w_m_lowerAll_165 K42 Q v2 v3 1 σ))
theorem b_m_lowerAll_155 {Δ : Ly} {G : Gm} {K42 : Int32 → Int32 → Int32 → Sg → Prop} {Q : Sg → Prop} (cx : Cx Δ G mi_m_lowerAll) (hK42 : ∀ (v2 : Int32) (v3 : Int32) (v4 : Int32) (σ : Sg), K42 v2 v3 v4 σ → Y Δ G mi_m_lowerAll (qV Q) noE 0 0 σ 42 [(0, .ref (Δ.1 58)), (2, .int v2), (3, .int v3), (4, .int v4)] []) : ∀ (v2 : Int32) (v3 : Int32) (σ : Sg), w_m_lowerAll_155 K42 Q v2 v3 σ → Y Δ G mi_m_lowerAll (qV Q) noE 0 0 σ 155 [(0, .ref (Δ.1 58)), (2, .int v2), (3, .int v3)] [] := by
  intro v2 v3 σ h
  unfold w_m_lowerAll_155 at h
  refine y_iload_n cx (pc := 155) d_m_lowerAll_155 rfl 2 rfl ?_
  refine y_iload_n cx (pc := 156) d_m_lowerAll_156 rfl 1 rfl ?_
  refine y_icmp_ge cx (pc := 157) (tgt := 164) d_m_lowerAll_157 (by decide) (fun hc => ?_) (fun hc => ?_)
  · replace h := h.1 hc
    refine y_iconst cx (pc := 164) ic_0 d_m_lowerAll_164 ?_
    exact b_m_lowerAll_165 cx hK42 v2 v3 0 σ h
  · replace h := h.2 hc
    refine y_iconst cx (pc := 160) ic_1 d_m_lowerAll_160 ?_
    refine y_goto cx (pc := 161) (tgt := 165) d_m_lowerAll_161 (by decide) ?_
    exact b_m_lowerAll_165 cx hK42 v2 v3 1 σ h
def w_m_lowerAll_152 (K42 : Int32 → Int32 → Int32 → Sg → Prop) (K50 : Int32 → Int32 → Int32 → Sg → Prop) (Q : Sg → Prop) (v2 : Int32) (v3 : Int32) (v5 : Int32) (σ : Sg) : Prop := K50 v2 v3 v5 σ
theorem b_m_lowerAll_152 {Δ : Ly} {G : Gm} {K42 : Int32 → Int32 → Int32 → Sg → Prop} {K50 : Int32 → Int32 → Int32 → Sg → Prop} {Q : Sg → Prop} (cx : Cx Δ G mi_m_lowerAll) (hK42 : ∀ (v2 : Int32) (v3 : Int32) (v4 : Int32) (σ : Sg), K42 v2 v3 v4 σ → Y Δ G mi_m_lowerAll (qV Q) noE 0 0 σ 42 [(0, .ref (Δ.1 58)), (2, .int v2), (3, .int v3), (4, .int v4)] []) (hK50 : ∀ (v2 : Int32) (v3 : Int32) (v5 : Int32) (σ : Sg), K50 v2 v3 v5 σ → Y Δ G mi_m_lowerAll (qV Q) noE 0 0 σ 50 [(0, .ref (Δ.1 58)), (2, .int v2), (3, .int v3), (5, .int v5)] []) : ∀ (v2 : Int32) (v3 : Int32) (v5 : Int32) (σ : Sg), w_m_lowerAll_152 K42 K50 Q v2 v3 v5 σ → Y Δ G mi_m_lowerAll (qV Q) noE 0 0 σ 152 [(0, .ref (Δ.1 58)), (2, .int v2), (3, .int v3), (5, .int v5)] [] := by
  intro v2 v3 v5 σ h
  unfold w_m_lowerAll_152 at h
  refine y_goto cx (pc := 152) (tgt := 50) d_m_lowerAll_152 (by decide) ?_
  exact hK50 v2 v3 v5 σ h
def w_m_lowerAll_141 (K42 : Int32 → Int32 → Int32 → Sg → Prop) (K50 : Int32 → Int32 → Int32 → Sg → Prop) (Q : Sg → Prop) (v2 : Int32) (v3 : Int32) (v5 : Int32) (v6 : Int32) (σ : Sg) : Prop := (v5 = 0 → (w_m_lowerAll_152 K42 K50 Q v2 v3 v5 σ)) ∧ (¬ v5 = 0 → (w_m_endFirst v6 σ (fun σ1 => w_m_lowerAll_152 K42 K50 Q v2 v3 v5 σ1)))
theorem b_m_lowerAll_141 {Δ : Ly} {G : Gm} {K42 : Int32 → Int32 → Int32 → Sg → Prop} {K50 : Int32 → Int32 → Int32 → Sg → Prop} {Q : Sg → Prop} (cx : Cx Δ G mi_m_lowerAll) (hK42 : ∀ (v2 : Int32) (v3 : Int32) (v4 : Int32) (σ : Sg), K42 v2 v3 v4 σ → Y Δ G mi_m_lowerAll (qV Q) noE 0 0 σ 42 [(0, .ref (Δ.1 58)), (2, .int v2), (3, .int v3), (4, .int v4)] []) (hK50 : ∀ (v2 : Int32) (v3 : Int32) (v5 : Int32) (σ : Sg), K50 v2 v3 v5 σ → Y Δ G mi_m_lowerAll (qV Q) noE 0 0 σ 50 [(0, .ref (Δ.1 58)), (2, .int v2), (3, .int v3), (5, .int v5)] []) : ∀ (v2 : Int32) (v3 : Int32) (v5 : Int32) (v6 : Int32) (σ : Sg), w_m_lowerAll_141 K42 K50 Q v2 v3 v5 v6 σ → Y Δ G mi_m_lowerAll (qV Q) noE 0 0 σ 141 [(0, .ref (Δ.1 58)), (2, .int v2), (3, .int v3), (5, .int v5), (6, .int v6)] [] := by
  intro v2 v3 v5 v6 σ h
  unfold w_m_lowerAll_141 at h
  refine y_iload cx (pc := 141) d_m_lowerAll_141 3 rfl ?_
  refine y_if_eq cx (pc := 143) (tgt := 152) d_m_lowerAll_143 (by decide) (fun hc => ?_) (fun hc => ?_)
  · replace h := h.1 hc
    refine y_sub [0, 1, 2, 3] rfl ?_
    exact b_m_lowerAll_152 cx hK42 hK50 v2 v3 v5 σ h
  · replace h := h.2 hc
    refine y_aload_n cx (pc := 146) d_m_lowerAll_146 rfl 0 rfl ?_
    refine y_iload cx (pc := 147) d_m_lowerAll_147 4 rfl ?_
    refine y_vV cx (pc := 149) (st := []) [.int v6] (c_m_endFirst cx.fl Δ v6 _ _ h) mv_m_endFirst kw_1004 (oc_58 Δ) ck_Md rfl (le_b rfl) (le_b rfl) (le_b rfl) (le_b rfl) (le_b rfl) d_m_lowerAll_149 (fun σ1 h => ?_) (fun x σ1 h => yt_no h)
    refine y_sub [0, 1, 2, 3] rfl ?_
    exact b_m_lowerAll_152 cx hK42 hK50 v2 v3 v5 σ1 h
def w_m_lowerAll_115 (K42 : Int32 → Int32 → Int32 → Sg → Prop) (K50 : Int32 → Int32 → Int32 → Sg → Prop) (Q : Sg → Prop) (v2 : Int32) (v3 : Int32) (v6 : Int32) (s0 : Int32) (σ : Sg) : Prop := (s0 = 0 → (w_m_lowerAll_141 K42 K50 Q v2 v3 s0 v6 σ)) ∧ (¬ s0 = 0 → (vp_in v6 8 ∧ (((σ 74 (v6.toNatClampNeg)) = 0 → (w_m_lowerAll_141 K42 K50 Q v2 v3 s0 v6 σ)) ∧ (¬ (σ 74 (v6.toNatClampNeg)) = 0 → (w_m_endSecond v6 σ (fun σ1 => w_m_lowerAll_152 K42 K50 Q v2 v3 s0 σ1))))))
theorem b_m_lowerAll_115 {Δ : Ly} {G : Gm} {K42 : Int32 → Int32 → Int32 → Sg → Prop} {K50 : Int32 → Int32 → Int32 → Sg → Prop} {Q : Sg → Prop} (cx : Cx Δ G mi_m_lowerAll) (hK42 : ∀ (v2 : Int32) (v3 : Int32) (v4 : Int32) (σ : Sg), K42 v2 v3 v4 σ → Y Δ G mi_m_lowerAll (qV Q) noE 0 0 σ 42 [(0, .ref (Δ.1 58)), (2, .int v2), (3, .int v3), (4, .int v4)] []) (hK50 : ∀ (v2 : Int32) (v3 : Int32) (v5 : Int32) (σ : Sg), K50 v2 v3 v5 σ → Y Δ G mi_m_lowerAll (qV Q) noE 0 0 σ 50 [(0, .ref (Δ.1 58)), (2, .int v2), (3, .int v3), (5, .int v5)] []) : ∀ (v2 : Int32) (v3 : Int32) (v6 : Int32) (s0 : Int32) (σ : Sg), w_m_lowerAll_115 K42 K50 Q v2 v3 v6 s0 σ → Y Δ G mi_m_lowerAll (qV Q) noE 0 0 σ 115 [(0, .ref (Δ.1 58)), (2, .int v2), (3, .int v3), (6, .int v6)] [.int s0] := by
  intro v2 v3 v6 s0 σ h
  unfold w_m_lowerAll_115 at h
  refine y_istore (lv' := [(5, .int s0), (0, .ref (Δ.1 58)), (2, .int v2), (3, .int v3), (6, .int v6)]) cx (pc := 115) d_m_lowerAll_115 (le_b rfl) rfl ?_
  refine y_iload cx (pc := 117) d_m_lowerAll_117 0 rfl ?_
  refine y_if_eq cx (pc := 119) (tgt := 141) d_m_lowerAll_119 (by decide) (fun hc => ?_) (fun hc => ?_)
  · replace h := h.1 hc
    refine y_sub [1, 2, 3, 0, 4] rfl ?_
    exact b_m_lowerAll_141 cx hK42 hK50 v2 v3 s0 v6 σ h
  · replace h := h.2 hc
    refine y_aload_n cx (pc := 122) d_m_lowerAll_122 rfl 1 rfl ?_
    refine y_get cx (pc := 123) (j := 28) (v := .ref (Δ.1 74)) (le_b rfl) ck_Md kw_776 (le_b rfl) (gf_58_28 Δ _) d_m_lowerAll_123 ?_
    refine y_iload cx (pc := 126) d_m_lowerAll_126 4 rfl ?_
    obtain ⟨h0, h⟩ := h
    refine y_zald cx (pc := 128) ⟨(le_b rfl), fun _ => rfl⟩ h0 d_m_lowerAll_128 ?_
    refine y_if_eq cx (pc := 129) (tgt := 141) d_m_lowerAll_129 (by decide) (fun hc => ?_) (fun hc => ?_)
    · replace h := h.1 hc
      refine y_sub [1, 2, 3, 0, 4] rfl ?_
      exact b_m_lowerAll_141 cx hK42 hK50 v2 v3 s0 v6 σ h
    · replace h := h.2 hc
      refine y_aload_n cx (pc := 132) d_m_lowerAll_132 rfl 1 rfl ?_
      refine y_iload cx (pc := 133) d_m_lowerAll_133 4 rfl ?_
      refine y_vV cx (pc := 135) (st := []) [.int v6] (c_m_endSecond cx.fl Δ v6 _ _ h) mv_m_endSecond kw_988 (oc_58 Δ) ck_Md rfl (le_b rfl) (le_b rfl) (le_b rfl) (le_b rfl) (le_b rfl) d_m_lowerAll_135 (fun σ1 h => ?_) (fun x σ1 h => yt_no h)
      refine y_goto cx (pc := 138) (tgt := 152) d_m_lowerAll_138 (by decide) ?_
      refine y_sub [1, 2, 3, 0] rfl ?_
      exact b_m_lowerAll_152 cx hK42 hK50 v2 v3 s0 σ1 h
def w_m_lowerAll_107 (K42 : Int32 → Int32 → Int32 → Sg → Prop) (K50 : Int32 → Int32 → Int32 → Sg → Prop) (Q : Sg → Prop) (v2 : Int32) (v3 : Int32) (v6 : Int32) (s0 : Int32) (s1 : Int32) (σ : Sg) : Prop := (¬ s1 = s0 → (w_m_lowerAll_115 K42 K50 Q v2 v3 v6 0 σ)) ∧ (s1 = s0 → (w_m_lowerAll_115 K42 K50 Q v2 v3 v6 1 σ))
theorem b_m_lowerAll_107 {Δ : Ly} {G : Gm} {K42 : Int32 → Int32 → Int32 → Sg → Prop} {K50 : Int32 → Int32 → Int32 → Sg → Prop} {Q : Sg → Prop} (cx : Cx Δ G mi_m_lowerAll) (hK42 : ∀ (v2 : Int32) (v3 : Int32) (v4 : Int32) (σ : Sg), K42 v2 v3 v4 σ → Y Δ G mi_m_lowerAll (qV Q) noE 0 0 σ 42 [(0, .ref (Δ.1 58)), (2, .int v2), (3, .int v3), (4, .int v4)] []) (hK50 : ∀ (v2 : Int32) (v3 : Int32) (v5 : Int32) (σ : Sg), K50 v2 v3 v5 σ → Y Δ G mi_m_lowerAll (qV Q) noE 0 0 σ 50 [(0, .ref (Δ.1 58)), (2, .int v2), (3, .int v3), (5, .int v5)] []) : ∀ (v2 : Int32) (v3 : Int32) (v6 : Int32) (s0 : Int32) (s1 : Int32) (σ : Sg), w_m_lowerAll_107 K42 K50 Q v2 v3 v6 s0 s1 σ → Y Δ G mi_m_lowerAll (qV Q) noE 0 0 σ 107 [(0, .ref (Δ.1 58)), (2, .int v2), (3, .int v3), (6, .int v6)] [.int s0, .int s1] := by
  intro v2 v3 v6 s0 s1 σ h
  unfold w_m_lowerAll_107 at h
  refine y_icmp_ne cx (pc := 107) (tgt := 114) d_m_lowerAll_107 (by decide) (fun hc => ?_) (fun hc => ?_)
  · replace h := h.1 hc
    refine y_iconst cx (pc := 114) ic_0 d_m_lowerAll_114 ?_
    exact b_m_lowerAll_115 cx hK42 hK50 v2 v3 v6 0 σ h
  · replace h := h.2 hc
    refine y_iconst cx (pc := 110) ic_1 d_m_lowerAll_110 ?_
    refine y_goto cx (pc := 111) (tgt := 115) d_m_lowerAll_111 (by decide) ?_
    exact b_m_lowerAll_115 cx hK42 hK50 v2 v3 v6 1 σ h
def w_m_lowerAll_50 (K42 : Int32 → Int32 → Int32 → Sg → Prop) (Q : Sg → Prop) : Nat → Int32 → Int32 → Int32 → Sg → Prop
  | 0, _, _, _, _ => False
  | n + 1, v2, v3, v5, σ => (v5 = 0 → (w_m_lowerAll_155 K42 Q v2 v3 σ)) ∧ (¬ v5 = 0 → (((σ 58 26) ≤ 0 → (w_m_lowerAll_155 K42 Q v2 v3 σ)) ∧ (¬ (σ 58 26) ≤ 0 → (∀ x1 : Int32, x1 = (σ 58 26) - 1 → (vp_in x1 8 ∧ (∀ x2 : Int32, x2 = σ 73 (x1.toNatClampNeg) → (vp_in x1 8 ∧ (((σ 74 (x1.toNatClampNeg)) = 0 → (vp_in x2 60 ∧ (w_m_lowerAll_107 K42 (w_m_lowerAll_50 K42 Q n) Q v2 v3 x1 (σ 66 (x2.toNatClampNeg)) v3 σ))) ∧ (¬ (σ 74 (x1.toNatClampNeg)) = 0 → (vp_in x2 60 ∧ (w_m_lowerAll_107 K42 (w_m_lowerAll_50 K42 Q n) Q v2 v3 x1 (σ 67 (x2.toNatClampNeg)) v3 σ)))))))))))
theorem b_m_lowerAll_50 {Δ : Ly} {G : Gm} {K42 : Int32 → Int32 → Int32 → Sg → Prop} {Q : Sg → Prop} (cx : Cx Δ G mi_m_lowerAll) (hK42 : ∀ (v2 : Int32) (v3 : Int32) (v4 : Int32) (σ : Sg), K42 v2 v3 v4 σ → Y Δ G mi_m_lowerAll (qV Q) noE 0 0 σ 42 [(0, .ref (Δ.1 58)), (2, .int v2), (3, .int v3), (4, .int v4)] []) : ∀ (n : Nat) (v2 : Int32) (v3 : Int32) (v5 : Int32) (σ : Sg), w_m_lowerAll_50 K42 Q n v2 v3 v5 σ → Y Δ G mi_m_lowerAll (qV Q) noE 0 0 σ 50 [(0, .ref (Δ.1 58)), (2, .int v2), (3, .int v3), (5, .int v5)] [] := by
  intro n
  induction n with
  | zero => intro v2 v3 v5 σ h; exact h.elim
  | succ n ih =>
    intro v2 v3 v5 σ h
    unfold w_m_lowerAll_50 at h
    refine y_iload cx (pc := 50) d_m_lowerAll_50 3 rfl ?_
    refine y_if_eq cx (pc := 52) (tgt := 155) d_m_lowerAll_52 (by decide) (fun hc => ?_) (fun hc => ?_)
    · replace h := h.1 hc
      refine y_sub [0, 1, 2] rfl ?_
      exact b_m_lowerAll_155 cx hK42 v2 v3 σ h
    · replace h := h.2 hc
      refine y_aload_n cx (pc := 55) d_m_lowerAll_55 rfl 0 rfl ?_
      refine y_get cx (pc := 56) (j := 26) (v := .int (σ 58 26)) (le_b rfl) ck_Md kw_774 (le_b rfl) (gf_58_26 Δ _) d_m_lowerAll_56 ?_
      refine y_if_le cx (pc := 59) (tgt := 155) d_m_lowerAll_59 (by decide) (fun hc => ?_) (fun hc => ?_)
      · replace h := h.1 hc
        refine y_sub [0, 1, 2] rfl ?_
        exact b_m_lowerAll_155 cx hK42 v2 v3 σ h
      · replace h := h.2 hc
        refine y_aload_n cx (pc := 62) d_m_lowerAll_62 rfl 0 rfl ?_
        refine y_get cx (pc := 63) (j := 26) (v := .int (σ 58 26)) (le_b rfl) ck_Md kw_774 (le_b rfl) (gf_58_26 Δ _) d_m_lowerAll_63 ?_
        refine y_iconst cx (pc := 66) ic_1 d_m_lowerAll_66 ?_
        refine y_isub cx (pc := 67) d_m_lowerAll_67 ?_
        refine y_topi (fun x1 ex1 => ?_)
        replace h := h x1 ex1
        refine y_istore (lv' := [(6, .int x1), (0, .ref (Δ.1 58)), (2, .int v2), (3, .int v3), (5, .int v5)]) cx (pc := 68) d_m_lowerAll_68 (le_b rfl) rfl ?_
        refine y_aload_n cx (pc := 70) d_m_lowerAll_70 rfl 1 rfl ?_
        refine y_get cx (pc := 71) (j := 27) (v := .ref (Δ.1 73)) (le_b rfl) ck_Md kw_775 (le_b rfl) (gf_58_27 Δ _) d_m_lowerAll_71 ?_
        refine y_iload cx (pc := 74) d_m_lowerAll_74 0 rfl ?_
        obtain ⟨h0, h⟩ := h
        refine y_iald cx (pc := 76) ⟨(le_b rfl), fun _ => rfl⟩ h0 d_m_lowerAll_76 ?_
        refine y_topi (fun x2 ex2 => ?_)
        replace h := h x2 ex2
        refine y_istore (lv' := [(7, .int x2), (6, .int x1), (0, .ref (Δ.1 58)), (2, .int v2), (3, .int v3), (5, .int v5)]) cx (pc := 77) d_m_lowerAll_77 (le_b rfl) rfl ?_
        refine y_iload_n cx (pc := 79) d_m_lowerAll_79 rfl 4 rfl ?_
        refine y_aload_n cx (pc := 80) d_m_lowerAll_80 rfl 2 rfl ?_
        refine y_get cx (pc := 81) (j := 28) (v := .ref (Δ.1 74)) (le_b rfl) ck_Md kw_776 (le_b rfl) (gf_58_28 Δ _) d_m_lowerAll_81 ?_
        refine y_iload cx (pc := 84) d_m_lowerAll_84 1 rfl ?_
        obtain ⟨h0, h⟩ := h
        refine y_zald cx (pc := 86) ⟨(le_b rfl), fun _ => rfl⟩ h0 d_m_lowerAll_86 ?_
        refine y_if_eq cx (pc := 87) (tgt := 100) d_m_lowerAll_87 (by decide) (fun hc => ?_) (fun hc => ?_)
        · replace h := h.1 hc
          refine y_aload_n cx (pc := 100) d_m_lowerAll_100 rfl 2 rfl ?_
          refine y_get cx (pc := 101) (j := 14) (v := .ref (Δ.1 66)) (le_b rfl) ck_Md kw_762 (le_b rfl) (gf_58_14 Δ _) d_m_lowerAll_101 ?_
          refine y_iload cx (pc := 104) d_m_lowerAll_104 0 rfl ?_
          obtain ⟨h0, h⟩ := h
          refine y_iald cx (pc := 106) ⟨(le_b rfl), fun _ => rfl⟩ h0 d_m_lowerAll_106 ?_
          refine y_sub [2, 3, 4, 1] rfl ?_
          exact b_m_lowerAll_107 cx hK42 ih v2 v3 x1 (σ 66 (x2.toNatClampNeg)) v3 σ h
        · replace h := h.2 hc
          refine y_aload_n cx (pc := 90) d_m_lowerAll_90 rfl 2 rfl ?_
          refine y_get cx (pc := 91) (j := 15) (v := .ref (Δ.1 67)) (le_b rfl) ck_Md kw_763 (le_b rfl) (gf_58_15 Δ _) d_m_lowerAll_91 ?_
          refine y_iload cx (pc := 94) d_m_lowerAll_94 0 rfl ?_
          obtain ⟨h0, h⟩ := h
          refine y_iald cx (pc := 96) ⟨(le_b rfl), fun _ => rfl⟩ h0 d_m_lowerAll_96 ?_
          refine y_goto cx (pc := 97) (tgt := 107) d_m_lowerAll_97 (by decide) ?_
          refine y_sub [2, 3, 4, 1] rfl ?_
          exact b_m_lowerAll_107 cx hK42 ih v2 v3 x1 (σ 67 (x2.toNatClampNeg)) v3 σ h
def w_m_lowerAll_42 (Q : Sg → Prop) : Nat → Int32 → Int32 → Int32 → Sg → Prop
  | 0, _, _, _, _ => False
  | n + 1, v2, v3, v4, σ => (v4 = 0 → (Q σ)) ∧ (¬ v4 = 0 → (∃ q50, w_m_lowerAll_50 (w_m_lowerAll_42 Q n) Q q50 v2 v3 1 σ))
theorem b_m_lowerAll_42 {Δ : Ly} {G : Gm} {Q : Sg → Prop} (cx : Cx Δ G mi_m_lowerAll) : ∀ (n : Nat) (v2 : Int32) (v3 : Int32) (v4 : Int32) (σ : Sg), w_m_lowerAll_42 Q n v2 v3 v4 σ → Y Δ G mi_m_lowerAll (qV Q) noE 0 0 σ 42 [(0, .ref (Δ.1 58)), (2, .int v2), (3, .int v3), (4, .int v4)] [] := by
  intro n
  induction n with
  | zero => intro v2 v3 v4 σ h; exact h.elim
  | succ n ih =>
    intro v2 v3 v4 σ h
    unfold w_m_lowerAll_42 at h
    refine y_iload cx (pc := 42) d_m_lowerAll_42 3 rfl ?_
    refine y_if_eq cx (pc := 44) (tgt := 183) d_m_lowerAll_44 (by decide) (fun hc => ?_) (fun hc => ?_)
    · replace h := h.1 hc
      exact y_vret cx (pc := 183) rfl d_m_lowerAll_183 (le_b rfl) (le_b rfl) h
    · replace h := h.2 hc
      refine y_iconst cx (pc := 47) ic_1 d_m_lowerAll_47 ?_
      refine y_istore (lv' := [(5, .int 1), (0, .ref (Δ.1 58)), (2, .int v2), (3, .int v3), (4, .int v4)]) cx (pc := 48) d_m_lowerAll_48 (le_b rfl) rfl ?_
      refine y_sub [1, 2, 3, 0] rfl ?_
      obtain ⟨n, h⟩ := h
      exact b_m_lowerAll_50 cx ih n v2 v3 1 σ h
def w_m_lowerAll_18 (Q : Sg → Prop) : Nat → Int32 → Int32 → Int32 → Sg → Prop
  | 0, _, _, _, _ => False
  | n + 1, v1, v2, v3, σ => (16 ≤ v3 → (∃ q42, w_m_lowerAll_42 Q q42 v2 v1 1 σ)) ∧ (¬ 16 ≤ v3 → (vp_in v3 16 ∧ (∀ x1 : Int32, x1 = v3 + 1 → ((w_m_lowerAll_18 Q n) v1 v2 x1 (up σ 72 (v3.toNatClampNeg) v3)))))
theorem b_m_lowerAll_18 {Δ : Ly} {G : Gm} {Q : Sg → Prop} (cx : Cx Δ G mi_m_lowerAll) : ∀ (n : Nat) (v1 : Int32) (v2 : Int32) (v3 : Int32) (σ : Sg), w_m_lowerAll_18 Q n v1 v2 v3 σ → Y Δ G mi_m_lowerAll (qV Q) noE 0 0 σ 18 [(0, .ref (Δ.1 58)), (1, .int v1), (2, .int v2), (3, .int v3)] [] := by
  intro n
  induction n with
  | zero => intro v1 v2 v3 σ h; exact h.elim
  | succ n ih =>
    intro v1 v2 v3 σ h
    unfold w_m_lowerAll_18 at h
    refine y_iload_n cx (pc := 18) d_m_lowerAll_18 rfl 3 rfl ?_
    refine y_bipush cx (pc := 19) bp_16 d_m_lowerAll_19 ?_
    refine y_icmp_ge cx (pc := 21) (tgt := 37) d_m_lowerAll_21 (by decide) (fun hc => ?_) (fun hc => ?_)
    · replace h := h.1 hc
      refine y_iload_n cx (pc := 37) d_m_lowerAll_37 rfl 1 rfl ?_
      refine y_istore_n (lv' := [(3, .int v1), (0, .ref (Δ.1 58)), (1, .int v1), (2, .int v2)]) cx (pc := 38) d_m_lowerAll_38 rfl (le_b rfl) rfl ?_
      refine y_iconst cx (pc := 39) ic_1 d_m_lowerAll_39 ?_
      refine y_istore (lv' := [(4, .int 1), (3, .int v1), (0, .ref (Δ.1 58)), (1, .int v1), (2, .int v2)]) cx (pc := 40) d_m_lowerAll_40 (le_b rfl) rfl ?_
      refine y_sub [2, 4, 1, 0] rfl ?_
      obtain ⟨n, h⟩ := h
      exact b_m_lowerAll_42 cx n v2 v1 1 σ h
    · replace h := h.2 hc
      refine y_aload_n cx (pc := 24) d_m_lowerAll_24 rfl 0 rfl ?_
      refine y_get cx (pc := 25) (j := 25) (v := .ref (Δ.1 72)) (le_b rfl) ck_Md kw_773 (le_b rfl) (gf_58_25 Δ _) d_m_lowerAll_25 ?_
      refine y_iload_n cx (pc := 28) d_m_lowerAll_28 rfl 3 rfl ?_
      refine y_iload_n cx (pc := 29) d_m_lowerAll_29 rfl 3 rfl ?_
      obtain ⟨h0, h⟩ := h
      refine y_iast cx (pc := 30) ⟨(le_b rfl), fun _ => rfl⟩ h0 d_m_lowerAll_30 ?_
      obtain ⟨x1, ex1⟩ : ∃ y : Int32, y = v3 + 1 := ⟨_, rfl⟩
      replace h := h x1 ex1
      refine y_iinc (v := x1) (lv' := [(3, .int x1), (0, .ref (Δ.1 58)), (1, .int v1), (2, .int v2)]) cx (pc := 31) d_m_lowerAll_31 (j := 3) rfl (by rw [ex1]; rfl) (le_b rfl) rfl ?_
      refine y_goto cx (pc := 34) (tgt := 18) d_m_lowerAll_34 (by decide) ?_
      refine y_sub [1, 2, 3, 0] rfl ?_
      exact ih v1 v2 x1 (up σ 72 (v3.toNatClampNeg) v3) h
def w_m_lowerAll (p1 : Int32) (p2 : Int32) (σ : Sg) (Q : Sg → Prop) : Prop := ∃ q18, w_m_lowerAll_18 Q q18 p1 p2 0 (up (up (up σ 58 20 0) 58 21 16) 58 26 0)
theorem b_m_lowerAll {Δ : Ly} {G : Gm} {Q : Sg → Prop} (cx : Cx Δ G mi_m_lowerAll) (p1 : Int32) (p2 : Int32) (σ : Sg) (h : w_m_lowerAll p1 p2 σ Q) : Y Δ G mi_m_lowerAll (qV Q) noE 0 0 σ 0 [(0, .ref (Δ.1 58)), (1, .int p1), (2, .int p2)] [] := by
  unfold w_m_lowerAll at h
  refine y_aload_n cx (pc := 0) d_m_lowerAll_0 rfl 0 rfl ?_
  refine y_iconst cx (pc := 1) ic_0 d_m_lowerAll_1 ?_
  refine y_put cx (pc := 2) (j := 20) (ty := .int) (le_b rfl) ck_Md kw_768 (le_b rfl) rfl (t_Md_ok 20 (le_b rfl)) rfl rfl (pf_58_20 Δ) d_m_lowerAll_2 ?_
  refine y_aload_n cx (pc := 5) d_m_lowerAll_5 rfl 0 rfl ?_
  refine y_bipush cx (pc := 6) bp_16 d_m_lowerAll_6 ?_
  refine y_put cx (pc := 8) (j := 21) (ty := .int) (le_b rfl) ck_Md kw_769 (le_b rfl) rfl (t_Md_ok 21 (le_b rfl)) rfl rfl (pf_58_21 Δ) d_m_lowerAll_8 ?_
  refine y_aload_n cx (pc := 11) d_m_lowerAll_11 rfl 0 rfl ?_
  refine y_iconst cx (pc := 12) ic_0 d_m_lowerAll_12 ?_
  refine y_put cx (pc := 13) (j := 26) (ty := .int) (le_b rfl) ck_Md kw_774 (le_b rfl) rfl (t_Md_ok 26 (le_b rfl)) rfl rfl (pf_58_26 Δ) d_m_lowerAll_13 ?_
  refine y_iconst cx (pc := 16) ic_0 d_m_lowerAll_16 ?_
  refine y_istore_n (lv' := [(3, .int 0), (0, .ref (Δ.1 58)), (1, .int p1), (2, .int p2)]) cx (pc := 17) d_m_lowerAll_17 rfl (le_b rfl) rfl ?_
  refine y_sub [1, 2, 3, 0] rfl ?_
  obtain ⟨n, h⟩ := h
  exact b_m_lowerAll_18 cx n p1 p2 0 (up (up (up σ 58 20 0) 58 21 16) 58 26 0) h
theorem c_m_lowerAll {l : Launch} (hfl : l.flags = flags0) (Δ : Ly) (p1 : Int32) (p2 : Int32) (σ : Sg) (Q : Sg → Prop) (h : w_m_lowerAll p1 p2 σ Q) : Ct l Δ mi_m_lowerAll [.ref (Δ.1 58), .int p1, .int p2] σ (qV Q) noE :=
  Ct.of hfl (by show plainFor ⟨"GuardedMovesModel", "lowerAll", "(II)V"⟩ = true; decide +kernel) rfl (le_b rfl) (fun G hl cx => b_m_lowerAll cx p1 p2 σ h)
def mi_m_mayConvert : Mi := ("GuardedMovesModel", prog_6_method_40_code, 5, [], (some .boolean), 6, 180, 0, 0, ⟨"GuardedMovesModel", "mayConvert", "(II)Z"⟩)
theorem d_m_mayConvert_0 : decode prog_6_method_40_code 0 = .ok (.iconst 1, 1) := by decide +kernel
theorem d_m_mayConvert_1 : decode prog_6_method_40_code 1 = .ok (.istore_n 3, 1) := by decide +kernel
theorem d_m_mayConvert_2 : decode prog_6_method_40_code 2 = .ok (.iload_n 1, 1) := by decide +kernel
theorem d_m_mayConvert_3 : decode prog_6_method_40_code 3 = .ok (.iconst 1, 1) := by decide +kernel
theorem d_m_mayConvert_4 : decode prog_6_method_40_code 4 = .ok (.iadd, 1) := by decide +kernel
theorem d_m_mayConvert_5 : decode prog_6_method_40_code 5 = .ok (.istore 4, 2) := by decide +kernel
theorem d_m_mayConvert_7 : decode prog_6_method_40_code 7 = .ok (.iload 4, 2) := by decide +kernel
theorem d_m_mayConvert_9 : decode prog_6_method_40_code 9 = .ok (.aload_n 0, 1) := by decide +kernel
theorem d_m_mayConvert_10 : decode prog_6_method_40_code 10 = .ok (.getfield 34, 3) := by decide +kernel
theorem d_m_mayConvert_13 : decode prog_6_method_40_code 13 = .ok (.iload_n 1, 1) := by decide +kernel
theorem d_m_mayConvert_14 : decode prog_6_method_40_code 14 = .ok (.iaload, 1) := by decide +kernel
theorem d_m_mayConvert_15 : decode prog_6_method_40_code 15 = .ok (.if_icmp .ge 51, 3) := by decide +kernel
theorem d_m_mayConvert_18 : decode prog_6_method_40_code 18 = .ok (.iload_n 3, 1) := by decide +kernel
theorem d_m_mayConvert_19 : decode prog_6_method_40_code 19 = .ok (.ifCond .eq 39, 3) := by decide +kernel
theorem d_m_mayConvert_22 : decode prog_6_method_40_code 22 = .ok (.aload_n 0, 1) := by decide +kernel
theorem d_m_mayConvert_23 : decode prog_6_method_40_code 23 = .ok (.iload 4, 2) := by decide +kernel
theorem d_m_mayConvert_25 : decode prog_6_method_40_code 25 = .ok (.iconst 0, 1) := by decide +kernel
theorem d_m_mayConvert_26 : decode prog_6_method_40_code 26 = .ok (.invokevirtual 212, 3) := by decide +kernel
theorem d_m_mayConvert_29 : decode prog_6_method_40_code 29 = .ok (.iconst 4, 1) := by decide +kernel
theorem d_m_mayConvert_30 : decode prog_6_method_40_code 30 = .ok (.if_icmp .eq 28, 3) := by decide +kernel
theorem d_m_mayConvert_33 : decode prog_6_method_40_code 33 = .ok (.aload_n 0, 1) := by decide +kernel
theorem d_m_mayConvert_34 : decode prog_6_method_40_code 34 = .ok (.iload 4, 2) := by decide +kernel
theorem d_m_mayConvert_36 : decode prog_6_method_40_code 36 = .ok (.iconst 0, 1) := by decide +kernel
theorem d_m_mayConvert_37 : decode prog_6_method_40_code 37 = .ok (.invokevirtual 212, 3) := by decide +kernel
theorem d_m_mayConvert_40 : decode prog_6_method_40_code 40 = .ok (.iconst 5, 1) := by decide +kernel
theorem d_m_mayConvert_41 : decode prog_6_method_40_code 41 = .ok (.if_icmp .ne 13, 3) := by decide +kernel
theorem d_m_mayConvert_44 : decode prog_6_method_40_code 44 = .ok (.aload_n 0, 1) := by decide +kernel
theorem d_m_mayConvert_45 : decode prog_6_method_40_code 45 = .ok (.getfield 51, 3) := by decide +kernel
theorem d_m_mayConvert_48 : decode prog_6_method_40_code 48 = .ok (.iload 4, 2) := by decide +kernel
theorem d_m_mayConvert_50 : decode prog_6_method_40_code 50 = .ok (.baload, 1) := by decide +kernel
theorem d_m_mayConvert_51 : decode prog_6_method_40_code 51 = .ok (.ifCond .eq 7, 3) := by decide +kernel
theorem d_m_mayConvert_54 : decode prog_6_method_40_code 54 = .ok (.iconst 1, 1) := by decide +kernel
theorem d_m_mayConvert_55 : decode prog_6_method_40_code 55 = .ok (.goto 4, 3) := by decide +kernel
theorem d_m_mayConvert_58 : decode prog_6_method_40_code 58 = .ok (.iconst 0, 1) := by decide +kernel
theorem d_m_mayConvert_59 : decode prog_6_method_40_code 59 = .ok (.istore_n 3, 1) := by decide +kernel
theorem d_m_mayConvert_60 : decode prog_6_method_40_code 60 = .ok (.iinc 4 1, 3) := by decide +kernel
theorem d_m_mayConvert_63 : decode prog_6_method_40_code 63 = .ok (.goto (-56), 3) := by decide +kernel
theorem d_m_mayConvert_66 : decode prog_6_method_40_code 66 = .ok (.iload_n 3, 1) := by decide +kernel
theorem d_m_mayConvert_67 : decode prog_6_method_40_code 67 = .ok (.ifCond .ne 5, 3) := by decide +kernel
theorem d_m_mayConvert_70 : decode prog_6_method_40_code 70 = .ok (.iconst 0, 1) := by decide +kernel
theorem d_m_mayConvert_71 : decode prog_6_method_40_code 71 = .ok (.ireturn, 1) := by decide +kernel
theorem d_m_mayConvert_72 : decode prog_6_method_40_code 72 = .ok (.aload_n 0, 1) := by decide +kernel
theorem d_m_mayConvert_73 : decode prog_6_method_40_code 73 = .ok (.getfield 51, 3) := by decide +kernel
theorem d_m_mayConvert_76 : decode prog_6_method_40_code 76 = .ok (.iload_n 1, 1) := by decide +kernel
theorem d_m_mayConvert_77 : decode prog_6_method_40_code 77 = .ok (.iconst 1, 1) := by decide +kernel
theorem d_m_mayConvert_78 : decode prog_6_method_40_code 78 = .ok (.bastore, 1) := by decide +kernel
theorem d_m_mayConvert_79 : decode prog_6_method_40_code 79 = .ok (.aload_n 0, 1) := by decide +kernel
theorem d_m_mayConvert_80 : decode prog_6_method_40_code 80 = .ok (.iload_n 1, 1) := by decide +kernel
theorem d_m_mayConvert_81 : decode prog_6_method_40_code 81 = .ok (.aload_n 0, 1) := by decide +kernel
theorem d_m_mayConvert_82 : decode prog_6_method_40_code 82 = .ok (.getfield 34, 3) := by decide +kernel
theorem d_m_mayConvert_85 : decode prog_6_method_40_code 85 = .ok (.iload_n 1, 1) := by decide +kernel
theorem d_m_mayConvert_86 : decode prog_6_method_40_code 86 = .ok (.iaload, 1) := by decide +kernel
theorem d_m_mayConvert_87 : decode prog_6_method_40_code 87 = .ok (.invokevirtual 260, 3) := by decide +kernel
theorem d_m_mayConvert_90 : decode prog_6_method_40_code 90 = .ok (.aload_n 0, 1) := by decide +kernel
theorem d_m_mayConvert_91 : decode prog_6_method_40_code 91 = .ok (.getfield 199, 3) := by decide +kernel
theorem d_m_mayConvert_94 : decode prog_6_method_40_code 94 = .ok (.iload_n 2, 1) := by decide +kernel
theorem d_m_mayConvert_95 : decode prog_6_method_40_code 95 = .ok (.if_icmp .gt 7, 3) := by decide +kernel
theorem d_m_mayConvert_98 : decode prog_6_method_40_code 98 = .ok (.iconst 1, 1) := by decide +kernel
theorem d_m_mayConvert_99 : decode prog_6_method_40_code 99 = .ok (.goto 4, 3) := by decide +kernel
theorem d_m_mayConvert_102 : decode prog_6_method_40_code 102 = .ok (.iconst 0, 1) := by decide +kernel
theorem d_m_mayConvert_103 : decode prog_6_method_40_code 103 = .ok (.ireturn, 1) := by decide +kernel
theorem kc_m_mayConvert : Kw (m_w (mi_m_mayConvert )) := ⟨(in_t5 (List.mem_of_getElem? (i := 23) rfl)), rfl⟩
theorem mv_m_mayConvert : MV (mi_m_mayConvert ) "GuardedMovesModel" 2 := ⟨kw_982, ks_55, kc_m_mayConvert , kw_7, ⟨⟨(by show ("GuardedMovesModel" : String) ≠ "java/lang/invoke/MethodHandle"; decide), (by show ("GuardedMovesModel" : String) ≠ "java/lang/invoke/VarHandle"; decide)⟩, (by show (parseMethodDescriptor "(II)Z").map (fun d => d.parameters.length) = some 2; decide +kernel)⟩⟩
def w_m_mayConvert_103 (Q : Int32 → Sg → Prop) (s0 : Int32) (σ : Sg) : Prop := bz s0 ∧ (Q s0 σ)
theorem b_m_mayConvert_103 {Δ : Ly} {G : Gm} {Q : Int32 → Sg → Prop} (cx : Cx Δ G mi_m_mayConvert) : ∀ (s0 : Int32) (σ : Sg), w_m_mayConvert_103 Q s0 σ → Y Δ G mi_m_mayConvert (qI Q) noE 0 0 σ 103 [] [.int s0] := by
  intro s0 σ h
  unfold w_m_mayConvert_103 at h
  obtain ⟨hb, h⟩ := h
  exact y_zret cx (pc := 103) rfl hb d_m_mayConvert_103 (le_b rfl) (le_b rfl) h
def w_m_mayConvert_59 (K7 : Int32 → Int32 → Int32 → Int32 → Sg → Prop) (Q : Int32 → Sg → Prop) (v1 : Int32) (v2 : Int32) (v4 : Int32) (s0 : Int32) (σ : Sg) : Prop := ∀ x1 : Int32, x1 = v4 + 1 → (K7 v1 v2 s0 x1 σ)
theorem b_m_mayConvert_59 {Δ : Ly} {G : Gm} {K7 : Int32 → Int32 → Int32 → Int32 → Sg → Prop} {Q : Int32 → Sg → Prop} (cx : Cx Δ G mi_m_mayConvert) (hK7 : ∀ (v1 : Int32) (v2 : Int32) (v3 : Int32) (v4 : Int32) (σ : Sg), K7 v1 v2 v3 v4 σ → Y Δ G mi_m_mayConvert (qI Q) noE 0 0 σ 7 [(0, .ref (Δ.1 58)), (1, .int v1), (2, .int v2), (3, .int v3), (4, .int v4)] []) : ∀ (v1 : Int32) (v2 : Int32) (v4 : Int32) (s0 : Int32) (σ : Sg), w_m_mayConvert_59 K7 Q v1 v2 v4 s0 σ → Y Δ G mi_m_mayConvert (qI Q) noE 0 0 σ 59 [(0, .ref (Δ.1 58)), (1, .int v1), (2, .int v2), (4, .int v4)] [.int s0] := by
  intro v1 v2 v4 s0 σ h
  unfold w_m_mayConvert_59 at h
  refine y_istore_n (lv' := [(3, .int s0), (0, .ref (Δ.1 58)), (1, .int v1), (2, .int v2), (4, .int v4)]) cx (pc := 59) d_m_mayConvert_59 rfl (le_b rfl) rfl ?_
  obtain ⟨x1, ex1⟩ : ∃ y : Int32, y = v4 + 1 := ⟨_, rfl⟩
  replace h := h x1 ex1
  refine y_iinc (v := x1) (lv' := [(4, .int x1), (3, .int s0), (0, .ref (Δ.1 58)), (1, .int v1), (2, .int v2)]) cx (pc := 60) d_m_mayConvert_60 (j := 4) rfl (by rw [ex1]; rfl) (le_b rfl) rfl ?_
  refine y_goto cx (pc := 63) (tgt := 7) d_m_mayConvert_63 (by decide) ?_
  refine y_sub [2, 3, 4, 1, 0] rfl ?_
  exact hK7 v1 v2 s0 x1 σ h
def w_m_mayConvert_58 (K7 : Int32 → Int32 → Int32 → Int32 → Sg → Prop) (Q : Int32 → Sg → Prop) (v1 : Int32) (v2 : Int32) (v4 : Int32) (σ : Sg) : Prop := w_m_mayConvert_59 K7 Q v1 v2 v4 0 σ
theorem b_m_mayConvert_58 {Δ : Ly} {G : Gm} {K7 : Int32 → Int32 → Int32 → Int32 → Sg → Prop} {Q : Int32 → Sg → Prop} (cx : Cx Δ G mi_m_mayConvert) (hK7 : ∀ (v1 : Int32) (v2 : Int32) (v3 : Int32) (v4 : Int32) (σ : Sg), K7 v1 v2 v3 v4 σ → Y Δ G mi_m_mayConvert (qI Q) noE 0 0 σ 7 [(0, .ref (Δ.1 58)), (1, .int v1), (2, .int v2), (3, .int v3), (4, .int v4)] []) : ∀ (v1 : Int32) (v2 : Int32) (v4 : Int32) (σ : Sg), w_m_mayConvert_58 K7 Q v1 v2 v4 σ → Y Δ G mi_m_mayConvert (qI Q) noE 0 0 σ 58 [(0, .ref (Δ.1 58)), (1, .int v1), (2, .int v2), (4, .int v4)] [] := by
  intro v1 v2 v4 σ h
  unfold w_m_mayConvert_58 at h
  refine y_iconst cx (pc := 58) ic_0 d_m_mayConvert_58 ?_
  exact b_m_mayConvert_59 cx hK7 v1 v2 v4 0 σ h
def w_m_mayConvert_54 (K7 : Int32 → Int32 → Int32 → Int32 → Sg → Prop) (Q : Int32 → Sg → Prop) (v1 : Int32) (v2 : Int32) (v4 : Int32) (σ : Sg) : Prop := w_m_mayConvert_59 K7 Q v1 v2 v4 1 σ
theorem b_m_mayConvert_54 {Δ : Ly} {G : Gm} {K7 : Int32 → Int32 → Int32 → Int32 → Sg → Prop} {Q : Int32 → Sg → Prop} (cx : Cx Δ G mi_m_mayConvert) (hK7 : ∀ (v1 : Int32) (v2 : Int32) (v3 : Int32) (v4 : Int32) (σ : Sg), K7 v1 v2 v3 v4 σ → Y Δ G mi_m_mayConvert (qI Q) noE 0 0 σ 7 [(0, .ref (Δ.1 58)), (1, .int v1), (2, .int v2), (3, .int v3), (4, .int v4)] []) : ∀ (v1 : Int32) (v2 : Int32) (v4 : Int32) (σ : Sg), w_m_mayConvert_54 K7 Q v1 v2 v4 σ → Y Δ G mi_m_mayConvert (qI Q) noE 0 0 σ 54 [(0, .ref (Δ.1 58)), (1, .int v1), (2, .int v2), (4, .int v4)] [] := by
  intro v1 v2 v4 σ h
  unfold w_m_mayConvert_54 at h
  refine y_iconst cx (pc := 54) ic_1 d_m_mayConvert_54 ?_
  refine y_goto cx (pc := 55) (tgt := 59) d_m_mayConvert_55 (by decide) ?_
  exact b_m_mayConvert_59 cx hK7 v1 v2 v4 1 σ h
def w_m_mayConvert_7 (Q : Int32 → Sg → Prop) : Nat → Int32 → Int32 → Int32 → Int32 → Sg → Prop
  | 0, _, _, _, _, _ => False
  | n + 1, v1, v2, v3, v4, σ => vp_in v1 60 ∧ (((σ 67 (v1.toNatClampNeg)) ≤ v4 → ((¬ v3 = 0 → (vp_in v1 60 ∧ (vp_in v1 60 ∧ (w_m_lowerAll v1 (σ 67 (v1.toNatClampNeg)) (up σ 71 (v1.toNatClampNeg) 1) (fun σ1 => (v2 < (σ1 58 20) → (w_m_mayConvert_103 Q 0 σ1)) ∧ (¬ v2 < (σ1 58 20) → (w_m_mayConvert_103 Q 1 σ1))))))) ∧ (v3 = 0 → (Q 0 σ)))) ∧ (¬ (σ 67 (v1.toNatClampNeg)) ≤ v4 → ((v3 = 0 → (w_m_mayConvert_58 (w_m_mayConvert_7 Q n) Q v1 v2 v4 σ)) ∧ (¬ v3 = 0 → (w_m_of v4 0 σ (fun x2 σ3 => (x2 = 4 → (w_m_mayConvert_58 (w_m_mayConvert_7 Q n) Q v1 v2 v4 σ3)) ∧ (¬ x2 = 4 → (w_m_of v4 0 σ3 (fun x4 σ5 => (¬ x4 = 5 → (w_m_mayConvert_54 (w_m_mayConvert_7 Q n) Q v1 v2 v4 σ5)) ∧ (x4 = 5 → (vp_in v4 60 ∧ (((σ5 71 (v4.toNatClampNeg)) = 0 → (w_m_mayConvert_58 (w_m_mayConvert_7 Q n) Q v1 v2 v4 σ5)) ∧ (¬ (σ5 71 (v4.toNatClampNeg)) = 0 → (w_m_mayConvert_54 (w_m_mayConvert_7 Q n) Q v1 v2 v4 σ5))))))))))))))
theorem b_m_mayConvert_7 {Δ : Ly} {G : Gm} {Q : Int32 → Sg → Prop} (cx : Cx Δ G mi_m_mayConvert) : ∀ (n : Nat) (v1 : Int32) (v2 : Int32) (v3 : Int32) (v4 : Int32) (σ : Sg), w_m_mayConvert_7 Q n v1 v2 v3 v4 σ → Y Δ G mi_m_mayConvert (qI Q) noE 0 0 σ 7 [(0, .ref (Δ.1 58)), (1, .int v1), (2, .int v2), (3, .int v3), (4, .int v4)] [] := by
  intro n
  induction n with
  | zero => intro v1 v2 v3 v4 σ h; exact h.elim
  | succ n ih =>
    intro v1 v2 v3 v4 σ h
    unfold w_m_mayConvert_7 at h
    refine y_iload cx (pc := 7) d_m_mayConvert_7 4 rfl ?_
    refine y_aload_n cx (pc := 9) d_m_mayConvert_9 rfl 0 rfl ?_
    refine y_get cx (pc := 10) (j := 15) (v := .ref (Δ.1 67)) (le_b rfl) ck_Md kw_763 (le_b rfl) (gf_58_15 Δ _) d_m_mayConvert_10 ?_
    refine y_iload_n cx (pc := 13) d_m_mayConvert_13 rfl 1 rfl ?_
    obtain ⟨h0, h⟩ := h
    refine y_iald cx (pc := 14) ⟨(le_b rfl), fun _ => rfl⟩ h0 d_m_mayConvert_14 ?_
    refine y_icmp_ge cx (pc := 15) (tgt := 66) d_m_mayConvert_15 (by decide) (fun hc => ?_) (fun hc => ?_)
    · replace h := h.1 hc
      refine y_iload_n cx (pc := 66) d_m_mayConvert_66 rfl 3 rfl ?_
      refine y_if_ne cx (pc := 67) (tgt := 72) d_m_mayConvert_67 (by decide) (fun hc => ?_) (fun hc => ?_)
      · replace h := h.1 hc
        refine y_aload_n cx (pc := 72) d_m_mayConvert_72 rfl 0 rfl ?_
        refine y_get cx (pc := 73) (j := 23) (v := .ref (Δ.1 71)) (le_b rfl) ck_Md kw_771 (le_b rfl) (gf_58_23 Δ _) d_m_mayConvert_73 ?_
        refine y_iload_n cx (pc := 76) d_m_mayConvert_76 rfl 1 rfl ?_
        refine y_iconst cx (pc := 77) ic_1 d_m_mayConvert_77 ?_
        obtain ⟨h0, h⟩ := h
        refine y_zastB cx (pc := 78) ⟨(le_b rfl), fun _ => rfl⟩ h0 bz_1 d_m_mayConvert_78 ?_
        refine y_aload_n cx (pc := 79) d_m_mayConvert_79 rfl 0 rfl ?_
        refine y_iload_n cx (pc := 80) d_m_mayConvert_80 rfl 1 rfl ?_
        refine y_aload_n cx (pc := 81) d_m_mayConvert_81 rfl 0 rfl ?_
        refine y_get cx (pc := 82) (j := 15) (v := .ref (Δ.1 67)) (le_b rfl) ck_Md kw_763 (le_b rfl) (gf_58_15 Δ _) d_m_mayConvert_82 ?_
        refine y_iload_n cx (pc := 85) d_m_mayConvert_85 rfl 1 rfl ?_
        obtain ⟨h0, h⟩ := h
        refine y_iald cx (pc := 86) ⟨(le_b rfl), fun _ => rfl⟩ h0 d_m_mayConvert_86 ?_
        refine y_vV cx (pc := 87) (st := []) [.int v1, .int (σ 67 (v1.toNatClampNeg))] (c_m_lowerAll cx.fl Δ v1 (σ 67 (v1.toNatClampNeg)) _ _ h) mv_m_lowerAll kw_984 (oc_58 Δ) ck_Md rfl (le_b rfl) (le_b rfl) (le_b rfl) (le_b rfl) (le_b rfl) d_m_mayConvert_87 (fun σ1 h => ?_) (fun x σ1 h => yt_no h)
        refine y_aload_n cx (pc := 90) d_m_mayConvert_90 rfl 0 rfl ?_
        refine y_get cx (pc := 91) (j := 20) (v := .int (σ1 58 20)) (le_b rfl) ck_Md kw_768 (le_b rfl) (gf_58_20 Δ _) d_m_mayConvert_91 ?_
        refine y_iload_n cx (pc := 94) d_m_mayConvert_94 rfl 2 rfl ?_
        refine y_icmp_gt cx (pc := 95) (tgt := 102) d_m_mayConvert_95 (by decide) (fun hc => ?_) (fun hc => ?_)
        · replace h := h.1 hc
          refine y_iconst cx (pc := 102) ic_0 d_m_mayConvert_102 ?_
          refine y_sub [] rfl ?_
          exact b_m_mayConvert_103 cx 0 σ1 h
        · replace h := h.2 hc
          refine y_iconst cx (pc := 98) ic_1 d_m_mayConvert_98 ?_
          refine y_goto cx (pc := 99) (tgt := 103) d_m_mayConvert_99 (by decide) ?_
          refine y_sub [] rfl ?_
          exact b_m_mayConvert_103 cx 1 σ1 h
      · replace h := h.2 hc
        refine y_iconst cx (pc := 70) ic_0 d_m_mayConvert_70 ?_
        exact y_zret cx (pc := 71) rfl bz_0 d_m_mayConvert_71 (le_b rfl) (le_b rfl) h
    · replace h := h.2 hc
      refine y_iload_n cx (pc := 18) d_m_mayConvert_18 rfl 3 rfl ?_
      refine y_if_eq cx (pc := 19) (tgt := 58) d_m_mayConvert_19 (by decide) (fun hc => ?_) (fun hc => ?_)
      · replace h := h.1 hc
        refine y_sub [0, 1, 2, 4] rfl ?_
        exact b_m_mayConvert_58 cx ih v1 v2 v4 σ h
      · replace h := h.2 hc
        refine y_aload_n cx (pc := 22) d_m_mayConvert_22 rfl 0 rfl ?_
        refine y_iload cx (pc := 23) d_m_mayConvert_23 4 rfl ?_
        refine y_iconst cx (pc := 25) ic_0 d_m_mayConvert_25 ?_
        refine y_vI cx (pc := 26) (st := []) [.int v4, .int 0] (c_m_of cx.fl Δ v4 0 _ _ h) mv_m_of kw_976 (oc_58 Δ) ck_Md rfl (le_b rfl) (le_b rfl) (le_b rfl) (le_b rfl) (le_b rfl) d_m_mayConvert_26 (fun x2 σ3 h => ?_) (fun x σ3 h => yt_no h)
        refine y_iconst cx (pc := 29) ic_4 d_m_mayConvert_29 ?_
        refine y_icmp_eq cx (pc := 30) (tgt := 58) d_m_mayConvert_30 (by decide) (fun hc => ?_) (fun hc => ?_)
        · replace h := h.1 hc
          refine y_sub [0, 1, 2, 4] rfl ?_
          exact b_m_mayConvert_58 cx ih v1 v2 v4 σ3 h
        · replace h := h.2 hc
          refine y_aload_n cx (pc := 33) d_m_mayConvert_33 rfl 0 rfl ?_
          refine y_iload cx (pc := 34) d_m_mayConvert_34 4 rfl ?_
          refine y_iconst cx (pc := 36) ic_0 d_m_mayConvert_36 ?_
          refine y_vI cx (pc := 37) (st := []) [.int v4, .int 0] (c_m_of cx.fl Δ v4 0 _ _ h) mv_m_of kw_976 (oc_58 Δ) ck_Md rfl (le_b rfl) (le_b rfl) (le_b rfl) (le_b rfl) (le_b rfl) d_m_mayConvert_37 (fun x4 σ5 h => ?_) (fun x σ5 h => yt_no h)
          refine y_iconst cx (pc := 40) ic_5 d_m_mayConvert_40 ?_
          refine y_icmp_ne cx (pc := 41) (tgt := 54) d_m_mayConvert_41 (by decide) (fun hc => ?_) (fun hc => ?_)
          · replace h := h.1 hc
            refine y_sub [0, 1, 2, 4] rfl ?_
            exact b_m_mayConvert_54 cx ih v1 v2 v4 σ5 h
          · replace h := h.2 hc
            refine y_aload_n cx (pc := 44) d_m_mayConvert_44 rfl 0 rfl ?_
            refine y_get cx (pc := 45) (j := 23) (v := .ref (Δ.1 71)) (le_b rfl) ck_Md kw_771 (le_b rfl) (gf_58_23 Δ _) d_m_mayConvert_45 ?_
            refine y_iload cx (pc := 48) d_m_mayConvert_48 4 rfl ?_
            obtain ⟨h0, h⟩ := h
            refine y_zald cx (pc := 50) ⟨(le_b rfl), fun _ => rfl⟩ h0 d_m_mayConvert_50 ?_
            refine y_if_eq cx (pc := 51) (tgt := 58) d_m_mayConvert_51 (by decide) (fun hc => ?_) (fun hc => ?_)
            · replace h := h.1 hc
              refine y_sub [0, 1, 2, 4] rfl ?_
              exact b_m_mayConvert_58 cx ih v1 v2 v4 σ5 h
            · replace h := h.2 hc
              refine y_sub [0, 1, 2, 4] rfl ?_
              exact b_m_mayConvert_54 cx ih v1 v2 v4 σ5 h
def w_m_mayConvert (p1 : Int32) (p2 : Int32) (σ : Sg) (Q : Int32 → Sg → Prop) : Prop := ∀ x1 : Int32, x1 = p1 + 1 → (∃ q7, w_m_mayConvert_7 Q q7 p1 p2 1 x1 σ)
theorem b_m_mayConvert {Δ : Ly} {G : Gm} {Q : Int32 → Sg → Prop} (cx : Cx Δ G mi_m_mayConvert) (p1 : Int32) (p2 : Int32) (σ : Sg) (h : w_m_mayConvert p1 p2 σ Q) : Y Δ G mi_m_mayConvert (qI Q) noE 0 0 σ 0 [(0, .ref (Δ.1 58)), (1, .int p1), (2, .int p2)] [] := by
  unfold w_m_mayConvert at h
  refine y_iconst cx (pc := 0) ic_1 d_m_mayConvert_0 ?_
  refine y_istore_n (lv' := [(3, .int 1), (0, .ref (Δ.1 58)), (1, .int p1), (2, .int p2)]) cx (pc := 1) d_m_mayConvert_1 rfl (le_b rfl) rfl ?_
  refine y_iload_n cx (pc := 2) d_m_mayConvert_2 rfl 2 rfl ?_
  refine y_iconst cx (pc := 3) ic_1 d_m_mayConvert_3 ?_
  refine y_iadd cx (pc := 4) d_m_mayConvert_4 ?_
  refine y_topi (fun x1 ex1 => ?_)
  replace h := h x1 ex1
  refine y_istore (lv' := [(4, .int x1), (3, .int 1), (0, .ref (Δ.1 58)), (1, .int p1), (2, .int p2)]) cx (pc := 5) d_m_mayConvert_5 (le_b rfl) rfl ?_
  refine y_sub [2, 3, 4, 1, 0] rfl ?_
  obtain ⟨n, h⟩ := h
  exact b_m_mayConvert_7 cx n p1 p2 1 x1 σ h
theorem c_m_mayConvert {l : Launch} (hfl : l.flags = flags0) (Δ : Ly) (p1 : Int32) (p2 : Int32) (σ : Sg) (Q : Int32 → Sg → Prop) (h : w_m_mayConvert p1 p2 σ Q) : Ct l Δ mi_m_mayConvert [.ref (Δ.1 58), .int p1, .int p2] σ (qI Q) noE :=
  Ct.of hfl (by show plainFor ⟨"GuardedMovesModel", "mayConvert", "(II)Z"⟩ = true; decide +kernel) rfl (le_b rfl) (fun G hl cx => b_m_mayConvert cx p1 p2 σ h)
def mi_m_lower : Mi := ("GuardedMovesModel", prog_6_method_41_code, 3, [], (some .int), 7, 208, 0, 0, ⟨"GuardedMovesModel", "lower", "(I)I"⟩)
theorem d_m_lower_0 : decode prog_6_method_41_code 0 = .ok (.aload_n 0, 1) := by decide +kernel
theorem d_m_lower_1 : decode prog_6_method_41_code 1 = .ok (.iload_n 1, 1) := by decide +kernel
theorem d_m_lower_2 : decode prog_6_method_41_code 2 = .ok (.i2l, 1) := by decide +kernel
theorem d_m_lower_3 : decode prog_6_method_41_code 3 = .ok (.lconst 0, 1) := by decide +kernel
theorem d_m_lower_4 : decode prog_6_method_41_code 4 = .ok (.ldc2_w 263, 3) := by decide +kernel
theorem d_m_lower_7 : decode prog_6_method_41_code 7 = .ok (.invokestatic 107, 3) := by decide +kernel
theorem d_m_lower_10 : decode prog_6_method_41_code 10 = .ok (.iconst 1, 1) := by decide +kernel
theorem d_m_lower_11 : decode prog_6_method_41_code 11 = .ok (.invokevirtual 111, 3) := by decide +kernel
theorem d_m_lower_14 : decode prog_6_method_41_code 14 = .ok (.ifCond .ne 5, 3) := by decide +kernel
theorem d_m_lower_17 : decode prog_6_method_41_code 17 = .ok (.iconst 0, 1) := by decide +kernel
theorem d_m_lower_18 : decode prog_6_method_41_code 18 = .ok (.ireturn, 1) := by decide +kernel
theorem d_m_lower_19 : decode prog_6_method_41_code 19 = .ok (.aload_n 0, 1) := by decide +kernel
theorem d_m_lower_20 : decode prog_6_method_41_code 20 = .ok (.getfield 192, 3) := by decide +kernel
theorem d_m_lower_23 : decode prog_6_method_41_code 23 = .ok (.iconst 1, 1) := by decide +kernel
theorem d_m_lower_24 : decode prog_6_method_41_code 24 = .ok (.isub, 1) := by decide +kernel
theorem d_m_lower_25 : decode prog_6_method_41_code 25 = .ok (.istore_n 2, 1) := by decide +kernel
theorem d_m_lower_26 : decode prog_6_method_41_code 26 = .ok (.iload_n 2, 1) := by decide +kernel
theorem d_m_lower_27 : decode prog_6_method_41_code 27 = .ok (.ifCond .lt 39, 3) := by decide +kernel
theorem d_m_lower_30 : decode prog_6_method_41_code 30 = .ok (.aload_n 0, 1) := by decide +kernel
theorem d_m_lower_31 : decode prog_6_method_41_code 31 = .ok (.getfield 51, 3) := by decide +kernel
theorem d_m_lower_34 : decode prog_6_method_41_code 34 = .ok (.iload_n 2, 1) := by decide +kernel
theorem d_m_lower_35 : decode prog_6_method_41_code 35 = .ok (.aload_n 0, 1) := by decide +kernel
theorem d_m_lower_36 : decode prog_6_method_41_code 36 = .ok (.iload_n 2, 1) := by decide +kernel
theorem d_m_lower_37 : decode prog_6_method_41_code 37 = .ok (.iconst 0, 1) := by decide +kernel
theorem d_m_lower_38 : decode prog_6_method_41_code 38 = .ok (.invokevirtual 212, 3) := by decide +kernel
theorem d_m_lower_41 : decode prog_6_method_41_code 41 = .ok (.iconst 5, 1) := by decide +kernel
theorem d_m_lower_42 : decode prog_6_method_41_code 42 = .ok (.if_icmp .ne 16, 3) := by decide +kernel
theorem d_m_lower_45 : decode prog_6_method_41_code 45 = .ok (.aload_n 0, 1) := by decide +kernel
theorem d_m_lower_46 : decode prog_6_method_41_code 46 = .ok (.iload_n 2, 1) := by decide +kernel
theorem d_m_lower_47 : decode prog_6_method_41_code 47 = .ok (.iload_n 1, 1) := by decide +kernel
theorem d_m_lower_48 : decode prog_6_method_41_code 48 = .ok (.invokevirtual 265, 3) := by decide +kernel
theorem d_m_lower_51 : decode prog_6_method_41_code 51 = .ok (.ifCond .eq 7, 3) := by decide +kernel
theorem d_m_lower_54 : decode prog_6_method_41_code 54 = .ok (.iconst 1, 1) := by decide +kernel
theorem d_m_lower_55 : decode prog_6_method_41_code 55 = .ok (.goto 4, 3) := by decide +kernel
theorem d_m_lower_58 : decode prog_6_method_41_code 58 = .ok (.iconst 0, 1) := by decide +kernel
theorem d_m_lower_59 : decode prog_6_method_41_code 59 = .ok (.bastore, 1) := by decide +kernel
theorem d_m_lower_60 : decode prog_6_method_41_code 60 = .ok (.iinc 2 (-1), 3) := by decide +kernel
theorem d_m_lower_63 : decode prog_6_method_41_code 63 = .ok (.goto (-37), 3) := by decide +kernel
theorem d_m_lower_66 : decode prog_6_method_41_code 66 = .ok (.aload_n 0, 1) := by decide +kernel
theorem d_m_lower_67 : decode prog_6_method_41_code 67 = .ok (.iconst 0, 1) := by decide +kernel
theorem d_m_lower_68 : decode prog_6_method_41_code 68 = .ok (.aload_n 0, 1) := by decide +kernel
theorem d_m_lower_69 : decode prog_6_method_41_code 69 = .ok (.getfield 192, 3) := by decide +kernel
theorem d_m_lower_72 : decode prog_6_method_41_code 72 = .ok (.invokevirtual 260, 3) := by decide +kernel
theorem d_m_lower_75 : decode prog_6_method_41_code 75 = .ok (.aload_n 0, 1) := by decide +kernel
theorem d_m_lower_76 : decode prog_6_method_41_code 76 = .ok (.iconst 1, 1) := by decide +kernel
theorem d_m_lower_77 : decode prog_6_method_41_code 77 = .ok (.putfield 195, 3) := by decide +kernel
theorem d_m_lower_80 : decode prog_6_method_41_code 80 = .ok (.aload_n 0, 1) := by decide +kernel
theorem d_m_lower_81 : decode prog_6_method_41_code 81 = .ok (.getfield 199, 3) := by decide +kernel
theorem d_m_lower_84 : decode prog_6_method_41_code 84 = .ok (.ireturn, 1) := by decide +kernel
theorem kc_m_lower : Kw (m_w (mi_m_lower )) := ⟨(in_t5 (List.mem_of_getElem? (i := 14) rfl)), rfl⟩
theorem mv_m_lower : MV (mi_m_lower ) "GuardedMovesModel" 1 := ⟨kw_972, kw_973, kc_m_lower , kw_7, ⟨⟨(by show ("GuardedMovesModel" : String) ≠ "java/lang/invoke/MethodHandle"; decide), (by show ("GuardedMovesModel" : String) ≠ "java/lang/invoke/VarHandle"; decide)⟩, (by show (parseMethodDescriptor "(I)I").map (fun d => d.parameters.length) = some 1; decide +kernel)⟩⟩
def w_m_lower_59 (K26 : Int32 → Int32 → Sg → Prop) (Q : Int32 → Sg → Prop) (v1 : Int32) (v2 : Int32) (s0 : Int32) (s1 : Int32) (σ : Sg) : Prop := vp_in s1 60 ∧ (bz s0 ∧ (∀ x1 : Int32, x1 = v2 + (-1) → (K26 v1 x1 (up σ 71 (s1.toNatClampNeg) s0))))
theorem b_m_lower_59 {Δ : Ly} {G : Gm} {K26 : Int32 → Int32 → Sg → Prop} {Q : Int32 → Sg → Prop} (cx : Cx Δ G mi_m_lower) (hK26 : ∀ (v1 : Int32) (v2 : Int32) (σ : Sg), K26 v1 v2 σ → Y Δ G mi_m_lower (qI Q) noE 0 0 σ 26 [(0, .ref (Δ.1 58)), (1, .int v1), (2, .int v2)] []) : ∀ (v1 : Int32) (v2 : Int32) (s0 : Int32) (s1 : Int32) (σ : Sg), w_m_lower_59 K26 Q v1 v2 s0 s1 σ → Y Δ G mi_m_lower (qI Q) noE 0 0 σ 59 [(0, .ref (Δ.1 58)), (1, .int v1), (2, .int v2)] [.int s0, .int s1, .ref (Δ.1 71)] := by
  intro v1 v2 s0 s1 σ h
  unfold w_m_lower_59 at h
  obtain ⟨h0, h⟩ := h
  obtain ⟨hb, h⟩ := h
  refine y_zastB cx (pc := 59) ⟨(le_b rfl), fun _ => rfl⟩ h0 hb d_m_lower_59 ?_
  obtain ⟨x1, ex1⟩ : ∃ y : Int32, y = v2 + (-1) := ⟨_, rfl⟩
  replace h := h x1 ex1
  refine y_iinc (v := x1) (lv' := [(2, .int x1), (0, .ref (Δ.1 58)), (1, .int v1)]) cx (pc := 60) d_m_lower_60 (j := 2) rfl (by rw [ex1]; rfl) (le_b rfl) rfl ?_
  refine y_goto cx (pc := 63) (tgt := 26) d_m_lower_63 (by decide) ?_
  refine y_sub [1, 2, 0] rfl ?_
  exact hK26 v1 x1 (up σ 71 (s1.toNatClampNeg) s0) h
def w_m_lower_58 (K26 : Int32 → Int32 → Sg → Prop) (Q : Int32 → Sg → Prop) (v1 : Int32) (v2 : Int32) (s0 : Int32) (σ : Sg) : Prop := w_m_lower_59 K26 Q v1 v2 0 s0 σ
theorem b_m_lower_58 {Δ : Ly} {G : Gm} {K26 : Int32 → Int32 → Sg → Prop} {Q : Int32 → Sg → Prop} (cx : Cx Δ G mi_m_lower) (hK26 : ∀ (v1 : Int32) (v2 : Int32) (σ : Sg), K26 v1 v2 σ → Y Δ G mi_m_lower (qI Q) noE 0 0 σ 26 [(0, .ref (Δ.1 58)), (1, .int v1), (2, .int v2)] []) : ∀ (v1 : Int32) (v2 : Int32) (s0 : Int32) (σ : Sg), w_m_lower_58 K26 Q v1 v2 s0 σ → Y Δ G mi_m_lower (qI Q) noE 0 0 σ 58 [(0, .ref (Δ.1 58)), (1, .int v1), (2, .int v2)] [.int s0, .ref (Δ.1 71)] := by
  intro v1 v2 s0 σ h
  unfold w_m_lower_58 at h
  refine y_iconst cx (pc := 58) ic_0 d_m_lower_58 ?_
  exact b_m_lower_59 cx hK26 v1 v2 0 s0 σ h
def w_m_lower_26 (Q : Int32 → Sg → Prop) : Nat → Int32 → Int32 → Sg → Prop
  | 0, _, _, _ => False
  | n + 1, v1, v2, σ => (v2 < 0 → (w_m_lowerAll 0 (σ 58 9) σ (fun σ1 => Q (σ1 58 20) (up σ1 58 22 1)))) ∧ (¬ v2 < 0 → (w_m_of v2 0 σ (fun x2 σ3 => (¬ x2 = 5 → (w_m_lower_58 (w_m_lower_26 Q n) Q v1 v2 v2 σ3)) ∧ (x2 = 5 → (w_m_mayConvert v2 v1 σ3 (fun x4 σ5 => (x4 = 0 → (w_m_lower_58 (w_m_lower_26 Q n) Q v1 v2 v2 σ5)) ∧ (¬ x4 = 0 → (w_m_lower_59 (w_m_lower_26 Q n) Q v1 v2 1 v2 σ5))))))))
theorem b_m_lower_26 {Δ : Ly} {G : Gm} {Q : Int32 → Sg → Prop} (cx : Cx Δ G mi_m_lower) : ∀ (n : Nat) (v1 : Int32) (v2 : Int32) (σ : Sg), w_m_lower_26 Q n v1 v2 σ → Y Δ G mi_m_lower (qI Q) noE 0 0 σ 26 [(0, .ref (Δ.1 58)), (1, .int v1), (2, .int v2)] [] := by
  intro n
  induction n with
  | zero => intro v1 v2 σ h; exact h.elim
  | succ n ih =>
    intro v1 v2 σ h
    unfold w_m_lower_26 at h
    refine y_iload_n cx (pc := 26) d_m_lower_26 rfl 2 rfl ?_
    refine y_if_lt cx (pc := 27) (tgt := 66) d_m_lower_27 (by decide) (fun hc => ?_) (fun hc => ?_)
    · replace h := h.1 hc
      refine y_aload_n cx (pc := 66) d_m_lower_66 rfl 0 rfl ?_
      refine y_iconst cx (pc := 67) ic_0 d_m_lower_67 ?_
      refine y_aload_n cx (pc := 68) d_m_lower_68 rfl 0 rfl ?_
      refine y_get cx (pc := 69) (j := 9) (v := .int (σ 58 9)) (le_b rfl) ck_Md kw_757 (le_b rfl) (gf_58_9 Δ _) d_m_lower_69 ?_
      refine y_vV cx (pc := 72) (st := []) [.int 0, .int (σ 58 9)] (c_m_lowerAll cx.fl Δ 0 (σ 58 9) _ _ h) mv_m_lowerAll kw_984 (oc_58 Δ) ck_Md rfl (le_b rfl) (le_b rfl) (le_b rfl) (le_b rfl) (le_b rfl) d_m_lower_72 (fun σ1 h => ?_) (fun x σ1 h => yt_no h)
      refine y_aload_n cx (pc := 75) d_m_lower_75 rfl 0 rfl ?_
      refine y_iconst cx (pc := 76) ic_1 d_m_lower_76 ?_
      refine y_put cx (pc := 77) (j := 22) (ty := .boolean) (le_b rfl) ck_Md kw_770 (le_b rfl) rfl (t_Md_ok 22 (le_b rfl)) (bz_nar bz_1) (bz_fit bz_1) (pf_58_22 Δ) d_m_lower_77 ?_
      refine y_aload_n cx (pc := 80) d_m_lower_80 rfl 0 rfl ?_
      refine y_get cx (pc := 81) (j := 20) (v := .int (σ1 58 20)) (le_b rfl) ck_Md kw_768 (le_b rfl) (gf_58_20 Δ _) d_m_lower_81 ?_
      exact y_iret cx (pc := 84) rfl d_m_lower_84 (le_b rfl) (le_b rfl) h
    · replace h := h.2 hc
      refine y_aload_n cx (pc := 30) d_m_lower_30 rfl 0 rfl ?_
      refine y_get cx (pc := 31) (j := 23) (v := .ref (Δ.1 71)) (le_b rfl) ck_Md kw_771 (le_b rfl) (gf_58_23 Δ _) d_m_lower_31 ?_
      refine y_iload_n cx (pc := 34) d_m_lower_34 rfl 2 rfl ?_
      refine y_aload_n cx (pc := 35) d_m_lower_35 rfl 0 rfl ?_
      refine y_iload_n cx (pc := 36) d_m_lower_36 rfl 2 rfl ?_
      refine y_iconst cx (pc := 37) ic_0 d_m_lower_37 ?_
      refine y_vI cx (pc := 38) (st := [.int v2, .ref (Δ.1 71)]) [.int v2, .int 0] (c_m_of cx.fl Δ v2 0 _ _ h) mv_m_of kw_976 (oc_58 Δ) ck_Md rfl (le_b rfl) (le_b rfl) (le_b rfl) (le_b rfl) (le_b rfl) d_m_lower_38 (fun x2 σ3 h => ?_) (fun x σ3 h => yt_no h)
      refine y_iconst cx (pc := 41) ic_5 d_m_lower_41 ?_
      refine y_icmp_ne cx (pc := 42) (tgt := 58) d_m_lower_42 (by decide) (fun hc => ?_) (fun hc => ?_)
      · replace h := h.1 hc
        exact b_m_lower_58 cx ih v1 v2 v2 σ3 h
      · replace h := h.2 hc
        refine y_aload_n cx (pc := 45) d_m_lower_45 rfl 0 rfl ?_
        refine y_iload_n cx (pc := 46) d_m_lower_46 rfl 2 rfl ?_
        refine y_iload_n cx (pc := 47) d_m_lower_47 rfl 1 rfl ?_
        refine y_vI cx (pc := 48) (st := [.int v2, .ref (Δ.1 71)]) [.int v2, .int v1] (c_m_mayConvert cx.fl Δ v2 v1 _ _ h) mv_m_mayConvert kw_980 (oc_58 Δ) ck_Md rfl (le_b rfl) (le_b rfl) (le_b rfl) (le_b rfl) (le_b rfl) d_m_lower_48 (fun x4 σ5 h => ?_) (fun x σ5 h => yt_no h)
        refine y_if_eq cx (pc := 51) (tgt := 58) d_m_lower_51 (by decide) (fun hc => ?_) (fun hc => ?_)
        · replace h := h.1 hc
          exact b_m_lower_58 cx ih v1 v2 v2 σ5 h
        · replace h := h.2 hc
          refine y_iconst cx (pc := 54) ic_1 d_m_lower_54 ?_
          refine y_goto cx (pc := 55) (tgt := 59) d_m_lower_55 (by decide) ?_
          exact b_m_lower_59 cx ih v1 v2 1 v2 σ5 h
def w_m_lower (p1 : Int32) (σ : Sg) (Q : Int32 → Sg → Prop) : Prop := w_m_isIn (p1.toInt64) 0 400 σ (fun x1 σ2 => w_m_may x1 1 σ2 (fun x3 σ4 => (¬ x3 = 0 → (∀ x5 : Int32, x5 = (σ4 58 9) - 1 → (∃ q26, w_m_lower_26 Q q26 p1 x5 σ4))) ∧ (x3 = 0 → (Q 0 σ4))))
theorem b_m_lower {Δ : Ly} {G : Gm} {Q : Int32 → Sg → Prop} (cx : Cx Δ G mi_m_lower) (p1 : Int32) (σ : Sg) (h : w_m_lower p1 σ Q) : Y Δ G mi_m_lower (qI Q) noE 0 0 σ 0 [(0, .ref (Δ.1 58)), (1, .int p1)] [] := by
  unfold w_m_lower at h
  refine y_aload_n cx (pc := 0) d_m_lower_0 rfl 0 rfl ?_
  refine y_iload_n cx (pc := 1) d_m_lower_1 rfl 1 rfl ?_
  refine y_i2l cx (pc := 2) d_m_lower_2 ?_
  refine y_lconst cx (pc := 3) (v := 0) lc_0 d_m_lower_3 ?_
  refine y_ldc2 cx (pc := 4) kw_975 d_m_lower_4 ?_
  refine y_sI cx (pc := 7) (st := [.ref (Δ.1 58)]) [.long (p1.toInt64), .long 0, .long 400] (c_m_isIn cx.fl Δ (p1.toInt64) 0 400 _ _ h) mv_m_isIn kw_893 rfl (le_b rfl) (le_b rfl) (le_b rfl) (le_b rfl) (le_b rfl) d_m_lower_7 (fun x1 σ2 h => ?_) (fun x σ2 h => yt_no h)
  refine y_iconst cx (pc := 10) ic_1 d_m_lower_10 ?_
  refine y_vI cx (pc := 11) (st := []) [.int x1, .int 1] (c_m_may cx.fl Δ x1 1 _ _ h) mv_m_may kw_896 (oc_58 Δ) ck_Md rfl (le_b rfl) (le_b rfl) (le_b rfl) (le_b rfl) (le_b rfl) d_m_lower_11 (fun x3 σ4 h => ?_) (fun x σ4 h => yt_no h)
  refine y_if_ne cx (pc := 14) (tgt := 19) d_m_lower_14 (by decide) (fun hc => ?_) (fun hc => ?_)
  · replace h := h.1 hc
    refine y_aload_n cx (pc := 19) d_m_lower_19 rfl 0 rfl ?_
    refine y_get cx (pc := 20) (j := 9) (v := .int (σ4 58 9)) (le_b rfl) ck_Md kw_757 (le_b rfl) (gf_58_9 Δ _) d_m_lower_20 ?_
    refine y_iconst cx (pc := 23) ic_1 d_m_lower_23 ?_
    refine y_isub cx (pc := 24) d_m_lower_24 ?_
    refine y_topi (fun x5 ex5 => ?_)
    replace h := h x5 ex5
    refine y_istore_n (lv' := [(2, .int x5), (0, .ref (Δ.1 58)), (1, .int p1)]) cx (pc := 25) d_m_lower_25 rfl (le_b rfl) rfl ?_
    refine y_sub [1, 2, 0] rfl ?_
    obtain ⟨n, h⟩ := h
    exact b_m_lower_26 cx n p1 x5 σ4 h
  · replace h := h.2 hc
    refine y_iconst cx (pc := 17) ic_0 d_m_lower_17 ?_
    exact y_iret cx (pc := 18) rfl d_m_lower_18 (le_b rfl) (le_b rfl) h
theorem c_m_lower {l : Launch} (hfl : l.flags = flags0) (Δ : Ly) (p1 : Int32) (σ : Sg) (Q : Int32 → Sg → Prop) (h : w_m_lower p1 σ Q) : Ct l Δ mi_m_lower [.ref (Δ.1 58), .int p1] σ (qI Q) noE :=
  Ct.of hfl (by show plainFor ⟨"GuardedMovesModel", "lower", "(I)I"⟩ = true; decide +kernel) rfl (le_b rfl) (fun G hl cx => b_m_lower cx p1 σ h)
def mi_m_goneBefore : Mi := ("GuardedMovesModel", prog_6_method_45_code, 4, [], (some .int), 0, 0, 0, 0, ⟨"GuardedMovesModel", "goneBefore", "(I)I"⟩)
theorem d_m_goneBefore_0 : decode prog_6_method_45_code 0 = .ok (.iconst 0, 1) := by decide +kernel
theorem d_m_goneBefore_1 : decode prog_6_method_45_code 1 = .ok (.istore_n 2, 1) := by decide +kernel
theorem d_m_goneBefore_2 : decode prog_6_method_45_code 2 = .ok (.iconst 0, 1) := by decide +kernel
theorem d_m_goneBefore_3 : decode prog_6_method_45_code 3 = .ok (.istore_n 3, 1) := by decide +kernel
theorem d_m_goneBefore_4 : decode prog_6_method_45_code 4 = .ok (.iload_n 3, 1) := by decide +kernel
theorem d_m_goneBefore_5 : decode prog_6_method_45_code 5 = .ok (.iload_n 1, 1) := by decide +kernel
theorem d_m_goneBefore_6 : decode prog_6_method_45_code 6 = .ok (.if_icmp .ge 26, 3) := by decide +kernel
theorem d_m_goneBefore_9 : decode prog_6_method_45_code 9 = .ok (.iload_n 2, 1) := by decide +kernel
theorem d_m_goneBefore_10 : decode prog_6_method_45_code 10 = .ok (.aload_n 0, 1) := by decide +kernel
theorem d_m_goneBefore_11 : decode prog_6_method_45_code 11 = .ok (.getfield 81, 3) := by decide +kernel
theorem d_m_goneBefore_14 : decode prog_6_method_45_code 14 = .ok (.iload_n 3, 1) := by decide +kernel
theorem d_m_goneBefore_15 : decode prog_6_method_45_code 15 = .ok (.baload, 1) := by decide +kernel
theorem d_m_goneBefore_16 : decode prog_6_method_45_code 16 = .ok (.ifCond .eq 7, 3) := by decide +kernel
theorem d_m_goneBefore_19 : decode prog_6_method_45_code 19 = .ok (.iconst 1, 1) := by decide +kernel
theorem d_m_goneBefore_20 : decode prog_6_method_45_code 20 = .ok (.goto 4, 3) := by decide +kernel
theorem d_m_goneBefore_23 : decode prog_6_method_45_code 23 = .ok (.iconst 0, 1) := by decide +kernel
theorem d_m_goneBefore_24 : decode prog_6_method_45_code 24 = .ok (.iadd, 1) := by decide +kernel
theorem d_m_goneBefore_25 : decode prog_6_method_45_code 25 = .ok (.istore_n 2, 1) := by decide +kernel
theorem d_m_goneBefore_26 : decode prog_6_method_45_code 26 = .ok (.iinc 3 1, 3) := by decide +kernel
theorem d_m_goneBefore_29 : decode prog_6_method_45_code 29 = .ok (.goto (-25), 3) := by decide +kernel
theorem d_m_goneBefore_32 : decode prog_6_method_45_code 32 = .ok (.iload_n 2, 1) := by decide +kernel
theorem d_m_goneBefore_33 : decode prog_6_method_45_code 33 = .ok (.ireturn, 1) := by decide +kernel
theorem kc_m_goneBefore : Kw (m_w (mi_m_goneBefore )) := ⟨(in_t5 (List.mem_of_getElem? (i := 103) rfl)), rfl⟩
theorem mv_m_goneBefore : MV (mi_m_goneBefore ) "GuardedMovesModel" 1 := ⟨kw_1062, ks_74, kc_m_goneBefore , kw_7, ⟨⟨(by show ("GuardedMovesModel" : String) ≠ "java/lang/invoke/MethodHandle"; decide), (by show ("GuardedMovesModel" : String) ≠ "java/lang/invoke/VarHandle"; decide)⟩, (by show (parseMethodDescriptor "(I)I").map (fun d => d.parameters.length) = some 1; decide +kernel)⟩⟩
def w_m_goneBefore_24 (K4 : Int32 → Int32 → Int32 → Sg → Prop) (Q : Int32 → Sg → Prop) (v1 : Int32) (v3 : Int32) (s0 : Int32) (s1 : Int32) (σ : Sg) : Prop := ∀ x1 : Int32, x1 = s1 + s0 → (∀ x2 : Int32, x2 = v3 + 1 → (K4 v1 x1 x2 σ))
theorem b_m_goneBefore_24 {Δ : Ly} {G : Gm} {K4 : Int32 → Int32 → Int32 → Sg → Prop} {Q : Int32 → Sg → Prop} (cx : Cx Δ G mi_m_goneBefore) (hK4 : ∀ (v1 : Int32) (v2 : Int32) (v3 : Int32) (σ : Sg), K4 v1 v2 v3 σ → Y Δ G mi_m_goneBefore (qI Q) noE 0 0 σ 4 [(0, .ref (Δ.1 58)), (1, .int v1), (2, .int v2), (3, .int v3)] []) : ∀ (v1 : Int32) (v3 : Int32) (s0 : Int32) (s1 : Int32) (σ : Sg), w_m_goneBefore_24 K4 Q v1 v3 s0 s1 σ → Y Δ G mi_m_goneBefore (qI Q) noE 0 0 σ 24 [(0, .ref (Δ.1 58)), (1, .int v1), (3, .int v3)] [.int s0, .int s1] := by
  intro v1 v3 s0 s1 σ h
  unfold w_m_goneBefore_24 at h
  refine y_iadd cx (pc := 24) d_m_goneBefore_24 ?_
  refine y_topi (fun x1 ex1 => ?_)
  replace h := h x1 ex1
  refine y_istore_n (lv' := [(2, .int x1), (0, .ref (Δ.1 58)), (1, .int v1), (3, .int v3)]) cx (pc := 25) d_m_goneBefore_25 rfl (le_b rfl) rfl ?_
  obtain ⟨x2, ex2⟩ : ∃ y : Int32, y = v3 + 1 := ⟨_, rfl⟩
  replace h := h x2 ex2
  refine y_iinc (v := x2) (lv' := [(3, .int x2), (2, .int x1), (0, .ref (Δ.1 58)), (1, .int v1)]) cx (pc := 26) d_m_goneBefore_26 (j := 3) rfl (by rw [ex2]; rfl) (le_b rfl) rfl ?_
  refine y_goto cx (pc := 29) (tgt := 4) d_m_goneBefore_29 (by decide) ?_
  refine y_sub [2, 3, 1, 0] rfl ?_
  exact hK4 v1 x1 x2 σ h
def w_m_goneBefore_4 (Q : Int32 → Sg → Prop) : Nat → Int32 → Int32 → Int32 → Sg → Prop
  | 0, _, _, _, _ => False
  | n + 1, v1, v2, v3, σ => (v1 ≤ v3 → (Q v2 σ)) ∧ (¬ v1 ≤ v3 → (vp_in v3 4000 ∧ (((σ 81 (v3.toNatClampNeg)) = 0 → (w_m_goneBefore_24 (w_m_goneBefore_4 Q n) Q v1 v3 0 v2 σ)) ∧ (¬ (σ 81 (v3.toNatClampNeg)) = 0 → (w_m_goneBefore_24 (w_m_goneBefore_4 Q n) Q v1 v3 1 v2 σ)))))
theorem b_m_goneBefore_4 {Δ : Ly} {G : Gm} {Q : Int32 → Sg → Prop} (cx : Cx Δ G mi_m_goneBefore) : ∀ (n : Nat) (v1 : Int32) (v2 : Int32) (v3 : Int32) (σ : Sg), w_m_goneBefore_4 Q n v1 v2 v3 σ → Y Δ G mi_m_goneBefore (qI Q) noE 0 0 σ 4 [(0, .ref (Δ.1 58)), (1, .int v1), (2, .int v2), (3, .int v3)] [] := by
  intro n
  induction n with
  | zero => intro v1 v2 v3 σ h; exact h.elim
  | succ n ih =>
    intro v1 v2 v3 σ h
    unfold w_m_goneBefore_4 at h
    refine y_iload_n cx (pc := 4) d_m_goneBefore_4 rfl 3 rfl ?_
    refine y_iload_n cx (pc := 5) d_m_goneBefore_5 rfl 1 rfl ?_
    refine y_icmp_ge cx (pc := 6) (tgt := 32) d_m_goneBefore_6 (by decide) (fun hc => ?_) (fun hc => ?_)
    · replace h := h.1 hc
      refine y_iload_n cx (pc := 32) d_m_goneBefore_32 rfl 2 rfl ?_
      exact y_iret cx (pc := 33) rfl d_m_goneBefore_33 (le_b rfl) (le_b rfl) h
    · replace h := h.2 hc
      refine y_iload_n cx (pc := 9) d_m_goneBefore_9 rfl 2 rfl ?_
      refine y_aload_n cx (pc := 10) d_m_goneBefore_10 rfl 0 rfl ?_
      refine y_get cx (pc := 11) (j := 35) (v := .ref (Δ.1 81)) (le_b rfl) ck_Md kw_783 (le_b rfl) (gf_58_35 Δ _) d_m_goneBefore_11 ?_
      refine y_iload_n cx (pc := 14) d_m_goneBefore_14 rfl 3 rfl ?_
      obtain ⟨h0, h⟩ := h
      refine y_zald cx (pc := 15) ⟨(le_b rfl), fun _ => rfl⟩ h0 d_m_goneBefore_15 ?_
      refine y_if_eq cx (pc := 16) (tgt := 23) d_m_goneBefore_16 (by decide) (fun hc => ?_) (fun hc => ?_)
      · replace h := h.1 hc
        refine y_iconst cx (pc := 23) ic_0 d_m_goneBefore_23 ?_
        refine y_sub [0, 1, 3] rfl ?_
        exact b_m_goneBefore_24 cx ih v1 v3 0 v2 σ h
      · replace h := h.2 hc
        refine y_iconst cx (pc := 19) ic_1 d_m_goneBefore_19 ?_
        refine y_goto cx (pc := 20) (tgt := 24) d_m_goneBefore_20 (by decide) ?_
        refine y_sub [0, 1, 3] rfl ?_
        exact b_m_goneBefore_24 cx ih v1 v3 1 v2 σ h
def w_m_goneBefore (p1 : Int32) (σ : Sg) (Q : Int32 → Sg → Prop) : Prop := ∃ q4, w_m_goneBefore_4 Q q4 p1 0 0 σ
theorem b_m_goneBefore {Δ : Ly} {G : Gm} {Q : Int32 → Sg → Prop} (cx : Cx Δ G mi_m_goneBefore) (p1 : Int32) (σ : Sg) (h : w_m_goneBefore p1 σ Q) : Y Δ G mi_m_goneBefore (qI Q) noE 0 0 σ 0 [(0, .ref (Δ.1 58)), (1, .int p1)] [] := by
  unfold w_m_goneBefore at h
  refine y_iconst cx (pc := 0) ic_0 d_m_goneBefore_0 ?_
  refine y_istore_n (lv' := [(2, .int 0), (0, .ref (Δ.1 58)), (1, .int p1)]) cx (pc := 1) d_m_goneBefore_1 rfl (le_b rfl) rfl ?_
  refine y_iconst cx (pc := 2) ic_0 d_m_goneBefore_2 ?_
  refine y_istore_n (lv' := [(3, .int 0), (2, .int 0), (0, .ref (Δ.1 58)), (1, .int p1)]) cx (pc := 3) d_m_goneBefore_3 rfl (le_b rfl) rfl ?_
  refine y_sub [2, 3, 1, 0] rfl ?_
  obtain ⟨n, h⟩ := h
  exact b_m_goneBefore_4 cx n p1 0 0 σ h
theorem c_m_goneBefore {l : Launch} (hfl : l.flags = flags0) (Δ : Ly) (p1 : Int32) (σ : Sg) (Q : Int32 → Sg → Prop) (h : w_m_goneBefore p1 σ Q) : Ct l Δ mi_m_goneBefore [.ref (Δ.1 58), .int p1] σ (qI Q) noE :=
  Ct.of hfl (by show plainFor ⟨"GuardedMovesModel", "goneBefore", "(I)I"⟩ = true; decide +kernel) rfl (le_b rfl) (fun G hl cx => b_m_goneBefore cx p1 σ h)
def mi_m_names : Mi := ("GuardedMovesModel", prog_6_method_42_code, 5, [], (some .boolean), 0, 0, 0, 0, ⟨"GuardedMovesModel", "names", "(II)Z"⟩)
theorem d_m_names_0 : decode prog_6_method_42_code 0 = .ok (.bipush 6, 2) := by decide +kernel
theorem d_m_names_2 : decode prog_6_method_42_code 2 = .ok (.iload_n 1, 1) := by decide +kernel
theorem d_m_names_3 : decode prog_6_method_42_code 3 = .ok (.imul, 1) := by decide +kernel
theorem d_m_names_4 : decode prog_6_method_42_code 4 = .ok (.istore_n 3, 1) := by decide +kernel
theorem d_m_names_5 : decode prog_6_method_42_code 5 = .ok (.aload_n 0, 1) := by decide +kernel
theorem d_m_names_6 : decode prog_6_method_42_code 6 = .ok (.getfield 44, 3) := by decide +kernel
theorem d_m_names_9 : decode prog_6_method_42_code 9 = .ok (.iload_n 3, 1) := by decide +kernel
theorem d_m_names_10 : decode prog_6_method_42_code 10 = .ok (.iaload, 1) := by decide +kernel
theorem d_m_names_11 : decode prog_6_method_42_code 11 = .ok (.istore 4, 2) := by decide +kernel
theorem d_m_names_13 : decode prog_6_method_42_code 13 = .ok (.iload 4, 2) := by decide +kernel
theorem d_m_names_15 : decode prog_6_method_42_code 15 = .ok (.tableswitch 199 0 18 #[89, 139, 199, 199, 199, 199, 199, 199, 199, 199, 199, 199, 199, 157, 139, 109, 89, 91, 91], 89) := by decide +kernel
theorem d_m_names_104 : decode prog_6_method_42_code 104 = .ok (.iconst 0, 1) := by decide +kernel
theorem d_m_names_105 : decode prog_6_method_42_code 105 = .ok (.ireturn, 1) := by decide +kernel
theorem d_m_names_106 : decode prog_6_method_42_code 106 = .ok (.aload_n 0, 1) := by decide +kernel
theorem d_m_names_107 : decode prog_6_method_42_code 107 = .ok (.getfield 44, 3) := by decide +kernel
theorem d_m_names_110 : decode prog_6_method_42_code 110 = .ok (.iload_n 3, 1) := by decide +kernel
theorem d_m_names_111 : decode prog_6_method_42_code 111 = .ok (.iconst 1, 1) := by decide +kernel
theorem d_m_names_112 : decode prog_6_method_42_code 112 = .ok (.iadd, 1) := by decide +kernel
theorem d_m_names_113 : decode prog_6_method_42_code 113 = .ok (.iaload, 1) := by decide +kernel
theorem d_m_names_114 : decode prog_6_method_42_code 114 = .ok (.iload_n 2, 1) := by decide +kernel
theorem d_m_names_115 : decode prog_6_method_42_code 115 = .ok (.if_icmp .ne 7, 3) := by decide +kernel
theorem d_m_names_118 : decode prog_6_method_42_code 118 = .ok (.iconst 1, 1) := by decide +kernel
theorem d_m_names_119 : decode prog_6_method_42_code 119 = .ok (.goto 4, 3) := by decide +kernel
theorem d_m_names_122 : decode prog_6_method_42_code 122 = .ok (.iconst 0, 1) := by decide +kernel
theorem d_m_names_123 : decode prog_6_method_42_code 123 = .ok (.ireturn, 1) := by decide +kernel
theorem d_m_names_124 : decode prog_6_method_42_code 124 = .ok (.aload_n 0, 1) := by decide +kernel
theorem d_m_names_125 : decode prog_6_method_42_code 125 = .ok (.getfield 44, 3) := by decide +kernel
theorem d_m_names_128 : decode prog_6_method_42_code 128 = .ok (.iload_n 3, 1) := by decide +kernel
theorem d_m_names_129 : decode prog_6_method_42_code 129 = .ok (.iconst 1, 1) := by decide +kernel
theorem d_m_names_130 : decode prog_6_method_42_code 130 = .ok (.iadd, 1) := by decide +kernel
theorem d_m_names_131 : decode prog_6_method_42_code 131 = .ok (.iaload, 1) := by decide +kernel
theorem d_m_names_132 : decode prog_6_method_42_code 132 = .ok (.iload_n 2, 1) := by decide +kernel
theorem d_m_names_133 : decode prog_6_method_42_code 133 = .ok (.if_icmp .eq 15, 3) := by decide +kernel
theorem d_m_names_136 : decode prog_6_method_42_code 136 = .ok (.aload_n 0, 1) := by decide +kernel
theorem d_m_names_137 : decode prog_6_method_42_code 137 = .ok (.getfield 44, 3) := by decide +kernel
theorem d_m_names_140 : decode prog_6_method_42_code 140 = .ok (.iload_n 3, 1) := by decide +kernel
theorem d_m_names_141 : decode prog_6_method_42_code 141 = .ok (.iconst 2, 1) := by decide +kernel
theorem d_m_names_142 : decode prog_6_method_42_code 142 = .ok (.iadd, 1) := by decide +kernel
theorem d_m_names_143 : decode prog_6_method_42_code 143 = .ok (.iaload, 1) := by decide +kernel
theorem d_m_names_144 : decode prog_6_method_42_code 144 = .ok (.iload_n 2, 1) := by decide +kernel
theorem d_m_names_145 : decode prog_6_method_42_code 145 = .ok (.if_icmp .ne 7, 3) := by decide +kernel
theorem d_m_names_148 : decode prog_6_method_42_code 148 = .ok (.iconst 1, 1) := by decide +kernel
theorem d_m_names_149 : decode prog_6_method_42_code 149 = .ok (.goto 4, 3) := by decide +kernel
theorem d_m_names_152 : decode prog_6_method_42_code 152 = .ok (.iconst 0, 1) := by decide +kernel
theorem d_m_names_153 : decode prog_6_method_42_code 153 = .ok (.ireturn, 1) := by decide +kernel
theorem d_m_names_154 : decode prog_6_method_42_code 154 = .ok (.aload_n 0, 1) := by decide +kernel
theorem d_m_names_155 : decode prog_6_method_42_code 155 = .ok (.getfield 44, 3) := by decide +kernel
theorem d_m_names_158 : decode prog_6_method_42_code 158 = .ok (.iload_n 3, 1) := by decide +kernel
theorem d_m_names_159 : decode prog_6_method_42_code 159 = .ok (.iconst 2, 1) := by decide +kernel
theorem d_m_names_160 : decode prog_6_method_42_code 160 = .ok (.iadd, 1) := by decide +kernel
theorem d_m_names_161 : decode prog_6_method_42_code 161 = .ok (.iaload, 1) := by decide +kernel
theorem d_m_names_162 : decode prog_6_method_42_code 162 = .ok (.iload_n 2, 1) := by decide +kernel
theorem d_m_names_163 : decode prog_6_method_42_code 163 = .ok (.if_icmp .ne 7, 3) := by decide +kernel
theorem d_m_names_166 : decode prog_6_method_42_code 166 = .ok (.iconst 1, 1) := by decide +kernel
theorem d_m_names_167 : decode prog_6_method_42_code 167 = .ok (.goto 4, 3) := by decide +kernel
theorem d_m_names_170 : decode prog_6_method_42_code 170 = .ok (.iconst 0, 1) := by decide +kernel
theorem d_m_names_171 : decode prog_6_method_42_code 171 = .ok (.ireturn, 1) := by decide +kernel
theorem d_m_names_172 : decode prog_6_method_42_code 172 = .ok (.aload_n 0, 1) := by decide +kernel
theorem d_m_names_173 : decode prog_6_method_42_code 173 = .ok (.getfield 44, 3) := by decide +kernel
theorem d_m_names_176 : decode prog_6_method_42_code 176 = .ok (.iload_n 3, 1) := by decide +kernel
theorem d_m_names_177 : decode prog_6_method_42_code 177 = .ok (.iconst 2, 1) := by decide +kernel
theorem d_m_names_178 : decode prog_6_method_42_code 178 = .ok (.iadd, 1) := by decide +kernel
theorem d_m_names_179 : decode prog_6_method_42_code 179 = .ok (.iaload, 1) := by decide +kernel
theorem d_m_names_180 : decode prog_6_method_42_code 180 = .ok (.iload_n 2, 1) := by decide +kernel
theorem d_m_names_181 : decode prog_6_method_42_code 181 = .ok (.if_icmp .eq 27, 3) := by decide +kernel
theorem d_m_names_184 : decode prog_6_method_42_code 184 = .ok (.aload_n 0, 1) := by decide +kernel
theorem d_m_names_185 : decode prog_6_method_42_code 185 = .ok (.getfield 44, 3) := by decide +kernel
theorem d_m_names_188 : decode prog_6_method_42_code 188 = .ok (.iload_n 3, 1) := by decide +kernel
theorem d_m_names_189 : decode prog_6_method_42_code 189 = .ok (.iconst 3, 1) := by decide +kernel
theorem d_m_names_190 : decode prog_6_method_42_code 190 = .ok (.iadd, 1) := by decide +kernel
theorem d_m_names_191 : decode prog_6_method_42_code 191 = .ok (.iaload, 1) := by decide +kernel
theorem d_m_names_192 : decode prog_6_method_42_code 192 = .ok (.iload_n 2, 1) := by decide +kernel
theorem d_m_names_193 : decode prog_6_method_42_code 193 = .ok (.if_icmp .eq 15, 3) := by decide +kernel
theorem d_m_names_196 : decode prog_6_method_42_code 196 = .ok (.aload_n 0, 1) := by decide +kernel
theorem d_m_names_197 : decode prog_6_method_42_code 197 = .ok (.getfield 44, 3) := by decide +kernel
theorem d_m_names_200 : decode prog_6_method_42_code 200 = .ok (.iload_n 3, 1) := by decide +kernel
theorem d_m_names_201 : decode prog_6_method_42_code 201 = .ok (.iconst 4, 1) := by decide +kernel
theorem d_m_names_202 : decode prog_6_method_42_code 202 = .ok (.iadd, 1) := by decide +kernel
theorem d_m_names_203 : decode prog_6_method_42_code 203 = .ok (.iaload, 1) := by decide +kernel
theorem d_m_names_204 : decode prog_6_method_42_code 204 = .ok (.iload_n 2, 1) := by decide +kernel
theorem d_m_names_205 : decode prog_6_method_42_code 205 = .ok (.if_icmp .ne 7, 3) := by decide +kernel
theorem d_m_names_208 : decode prog_6_method_42_code 208 = .ok (.iconst 1, 1) := by decide +kernel
theorem d_m_names_209 : decode prog_6_method_42_code 209 = .ok (.goto 4, 3) := by decide +kernel
theorem d_m_names_212 : decode prog_6_method_42_code 212 = .ok (.iconst 0, 1) := by decide +kernel
theorem d_m_names_213 : decode prog_6_method_42_code 213 = .ok (.ireturn, 1) := by decide +kernel
theorem d_m_names_214 : decode prog_6_method_42_code 214 = .ok (.aload_n 0, 1) := by decide +kernel
theorem d_m_names_215 : decode prog_6_method_42_code 215 = .ok (.getfield 44, 3) := by decide +kernel
theorem d_m_names_218 : decode prog_6_method_42_code 218 = .ok (.iload_n 3, 1) := by decide +kernel
theorem d_m_names_219 : decode prog_6_method_42_code 219 = .ok (.iconst 2, 1) := by decide +kernel
theorem d_m_names_220 : decode prog_6_method_42_code 220 = .ok (.iadd, 1) := by decide +kernel
theorem d_m_names_221 : decode prog_6_method_42_code 221 = .ok (.iaload, 1) := by decide +kernel
theorem d_m_names_222 : decode prog_6_method_42_code 222 = .ok (.iload_n 2, 1) := by decide +kernel
theorem d_m_names_223 : decode prog_6_method_42_code 223 = .ok (.if_icmp .eq 15, 3) := by decide +kernel
theorem d_m_names_226 : decode prog_6_method_42_code 226 = .ok (.aload_n 0, 1) := by decide +kernel
theorem d_m_names_227 : decode prog_6_method_42_code 227 = .ok (.getfield 44, 3) := by decide +kernel
theorem d_m_names_230 : decode prog_6_method_42_code 230 = .ok (.iload_n 3, 1) := by decide +kernel
theorem d_m_names_231 : decode prog_6_method_42_code 231 = .ok (.iconst 3, 1) := by decide +kernel
theorem d_m_names_232 : decode prog_6_method_42_code 232 = .ok (.iadd, 1) := by decide +kernel
theorem d_m_names_233 : decode prog_6_method_42_code 233 = .ok (.iaload, 1) := by decide +kernel
theorem d_m_names_234 : decode prog_6_method_42_code 234 = .ok (.iload_n 2, 1) := by decide +kernel
theorem d_m_names_235 : decode prog_6_method_42_code 235 = .ok (.if_icmp .ne 7, 3) := by decide +kernel
theorem d_m_names_238 : decode prog_6_method_42_code 238 = .ok (.iconst 1, 1) := by decide +kernel
theorem d_m_names_239 : decode prog_6_method_42_code 239 = .ok (.goto 4, 3) := by decide +kernel
theorem d_m_names_242 : decode prog_6_method_42_code 242 = .ok (.iconst 0, 1) := by decide +kernel
theorem d_m_names_243 : decode prog_6_method_42_code 243 = .ok (.ireturn, 1) := by decide +kernel
theorem kc_m_names : Kw (m_w (mi_m_names )) := ⟨(in_t5 (List.mem_of_getElem? (i := 99) rfl)), rfl⟩
theorem mv_m_names : MV (mi_m_names ) "GuardedMovesModel" 2 := ⟨kw_1058, ks_73, kc_m_names , kw_7, ⟨⟨(by show ("GuardedMovesModel" : String) ≠ "java/lang/invoke/MethodHandle"; decide), (by show ("GuardedMovesModel" : String) ≠ "java/lang/invoke/VarHandle"; decide)⟩, (by show (parseMethodDescriptor "(II)Z").map (fun d => d.parameters.length) = some 2; decide +kernel)⟩⟩
def w_m_names_123 (Q : Int32 → Sg → Prop) (s0 : Int32) (σ : Sg) : Prop := bz s0 ∧ (Q s0 σ)
theorem b_m_names_123 {Δ : Ly} {G : Gm} {Q : Int32 → Sg → Prop} (cx : Cx Δ G mi_m_names) : ∀ (s0 : Int32) (σ : Sg), w_m_names_123 Q s0 σ → Y Δ G mi_m_names (qI Q) noE 0 0 σ 123 [] [.int s0] := by
  intro s0 σ h
  unfold w_m_names_123 at h
  obtain ⟨hb, h⟩ := h
  exact y_zret cx (pc := 123) rfl hb d_m_names_123 (le_b rfl) (le_b rfl) h
def w_m_names_153 (Q : Int32 → Sg → Prop) (s0 : Int32) (σ : Sg) : Prop := bz s0 ∧ (Q s0 σ)
theorem b_m_names_153 {Δ : Ly} {G : Gm} {Q : Int32 → Sg → Prop} (cx : Cx Δ G mi_m_names) : ∀ (s0 : Int32) (σ : Sg), w_m_names_153 Q s0 σ → Y Δ G mi_m_names (qI Q) noE 0 0 σ 153 [] [.int s0] := by
  intro s0 σ h
  unfold w_m_names_153 at h
  obtain ⟨hb, h⟩ := h
  exact y_zret cx (pc := 153) rfl hb d_m_names_153 (le_b rfl) (le_b rfl) h
def w_m_names_148 (Q : Int32 → Sg → Prop) (σ : Sg) : Prop := w_m_names_153 Q 1 σ
theorem b_m_names_148 {Δ : Ly} {G : Gm} {Q : Int32 → Sg → Prop} (cx : Cx Δ G mi_m_names) : ∀ (σ : Sg), w_m_names_148 Q σ → Y Δ G mi_m_names (qI Q) noE 0 0 σ 148 [] [] := by
  intro σ h
  unfold w_m_names_148 at h
  refine y_iconst cx (pc := 148) ic_1 d_m_names_148 ?_
  refine y_goto cx (pc := 149) (tgt := 153) d_m_names_149 (by decide) ?_
  exact b_m_names_153 cx 1 σ h
def w_m_names_171 (Q : Int32 → Sg → Prop) (s0 : Int32) (σ : Sg) : Prop := bz s0 ∧ (Q s0 σ)
theorem b_m_names_171 {Δ : Ly} {G : Gm} {Q : Int32 → Sg → Prop} (cx : Cx Δ G mi_m_names) : ∀ (s0 : Int32) (σ : Sg), w_m_names_171 Q s0 σ → Y Δ G mi_m_names (qI Q) noE 0 0 σ 171 [] [.int s0] := by
  intro s0 σ h
  unfold w_m_names_171 at h
  obtain ⟨hb, h⟩ := h
  exact y_zret cx (pc := 171) rfl hb d_m_names_171 (le_b rfl) (le_b rfl) h
def w_m_names_213 (Q : Int32 → Sg → Prop) (s0 : Int32) (σ : Sg) : Prop := bz s0 ∧ (Q s0 σ)
theorem b_m_names_213 {Δ : Ly} {G : Gm} {Q : Int32 → Sg → Prop} (cx : Cx Δ G mi_m_names) : ∀ (s0 : Int32) (σ : Sg), w_m_names_213 Q s0 σ → Y Δ G mi_m_names (qI Q) noE 0 0 σ 213 [] [.int s0] := by
  intro s0 σ h
  unfold w_m_names_213 at h
  obtain ⟨hb, h⟩ := h
  exact y_zret cx (pc := 213) rfl hb d_m_names_213 (le_b rfl) (le_b rfl) h
def w_m_names_208 (Q : Int32 → Sg → Prop) (σ : Sg) : Prop := w_m_names_213 Q 1 σ
theorem b_m_names_208 {Δ : Ly} {G : Gm} {Q : Int32 → Sg → Prop} (cx : Cx Δ G mi_m_names) : ∀ (σ : Sg), w_m_names_208 Q σ → Y Δ G mi_m_names (qI Q) noE 0 0 σ 208 [] [] := by
  intro σ h
  unfold w_m_names_208 at h
  refine y_iconst cx (pc := 208) ic_1 d_m_names_208 ?_
  refine y_goto cx (pc := 209) (tgt := 213) d_m_names_209 (by decide) ?_
  exact b_m_names_213 cx 1 σ h
def w_m_names_243 (Q : Int32 → Sg → Prop) (s0 : Int32) (σ : Sg) : Prop := bz s0 ∧ (Q s0 σ)
theorem b_m_names_243 {Δ : Ly} {G : Gm} {Q : Int32 → Sg → Prop} (cx : Cx Δ G mi_m_names) : ∀ (s0 : Int32) (σ : Sg), w_m_names_243 Q s0 σ → Y Δ G mi_m_names (qI Q) noE 0 0 σ 243 [] [.int s0] := by
  intro s0 σ h
  unfold w_m_names_243 at h
  obtain ⟨hb, h⟩ := h
  exact y_zret cx (pc := 243) rfl hb d_m_names_243 (le_b rfl) (le_b rfl) h
def w_m_names_238 (Q : Int32 → Sg → Prop) (σ : Sg) : Prop := w_m_names_243 Q 1 σ
theorem b_m_names_238 {Δ : Ly} {G : Gm} {Q : Int32 → Sg → Prop} (cx : Cx Δ G mi_m_names) : ∀ (σ : Sg), w_m_names_238 Q σ → Y Δ G mi_m_names (qI Q) noE 0 0 σ 238 [] [] := by
  intro σ h
  unfold w_m_names_238 at h
  refine y_iconst cx (pc := 238) ic_1 d_m_names_238 ?_
  refine y_goto cx (pc := 239) (tgt := 243) d_m_names_239 (by decide) ?_
  exact b_m_names_243 cx 1 σ h
def w_m_names (p1 : Int32) (p2 : Int32) (σ : Sg) (Q : Int32 → Sg → Prop) : Prop := ∀ x1 : Int32, x1 = 6 * p1 → (vp_in x1 24000 ∧ (∀ x2 : Int32, x2 = σ 70 (x1.toNatClampNeg) → ((x2 = 0 → (Q 0 σ)) ∧ (¬ x2 = 0 → ((x2 = 1 → (vp_in (x1 + 2) 24000 ∧ ((¬ (σ 70 ((x1 + 2).toNatClampNeg)) = p2 → (w_m_names_171 Q 0 σ)) ∧ ((σ 70 ((x1 + 2).toNatClampNeg)) = p2 → (w_m_names_171 Q 1 σ))))) ∧ (¬ x2 = 1 → ((x2 = 13 → (vp_in (x1 + 2) 24000 ∧ (((σ 70 ((x1 + 2).toNatClampNeg)) = p2 → (w_m_names_208 Q σ)) ∧ (¬ (σ 70 ((x1 + 2).toNatClampNeg)) = p2 → (vp_in (x1 + 3) 24000 ∧ (((σ 70 ((x1 + 3).toNatClampNeg)) = p2 → (w_m_names_208 Q σ)) ∧ (¬ (σ 70 ((x1 + 3).toNatClampNeg)) = p2 → (vp_in (x1 + 4) 24000 ∧ ((¬ (σ 70 ((x1 + 4).toNatClampNeg)) = p2 → (w_m_names_213 Q 0 σ)) ∧ ((σ 70 ((x1 + 4).toNatClampNeg)) = p2 → (w_m_names_208 Q σ))))))))))) ∧ (¬ x2 = 13 → ((x2 = 14 → (vp_in (x1 + 2) 24000 ∧ ((¬ (σ 70 ((x1 + 2).toNatClampNeg)) = p2 → (w_m_names_171 Q 0 σ)) ∧ ((σ 70 ((x1 + 2).toNatClampNeg)) = p2 → (w_m_names_171 Q 1 σ))))) ∧ (¬ x2 = 14 → ((x2 = 15 → (vp_in (x1 + 1) 24000 ∧ (((σ 70 ((x1 + 1).toNatClampNeg)) = p2 → (w_m_names_148 Q σ)) ∧ (¬ (σ 70 ((x1 + 1).toNatClampNeg)) = p2 → (vp_in (x1 + 2) 24000 ∧ ((¬ (σ 70 ((x1 + 2).toNatClampNeg)) = p2 → (w_m_names_153 Q 0 σ)) ∧ ((σ 70 ((x1 + 2).toNatClampNeg)) = p2 → (w_m_names_148 Q σ)))))))) ∧ (¬ x2 = 15 → ((x2 = 16 → (Q 0 σ)) ∧ (¬ x2 = 16 → ((x2 = 17 → (vp_in (x1 + 1) 24000 ∧ ((¬ (σ 70 ((x1 + 1).toNatClampNeg)) = p2 → (w_m_names_123 Q 0 σ)) ∧ ((σ 70 ((x1 + 1).toNatClampNeg)) = p2 → (w_m_names_123 Q 1 σ))))) ∧ (¬ x2 = 17 → ((x2 = 18 → (vp_in (x1 + 1) 24000 ∧ ((¬ (σ 70 ((x1 + 1).toNatClampNeg)) = p2 → (w_m_names_123 Q 0 σ)) ∧ ((σ 70 ((x1 + 1).toNatClampNeg)) = p2 → (w_m_names_123 Q 1 σ))))) ∧ (¬ x2 = 18 → (vp_in (x1 + 2) 24000 ∧ (((σ 70 ((x1 + 2).toNatClampNeg)) = p2 → (w_m_names_238 Q σ)) ∧ (¬ (σ 70 ((x1 + 2).toNatClampNeg)) = p2 → (vp_in (x1 + 3) 24000 ∧ ((¬ (σ 70 ((x1 + 3).toNatClampNeg)) = p2 → (w_m_names_243 Q 0 σ)) ∧ ((σ 70 ((x1 + 3).toNatClampNeg)) = p2 → (w_m_names_238 Q σ)))))))))))))))))))))))))
theorem b_m_names {Δ : Ly} {G : Gm} {Q : Int32 → Sg → Prop} (cx : Cx Δ G mi_m_names) (p1 : Int32) (p2 : Int32) (σ : Sg) (h : w_m_names p1 p2 σ Q) : Y Δ G mi_m_names (qI Q) noE 0 0 σ 0 [(0, .ref (Δ.1 58)), (1, .int p1), (2, .int p2)] [] := by
  unfold w_m_names at h
  refine y_bipush cx (pc := 0) bp_6 d_m_names_0 ?_
  refine y_iload_n cx (pc := 2) d_m_names_2 rfl 1 rfl ?_
  refine y_imul cx (pc := 3) d_m_names_3 ?_
  refine y_topi (fun x1 ex1 => ?_)
  replace h := h x1 ex1
  refine y_istore_n (lv' := [(3, .int x1), (0, .ref (Δ.1 58)), (1, .int p1), (2, .int p2)]) cx (pc := 4) d_m_names_4 rfl (le_b rfl) rfl ?_
  refine y_aload_n cx (pc := 5) d_m_names_5 rfl 1 rfl ?_
  refine y_get cx (pc := 6) (j := 19) (v := .ref (Δ.1 70)) (le_b rfl) ck_Md kw_767 (le_b rfl) (gf_58_19 Δ _) d_m_names_6 ?_
  refine y_iload_n cx (pc := 9) d_m_names_9 rfl 0 rfl ?_
  obtain ⟨h0, h⟩ := h
  refine y_iald cx (pc := 10) ⟨(le_b rfl), fun _ => rfl⟩ h0 d_m_names_10 ?_
  refine y_topi (fun x2 ex2 => ?_)
  replace h := h x2 ex2
  refine y_istore (lv' := [(4, .int x2), (3, .int x1), (0, .ref (Δ.1 58)), (1, .int p1), (2, .int p2)]) cx (pc := 11) d_m_names_11 (le_b rfl) rfl ?_
  refine y_iload cx (pc := 13) d_m_names_13 0 rfl ?_
  by_cases hc0 : x2 = 0
  · replace h := h.1 hc0
    refine y_tIn cx (pc := 15) (tgt := 104) (c := 0) d_m_names_15 hc0 (by decide) (by decide) rfl (by decide) ?_
    refine y_iconst cx (pc := 104) ic_0 d_m_names_104 ?_
    exact y_zret cx (pc := 105) rfl bz_0 d_m_names_105 (le_b rfl) (le_b rfl) h
  replace h := h.2 hc0
  by_cases hc1 : x2 = 1
  · replace h := h.1 hc1
    refine y_tIn cx (pc := 15) (tgt := 154) (c := 1) d_m_names_15 hc1 (by decide) (by decide) rfl (by decide) ?_
    refine y_aload_n cx (pc := 154) d_m_names_154 rfl 2 rfl ?_
    refine y_get cx (pc := 155) (j := 19) (v := .ref (Δ.1 70)) (le_b rfl) ck_Md kw_767 (le_b rfl) (gf_58_19 Δ _) d_m_names_155 ?_
    refine y_iload_n cx (pc := 158) d_m_names_158 rfl 1 rfl ?_
    refine y_iconst cx (pc := 159) ic_2 d_m_names_159 ?_
    refine y_iadd cx (pc := 160) d_m_names_160 ?_
    obtain ⟨h0, h⟩ := h
    refine y_iald cx (pc := 161) ⟨(le_b rfl), fun _ => rfl⟩ h0 d_m_names_161 ?_
    refine y_iload_n cx (pc := 162) d_m_names_162 rfl 4 rfl ?_
    refine y_icmp_ne cx (pc := 163) (tgt := 170) d_m_names_163 (by decide) (fun hc => ?_) (fun hc => ?_)
    · replace h := h.1 hc
      refine y_iconst cx (pc := 170) ic_0 d_m_names_170 ?_
      refine y_sub [] rfl ?_
      exact b_m_names_171 cx 0 σ h
    · replace h := h.2 hc
      refine y_iconst cx (pc := 166) ic_1 d_m_names_166 ?_
      refine y_goto cx (pc := 167) (tgt := 171) d_m_names_167 (by decide) ?_
      refine y_sub [] rfl ?_
      exact b_m_names_171 cx 1 σ h
  replace h := h.2 hc1
  by_cases hc13 : x2 = 13
  · replace h := h.1 hc13
    refine y_tIn cx (pc := 15) (tgt := 172) (c := 13) d_m_names_15 hc13 (by decide) (by decide) rfl (by decide) ?_
    refine y_aload_n cx (pc := 172) d_m_names_172 rfl 2 rfl ?_
    refine y_get cx (pc := 173) (j := 19) (v := .ref (Δ.1 70)) (le_b rfl) ck_Md kw_767 (le_b rfl) (gf_58_19 Δ _) d_m_names_173 ?_
    refine y_iload_n cx (pc := 176) d_m_names_176 rfl 1 rfl ?_
    refine y_iconst cx (pc := 177) ic_2 d_m_names_177 ?_
    refine y_iadd cx (pc := 178) d_m_names_178 ?_
    obtain ⟨h0, h⟩ := h
    refine y_iald cx (pc := 179) ⟨(le_b rfl), fun _ => rfl⟩ h0 d_m_names_179 ?_
    refine y_iload_n cx (pc := 180) d_m_names_180 rfl 4 rfl ?_
    refine y_icmp_eq cx (pc := 181) (tgt := 208) d_m_names_181 (by decide) (fun hc => ?_) (fun hc => ?_)
    · replace h := h.1 hc
      refine y_sub [] rfl ?_
      exact b_m_names_208 cx σ h
    · replace h := h.2 hc
      refine y_aload_n cx (pc := 184) d_m_names_184 rfl 2 rfl ?_
      refine y_get cx (pc := 185) (j := 19) (v := .ref (Δ.1 70)) (le_b rfl) ck_Md kw_767 (le_b rfl) (gf_58_19 Δ _) d_m_names_185 ?_
      refine y_iload_n cx (pc := 188) d_m_names_188 rfl 1 rfl ?_
      refine y_iconst cx (pc := 189) ic_3 d_m_names_189 ?_
      refine y_iadd cx (pc := 190) d_m_names_190 ?_
      obtain ⟨h0, h⟩ := h
      refine y_iald cx (pc := 191) ⟨(le_b rfl), fun _ => rfl⟩ h0 d_m_names_191 ?_
      refine y_iload_n cx (pc := 192) d_m_names_192 rfl 4 rfl ?_
      refine y_icmp_eq cx (pc := 193) (tgt := 208) d_m_names_193 (by decide) (fun hc => ?_) (fun hc => ?_)
      · replace h := h.1 hc
        refine y_sub [] rfl ?_
        exact b_m_names_208 cx σ h
      · replace h := h.2 hc
        refine y_aload_n cx (pc := 196) d_m_names_196 rfl 2 rfl ?_
        refine y_get cx (pc := 197) (j := 19) (v := .ref (Δ.1 70)) (le_b rfl) ck_Md kw_767 (le_b rfl) (gf_58_19 Δ _) d_m_names_197 ?_
        refine y_iload_n cx (pc := 200) d_m_names_200 rfl 1 rfl ?_
        refine y_iconst cx (pc := 201) ic_4 d_m_names_201 ?_
        refine y_iadd cx (pc := 202) d_m_names_202 ?_
        obtain ⟨h0, h⟩ := h
        refine y_iald cx (pc := 203) ⟨(le_b rfl), fun _ => rfl⟩ h0 d_m_names_203 ?_
        refine y_iload_n cx (pc := 204) d_m_names_204 rfl 4 rfl ?_
        refine y_icmp_ne cx (pc := 205) (tgt := 212) d_m_names_205 (by decide) (fun hc => ?_) (fun hc => ?_)
        · replace h := h.1 hc
          refine y_iconst cx (pc := 212) ic_0 d_m_names_212 ?_
          refine y_sub [] rfl ?_
          exact b_m_names_213 cx 0 σ h
        · replace h := h.2 hc
          refine y_sub [] rfl ?_
          exact b_m_names_208 cx σ h
  replace h := h.2 hc13
  by_cases hc14 : x2 = 14
  · replace h := h.1 hc14
    refine y_tIn cx (pc := 15) (tgt := 154) (c := 14) d_m_names_15 hc14 (by decide) (by decide) rfl (by decide) ?_
    refine y_aload_n cx (pc := 154) d_m_names_154 rfl 2 rfl ?_
    refine y_get cx (pc := 155) (j := 19) (v := .ref (Δ.1 70)) (le_b rfl) ck_Md kw_767 (le_b rfl) (gf_58_19 Δ _) d_m_names_155 ?_
    refine y_iload_n cx (pc := 158) d_m_names_158 rfl 1 rfl ?_
    refine y_iconst cx (pc := 159) ic_2 d_m_names_159 ?_
    refine y_iadd cx (pc := 160) d_m_names_160 ?_
    obtain ⟨h0, h⟩ := h
    refine y_iald cx (pc := 161) ⟨(le_b rfl), fun _ => rfl⟩ h0 d_m_names_161 ?_
    refine y_iload_n cx (pc := 162) d_m_names_162 rfl 4 rfl ?_
    refine y_icmp_ne cx (pc := 163) (tgt := 170) d_m_names_163 (by decide) (fun hc => ?_) (fun hc => ?_)
    · replace h := h.1 hc
      refine y_iconst cx (pc := 170) ic_0 d_m_names_170 ?_
      refine y_sub [] rfl ?_
      exact b_m_names_171 cx 0 σ h
    · replace h := h.2 hc
      refine y_iconst cx (pc := 166) ic_1 d_m_names_166 ?_
      refine y_goto cx (pc := 167) (tgt := 171) d_m_names_167 (by decide) ?_
      refine y_sub [] rfl ?_
      exact b_m_names_171 cx 1 σ h
  replace h := h.2 hc14
  by_cases hc15 : x2 = 15
  · replace h := h.1 hc15
    refine y_tIn cx (pc := 15) (tgt := 124) (c := 15) d_m_names_15 hc15 (by decide) (by decide) rfl (by decide) ?_
    refine y_aload_n cx (pc := 124) d_m_names_124 rfl 2 rfl ?_
    refine y_get cx (pc := 125) (j := 19) (v := .ref (Δ.1 70)) (le_b rfl) ck_Md kw_767 (le_b rfl) (gf_58_19 Δ _) d_m_names_125 ?_
    refine y_iload_n cx (pc := 128) d_m_names_128 rfl 1 rfl ?_
    refine y_iconst cx (pc := 129) ic_1 d_m_names_129 ?_
    refine y_iadd cx (pc := 130) d_m_names_130 ?_
    obtain ⟨h0, h⟩ := h
    refine y_iald cx (pc := 131) ⟨(le_b rfl), fun _ => rfl⟩ h0 d_m_names_131 ?_
    refine y_iload_n cx (pc := 132) d_m_names_132 rfl 4 rfl ?_
    refine y_icmp_eq cx (pc := 133) (tgt := 148) d_m_names_133 (by decide) (fun hc => ?_) (fun hc => ?_)
    · replace h := h.1 hc
      refine y_sub [] rfl ?_
      exact b_m_names_148 cx σ h
    · replace h := h.2 hc
      refine y_aload_n cx (pc := 136) d_m_names_136 rfl 2 rfl ?_
      refine y_get cx (pc := 137) (j := 19) (v := .ref (Δ.1 70)) (le_b rfl) ck_Md kw_767 (le_b rfl) (gf_58_19 Δ _) d_m_names_137 ?_
      refine y_iload_n cx (pc := 140) d_m_names_140 rfl 1 rfl ?_
      refine y_iconst cx (pc := 141) ic_2 d_m_names_141 ?_
      refine y_iadd cx (pc := 142) d_m_names_142 ?_
      obtain ⟨h0, h⟩ := h
      refine y_iald cx (pc := 143) ⟨(le_b rfl), fun _ => rfl⟩ h0 d_m_names_143 ?_
      refine y_iload_n cx (pc := 144) d_m_names_144 rfl 4 rfl ?_
      refine y_icmp_ne cx (pc := 145) (tgt := 152) d_m_names_145 (by decide) (fun hc => ?_) (fun hc => ?_)
      · replace h := h.1 hc
        refine y_iconst cx (pc := 152) ic_0 d_m_names_152 ?_
        refine y_sub [] rfl ?_
        exact b_m_names_153 cx 0 σ h
      · replace h := h.2 hc
        refine y_sub [] rfl ?_
        exact b_m_names_148 cx σ h
  replace h := h.2 hc15
  by_cases hc16 : x2 = 16
  · replace h := h.1 hc16
    refine y_tIn cx (pc := 15) (tgt := 104) (c := 16) d_m_names_15 hc16 (by decide) (by decide) rfl (by decide) ?_
    refine y_iconst cx (pc := 104) ic_0 d_m_names_104 ?_
    exact y_zret cx (pc := 105) rfl bz_0 d_m_names_105 (le_b rfl) (le_b rfl) h
  replace h := h.2 hc16
  by_cases hc17 : x2 = 17
  · replace h := h.1 hc17
    refine y_tIn cx (pc := 15) (tgt := 106) (c := 17) d_m_names_15 hc17 (by decide) (by decide) rfl (by decide) ?_
    refine y_aload_n cx (pc := 106) d_m_names_106 rfl 2 rfl ?_
    refine y_get cx (pc := 107) (j := 19) (v := .ref (Δ.1 70)) (le_b rfl) ck_Md kw_767 (le_b rfl) (gf_58_19 Δ _) d_m_names_107 ?_
    refine y_iload_n cx (pc := 110) d_m_names_110 rfl 1 rfl ?_
    refine y_iconst cx (pc := 111) ic_1 d_m_names_111 ?_
    refine y_iadd cx (pc := 112) d_m_names_112 ?_
    obtain ⟨h0, h⟩ := h
    refine y_iald cx (pc := 113) ⟨(le_b rfl), fun _ => rfl⟩ h0 d_m_names_113 ?_
    refine y_iload_n cx (pc := 114) d_m_names_114 rfl 4 rfl ?_
    refine y_icmp_ne cx (pc := 115) (tgt := 122) d_m_names_115 (by decide) (fun hc => ?_) (fun hc => ?_)
    · replace h := h.1 hc
      refine y_iconst cx (pc := 122) ic_0 d_m_names_122 ?_
      refine y_sub [] rfl ?_
      exact b_m_names_123 cx 0 σ h
    · replace h := h.2 hc
      refine y_iconst cx (pc := 118) ic_1 d_m_names_118 ?_
      refine y_goto cx (pc := 119) (tgt := 123) d_m_names_119 (by decide) ?_
      refine y_sub [] rfl ?_
      exact b_m_names_123 cx 1 σ h
  replace h := h.2 hc17
  by_cases hc18 : x2 = 18
  · replace h := h.1 hc18
    refine y_tIn cx (pc := 15) (tgt := 106) (c := 18) d_m_names_15 hc18 (by decide) (by decide) rfl (by decide) ?_
    refine y_aload_n cx (pc := 106) d_m_names_106 rfl 2 rfl ?_
    refine y_get cx (pc := 107) (j := 19) (v := .ref (Δ.1 70)) (le_b rfl) ck_Md kw_767 (le_b rfl) (gf_58_19 Δ _) d_m_names_107 ?_
    refine y_iload_n cx (pc := 110) d_m_names_110 rfl 1 rfl ?_
    refine y_iconst cx (pc := 111) ic_1 d_m_names_111 ?_
    refine y_iadd cx (pc := 112) d_m_names_112 ?_
    obtain ⟨h0, h⟩ := h
    refine y_iald cx (pc := 113) ⟨(le_b rfl), fun _ => rfl⟩ h0 d_m_names_113 ?_
    refine y_iload_n cx (pc := 114) d_m_names_114 rfl 4 rfl ?_
    refine y_icmp_ne cx (pc := 115) (tgt := 122) d_m_names_115 (by decide) (fun hc => ?_) (fun hc => ?_)
    · replace h := h.1 hc
      refine y_iconst cx (pc := 122) ic_0 d_m_names_122 ?_
      refine y_sub [] rfl ?_
      exact b_m_names_123 cx 0 σ h
    · replace h := h.2 hc
      refine y_iconst cx (pc := 118) ic_1 d_m_names_118 ?_
      refine y_goto cx (pc := 119) (tgt := 123) d_m_names_119 (by decide) ?_
      refine y_sub [] rfl ?_
      exact b_m_names_123 cx 1 σ h
  replace h := h.2 hc18
  have hdf : x2.toInt < 0 ∨ 18 < x2.toInt ∨ (¬ x2.toInt < 0 ∧ ¬ 18 < x2.toInt ∧ (#[89, 139, 199, 199, 199, 199, 199, 199, 199, 199, 199, 199, 199, 157, 139, 109, 89, 91, 91] : Array Int)[(x2.toInt - 0).toNat]? = some (199 : Int)) := by
    have z0 := lv_neT hc0 (show (0 : Int32).toInt = 0 from rfl); have z1 := lv_neT hc1 (show (1 : Int32).toInt = 1 from rfl); have z13 := lv_neT hc13 (show (13 : Int32).toInt = 13 from rfl); have z14 := lv_neT hc14 (show (14 : Int32).toInt = 14 from rfl); have z15 := lv_neT hc15 (show (15 : Int32).toInt = 15 from rfl); have z16 := lv_neT hc16 (show (16 : Int32).toInt = 16 from rfl); have z17 := lv_neT hc17 (show (17 : Int32).toInt = 17 from rfl); have z18 := lv_neT hc18 (show (18 : Int32).toInt = 18 from rfl)
    rcases (show x2.toInt < 0 ∨ 18 < x2.toInt ∨ x2.toInt = 2 ∨ x2.toInt = 3 ∨ x2.toInt = 4 ∨ x2.toInt = 5 ∨ x2.toInt = 6 ∨ x2.toInt = 7 ∨ x2.toInt = 8 ∨ x2.toInt = 9 ∨ x2.toInt = 10 ∨ x2.toInt = 11 ∨ x2.toInt = 12 by omega) with e | e | e | e | e | e | e | e | e | e | e | e | e
    · exact Or.inl e
    · exact Or.inr (Or.inl e)
    all_goals exact Or.inr (Or.inr ⟨by rw [e]; decide, by rw [e]; decide, by rw [e]; rfl⟩)
  refine y_tDf cx (pc := 15) (tgt := 214) d_m_names_15 hdf (by decide) ?_
  refine y_aload_n cx (pc := 214) d_m_names_214 rfl 2 rfl ?_
  refine y_get cx (pc := 215) (j := 19) (v := .ref (Δ.1 70)) (le_b rfl) ck_Md kw_767 (le_b rfl) (gf_58_19 Δ _) d_m_names_215 ?_
  refine y_iload_n cx (pc := 218) d_m_names_218 rfl 1 rfl ?_
  refine y_iconst cx (pc := 219) ic_2 d_m_names_219 ?_
  refine y_iadd cx (pc := 220) d_m_names_220 ?_
  obtain ⟨h0, h⟩ := h
  refine y_iald cx (pc := 221) ⟨(le_b rfl), fun _ => rfl⟩ h0 d_m_names_221 ?_
  refine y_iload_n cx (pc := 222) d_m_names_222 rfl 4 rfl ?_
  refine y_icmp_eq cx (pc := 223) (tgt := 238) d_m_names_223 (by decide) (fun hc => ?_) (fun hc => ?_)
  · replace h := h.1 hc
    refine y_sub [] rfl ?_
    exact b_m_names_238 cx σ h
  · replace h := h.2 hc
    refine y_aload_n cx (pc := 226) d_m_names_226 rfl 2 rfl ?_
    refine y_get cx (pc := 227) (j := 19) (v := .ref (Δ.1 70)) (le_b rfl) ck_Md kw_767 (le_b rfl) (gf_58_19 Δ _) d_m_names_227 ?_
    refine y_iload_n cx (pc := 230) d_m_names_230 rfl 1 rfl ?_
    refine y_iconst cx (pc := 231) ic_3 d_m_names_231 ?_
    refine y_iadd cx (pc := 232) d_m_names_232 ?_
    obtain ⟨h0, h⟩ := h
    refine y_iald cx (pc := 233) ⟨(le_b rfl), fun _ => rfl⟩ h0 d_m_names_233 ?_
    refine y_iload_n cx (pc := 234) d_m_names_234 rfl 4 rfl ?_
    refine y_icmp_ne cx (pc := 235) (tgt := 242) d_m_names_235 (by decide) (fun hc => ?_) (fun hc => ?_)
    · replace h := h.1 hc
      refine y_iconst cx (pc := 242) ic_0 d_m_names_242 ?_
      refine y_sub [] rfl ?_
      exact b_m_names_243 cx 0 σ h
    · replace h := h.2 hc
      refine y_sub [] rfl ?_
      exact b_m_names_238 cx σ h
theorem c_m_names {l : Launch} (hfl : l.flags = flags0) (Δ : Ly) (p1 : Int32) (p2 : Int32) (σ : Sg) (Q : Int32 → Sg → Prop) (h : w_m_names p1 p2 σ Q) : Ct l Δ mi_m_names [.ref (Δ.1 58), .int p1, .int p2] σ (qI Q) noE :=
  Ct.of hfl (by show plainFor ⟨"GuardedMovesModel", "names", "(II)Z"⟩ = true; decide +kernel) rfl (le_b rfl) (fun G hl cx => b_m_names cx p1 p2 σ h)

def mi_t_next : Mi := ("GuardedMoves$Text", prog_4_method_3_code, 2, [], (some .int), 0, 0, 0, 0, ⟨"GuardedMoves$Text", "next", "(I)I"⟩)
theorem d_t_next_0 : decode prog_4_method_3_code 0 = .ok (.aload_n 0, 1) := by decide +kernel
theorem d_t_next_1 : decode prog_4_method_3_code 1 = .ok (.getfield 9, 3) := by decide +kernel
theorem d_t_next_4 : decode prog_4_method_3_code 4 = .ok (.iload_n 1, 1) := by decide +kernel
theorem d_t_next_5 : decode prog_4_method_3_code 5 = .ok (.iaload, 1) := by decide +kernel
theorem d_t_next_6 : decode prog_4_method_3_code 6 = .ok (.iconst 5, 1) := by decide +kernel
theorem d_t_next_7 : decode prog_4_method_3_code 7 = .ok (.if_icmp .ne 12, 3) := by decide +kernel
theorem d_t_next_10 : decode prog_4_method_3_code 10 = .ok (.aload_n 0, 1) := by decide +kernel
theorem d_t_next_11 : decode prog_4_method_3_code 11 = .ok (.getfield 39, 3) := by decide +kernel
theorem d_t_next_14 : decode prog_4_method_3_code 14 = .ok (.iload_n 1, 1) := by decide +kernel
theorem d_t_next_15 : decode prog_4_method_3_code 15 = .ok (.iaload, 1) := by decide +kernel
theorem d_t_next_16 : decode prog_4_method_3_code 16 = .ok (.goto 6, 3) := by decide +kernel
theorem d_t_next_19 : decode prog_4_method_3_code 19 = .ok (.iload_n 1, 1) := by decide +kernel
theorem d_t_next_20 : decode prog_4_method_3_code 20 = .ok (.iconst 1, 1) := by decide +kernel
theorem d_t_next_21 : decode prog_4_method_3_code 21 = .ok (.iadd, 1) := by decide +kernel
theorem d_t_next_22 : decode prog_4_method_3_code 22 = .ok (.ireturn, 1) := by decide +kernel
theorem kc_t_next : Kw (m_w (mi_t_next )) := ⟨(in_t2 (List.mem_of_getElem? (i := 1) rfl)), rfl⟩
theorem mv_t_next : MV (mi_t_next ) "GuardedMoves$Text" 1 := ⟨kw_239, kw_240, kc_t_next , kw_2, ⟨⟨(by show ("GuardedMoves$Text" : String) ≠ "java/lang/invoke/MethodHandle"; decide), (by show ("GuardedMoves$Text" : String) ≠ "java/lang/invoke/VarHandle"; decide)⟩, (by show (parseMethodDescriptor "(I)I").map (fun d => d.parameters.length) = some 1; decide +kernel)⟩⟩
def w_t_next_22 (Q : Int32 → Sg → Prop) (s0 : Int32) (σ : Sg) : Prop := Q s0 σ
theorem b_t_next_22 {Δ : Ly} {G : Gm} {Q : Int32 → Sg → Prop} (cx : Cx Δ G mi_t_next) : ∀ (s0 : Int32) (σ : Sg), w_t_next_22 Q s0 σ → Y Δ G mi_t_next (qI Q) noE 0 0 σ 22 [] [.int s0] := by
  intro s0 σ h
  unfold w_t_next_22 at h
  exact y_iret cx (pc := 22) rfl d_t_next_22 (le_b rfl) (le_b rfl) h
def w_t_next (p1 : Int32) (σ : Sg) (Q : Int32 → Sg → Prop) : Prop := vp_in p1 60 ∧ ((¬ (σ 36 (p1.toNatClampNeg)) = 5 → (w_t_next_22 Q (p1 + 1) σ)) ∧ ((σ 36 (p1.toNatClampNeg)) = 5 → (vp_in p1 60 ∧ (w_t_next_22 Q (σ 45 (p1.toNatClampNeg)) σ))))
theorem b_t_next {Δ : Ly} {G : Gm} {Q : Int32 → Sg → Prop} (cx : Cx Δ G mi_t_next) (p1 : Int32) (σ : Sg) (h : w_t_next p1 σ Q) : Y Δ G mi_t_next (qI Q) noE 0 0 σ 0 [(0, .ref (Δ.1 1)), (1, .int p1)] [] := by
  unfold w_t_next at h
  refine y_aload_n cx (pc := 0) d_t_next_0 rfl 0 rfl ?_
  refine y_get cx (pc := 1) (j := 1) (v := .ref (Δ.1 36)) (le_b rfl) ck_Tx kw_257 (le_b rfl) (gf_1_1 Δ _) d_t_next_1 ?_
  refine y_iload_n cx (pc := 4) d_t_next_4 rfl 1 rfl ?_
  obtain ⟨h0, h⟩ := h
  refine y_iald cx (pc := 5) ⟨(le_b rfl), fun _ => rfl⟩ h0 d_t_next_5 ?_
  refine y_iconst cx (pc := 6) ic_5 d_t_next_6 ?_
  refine y_icmp_ne cx (pc := 7) (tgt := 19) d_t_next_7 (by decide) (fun hc => ?_) (fun hc => ?_)
  · replace h := h.1 hc
    refine y_iload_n cx (pc := 19) d_t_next_19 rfl 1 rfl ?_
    refine y_iconst cx (pc := 20) ic_1 d_t_next_20 ?_
    refine y_iadd cx (pc := 21) d_t_next_21 ?_
    refine y_sub [] rfl ?_
    exact b_t_next_22 cx (p1 + 1) σ h
  · replace h := h.2 hc
    refine y_aload_n cx (pc := 10) d_t_next_10 rfl 0 rfl ?_
    refine y_get cx (pc := 11) (j := 10) (v := .ref (Δ.1 45)) (le_b rfl) ck_Tx kw_275 (le_b rfl) (gf_1_10 Δ _) d_t_next_11 ?_
    refine y_iload_n cx (pc := 14) d_t_next_14 rfl 1 rfl ?_
    obtain ⟨h0, h⟩ := h
    refine y_iald cx (pc := 15) ⟨(le_b rfl), fun _ => rfl⟩ h0 d_t_next_15 ?_
    refine y_goto cx (pc := 16) (tgt := 22) d_t_next_16 (by decide) ?_
    refine y_sub [] rfl ?_
    exact b_t_next_22 cx (σ 45 (p1.toNatClampNeg)) σ h
theorem c_t_next {l : Launch} (hfl : l.flags = flags0) (Δ : Ly) (p1 : Int32) (σ : Sg) (Q : Int32 → Sg → Prop) (h : w_t_next p1 σ Q) : Ct l Δ mi_t_next [.ref (Δ.1 1), .int p1] σ (qI Q) noE :=
  Ct.of hfl (by show plainFor ⟨"GuardedMoves$Text", "next", "(I)I"⟩ = true; decide +kernel) rfl (le_b rfl) (fun G hl cx => b_t_next cx p1 σ h)
def mi_t_take : Mi := ("GuardedMoves$Text", prog_4_method_2_code, 3, [], none, 0, 0, 0, 0, ⟨"GuardedMoves$Text", "take", "(LGuardedMoves$Text;)V"⟩)
theorem d_t_take_0 : decode prog_4_method_2_code 0 = .ok (.aload_n 0, 1) := by decide +kernel
theorem d_t_take_1 : decode prog_4_method_2_code 1 = .ok (.aload_n 1, 1) := by decide +kernel
theorem d_t_take_2 : decode prog_4_method_2_code 2 = .ok (.getfield 46, 3) := by decide +kernel
theorem d_t_take_5 : decode prog_4_method_2_code 5 = .ok (.putfield 46, 3) := by decide +kernel
theorem d_t_take_8 : decode prog_4_method_2_code 8 = .ok (.iconst 0, 1) := by decide +kernel
theorem d_t_take_9 : decode prog_4_method_2_code 9 = .ok (.istore_n 2, 1) := by decide +kernel
theorem d_t_take_10 : decode prog_4_method_2_code 10 = .ok (.iload_n 2, 1) := by decide +kernel
theorem d_t_take_11 : decode prog_4_method_2_code 11 = .ok (.aload_n 0, 1) := by decide +kernel
theorem d_t_take_12 : decode prog_4_method_2_code 12 = .ok (.getfield 46, 3) := by decide +kernel
theorem d_t_take_15 : decode prog_4_method_2_code 15 = .ok (.if_icmp .ge 141, 3) := by decide +kernel
theorem d_t_take_18 : decode prog_4_method_2_code 18 = .ok (.aload_n 0, 1) := by decide +kernel
theorem d_t_take_19 : decode prog_4_method_2_code 19 = .ok (.getfield 9, 3) := by decide +kernel
theorem d_t_take_22 : decode prog_4_method_2_code 22 = .ok (.iload_n 2, 1) := by decide +kernel
theorem d_t_take_23 : decode prog_4_method_2_code 23 = .ok (.aload_n 1, 1) := by decide +kernel
theorem d_t_take_24 : decode prog_4_method_2_code 24 = .ok (.getfield 9, 3) := by decide +kernel
theorem d_t_take_27 : decode prog_4_method_2_code 27 = .ok (.iload_n 2, 1) := by decide +kernel
theorem d_t_take_28 : decode prog_4_method_2_code 28 = .ok (.iaload, 1) := by decide +kernel
theorem d_t_take_29 : decode prog_4_method_2_code 29 = .ok (.iastore, 1) := by decide +kernel
theorem d_t_take_30 : decode prog_4_method_2_code 30 = .ok (.aload_n 0, 1) := by decide +kernel
theorem d_t_take_31 : decode prog_4_method_2_code 31 = .ok (.getfield 15, 3) := by decide +kernel
theorem d_t_take_34 : decode prog_4_method_2_code 34 = .ok (.iload_n 2, 1) := by decide +kernel
theorem d_t_take_35 : decode prog_4_method_2_code 35 = .ok (.aload_n 1, 1) := by decide +kernel
theorem d_t_take_36 : decode prog_4_method_2_code 36 = .ok (.getfield 15, 3) := by decide +kernel
theorem d_t_take_39 : decode prog_4_method_2_code 39 = .ok (.iload_n 2, 1) := by decide +kernel
theorem d_t_take_40 : decode prog_4_method_2_code 40 = .ok (.iaload, 1) := by decide +kernel
theorem d_t_take_41 : decode prog_4_method_2_code 41 = .ok (.iastore, 1) := by decide +kernel
theorem d_t_take_42 : decode prog_4_method_2_code 42 = .ok (.aload_n 0, 1) := by decide +kernel
theorem d_t_take_43 : decode prog_4_method_2_code 43 = .ok (.getfield 18, 3) := by decide +kernel
theorem d_t_take_46 : decode prog_4_method_2_code 46 = .ok (.iload_n 2, 1) := by decide +kernel
theorem d_t_take_47 : decode prog_4_method_2_code 47 = .ok (.aload_n 1, 1) := by decide +kernel
theorem d_t_take_48 : decode prog_4_method_2_code 48 = .ok (.getfield 18, 3) := by decide +kernel
theorem d_t_take_51 : decode prog_4_method_2_code 51 = .ok (.iload_n 2, 1) := by decide +kernel
theorem d_t_take_52 : decode prog_4_method_2_code 52 = .ok (.iaload, 1) := by decide +kernel
theorem d_t_take_53 : decode prog_4_method_2_code 53 = .ok (.iastore, 1) := by decide +kernel
theorem d_t_take_54 : decode prog_4_method_2_code 54 = .ok (.aload_n 0, 1) := by decide +kernel
theorem d_t_take_55 : decode prog_4_method_2_code 55 = .ok (.getfield 21, 3) := by decide +kernel
theorem d_t_take_58 : decode prog_4_method_2_code 58 = .ok (.iload_n 2, 1) := by decide +kernel
theorem d_t_take_59 : decode prog_4_method_2_code 59 = .ok (.aload_n 1, 1) := by decide +kernel
theorem d_t_take_60 : decode prog_4_method_2_code 60 = .ok (.getfield 21, 3) := by decide +kernel
theorem d_t_take_63 : decode prog_4_method_2_code 63 = .ok (.iload_n 2, 1) := by decide +kernel
theorem d_t_take_64 : decode prog_4_method_2_code 64 = .ok (.iaload, 1) := by decide +kernel
theorem d_t_take_65 : decode prog_4_method_2_code 65 = .ok (.iastore, 1) := by decide +kernel
theorem d_t_take_66 : decode prog_4_method_2_code 66 = .ok (.aload_n 0, 1) := by decide +kernel
theorem d_t_take_67 : decode prog_4_method_2_code 67 = .ok (.getfield 24, 3) := by decide +kernel
theorem d_t_take_70 : decode prog_4_method_2_code 70 = .ok (.iload_n 2, 1) := by decide +kernel
theorem d_t_take_71 : decode prog_4_method_2_code 71 = .ok (.aload_n 1, 1) := by decide +kernel
theorem d_t_take_72 : decode prog_4_method_2_code 72 = .ok (.getfield 24, 3) := by decide +kernel
theorem d_t_take_75 : decode prog_4_method_2_code 75 = .ok (.iload_n 2, 1) := by decide +kernel
theorem d_t_take_76 : decode prog_4_method_2_code 76 = .ok (.iaload, 1) := by decide +kernel
theorem d_t_take_77 : decode prog_4_method_2_code 77 = .ok (.iastore, 1) := by decide +kernel
theorem d_t_take_78 : decode prog_4_method_2_code 78 = .ok (.aload_n 0, 1) := by decide +kernel
theorem d_t_take_79 : decode prog_4_method_2_code 79 = .ok (.getfield 27, 3) := by decide +kernel
theorem d_t_take_82 : decode prog_4_method_2_code 82 = .ok (.iload_n 2, 1) := by decide +kernel
theorem d_t_take_83 : decode prog_4_method_2_code 83 = .ok (.aload_n 1, 1) := by decide +kernel
theorem d_t_take_84 : decode prog_4_method_2_code 84 = .ok (.getfield 27, 3) := by decide +kernel
theorem d_t_take_87 : decode prog_4_method_2_code 87 = .ok (.iload_n 2, 1) := by decide +kernel
theorem d_t_take_88 : decode prog_4_method_2_code 88 = .ok (.iaload, 1) := by decide +kernel
theorem d_t_take_89 : decode prog_4_method_2_code 89 = .ok (.iastore, 1) := by decide +kernel
theorem d_t_take_90 : decode prog_4_method_2_code 90 = .ok (.aload_n 0, 1) := by decide +kernel
theorem d_t_take_91 : decode prog_4_method_2_code 91 = .ok (.getfield 30, 3) := by decide +kernel
theorem d_t_take_94 : decode prog_4_method_2_code 94 = .ok (.iload_n 2, 1) := by decide +kernel
theorem d_t_take_95 : decode prog_4_method_2_code 95 = .ok (.aload_n 1, 1) := by decide +kernel
theorem d_t_take_96 : decode prog_4_method_2_code 96 = .ok (.getfield 30, 3) := by decide +kernel
theorem d_t_take_99 : decode prog_4_method_2_code 99 = .ok (.iload_n 2, 1) := by decide +kernel
theorem d_t_take_100 : decode prog_4_method_2_code 100 = .ok (.iaload, 1) := by decide +kernel
theorem d_t_take_101 : decode prog_4_method_2_code 101 = .ok (.iastore, 1) := by decide +kernel
theorem d_t_take_102 : decode prog_4_method_2_code 102 = .ok (.aload_n 0, 1) := by decide +kernel
theorem d_t_take_103 : decode prog_4_method_2_code 103 = .ok (.getfield 33, 3) := by decide +kernel
theorem d_t_take_106 : decode prog_4_method_2_code 106 = .ok (.iload_n 2, 1) := by decide +kernel
theorem d_t_take_107 : decode prog_4_method_2_code 107 = .ok (.aload_n 1, 1) := by decide +kernel
theorem d_t_take_108 : decode prog_4_method_2_code 108 = .ok (.getfield 33, 3) := by decide +kernel
theorem d_t_take_111 : decode prog_4_method_2_code 111 = .ok (.iload_n 2, 1) := by decide +kernel
theorem d_t_take_112 : decode prog_4_method_2_code 112 = .ok (.iaload, 1) := by decide +kernel
theorem d_t_take_113 : decode prog_4_method_2_code 113 = .ok (.iastore, 1) := by decide +kernel
theorem d_t_take_114 : decode prog_4_method_2_code 114 = .ok (.aload_n 0, 1) := by decide +kernel
theorem d_t_take_115 : decode prog_4_method_2_code 115 = .ok (.getfield 36, 3) := by decide +kernel
theorem d_t_take_118 : decode prog_4_method_2_code 118 = .ok (.iload_n 2, 1) := by decide +kernel
theorem d_t_take_119 : decode prog_4_method_2_code 119 = .ok (.aload_n 1, 1) := by decide +kernel
theorem d_t_take_120 : decode prog_4_method_2_code 120 = .ok (.getfield 36, 3) := by decide +kernel
theorem d_t_take_123 : decode prog_4_method_2_code 123 = .ok (.iload_n 2, 1) := by decide +kernel
theorem d_t_take_124 : decode prog_4_method_2_code 124 = .ok (.iaload, 1) := by decide +kernel
theorem d_t_take_125 : decode prog_4_method_2_code 125 = .ok (.iastore, 1) := by decide +kernel
theorem d_t_take_126 : decode prog_4_method_2_code 126 = .ok (.aload_n 0, 1) := by decide +kernel
theorem d_t_take_127 : decode prog_4_method_2_code 127 = .ok (.getfield 39, 3) := by decide +kernel
theorem d_t_take_130 : decode prog_4_method_2_code 130 = .ok (.iload_n 2, 1) := by decide +kernel
theorem d_t_take_131 : decode prog_4_method_2_code 131 = .ok (.aload_n 1, 1) := by decide +kernel
theorem d_t_take_132 : decode prog_4_method_2_code 132 = .ok (.getfield 39, 3) := by decide +kernel
theorem d_t_take_135 : decode prog_4_method_2_code 135 = .ok (.iload_n 2, 1) := by decide +kernel
theorem d_t_take_136 : decode prog_4_method_2_code 136 = .ok (.iaload, 1) := by decide +kernel
theorem d_t_take_137 : decode prog_4_method_2_code 137 = .ok (.iastore, 1) := by decide +kernel
theorem d_t_take_138 : decode prog_4_method_2_code 138 = .ok (.aload_n 0, 1) := by decide +kernel
theorem d_t_take_139 : decode prog_4_method_2_code 139 = .ok (.getfield 42, 3) := by decide +kernel
theorem d_t_take_142 : decode prog_4_method_2_code 142 = .ok (.iload_n 2, 1) := by decide +kernel
theorem d_t_take_143 : decode prog_4_method_2_code 143 = .ok (.aload_n 1, 1) := by decide +kernel
theorem d_t_take_144 : decode prog_4_method_2_code 144 = .ok (.getfield 42, 3) := by decide +kernel
theorem d_t_take_147 : decode prog_4_method_2_code 147 = .ok (.iload_n 2, 1) := by decide +kernel
theorem d_t_take_148 : decode prog_4_method_2_code 148 = .ok (.baload, 1) := by decide +kernel
theorem d_t_take_149 : decode prog_4_method_2_code 149 = .ok (.bastore, 1) := by decide +kernel
theorem d_t_take_150 : decode prog_4_method_2_code 150 = .ok (.iinc 2 1, 3) := by decide +kernel
theorem d_t_take_153 : decode prog_4_method_2_code 153 = .ok (.goto (-143), 3) := by decide +kernel
theorem d_t_take_156 : decode prog_4_method_2_code 156 = .ok (.return_, 1) := by decide +kernel
theorem kc_t_take : Kw (m_w (mi_t_take )) := ⟨(in_t1 (List.mem_of_getElem? (i := 171) rfl)), rfl⟩
theorem mv_t_take : MV (mi_t_take ) "GuardedMoves$Text" 1 := ⟨kw_169, kw_170, kc_t_take , kw_2, ⟨⟨(by show ("GuardedMoves$Text" : String) ≠ "java/lang/invoke/MethodHandle"; decide), (by show ("GuardedMoves$Text" : String) ≠ "java/lang/invoke/VarHandle"; decide)⟩, (by show (parseMethodDescriptor "(LGuardedMoves$Text;)V").map (fun d => d.parameters.length) = some 1; decide +kernel)⟩⟩
def w_t_take_10 (Q : Sg → Prop) : Nat → Int32 → Sg → Prop
  | 0, _, _ => False
  | n + 1, v2, σ => ((σ 1 0) ≤ v2 → (Q σ)) ∧ (¬ (σ 1 0) ≤ v2 → (vp_in v2 60 ∧ (vp_in v2 60 ∧ (vp_in v2 60 ∧ (vp_in v2 60 ∧ (vp_in v2 60 ∧ (vp_in v2 60 ∧ (vp_in v2 60 ∧ (vp_in v2 60 ∧ (vp_in v2 60 ∧ (vp_in v2 60 ∧ (vp_in v2 60 ∧ (vp_in v2 60 ∧ (vp_in v2 60 ∧ (vp_in v2 60 ∧ (vp_in v2 60 ∧ (vp_in v2 60 ∧ (vp_in v2 60 ∧ (vp_in v2 60 ∧ (vp_in v2 60 ∧ (vp_in v2 60 ∧ (vp_in v2 60 ∧ (vp_in v2 60 ∧ (bz (σ 57 (v2.toNatClampNeg)) ∧ (∀ x1 : Int32, x1 = v2 + 1 → ((w_t_take_10 Q n) x1 (up (up (up (up (up (up (up (up (up (up (up σ 36 (v2.toNatClampNeg) (σ 47 (v2.toNatClampNeg))) 37 (v2.toNatClampNeg) (σ 48 (v2.toNatClampNeg))) 38 (v2.toNatClampNeg) (σ 49 (v2.toNatClampNeg))) 39 (v2.toNatClampNeg) (σ 50 (v2.toNatClampNeg))) 40 (v2.toNatClampNeg) (σ 51 (v2.toNatClampNeg))) 41 (v2.toNatClampNeg) (σ 52 (v2.toNatClampNeg))) 42 (v2.toNatClampNeg) (σ 53 (v2.toNatClampNeg))) 43 (v2.toNatClampNeg) (σ 54 (v2.toNatClampNeg))) 44 (v2.toNatClampNeg) (σ 55 (v2.toNatClampNeg))) 45 (v2.toNatClampNeg) (σ 56 (v2.toNatClampNeg))) 46 (v2.toNatClampNeg) (σ 57 (v2.toNatClampNeg)))))))))))))))))))))))))))))
theorem b_t_take_10 {Δ : Ly} {G : Gm} {Q : Sg → Prop} (cx : Cx Δ G mi_t_take) : ∀ (n : Nat) (v2 : Int32) (σ : Sg), w_t_take_10 Q n v2 σ → Y Δ G mi_t_take (qV Q) noE 0 0 σ 10 [(0, .ref (Δ.1 1)), (1, .ref (Δ.1 2)), (2, .int v2)] [] := by
  intro n
  induction n with
  | zero => intro v2 σ h; exact h.elim
  | succ n ih =>
    intro v2 σ h
    unfold w_t_take_10 at h
    refine y_iload_n cx (pc := 10) d_t_take_10 rfl 2 rfl ?_
    refine y_aload_n cx (pc := 11) d_t_take_11 rfl 0 rfl ?_
    refine y_get cx (pc := 12) (j := 0) (v := .int (σ 1 0)) (le_b rfl) ck_Tx kw_255 (le_b rfl) (gf_1_0 Δ _) d_t_take_12 ?_
    refine y_icmp_ge cx (pc := 15) (tgt := 156) d_t_take_15 (by decide) (fun hc => ?_) (fun hc => ?_)
    · replace h := h.1 hc
      exact y_vret cx (pc := 156) rfl d_t_take_156 (le_b rfl) (le_b rfl) h
    · replace h := h.2 hc
      refine y_aload_n cx (pc := 18) d_t_take_18 rfl 0 rfl ?_
      refine y_get cx (pc := 19) (j := 1) (v := .ref (Δ.1 36)) (le_b rfl) ck_Tx kw_257 (le_b rfl) (gf_1_1 Δ _) d_t_take_19 ?_
      refine y_iload_n cx (pc := 22) d_t_take_22 rfl 2 rfl ?_
      refine y_aload_n cx (pc := 23) d_t_take_23 rfl 1 rfl ?_
      refine y_get cx (pc := 24) (j := 1) (v := .ref (Δ.1 47)) (le_b rfl) ck_Tx kw_257 (le_b rfl) (gf_2_1 Δ _) d_t_take_24 ?_
      refine y_iload_n cx (pc := 27) d_t_take_27 rfl 2 rfl ?_
      obtain ⟨h0, h⟩ := h
      refine y_iald cx (pc := 28) ⟨(le_b rfl), fun _ => rfl⟩ h0 d_t_take_28 ?_
      obtain ⟨h0, h⟩ := h
      refine y_iast cx (pc := 29) ⟨(le_b rfl), fun _ => rfl⟩ h0 d_t_take_29 ?_
      refine y_aload_n cx (pc := 30) d_t_take_30 rfl 0 rfl ?_
      refine y_get cx (pc := 31) (j := 2) (v := .ref (Δ.1 37)) (le_b rfl) ck_Tx kw_259 (le_b rfl) (gf_1_2 Δ _) d_t_take_31 ?_
      refine y_iload_n cx (pc := 34) d_t_take_34 rfl 2 rfl ?_
      refine y_aload_n cx (pc := 35) d_t_take_35 rfl 1 rfl ?_
      refine y_get cx (pc := 36) (j := 2) (v := .ref (Δ.1 48)) (le_b rfl) ck_Tx kw_259 (le_b rfl) (gf_2_2 Δ _) d_t_take_36 ?_
      refine y_iload_n cx (pc := 39) d_t_take_39 rfl 2 rfl ?_
      obtain ⟨h0, h⟩ := h
      refine y_iald cx (pc := 40) ⟨(le_b rfl), fun _ => rfl⟩ h0 d_t_take_40 ?_
      obtain ⟨h0, h⟩ := h
      refine y_iast cx (pc := 41) ⟨(le_b rfl), fun _ => rfl⟩ h0 d_t_take_41 ?_
      refine y_aload_n cx (pc := 42) d_t_take_42 rfl 0 rfl ?_
      refine y_get cx (pc := 43) (j := 3) (v := .ref (Δ.1 38)) (le_b rfl) ck_Tx kw_261 (le_b rfl) (gf_1_3 Δ _) d_t_take_43 ?_
      refine y_iload_n cx (pc := 46) d_t_take_46 rfl 2 rfl ?_
      refine y_aload_n cx (pc := 47) d_t_take_47 rfl 1 rfl ?_
      refine y_get cx (pc := 48) (j := 3) (v := .ref (Δ.1 49)) (le_b rfl) ck_Tx kw_261 (le_b rfl) (gf_2_3 Δ _) d_t_take_48 ?_
      refine y_iload_n cx (pc := 51) d_t_take_51 rfl 2 rfl ?_
      obtain ⟨h0, h⟩ := h
      refine y_iald cx (pc := 52) ⟨(le_b rfl), fun _ => rfl⟩ h0 d_t_take_52 ?_
      obtain ⟨h0, h⟩ := h
      refine y_iast cx (pc := 53) ⟨(le_b rfl), fun _ => rfl⟩ h0 d_t_take_53 ?_
      refine y_aload_n cx (pc := 54) d_t_take_54 rfl 0 rfl ?_
      refine y_get cx (pc := 55) (j := 4) (v := .ref (Δ.1 39)) (le_b rfl) ck_Tx kw_263 (le_b rfl) (gf_1_4 Δ _) d_t_take_55 ?_
      refine y_iload_n cx (pc := 58) d_t_take_58 rfl 2 rfl ?_
      refine y_aload_n cx (pc := 59) d_t_take_59 rfl 1 rfl ?_
      refine y_get cx (pc := 60) (j := 4) (v := .ref (Δ.1 50)) (le_b rfl) ck_Tx kw_263 (le_b rfl) (gf_2_4 Δ _) d_t_take_60 ?_
      refine y_iload_n cx (pc := 63) d_t_take_63 rfl 2 rfl ?_
      obtain ⟨h0, h⟩ := h
      refine y_iald cx (pc := 64) ⟨(le_b rfl), fun _ => rfl⟩ h0 d_t_take_64 ?_
      obtain ⟨h0, h⟩ := h
      refine y_iast cx (pc := 65) ⟨(le_b rfl), fun _ => rfl⟩ h0 d_t_take_65 ?_
      refine y_aload_n cx (pc := 66) d_t_take_66 rfl 0 rfl ?_
      refine y_get cx (pc := 67) (j := 5) (v := .ref (Δ.1 40)) (le_b rfl) ck_Tx kw_265 (le_b rfl) (gf_1_5 Δ _) d_t_take_67 ?_
      refine y_iload_n cx (pc := 70) d_t_take_70 rfl 2 rfl ?_
      refine y_aload_n cx (pc := 71) d_t_take_71 rfl 1 rfl ?_
      refine y_get cx (pc := 72) (j := 5) (v := .ref (Δ.1 51)) (le_b rfl) ck_Tx kw_265 (le_b rfl) (gf_2_5 Δ _) d_t_take_72 ?_
      refine y_iload_n cx (pc := 75) d_t_take_75 rfl 2 rfl ?_
      obtain ⟨h0, h⟩ := h
      refine y_iald cx (pc := 76) ⟨(le_b rfl), fun _ => rfl⟩ h0 d_t_take_76 ?_
      obtain ⟨h0, h⟩ := h
      refine y_iast cx (pc := 77) ⟨(le_b rfl), fun _ => rfl⟩ h0 d_t_take_77 ?_
      refine y_aload_n cx (pc := 78) d_t_take_78 rfl 0 rfl ?_
      refine y_get cx (pc := 79) (j := 6) (v := .ref (Δ.1 41)) (le_b rfl) ck_Tx kw_267 (le_b rfl) (gf_1_6 Δ _) d_t_take_79 ?_
      refine y_iload_n cx (pc := 82) d_t_take_82 rfl 2 rfl ?_
      refine y_aload_n cx (pc := 83) d_t_take_83 rfl 1 rfl ?_
      refine y_get cx (pc := 84) (j := 6) (v := .ref (Δ.1 52)) (le_b rfl) ck_Tx kw_267 (le_b rfl) (gf_2_6 Δ _) d_t_take_84 ?_
      refine y_iload_n cx (pc := 87) d_t_take_87 rfl 2 rfl ?_
      obtain ⟨h0, h⟩ := h
      refine y_iald cx (pc := 88) ⟨(le_b rfl), fun _ => rfl⟩ h0 d_t_take_88 ?_
      obtain ⟨h0, h⟩ := h
      refine y_iast cx (pc := 89) ⟨(le_b rfl), fun _ => rfl⟩ h0 d_t_take_89 ?_
      refine y_aload_n cx (pc := 90) d_t_take_90 rfl 0 rfl ?_
      refine y_get cx (pc := 91) (j := 7) (v := .ref (Δ.1 42)) (le_b rfl) ck_Tx kw_269 (le_b rfl) (gf_1_7 Δ _) d_t_take_91 ?_
      refine y_iload_n cx (pc := 94) d_t_take_94 rfl 2 rfl ?_
      refine y_aload_n cx (pc := 95) d_t_take_95 rfl 1 rfl ?_
      refine y_get cx (pc := 96) (j := 7) (v := .ref (Δ.1 53)) (le_b rfl) ck_Tx kw_269 (le_b rfl) (gf_2_7 Δ _) d_t_take_96 ?_
      refine y_iload_n cx (pc := 99) d_t_take_99 rfl 2 rfl ?_
      obtain ⟨h0, h⟩ := h
      refine y_iald cx (pc := 100) ⟨(le_b rfl), fun _ => rfl⟩ h0 d_t_take_100 ?_
      obtain ⟨h0, h⟩ := h
      refine y_iast cx (pc := 101) ⟨(le_b rfl), fun _ => rfl⟩ h0 d_t_take_101 ?_
      refine y_aload_n cx (pc := 102) d_t_take_102 rfl 0 rfl ?_
      refine y_get cx (pc := 103) (j := 8) (v := .ref (Δ.1 43)) (le_b rfl) ck_Tx kw_271 (le_b rfl) (gf_1_8 Δ _) d_t_take_103 ?_
      refine y_iload_n cx (pc := 106) d_t_take_106 rfl 2 rfl ?_
      refine y_aload_n cx (pc := 107) d_t_take_107 rfl 1 rfl ?_
      refine y_get cx (pc := 108) (j := 8) (v := .ref (Δ.1 54)) (le_b rfl) ck_Tx kw_271 (le_b rfl) (gf_2_8 Δ _) d_t_take_108 ?_
      refine y_iload_n cx (pc := 111) d_t_take_111 rfl 2 rfl ?_
      obtain ⟨h0, h⟩ := h
      refine y_iald cx (pc := 112) ⟨(le_b rfl), fun _ => rfl⟩ h0 d_t_take_112 ?_
      obtain ⟨h0, h⟩ := h
      refine y_iast cx (pc := 113) ⟨(le_b rfl), fun _ => rfl⟩ h0 d_t_take_113 ?_
      refine y_aload_n cx (pc := 114) d_t_take_114 rfl 0 rfl ?_
      refine y_get cx (pc := 115) (j := 9) (v := .ref (Δ.1 44)) (le_b rfl) ck_Tx kw_273 (le_b rfl) (gf_1_9 Δ _) d_t_take_115 ?_
      refine y_iload_n cx (pc := 118) d_t_take_118 rfl 2 rfl ?_
      refine y_aload_n cx (pc := 119) d_t_take_119 rfl 1 rfl ?_
      refine y_get cx (pc := 120) (j := 9) (v := .ref (Δ.1 55)) (le_b rfl) ck_Tx kw_273 (le_b rfl) (gf_2_9 Δ _) d_t_take_120 ?_
      refine y_iload_n cx (pc := 123) d_t_take_123 rfl 2 rfl ?_
      obtain ⟨h0, h⟩ := h
      refine y_iald cx (pc := 124) ⟨(le_b rfl), fun _ => rfl⟩ h0 d_t_take_124 ?_
      obtain ⟨h0, h⟩ := h
      refine y_iast cx (pc := 125) ⟨(le_b rfl), fun _ => rfl⟩ h0 d_t_take_125 ?_
      refine y_aload_n cx (pc := 126) d_t_take_126 rfl 0 rfl ?_
      refine y_get cx (pc := 127) (j := 10) (v := .ref (Δ.1 45)) (le_b rfl) ck_Tx kw_275 (le_b rfl) (gf_1_10 Δ _) d_t_take_127 ?_
      refine y_iload_n cx (pc := 130) d_t_take_130 rfl 2 rfl ?_
      refine y_aload_n cx (pc := 131) d_t_take_131 rfl 1 rfl ?_
      refine y_get cx (pc := 132) (j := 10) (v := .ref (Δ.1 56)) (le_b rfl) ck_Tx kw_275 (le_b rfl) (gf_2_10 Δ _) d_t_take_132 ?_
      refine y_iload_n cx (pc := 135) d_t_take_135 rfl 2 rfl ?_
      obtain ⟨h0, h⟩ := h
      refine y_iald cx (pc := 136) ⟨(le_b rfl), fun _ => rfl⟩ h0 d_t_take_136 ?_
      obtain ⟨h0, h⟩ := h
      refine y_iast cx (pc := 137) ⟨(le_b rfl), fun _ => rfl⟩ h0 d_t_take_137 ?_
      refine y_aload_n cx (pc := 138) d_t_take_138 rfl 0 rfl ?_
      refine y_get cx (pc := 139) (j := 11) (v := .ref (Δ.1 46)) (le_b rfl) ck_Tx kw_277 (le_b rfl) (gf_1_11 Δ _) d_t_take_139 ?_
      refine y_iload_n cx (pc := 142) d_t_take_142 rfl 2 rfl ?_
      refine y_aload_n cx (pc := 143) d_t_take_143 rfl 1 rfl ?_
      refine y_get cx (pc := 144) (j := 11) (v := .ref (Δ.1 57)) (le_b rfl) ck_Tx kw_277 (le_b rfl) (gf_2_11 Δ _) d_t_take_144 ?_
      refine y_iload_n cx (pc := 147) d_t_take_147 rfl 2 rfl ?_
      obtain ⟨h0, h⟩ := h
      refine y_zald cx (pc := 148) ⟨(le_b rfl), fun _ => rfl⟩ h0 d_t_take_148 ?_
      obtain ⟨h0, h⟩ := h
      obtain ⟨hb, h⟩ := h
      refine y_zastB cx (pc := 149) ⟨(le_b rfl), fun _ => rfl⟩ h0 hb d_t_take_149 ?_
      obtain ⟨x1, ex1⟩ : ∃ y : Int32, y = v2 + 1 := ⟨_, rfl⟩
      replace h := h x1 ex1
      refine y_iinc (v := x1) (lv' := [(2, .int x1), (0, .ref (Δ.1 1)), (1, .ref (Δ.1 2))]) cx (pc := 150) d_t_take_150 (j := 2) rfl (by rw [ex1]; rfl) (le_b rfl) rfl ?_
      refine y_goto cx (pc := 153) (tgt := 10) d_t_take_153 (by decide) ?_
      refine y_sub [1, 2, 0] rfl ?_
      exact ih x1 (up (up (up (up (up (up (up (up (up (up (up σ 36 (v2.toNatClampNeg) (σ 47 (v2.toNatClampNeg))) 37 (v2.toNatClampNeg) (σ 48 (v2.toNatClampNeg))) 38 (v2.toNatClampNeg) (σ 49 (v2.toNatClampNeg))) 39 (v2.toNatClampNeg) (σ 50 (v2.toNatClampNeg))) 40 (v2.toNatClampNeg) (σ 51 (v2.toNatClampNeg))) 41 (v2.toNatClampNeg) (σ 52 (v2.toNatClampNeg))) 42 (v2.toNatClampNeg) (σ 53 (v2.toNatClampNeg))) 43 (v2.toNatClampNeg) (σ 54 (v2.toNatClampNeg))) 44 (v2.toNatClampNeg) (σ 55 (v2.toNatClampNeg))) 45 (v2.toNatClampNeg) (σ 56 (v2.toNatClampNeg))) 46 (v2.toNatClampNeg) (σ 57 (v2.toNatClampNeg))) h
def w_t_take (σ : Sg) (Q : Sg → Prop) : Prop := ∃ q10, w_t_take_10 Q q10 0 (up σ 1 0 (σ 2 0))
theorem b_t_take {Δ : Ly} {G : Gm} {Q : Sg → Prop} (cx : Cx Δ G mi_t_take) (σ : Sg) (h : w_t_take σ Q) : Y Δ G mi_t_take (qV Q) noE 0 0 σ 0 [(0, .ref (Δ.1 1)), (1, .ref (Δ.1 2))] [] := by
  unfold w_t_take at h
  refine y_aload_n cx (pc := 0) d_t_take_0 rfl 0 rfl ?_
  refine y_aload_n cx (pc := 1) d_t_take_1 rfl 1 rfl ?_
  refine y_get cx (pc := 2) (j := 0) (v := .int (σ 2 0)) (le_b rfl) ck_Tx kw_255 (le_b rfl) (gf_2_0 Δ _) d_t_take_2 ?_
  refine y_put cx (pc := 5) (j := 0) (ty := .int) (le_b rfl) ck_Tx kw_255 (le_b rfl) rfl (t_Tx_ok 0 (le_b rfl)) rfl rfl (pf_1_0 Δ) d_t_take_5 ?_
  refine y_iconst cx (pc := 8) ic_0 d_t_take_8 ?_
  refine y_istore_n (lv' := [(2, .int 0), (0, .ref (Δ.1 1)), (1, .ref (Δ.1 2))]) cx (pc := 9) d_t_take_9 rfl (le_b rfl) rfl ?_
  refine y_sub [1, 2, 0] rfl ?_
  obtain ⟨n, h⟩ := h
  exact b_t_take_10 cx n 0 (up σ 1 0 (σ 2 0)) h
theorem c_t_take {l : Launch} (hfl : l.flags = flags0) (Δ : Ly) (σ : Sg) (Q : Sg → Prop) (h : w_t_take σ Q) : Ct l Δ mi_t_take [.ref (Δ.1 1), .ref (Δ.1 2)] σ (qV Q) noE :=
  Ct.of hfl (by show plainFor ⟨"GuardedMoves$Text", "take", "(LGuardedMoves$Text;)V"⟩ = true; decide +kernel) rfl (le_b rfl) (fun G hl cx => b_t_take cx σ h)
def mi_x_bad : Mi := ("GuardedMoves", prog_1_method_5_code, 3, [], (some (.object "GuardedMoves$BadText")), 0, 0, 0, 0, ⟨"GuardedMoves", "bad", "(II)LGuardedMoves$BadText;"⟩)
theorem d_x_bad_0 : decode prog_1_method_5_code 0 = .ok (.aload_n 0, 1) := by decide +kernel
theorem d_x_bad_1 : decode prog_1_method_5_code 1 = .ok (.getfield 13, 3) := by decide +kernel
theorem d_x_bad_4 : decode prog_1_method_5_code 4 = .ok (.iload_n 1, 1) := by decide +kernel
theorem d_x_bad_5 : decode prog_1_method_5_code 5 = .ok (.putfield 19, 3) := by decide +kernel
theorem d_x_bad_8 : decode prog_1_method_5_code 8 = .ok (.aload_n 0, 1) := by decide +kernel
theorem d_x_bad_9 : decode prog_1_method_5_code 9 = .ok (.getfield 13, 3) := by decide +kernel
theorem d_x_bad_12 : decode prog_1_method_5_code 12 = .ok (.iload_n 2, 1) := by decide +kernel
theorem d_x_bad_13 : decode prog_1_method_5_code 13 = .ok (.putfield 25, 3) := by decide +kernel
theorem d_x_bad_16 : decode prog_1_method_5_code 16 = .ok (.aload_n 0, 1) := by decide +kernel
theorem d_x_bad_17 : decode prog_1_method_5_code 17 = .ok (.getfield 13, 3) := by decide +kernel
theorem d_x_bad_20 : decode prog_1_method_5_code 20 = .ok (.areturn, 1) := by decide +kernel
theorem kc_x_bad : Kw (m_w (mi_x_bad )) := ⟨(in_t1 (List.mem_of_getElem? (i := 47) rfl)), rfl⟩
theorem mv_x_bad : MV (mi_x_bad ) "GuardedMoves" 2 := ⟨kw_46, ks_2, kc_x_bad , kw_1, ⟨⟨(by show ("GuardedMoves" : String) ≠ "java/lang/invoke/MethodHandle"; decide), (by show ("GuardedMoves" : String) ≠ "java/lang/invoke/VarHandle"; decide)⟩, (by show (parseMethodDescriptor "(II)LGuardedMoves$BadText;").map (fun d => d.parameters.length) = some 2; decide +kernel)⟩⟩
def w_x_bad (p1 : Int32) (p2 : Int32) (σ : Sg) (Q : Sg → Prop) : Prop := Q (up (up σ 3 5 p1) 3 6 p2)
theorem b_x_bad {Δ : Ly} {G : Gm} {Q : Sg → Prop} (cx : Cx Δ G mi_x_bad) (p1 : Int32) (p2 : Int32) (σ : Sg) (h : w_x_bad p1 p2 σ Q) : Y Δ G mi_x_bad (qR (Δ.1 3) Q) noE 0 0 σ 0 [(0, .ref (Δ.1 0)), (1, .int p1), (2, .int p2)] [] := by
  unfold w_x_bad at h
  refine y_aload_n cx (pc := 0) d_x_bad_0 rfl 0 rfl ?_
  refine y_get cx (pc := 1) (j := 2) (v := .ref (Δ.1 3)) (le_b rfl) ck_GM kw_399 (le_b rfl) (gf_0_2 Δ _) d_x_bad_1 ?_
  refine y_iload_n cx (pc := 4) d_x_bad_4 rfl 1 rfl ?_
  refine y_putN cx (pc := 5) (j := 5) (ty := .int) (le_b rfl) ck_Bd kw_356 (le_b rfl) rfl (t_Bd_ok 5 (le_b rfl)) rfl rfl (pf_3_5 Δ) d_x_bad_5 ?_
  refine y_aload_n cx (pc := 8) d_x_bad_8 rfl 0 rfl ?_
  refine y_get cx (pc := 9) (j := 2) (v := .ref (Δ.1 3)) (le_b rfl) ck_GM kw_399 (le_b rfl) (gf_0_2 Δ _) d_x_bad_9 ?_
  refine y_iload_n cx (pc := 12) d_x_bad_12 rfl 2 rfl ?_
  refine y_putN cx (pc := 13) (j := 6) (ty := .int) (le_b rfl) ck_Bd kw_357 (le_b rfl) rfl (t_Bd_ok 6 (le_b rfl)) rfl rfl (pf_3_6 Δ) d_x_bad_13 ?_
  refine y_aload_n cx (pc := 16) d_x_bad_16 rfl 0 rfl ?_
  refine y_get cx (pc := 17) (j := 2) (v := .ref (Δ.1 3)) (le_b rfl) ck_GM kw_399 (le_b rfl) (gf_0_2 Δ _) d_x_bad_17 ?_
  exact y_rret cx (pc := 20) rfl d_x_bad_20 (le_b rfl) (le_b rfl) h
theorem c_x_bad {l : Launch} (hfl : l.flags = flags0) (Δ : Ly) (p1 : Int32) (p2 : Int32) (σ : Sg) (Q : Sg → Prop) (h : w_x_bad p1 p2 σ Q) : Ct l Δ mi_x_bad [.ref (Δ.1 0), .int p1, .int p2] σ (qR (Δ.1 3) Q) noE :=
  Ct.of hfl (by show plainFor ⟨"GuardedMoves", "bad", "(II)LGuardedMoves$BadText;"⟩ = true; decide +kernel) rfl (le_b rfl) (fun G hl cx => b_x_bad cx p1 p2 σ h)
def mi_x_here : Mi := ("GuardedMoves", prog_1_method_6_code, 1, [], (some .int), 0, 0, 0, 0, ⟨"GuardedMoves", "here", "()I"⟩)
theorem d_x_here_0 : decode prog_1_method_6_code 0 = .ok (.aload_n 0, 1) := by decide +kernel
theorem d_x_here_1 : decode prog_1_method_6_code 1 = .ok (.getfield 28, 3) := by decide +kernel
theorem d_x_here_4 : decode prog_1_method_6_code 4 = .ok (.aload_n 0, 1) := by decide +kernel
theorem d_x_here_5 : decode prog_1_method_6_code 5 = .ok (.getfield 31, 3) := by decide +kernel
theorem d_x_here_8 : decode prog_1_method_6_code 8 = .ok (.if_icmp .ge 44, 3) := by decide +kernel
theorem d_x_here_11 : decode prog_1_method_6_code 11 = .ok (.aload_n 0, 1) := by decide +kernel
theorem d_x_here_12 : decode prog_1_method_6_code 12 = .ok (.getfield 34, 3) := by decide +kernel
theorem d_x_here_15 : decode prog_1_method_6_code 15 = .ok (.aload_n 0, 1) := by decide +kernel
theorem d_x_here_16 : decode prog_1_method_6_code 16 = .ok (.getfield 28, 3) := by decide +kernel
theorem d_x_here_19 : decode prog_1_method_6_code 19 = .ok (.baload, 1) := by decide +kernel
theorem d_x_here_20 : decode prog_1_method_6_code 20 = .ok (.bipush 32, 2) := by decide +kernel
theorem d_x_here_22 : decode prog_1_method_6_code 22 = .ok (.if_icmp .eq 17, 3) := by decide +kernel
theorem d_x_here_25 : decode prog_1_method_6_code 25 = .ok (.aload_n 0, 1) := by decide +kernel
theorem d_x_here_26 : decode prog_1_method_6_code 26 = .ok (.getfield 34, 3) := by decide +kernel
theorem d_x_here_29 : decode prog_1_method_6_code 29 = .ok (.aload_n 0, 1) := by decide +kernel
theorem d_x_here_30 : decode prog_1_method_6_code 30 = .ok (.getfield 28, 3) := by decide +kernel
theorem d_x_here_33 : decode prog_1_method_6_code 33 = .ok (.baload, 1) := by decide +kernel
theorem d_x_here_34 : decode prog_1_method_6_code 34 = .ok (.bipush 10, 2) := by decide +kernel
theorem d_x_here_36 : decode prog_1_method_6_code 36 = .ok (.if_icmp .ne 16, 3) := by decide +kernel
theorem d_x_here_39 : decode prog_1_method_6_code 39 = .ok (.aload_n 0, 1) := by decide +kernel
theorem d_x_here_40 : decode prog_1_method_6_code 40 = .ok (.dup, 1) := by decide +kernel
theorem d_x_here_41 : decode prog_1_method_6_code 41 = .ok (.getfield 28, 3) := by decide +kernel
theorem d_x_here_44 : decode prog_1_method_6_code 44 = .ok (.iconst 1, 1) := by decide +kernel
theorem d_x_here_45 : decode prog_1_method_6_code 45 = .ok (.iadd, 1) := by decide +kernel
theorem d_x_here_46 : decode prog_1_method_6_code 46 = .ok (.putfield 28, 3) := by decide +kernel
theorem d_x_here_49 : decode prog_1_method_6_code 49 = .ok (.goto (-49), 3) := by decide +kernel
theorem d_x_here_52 : decode prog_1_method_6_code 52 = .ok (.aload_n 0, 1) := by decide +kernel
theorem d_x_here_53 : decode prog_1_method_6_code 53 = .ok (.getfield 28, 3) := by decide +kernel
theorem d_x_here_56 : decode prog_1_method_6_code 56 = .ok (.aload_n 0, 1) := by decide +kernel
theorem d_x_here_57 : decode prog_1_method_6_code 57 = .ok (.getfield 31, 3) := by decide +kernel
theorem d_x_here_60 : decode prog_1_method_6_code 60 = .ok (.if_icmp .ge 15, 3) := by decide +kernel
theorem d_x_here_63 : decode prog_1_method_6_code 63 = .ok (.aload_n 0, 1) := by decide +kernel
theorem d_x_here_64 : decode prog_1_method_6_code 64 = .ok (.getfield 34, 3) := by decide +kernel
theorem d_x_here_67 : decode prog_1_method_6_code 67 = .ok (.aload_n 0, 1) := by decide +kernel
theorem d_x_here_68 : decode prog_1_method_6_code 68 = .ok (.getfield 28, 3) := by decide +kernel
theorem d_x_here_71 : decode prog_1_method_6_code 71 = .ok (.baload, 1) := by decide +kernel
theorem d_x_here_72 : decode prog_1_method_6_code 72 = .ok (.goto 4, 3) := by decide +kernel
theorem d_x_here_75 : decode prog_1_method_6_code 75 = .ok (.iconst 0, 1) := by decide +kernel
theorem d_x_here_76 : decode prog_1_method_6_code 76 = .ok (.ireturn, 1) := by decide +kernel
theorem kc_x_here : Kw (m_w (mi_x_here )) := ⟨(in_t1 (List.mem_of_getElem? (i := 32) rfl)), rfl⟩
theorem mv_x_here : MV (mi_x_here ) "GuardedMoves" 0 := ⟨kw_31, ks_1, kc_x_here , kw_1, ⟨⟨(by show ("GuardedMoves" : String) ≠ "java/lang/invoke/MethodHandle"; decide), (by show ("GuardedMoves" : String) ≠ "java/lang/invoke/VarHandle"; decide)⟩, (by show (parseMethodDescriptor "()I").map (fun d => d.parameters.length) = some 0; decide +kernel)⟩⟩
def w_x_here_76 (Q : Int32 → Sg → Prop) (s0 : Int32) (σ : Sg) : Prop := Q s0 σ
theorem b_x_here_76 {Δ : Ly} {G : Gm} {Q : Int32 → Sg → Prop} (cx : Cx Δ G mi_x_here) : ∀ (s0 : Int32) (σ : Sg), w_x_here_76 Q s0 σ → Y Δ G mi_x_here (qI Q) noE 0 0 σ 76 [] [.int s0] := by
  intro s0 σ h
  unfold w_x_here_76 at h
  exact y_iret cx (pc := 76) rfl d_x_here_76 (le_b rfl) (le_b rfl) h
def w_x_here_52 (Q : Int32 → Sg → Prop) (σ : Sg) : Prop := ((σ 0 4) ≤ (σ 0 5) → (w_x_here_76 Q 0 σ)) ∧ (¬ (σ 0 4) ≤ (σ 0 5) → (vp_in (σ 0 5) 600 ∧ (w_x_here_76 Q (σ 5 ((σ 0 5).toNatClampNeg)) σ)))
theorem b_x_here_52 {Δ : Ly} {G : Gm} {Q : Int32 → Sg → Prop} (cx : Cx Δ G mi_x_here) : ∀ (σ : Sg), w_x_here_52 Q σ → Y Δ G mi_x_here (qI Q) noE 0 0 σ 52 [(0, .ref (Δ.1 0))] [] := by
  intro σ h
  unfold w_x_here_52 at h
  refine y_aload_n cx (pc := 52) d_x_here_52 rfl 0 rfl ?_
  refine y_get cx (pc := 53) (j := 5) (v := .int (σ 0 5)) (le_b rfl) ck_GM kw_402 (le_b rfl) (gf_0_5 Δ _) d_x_here_53 ?_
  refine y_aload_n cx (pc := 56) d_x_here_56 rfl 0 rfl ?_
  refine y_get cx (pc := 57) (j := 4) (v := .int (σ 0 4)) (le_b rfl) ck_GM kw_401 (le_b rfl) (gf_0_4 Δ _) d_x_here_57 ?_
  refine y_icmp_ge cx (pc := 60) (tgt := 75) d_x_here_60 (by decide) (fun hc => ?_) (fun hc => ?_)
  · replace h := h.1 hc
    refine y_iconst cx (pc := 75) ic_0 d_x_here_75 ?_
    refine y_sub [] rfl ?_
    exact b_x_here_76 cx 0 σ h
  · replace h := h.2 hc
    refine y_aload_n cx (pc := 63) d_x_here_63 rfl 0 rfl ?_
    refine y_get cx (pc := 64) (j := 3) (v := .ref (Δ.1 5)) (le_b rfl) ck_GM kw_400 (le_b rfl) (gf_0_3 Δ _) d_x_here_64 ?_
    refine y_aload_n cx (pc := 67) d_x_here_67 rfl 0 rfl ?_
    refine y_get cx (pc := 68) (j := 5) (v := .int (σ 0 5)) (le_b rfl) ck_GM kw_402 (le_b rfl) (gf_0_5 Δ _) d_x_here_68 ?_
    obtain ⟨h0, h⟩ := h
    refine y_bald cx (pc := 71) ⟨(le_b rfl), fun _ => rfl⟩ h0 d_x_here_71 ?_
    refine y_goto cx (pc := 72) (tgt := 76) d_x_here_72 (by decide) ?_
    refine y_sub [] rfl ?_
    exact b_x_here_76 cx (σ 5 ((σ 0 5).toNatClampNeg)) σ h
def w_x_here_39 (K0 : Sg → Prop) (Q : Int32 → Sg → Prop) (σ : Sg) : Prop := K0 (up σ 0 5 ((σ 0 5) + 1))
theorem b_x_here_39 {Δ : Ly} {G : Gm} {K0 : Sg → Prop} {Q : Int32 → Sg → Prop} (cx : Cx Δ G mi_x_here) (hK0 : ∀ (σ : Sg), K0 σ → Y Δ G mi_x_here (qI Q) noE 0 0 σ 0 [(0, .ref (Δ.1 0))] []) : ∀ (σ : Sg), w_x_here_39 K0 Q σ → Y Δ G mi_x_here (qI Q) noE 0 0 σ 39 [(0, .ref (Δ.1 0))] [] := by
  intro σ h
  unfold w_x_here_39 at h
  refine y_aload_n cx (pc := 39) d_x_here_39 rfl 0 rfl ?_
  refine y_dup cx (pc := 40) rfl d_x_here_40 ?_
  refine y_get cx (pc := 41) (j := 5) (v := .int (σ 0 5)) (le_b rfl) ck_GM kw_402 (le_b rfl) (gf_0_5 Δ _) d_x_here_41 ?_
  refine y_iconst cx (pc := 44) ic_1 d_x_here_44 ?_
  refine y_iadd cx (pc := 45) d_x_here_45 ?_
  refine y_put cx (pc := 46) (j := 5) (ty := .int) (le_b rfl) ck_GM kw_402 (le_b rfl) rfl (t_GM_ok 5 (le_b rfl)) rfl rfl (pf_0_5 Δ) d_x_here_46 ?_
  refine y_goto cx (pc := 49) (tgt := 0) d_x_here_49 (by decide) ?_
  exact hK0 (up σ 0 5 ((σ 0 5) + 1)) h
def w_x_here_0 (Q : Int32 → Sg → Prop) : Nat → Sg → Prop
  | 0, _ => False
  | n + 1, σ => ((σ 0 4) ≤ (σ 0 5) → (w_x_here_52 Q σ)) ∧ (¬ (σ 0 4) ≤ (σ 0 5) → (vp_in (σ 0 5) 600 ∧ (((σ 5 ((σ 0 5).toNatClampNeg)) = 32 → (w_x_here_39 (w_x_here_0 Q n) Q σ)) ∧ (¬ (σ 5 ((σ 0 5).toNatClampNeg)) = 32 → (vp_in (σ 0 5) 600 ∧ ((¬ (σ 5 ((σ 0 5).toNatClampNeg)) = 10 → (w_x_here_52 Q σ)) ∧ ((σ 5 ((σ 0 5).toNatClampNeg)) = 10 → (w_x_here_39 (w_x_here_0 Q n) Q σ))))))))
theorem b_x_here_0 {Δ : Ly} {G : Gm} {Q : Int32 → Sg → Prop} (cx : Cx Δ G mi_x_here) : ∀ (n : Nat) (σ : Sg), w_x_here_0 Q n σ → Y Δ G mi_x_here (qI Q) noE 0 0 σ 0 [(0, .ref (Δ.1 0))] [] := by
  intro n
  induction n with
  | zero => intro σ h; exact h.elim
  | succ n ih =>
    intro σ h
    unfold w_x_here_0 at h
    refine y_aload_n cx (pc := 0) d_x_here_0 rfl 0 rfl ?_
    refine y_get cx (pc := 1) (j := 5) (v := .int (σ 0 5)) (le_b rfl) ck_GM kw_402 (le_b rfl) (gf_0_5 Δ _) d_x_here_1 ?_
    refine y_aload_n cx (pc := 4) d_x_here_4 rfl 0 rfl ?_
    refine y_get cx (pc := 5) (j := 4) (v := .int (σ 0 4)) (le_b rfl) ck_GM kw_401 (le_b rfl) (gf_0_4 Δ _) d_x_here_5 ?_
    refine y_icmp_ge cx (pc := 8) (tgt := 52) d_x_here_8 (by decide) (fun hc => ?_) (fun hc => ?_)
    · replace h := h.1 hc
      exact b_x_here_52 cx σ h
    · replace h := h.2 hc
      refine y_aload_n cx (pc := 11) d_x_here_11 rfl 0 rfl ?_
      refine y_get cx (pc := 12) (j := 3) (v := .ref (Δ.1 5)) (le_b rfl) ck_GM kw_400 (le_b rfl) (gf_0_3 Δ _) d_x_here_12 ?_
      refine y_aload_n cx (pc := 15) d_x_here_15 rfl 0 rfl ?_
      refine y_get cx (pc := 16) (j := 5) (v := .int (σ 0 5)) (le_b rfl) ck_GM kw_402 (le_b rfl) (gf_0_5 Δ _) d_x_here_16 ?_
      obtain ⟨h0, h⟩ := h
      refine y_bald cx (pc := 19) ⟨(le_b rfl), fun _ => rfl⟩ h0 d_x_here_19 ?_
      refine y_bipush cx (pc := 20) bp_32 d_x_here_20 ?_
      refine y_icmp_eq cx (pc := 22) (tgt := 39) d_x_here_22 (by decide) (fun hc => ?_) (fun hc => ?_)
      · replace h := h.1 hc
        exact b_x_here_39 cx ih σ h
      · replace h := h.2 hc
        refine y_aload_n cx (pc := 25) d_x_here_25 rfl 0 rfl ?_
        refine y_get cx (pc := 26) (j := 3) (v := .ref (Δ.1 5)) (le_b rfl) ck_GM kw_400 (le_b rfl) (gf_0_3 Δ _) d_x_here_26 ?_
        refine y_aload_n cx (pc := 29) d_x_here_29 rfl 0 rfl ?_
        refine y_get cx (pc := 30) (j := 5) (v := .int (σ 0 5)) (le_b rfl) ck_GM kw_402 (le_b rfl) (gf_0_5 Δ _) d_x_here_30 ?_
        obtain ⟨h0, h⟩ := h
        refine y_bald cx (pc := 33) ⟨(le_b rfl), fun _ => rfl⟩ h0 d_x_here_33 ?_
        refine y_bipush cx (pc := 34) bp_10 d_x_here_34 ?_
        refine y_icmp_ne cx (pc := 36) (tgt := 52) d_x_here_36 (by decide) (fun hc => ?_) (fun hc => ?_)
        · replace h := h.1 hc
          exact b_x_here_52 cx σ h
        · replace h := h.2 hc
          exact b_x_here_39 cx ih σ h
def w_x_here (σ : Sg) (Q : Int32 → Sg → Prop) : Prop := ∃ q0, w_x_here_0 Q q0 σ
theorem b_x_here {Δ : Ly} {G : Gm} {Q : Int32 → Sg → Prop} (cx : Cx Δ G mi_x_here) (σ : Sg) (h : w_x_here σ Q) : Y Δ G mi_x_here (qI Q) noE 0 0 σ 0 [(0, .ref (Δ.1 0))] [] := by
  unfold w_x_here at h
  obtain ⟨n, h⟩ := h
  exact b_x_here_0 cx n σ h
theorem c_x_here {l : Launch} (hfl : l.flags = flags0) (Δ : Ly) (σ : Sg) (Q : Int32 → Sg → Prop) (h : w_x_here σ Q) : Ct l Δ mi_x_here [.ref (Δ.1 0)] σ (qI Q) noE :=
  Ct.of hfl (by show plainFor ⟨"GuardedMoves", "here", "()I"⟩ = true; decide +kernel) rfl (le_b rfl) (fun G hl cx => b_x_here cx σ h)
def mi_x_within : Mi := ("GuardedMoves", prog_1_method_1_code, 6, [], (some .boolean), 0, 0, 0, 0, ⟨"GuardedMoves", "within", "(JJJ)Z"⟩)
theorem d_x_within_0 : decode prog_1_method_1_code 0 = .ok (.lload_n 0, 1) := by decide +kernel
theorem d_x_within_1 : decode prog_1_method_1_code 1 = .ok (.lload_n 2, 1) := by decide +kernel
theorem d_x_within_2 : decode prog_1_method_1_code 2 = .ok (.lcmp, 1) := by decide +kernel
theorem d_x_within_3 : decode prog_1_method_1_code 3 = .ok (.ifCond .lt 14, 3) := by decide +kernel
theorem d_x_within_6 : decode prog_1_method_1_code 6 = .ok (.lload_n 0, 1) := by decide +kernel
theorem d_x_within_7 : decode prog_1_method_1_code 7 = .ok (.lload 4, 2) := by decide +kernel
theorem d_x_within_9 : decode prog_1_method_1_code 9 = .ok (.lcmp, 1) := by decide +kernel
theorem d_x_within_10 : decode prog_1_method_1_code 10 = .ok (.ifCond .gt 7, 3) := by decide +kernel
theorem d_x_within_13 : decode prog_1_method_1_code 13 = .ok (.iconst 1, 1) := by decide +kernel
theorem d_x_within_14 : decode prog_1_method_1_code 14 = .ok (.goto 4, 3) := by decide +kernel
theorem d_x_within_17 : decode prog_1_method_1_code 17 = .ok (.iconst 0, 1) := by decide +kernel
theorem d_x_within_18 : decode prog_1_method_1_code 18 = .ok (.ireturn, 1) := by decide +kernel
theorem kc_x_within : Kw (m_w (mi_x_within )) := ⟨(in_t1 (List.mem_of_getElem? (i := 43) rfl)), rfl⟩
theorem mv_x_within : MS mi_x_within 3 := ⟨kw_42, kc_x_within, kw_1, ⟨⟨(by show ("GuardedMoves" : String) ≠ "java/lang/invoke/MethodHandle"; decide), (by show ("GuardedMoves" : String) ≠ "java/lang/invoke/VarHandle"; decide)⟩, (by show (parseMethodDescriptor "(JJJ)Z").map (fun d => d.parameters.length) = some 3; decide +kernel)⟩⟩
def w_x_within_18 (Q : Int32 → Sg → Prop) (s0 : Int32) (σ : Sg) : Prop := bz s0 ∧ (Q s0 σ)
theorem b_x_within_18 {Δ : Ly} {G : Gm} {Q : Int32 → Sg → Prop} (cx : Cx Δ G mi_x_within) : ∀ (s0 : Int32) (σ : Sg), w_x_within_18 Q s0 σ → Y Δ G mi_x_within (qI Q) noE 0 0 σ 18 [] [.int s0] := by
  intro s0 σ h
  unfold w_x_within_18 at h
  obtain ⟨hb, h⟩ := h
  exact y_zret cx (pc := 18) rfl hb d_x_within_18 (le_b rfl) (le_b rfl) h
def w_x_within_17 (Q : Int32 → Sg → Prop) (σ : Sg) : Prop := w_x_within_18 Q 0 σ
theorem b_x_within_17 {Δ : Ly} {G : Gm} {Q : Int32 → Sg → Prop} (cx : Cx Δ G mi_x_within) : ∀ (σ : Sg), w_x_within_17 Q σ → Y Δ G mi_x_within (qI Q) noE 0 0 σ 17 [] [] := by
  intro σ h
  unfold w_x_within_17 at h
  refine y_iconst cx (pc := 17) ic_0 d_x_within_17 ?_
  exact b_x_within_18 cx 0 σ h
def w_x_within (p1 : Int64) (p2 : Int64) (p3 : Int64) (σ : Sg) (Q : Int32 → Sg → Prop) : Prop := (p1 < p2 → (w_x_within_17 Q σ)) ∧ (¬ p1 < p2 → ((p3 < p1 → (w_x_within_17 Q σ)) ∧ (¬ p3 < p1 → (w_x_within_18 Q 1 σ))))
theorem b_x_within {Δ : Ly} {G : Gm} {Q : Int32 → Sg → Prop} (cx : Cx Δ G mi_x_within) (p1 : Int64) (p2 : Int64) (p3 : Int64) (σ : Sg) (h : w_x_within p1 p2 p3 σ Q) : Y Δ G mi_x_within (qI Q) noE 0 0 σ 0 [(0, .long p1), (2, .long p2), (4, .long p3)] [] := by
  unfold w_x_within at h
  refine y_lload_n cx (pc := 0) d_x_within_0 rfl 0 rfl ?_
  refine y_lload_n cx (pc := 1) d_x_within_1 rfl 1 rfl ?_
  refine y_lcmp_lt cx (pc := 2) (tgt := 17) d_x_within_2 d_x_within_3 (by decide) (fun hc => ?_) (fun hc => ?_)
  · replace h := h.1 hc
    refine y_sub [] rfl ?_
    exact b_x_within_17 cx σ h
  · replace h := h.2 hc
    refine y_lload_n cx (pc := 6) d_x_within_6 rfl 0 rfl ?_
    refine y_lload cx (pc := 7) d_x_within_7 2 rfl ?_
    refine y_lcmp_gt cx (pc := 9) (tgt := 17) d_x_within_9 d_x_within_10 (by decide) (fun hc => ?_) (fun hc => ?_)
    · replace h := h.1 hc
      refine y_sub [] rfl ?_
      exact b_x_within_17 cx σ h
    · replace h := h.2 hc
      refine y_iconst cx (pc := 13) ic_1 d_x_within_13 ?_
      refine y_goto cx (pc := 14) (tgt := 18) d_x_within_14 (by decide) ?_
      refine y_sub [] rfl ?_
      exact b_x_within_18 cx 1 σ h
theorem c_x_within {l : Launch} (hfl : l.flags = flags0) (Δ : Ly) (p1 : Int64) (p2 : Int64) (p3 : Int64) (σ : Sg) (Q : Int32 → Sg → Prop) (h : w_x_within p1 p2 p3 σ Q) : Ct l Δ mi_x_within [.long p1, .long p2, .long p3] σ (qI Q) noE :=
  Ct.of hfl (by show plainFor ⟨"GuardedMoves", "within", "(JJJ)Z"⟩ = true; decide +kernel) rfl (le_b rfl) (fun G hl cx => b_x_within cx p1 p2 p3 σ h)
def mi_x_isVariable : Mi := ("GuardedMoves", prog_1_method_7_code, 1, [], (some .boolean), 1, 29, 0, 0, ⟨"GuardedMoves", "isVariable", "(I)Z"⟩)
theorem d_x_isVariable_0 : decode prog_1_method_7_code 0 = .ok (.iload_n 0, 1) := by decide +kernel
theorem d_x_isVariable_1 : decode prog_1_method_7_code 1 = .ok (.i2l, 1) := by decide +kernel
theorem d_x_isVariable_2 : decode prog_1_method_7_code 2 = .ok (.ldc2_w 38, 3) := by decide +kernel
theorem d_x_isVariable_5 : decode prog_1_method_7_code 5 = .ok (.ldc2_w 40, 3) := by decide +kernel
theorem d_x_isVariable_8 : decode prog_1_method_7_code 8 = .ok (.invokestatic 42, 3) := by decide +kernel
theorem d_x_isVariable_11 : decode prog_1_method_7_code 11 = .ok (.ireturn, 1) := by decide +kernel
theorem kc_x_isVariable : Kw (m_w (mi_x_isVariable )) := ⟨(in_t1 (List.mem_of_getElem? (i := 38) rfl)), rfl⟩
theorem mv_x_isVariable : MS mi_x_isVariable 1 := ⟨kw_37, kc_x_isVariable, kw_1, ⟨⟨(by show ("GuardedMoves" : String) ≠ "java/lang/invoke/MethodHandle"; decide), (by show ("GuardedMoves" : String) ≠ "java/lang/invoke/VarHandle"; decide)⟩, (by show (parseMethodDescriptor "(I)Z").map (fun d => d.parameters.length) = some 1; decide +kernel)⟩⟩
def w_x_isVariable (p1 : Int32) (σ : Sg) (Q : Int32 → Sg → Prop) : Prop := w_x_within (p1.toInt64) 97 112 σ (fun x1 σ2 => bz x1 ∧ (Q x1 σ2))
theorem b_x_isVariable {Δ : Ly} {G : Gm} {Q : Int32 → Sg → Prop} (cx : Cx Δ G mi_x_isVariable) (p1 : Int32) (σ : Sg) (h : w_x_isVariable p1 σ Q) : Y Δ G mi_x_isVariable (qI Q) noE 0 0 σ 0 [(0, .int p1)] [] := by
  unfold w_x_isVariable at h
  refine y_iload_n cx (pc := 0) d_x_isVariable_0 rfl 0 rfl ?_
  refine y_i2l cx (pc := 1) d_x_isVariable_1 ?_
  refine y_ldc2 cx (pc := 2) kw_39 d_x_isVariable_2 ?_
  refine y_ldc2 cx (pc := 5) kw_40 d_x_isVariable_5 ?_
  refine y_sI cx (pc := 8) (st := []) [.long (p1.toInt64), .long 97, .long 112] (c_x_within cx.fl Δ (p1.toInt64) 97 112 _ _ h) mv_x_within kw_41 rfl (le_b rfl) (le_b rfl) (le_b rfl) (le_b rfl) (le_b rfl) d_x_isVariable_8 (fun x1 σ2 h => ?_) (fun x σ2 h => yt_no h)
  obtain ⟨hb, h⟩ := h
  exact y_zret cx (pc := 11) rfl hb d_x_isVariable_11 (le_b rfl) (le_b rfl) h
theorem c_x_isVariable {l : Launch} (hfl : l.flags = flags0) (Δ : Ly) (p1 : Int32) (σ : Sg) (Q : Int32 → Sg → Prop) (h : w_x_isVariable p1 σ Q) : Ct l Δ mi_x_isVariable [.int p1] σ (qI Q) noE :=
  Ct.of hfl (by show plainFor ⟨"GuardedMoves", "isVariable", "(I)Z"⟩ = true; decide +kernel) rfl (le_b rfl) (fun G hl cx => b_x_isVariable cx p1 σ h)
def mi_x_begins : Mi := ("GuardedMoves", prog_1_method_12_code, 1, [], (some .boolean), 2, 53, 0, 0, ⟨"GuardedMoves", "begins", "(I)Z"⟩)
theorem d_x_begins_0 : decode prog_1_method_12_code 0 = .ok (.iload_n 0, 1) := by decide +kernel
theorem d_x_begins_1 : decode prog_1_method_12_code 1 = .ok (.invokestatic 59, 3) := by decide +kernel
theorem d_x_begins_4 : decode prog_1_method_12_code 4 = .ok (.ifCond .ne 21, 3) := by decide +kernel
theorem d_x_begins_7 : decode prog_1_method_12_code 7 = .ok (.iload_n 0, 1) := by decide +kernel
theorem d_x_begins_8 : decode prog_1_method_12_code 8 = .ok (.bipush 64, 2) := by decide +kernel
theorem d_x_begins_10 : decode prog_1_method_12_code 10 = .ok (.if_icmp .eq 15, 3) := by decide +kernel
theorem d_x_begins_13 : decode prog_1_method_12_code 13 = .ok (.iload_n 0, 1) := by decide +kernel
theorem d_x_begins_14 : decode prog_1_method_12_code 14 = .ok (.bipush 33, 2) := by decide +kernel
theorem d_x_begins_16 : decode prog_1_method_12_code 16 = .ok (.if_icmp .eq 9, 3) := by decide +kernel
theorem d_x_begins_19 : decode prog_1_method_12_code 19 = .ok (.iload_n 0, 1) := by decide +kernel
theorem d_x_begins_20 : decode prog_1_method_12_code 20 = .ok (.bipush 63, 2) := by decide +kernel
theorem d_x_begins_22 : decode prog_1_method_12_code 22 = .ok (.if_icmp .ne 7, 3) := by decide +kernel
theorem d_x_begins_25 : decode prog_1_method_12_code 25 = .ok (.iconst 1, 1) := by decide +kernel
theorem d_x_begins_26 : decode prog_1_method_12_code 26 = .ok (.goto 4, 3) := by decide +kernel
theorem d_x_begins_29 : decode prog_1_method_12_code 29 = .ok (.iconst 0, 1) := by decide +kernel
theorem d_x_begins_30 : decode prog_1_method_12_code 30 = .ok (.ireturn, 1) := by decide +kernel
theorem kc_x_begins : Kw (m_w (mi_x_begins )) := ⟨(in_t1 (List.mem_of_getElem? (i := 35) rfl)), rfl⟩
theorem mv_x_begins : MS mi_x_begins 1 := ⟨kw_34, kc_x_begins, kw_1, ⟨⟨(by show ("GuardedMoves" : String) ≠ "java/lang/invoke/MethodHandle"; decide), (by show ("GuardedMoves" : String) ≠ "java/lang/invoke/VarHandle"; decide)⟩, (by show (parseMethodDescriptor "(I)Z").map (fun d => d.parameters.length) = some 1; decide +kernel)⟩⟩
def w_x_begins_30 (Q : Int32 → Sg → Prop) (s0 : Int32) (σ : Sg) : Prop := bz s0 ∧ (Q s0 σ)
theorem b_x_begins_30 {Δ : Ly} {G : Gm} {Q : Int32 → Sg → Prop} (cx : Cx Δ G mi_x_begins) : ∀ (s0 : Int32) (σ : Sg), w_x_begins_30 Q s0 σ → Y Δ G mi_x_begins (qI Q) noE 0 0 σ 30 [] [.int s0] := by
  intro s0 σ h
  unfold w_x_begins_30 at h
  obtain ⟨hb, h⟩ := h
  exact y_zret cx (pc := 30) rfl hb d_x_begins_30 (le_b rfl) (le_b rfl) h
def w_x_begins_25 (Q : Int32 → Sg → Prop) (σ : Sg) : Prop := w_x_begins_30 Q 1 σ
theorem b_x_begins_25 {Δ : Ly} {G : Gm} {Q : Int32 → Sg → Prop} (cx : Cx Δ G mi_x_begins) : ∀ (σ : Sg), w_x_begins_25 Q σ → Y Δ G mi_x_begins (qI Q) noE 0 0 σ 25 [] [] := by
  intro σ h
  unfold w_x_begins_25 at h
  refine y_iconst cx (pc := 25) ic_1 d_x_begins_25 ?_
  refine y_goto cx (pc := 26) (tgt := 30) d_x_begins_26 (by decide) ?_
  exact b_x_begins_30 cx 1 σ h
def w_x_begins (p1 : Int32) (σ : Sg) (Q : Int32 → Sg → Prop) : Prop := w_x_isVariable p1 σ (fun x1 σ2 => (¬ x1 = 0 → (w_x_begins_25 Q σ2)) ∧ (x1 = 0 → ((p1 = 64 → (w_x_begins_25 Q σ2)) ∧ (¬ p1 = 64 → ((p1 = 33 → (w_x_begins_25 Q σ2)) ∧ (¬ p1 = 33 → ((¬ p1 = 63 → (w_x_begins_30 Q 0 σ2)) ∧ (p1 = 63 → (w_x_begins_25 Q σ2)))))))))
theorem b_x_begins {Δ : Ly} {G : Gm} {Q : Int32 → Sg → Prop} (cx : Cx Δ G mi_x_begins) (p1 : Int32) (σ : Sg) (h : w_x_begins p1 σ Q) : Y Δ G mi_x_begins (qI Q) noE 0 0 σ 0 [(0, .int p1)] [] := by
  unfold w_x_begins at h
  refine y_iload_n cx (pc := 0) d_x_begins_0 rfl 0 rfl ?_
  refine y_sI cx (pc := 1) (st := []) [.int p1] (c_x_isVariable cx.fl Δ p1 _ _ h) mv_x_isVariable kw_36 rfl (le_b rfl) (le_b rfl) (le_b rfl) (le_b rfl) (le_b rfl) d_x_begins_1 (fun x1 σ2 h => ?_) (fun x σ2 h => yt_no h)
  refine y_if_ne cx (pc := 4) (tgt := 25) d_x_begins_4 (by decide) (fun hc => ?_) (fun hc => ?_)
  · replace h := h.1 hc
    refine y_sub [] rfl ?_
    exact b_x_begins_25 cx σ2 h
  · replace h := h.2 hc
    refine y_iload_n cx (pc := 7) d_x_begins_7 rfl 0 rfl ?_
    refine y_bipush cx (pc := 8) bp_64 d_x_begins_8 ?_
    refine y_icmp_eq cx (pc := 10) (tgt := 25) d_x_begins_10 (by decide) (fun hc => ?_) (fun hc => ?_)
    · replace h := h.1 hc
      refine y_sub [] rfl ?_
      exact b_x_begins_25 cx σ2 h
    · replace h := h.2 hc
      refine y_iload_n cx (pc := 13) d_x_begins_13 rfl 0 rfl ?_
      refine y_bipush cx (pc := 14) bp_33 d_x_begins_14 ?_
      refine y_icmp_eq cx (pc := 16) (tgt := 25) d_x_begins_16 (by decide) (fun hc => ?_) (fun hc => ?_)
      · replace h := h.1 hc
        refine y_sub [] rfl ?_
        exact b_x_begins_25 cx σ2 h
      · replace h := h.2 hc
        refine y_iload_n cx (pc := 19) d_x_begins_19 rfl 0 rfl ?_
        refine y_bipush cx (pc := 20) bp_63 d_x_begins_20 ?_
        refine y_icmp_ne cx (pc := 22) (tgt := 29) d_x_begins_22 (by decide) (fun hc => ?_) (fun hc => ?_)
        · replace h := h.1 hc
          refine y_iconst cx (pc := 29) ic_0 d_x_begins_29 ?_
          refine y_sub [] rfl ?_
          exact b_x_begins_30 cx 0 σ2 h
        · replace h := h.2 hc
          refine y_sub [] rfl ?_
          exact b_x_begins_25 cx σ2 h
theorem c_x_begins {l : Launch} (hfl : l.flags = flags0) (Δ : Ly) (p1 : Int32) (σ : Sg) (Q : Int32 → Sg → Prop) (h : w_x_begins p1 σ Q) : Ct l Δ mi_x_begins [.int p1] σ (qI Q) noE :=
  Ct.of hfl (by show plainFor ⟨"GuardedMoves", "begins", "(I)Z"⟩ = true; decide +kernel) rfl (le_b rfl) (fun G hl cx => b_x_begins cx p1 σ h)
def mi_x_readValue : Mi := ("GuardedMoves", prog_1_method_9_code, 6, [], none, 2, 53, 0, 0, ⟨"GuardedMoves", "readValue", "()V"⟩)
theorem d_x_readValue_0 : decode prog_1_method_9_code 0 = .ok (.aload_n 0, 1) := by decide +kernel
theorem d_x_readValue_1 : decode prog_1_method_9_code 1 = .ok (.invokevirtual 46, 3) := by decide +kernel
theorem d_x_readValue_4 : decode prog_1_method_9_code 4 = .ok (.istore_n 1, 1) := by decide +kernel
theorem d_x_readValue_5 : decode prog_1_method_9_code 5 = .ok (.aload_n 0, 1) := by decide +kernel
theorem d_x_readValue_6 : decode prog_1_method_9_code 6 = .ok (.iconst (-1), 1) := by decide +kernel
theorem d_x_readValue_7 : decode prog_1_method_9_code 7 = .ok (.putfield 53, 3) := by decide +kernel
theorem d_x_readValue_10 : decode prog_1_method_9_code 10 = .ok (.aload_n 0, 1) := by decide +kernel
theorem d_x_readValue_11 : decode prog_1_method_9_code 11 = .ok (.iconst 0, 1) := by decide +kernel
theorem d_x_readValue_12 : decode prog_1_method_9_code 12 = .ok (.putfield 56, 3) := by decide +kernel
theorem d_x_readValue_15 : decode prog_1_method_9_code 15 = .ok (.iload_n 1, 1) := by decide +kernel
theorem d_x_readValue_16 : decode prog_1_method_9_code 16 = .ok (.invokestatic 59, 3) := by decide +kernel
theorem d_x_readValue_19 : decode prog_1_method_9_code 19 = .ok (.ifCond .eq 22, 3) := by decide +kernel
theorem d_x_readValue_22 : decode prog_1_method_9_code 22 = .ok (.aload_n 0, 1) := by decide +kernel
theorem d_x_readValue_23 : decode prog_1_method_9_code 23 = .ok (.iload_n 1, 1) := by decide +kernel
theorem d_x_readValue_24 : decode prog_1_method_9_code 24 = .ok (.bipush 97, 2) := by decide +kernel
theorem d_x_readValue_26 : decode prog_1_method_9_code 26 = .ok (.isub, 1) := by decide +kernel
theorem d_x_readValue_27 : decode prog_1_method_9_code 27 = .ok (.putfield 53, 3) := by decide +kernel
theorem d_x_readValue_30 : decode prog_1_method_9_code 30 = .ok (.aload_n 0, 1) := by decide +kernel
theorem d_x_readValue_31 : decode prog_1_method_9_code 31 = .ok (.dup, 1) := by decide +kernel
theorem d_x_readValue_32 : decode prog_1_method_9_code 32 = .ok (.getfield 28, 3) := by decide +kernel
theorem d_x_readValue_35 : decode prog_1_method_9_code 35 = .ok (.iconst 1, 1) := by decide +kernel
theorem d_x_readValue_36 : decode prog_1_method_9_code 36 = .ok (.iadd, 1) := by decide +kernel
theorem d_x_readValue_37 : decode prog_1_method_9_code 37 = .ok (.putfield 28, 3) := by decide +kernel
theorem d_x_readValue_40 : decode prog_1_method_9_code 40 = .ok (.return_, 1) := by decide +kernel
theorem d_x_readValue_41 : decode prog_1_method_9_code 41 = .ok (.iload_n 1, 1) := by decide +kernel
theorem d_x_readValue_42 : decode prog_1_method_9_code 42 = .ok (.bipush 45, 2) := by decide +kernel
theorem d_x_readValue_44 : decode prog_1_method_9_code 44 = .ok (.if_icmp .ne 7, 3) := by decide +kernel
theorem d_x_readValue_47 : decode prog_1_method_9_code 47 = .ok (.iconst 1, 1) := by decide +kernel
theorem d_x_readValue_48 : decode prog_1_method_9_code 48 = .ok (.goto 4, 3) := by decide +kernel
theorem d_x_readValue_51 : decode prog_1_method_9_code 51 = .ok (.iconst 0, 1) := by decide +kernel
theorem d_x_readValue_52 : decode prog_1_method_9_code 52 = .ok (.istore_n 2, 1) := by decide +kernel
theorem d_x_readValue_53 : decode prog_1_method_9_code 53 = .ok (.aload_n 0, 1) := by decide +kernel
theorem d_x_readValue_54 : decode prog_1_method_9_code 54 = .ok (.dup, 1) := by decide +kernel
theorem d_x_readValue_55 : decode prog_1_method_9_code 55 = .ok (.getfield 28, 3) := by decide +kernel
theorem d_x_readValue_58 : decode prog_1_method_9_code 58 = .ok (.iload_n 2, 1) := by decide +kernel
theorem d_x_readValue_59 : decode prog_1_method_9_code 59 = .ok (.ifCond .eq 7, 3) := by decide +kernel
theorem d_x_readValue_62 : decode prog_1_method_9_code 62 = .ok (.iconst 1, 1) := by decide +kernel
theorem d_x_readValue_63 : decode prog_1_method_9_code 63 = .ok (.goto 4, 3) := by decide +kernel
theorem d_x_readValue_66 : decode prog_1_method_9_code 66 = .ok (.iconst 0, 1) := by decide +kernel
theorem d_x_readValue_67 : decode prog_1_method_9_code 67 = .ok (.iadd, 1) := by decide +kernel
theorem d_x_readValue_68 : decode prog_1_method_9_code 68 = .ok (.putfield 28, 3) := by decide +kernel
theorem d_x_readValue_71 : decode prog_1_method_9_code 71 = .ok (.aload_n 0, 1) := by decide +kernel
theorem d_x_readValue_72 : decode prog_1_method_9_code 72 = .ok (.invokevirtual 46, 3) := by decide +kernel
theorem d_x_readValue_75 : decode prog_1_method_9_code 75 = .ok (.i2l, 1) := by decide +kernel
theorem d_x_readValue_76 : decode prog_1_method_9_code 76 = .ok (.ldc2_w 63, 3) := by decide +kernel
theorem d_x_readValue_79 : decode prog_1_method_9_code 79 = .ok (.ldc2_w 65, 3) := by decide +kernel
theorem d_x_readValue_82 : decode prog_1_method_9_code 82 = .ok (.invokestatic 42, 3) := by decide +kernel
theorem d_x_readValue_85 : decode prog_1_method_9_code 85 = .ok (.ifCond .ne 13, 3) := by decide +kernel
theorem d_x_readValue_88 : decode prog_1_method_9_code 88 = .ok (.aload_n 0, 1) := by decide +kernel
theorem d_x_readValue_89 : decode prog_1_method_9_code 89 = .ok (.iconst 1, 1) := by decide +kernel
theorem d_x_readValue_90 : decode prog_1_method_9_code 90 = .ok (.aload_n 0, 1) := by decide +kernel
theorem d_x_readValue_91 : decode prog_1_method_9_code 91 = .ok (.getfield 28, 3) := by decide +kernel
theorem d_x_readValue_94 : decode prog_1_method_9_code 94 = .ok (.invokevirtual 50, 3) := by decide +kernel
theorem d_x_readValue_97 : decode prog_1_method_9_code 97 = .ok (.athrow, 1) := by decide +kernel
theorem d_x_readValue_98 : decode prog_1_method_9_code 98 = .ok (.aload_n 0, 1) := by decide +kernel
theorem d_x_readValue_99 : decode prog_1_method_9_code 99 = .ok (.getfield 28, 3) := by decide +kernel
theorem d_x_readValue_102 : decode prog_1_method_9_code 102 = .ok (.istore_n 3, 1) := by decide +kernel
theorem d_x_readValue_103 : decode prog_1_method_9_code 103 = .ok (.lconst 0, 1) := by decide +kernel
theorem d_x_readValue_104 : decode prog_1_method_9_code 104 = .ok (.lstore 4, 2) := by decide +kernel
theorem d_x_readValue_106 : decode prog_1_method_9_code 106 = .ok (.aload_n 0, 1) := by decide +kernel
theorem d_x_readValue_107 : decode prog_1_method_9_code 107 = .ok (.getfield 28, 3) := by decide +kernel
theorem d_x_readValue_110 : decode prog_1_method_9_code 110 = .ok (.aload_n 0, 1) := by decide +kernel
theorem d_x_readValue_111 : decode prog_1_method_9_code 111 = .ok (.getfield 31, 3) := by decide +kernel
theorem d_x_readValue_114 : decode prog_1_method_9_code 114 = .ok (.if_icmp .ge 67, 3) := by decide +kernel
theorem d_x_readValue_117 : decode prog_1_method_9_code 117 = .ok (.aload_n 0, 1) := by decide +kernel
theorem d_x_readValue_118 : decode prog_1_method_9_code 118 = .ok (.getfield 34, 3) := by decide +kernel
theorem d_x_readValue_121 : decode prog_1_method_9_code 121 = .ok (.aload_n 0, 1) := by decide +kernel
theorem d_x_readValue_122 : decode prog_1_method_9_code 122 = .ok (.getfield 28, 3) := by decide +kernel
theorem d_x_readValue_125 : decode prog_1_method_9_code 125 = .ok (.baload, 1) := by decide +kernel
theorem d_x_readValue_126 : decode prog_1_method_9_code 126 = .ok (.i2l, 1) := by decide +kernel
theorem d_x_readValue_127 : decode prog_1_method_9_code 127 = .ok (.ldc2_w 63, 3) := by decide +kernel
theorem d_x_readValue_130 : decode prog_1_method_9_code 130 = .ok (.ldc2_w 65, 3) := by decide +kernel
theorem d_x_readValue_133 : decode prog_1_method_9_code 133 = .ok (.invokestatic 42, 3) := by decide +kernel
theorem d_x_readValue_136 : decode prog_1_method_9_code 136 = .ok (.ifCond .eq 45, 3) := by decide +kernel
theorem d_x_readValue_139 : decode prog_1_method_9_code 139 = .ok (.ldc2_w 67, 3) := by decide +kernel
theorem d_x_readValue_142 : decode prog_1_method_9_code 142 = .ok (.lload 4, 2) := by decide +kernel
theorem d_x_readValue_144 : decode prog_1_method_9_code 144 = .ok (.lmul, 1) := by decide +kernel
theorem d_x_readValue_145 : decode prog_1_method_9_code 145 = .ok (.aload_n 0, 1) := by decide +kernel
theorem d_x_readValue_146 : decode prog_1_method_9_code 146 = .ok (.getfield 34, 3) := by decide +kernel
theorem d_x_readValue_149 : decode prog_1_method_9_code 149 = .ok (.aload_n 0, 1) := by decide +kernel
theorem d_x_readValue_150 : decode prog_1_method_9_code 150 = .ok (.getfield 28, 3) := by decide +kernel
theorem d_x_readValue_153 : decode prog_1_method_9_code 153 = .ok (.baload, 1) := by decide +kernel
theorem d_x_readValue_154 : decode prog_1_method_9_code 154 = .ok (.i2l, 1) := by decide +kernel
theorem d_x_readValue_155 : decode prog_1_method_9_code 155 = .ok (.ladd, 1) := by decide +kernel
theorem d_x_readValue_156 : decode prog_1_method_9_code 156 = .ok (.ldc2_w 63, 3) := by decide +kernel
theorem d_x_readValue_159 : decode prog_1_method_9_code 159 = .ok (.lsub, 1) := by decide +kernel
theorem d_x_readValue_160 : decode prog_1_method_9_code 160 = .ok (.ldc2_w 69, 3) := by decide +kernel
theorem d_x_readValue_163 : decode prog_1_method_9_code 163 = .ok (.invokestatic 71, 3) := by decide +kernel
theorem d_x_readValue_166 : decode prog_1_method_9_code 166 = .ok (.lstore 4, 2) := by decide +kernel
theorem d_x_readValue_168 : decode prog_1_method_9_code 168 = .ok (.aload_n 0, 1) := by decide +kernel
theorem d_x_readValue_169 : decode prog_1_method_9_code 169 = .ok (.dup, 1) := by decide +kernel
theorem d_x_readValue_170 : decode prog_1_method_9_code 170 = .ok (.getfield 28, 3) := by decide +kernel
theorem d_x_readValue_173 : decode prog_1_method_9_code 173 = .ok (.iconst 1, 1) := by decide +kernel
theorem d_x_readValue_174 : decode prog_1_method_9_code 174 = .ok (.iadd, 1) := by decide +kernel
theorem d_x_readValue_175 : decode prog_1_method_9_code 175 = .ok (.putfield 28, 3) := by decide +kernel
theorem d_x_readValue_178 : decode prog_1_method_9_code 178 = .ok (.goto (-72), 3) := by decide +kernel
theorem d_x_readValue_181 : decode prog_1_method_9_code 181 = .ok (.lload 4, 2) := by decide +kernel
theorem d_x_readValue_183 : decode prog_1_method_9_code 183 = .ok (.ldc2_w 79, 3) := by decide +kernel
theorem d_x_readValue_186 : decode prog_1_method_9_code 186 = .ok (.lcmp, 1) := by decide +kernel
theorem d_x_readValue_187 : decode prog_1_method_9_code 187 = .ok (.ifCond .le 10, 3) := by decide +kernel
theorem d_x_readValue_190 : decode prog_1_method_9_code 190 = .ok (.aload_n 0, 1) := by decide +kernel
theorem d_x_readValue_191 : decode prog_1_method_9_code 191 = .ok (.iconst 2, 1) := by decide +kernel
theorem d_x_readValue_192 : decode prog_1_method_9_code 192 = .ok (.iload_n 3, 1) := by decide +kernel
theorem d_x_readValue_193 : decode prog_1_method_9_code 193 = .ok (.invokevirtual 50, 3) := by decide +kernel
theorem d_x_readValue_196 : decode prog_1_method_9_code 196 = .ok (.athrow, 1) := by decide +kernel
theorem d_x_readValue_197 : decode prog_1_method_9_code 197 = .ok (.aload_n 0, 1) := by decide +kernel
theorem d_x_readValue_198 : decode prog_1_method_9_code 198 = .ok (.iload_n 2, 1) := by decide +kernel
theorem d_x_readValue_199 : decode prog_1_method_9_code 199 = .ok (.ifCond .eq 9, 3) := by decide +kernel
theorem d_x_readValue_202 : decode prog_1_method_9_code 202 = .ok (.lload 4, 2) := by decide +kernel
theorem d_x_readValue_204 : decode prog_1_method_9_code 204 = .ok (.lneg, 1) := by decide +kernel
theorem d_x_readValue_205 : decode prog_1_method_9_code 205 = .ok (.goto 5, 3) := by decide +kernel
theorem d_x_readValue_208 : decode prog_1_method_9_code 208 = .ok (.lload 4, 2) := by decide +kernel
theorem d_x_readValue_210 : decode prog_1_method_9_code 210 = .ok (.l2i, 1) := by decide +kernel
theorem d_x_readValue_211 : decode prog_1_method_9_code 211 = .ok (.putfield 56, 3) := by decide +kernel
theorem d_x_readValue_214 : decode prog_1_method_9_code 214 = .ok (.return_, 1) := by decide +kernel
theorem kc_x_readValue : Kw (m_w (mi_x_readValue )) := ⟨(in_t1 (List.mem_of_getElem? (i := 59) rfl)), rfl⟩
theorem mv_x_readValue : MV (mi_x_readValue ) "GuardedMoves" 0 := ⟨kw_58, ks_5, kc_x_readValue , kw_1, ⟨⟨(by show ("GuardedMoves" : String) ≠ "java/lang/invoke/MethodHandle"; decide), (by show ("GuardedMoves" : String) ≠ "java/lang/invoke/VarHandle"; decide)⟩, (by show (parseMethodDescriptor "()V").map (fun d => d.parameters.length) = some 0; decide +kernel)⟩⟩
def w_x_readValue_210 (Q : Sg → Prop) (E : Nat → Sg → Prop) (s0 : Int64) (σ : Sg) : Prop := Q (up σ 0 8 (s0.toInt32))
theorem b_x_readValue_210 {Δ : Ly} {G : Gm} {Q : Sg → Prop} {E : Nat → Sg → Prop} (cx : Cx Δ G mi_x_readValue) : ∀ (s0 : Int64) (σ : Sg), w_x_readValue_210 Q E s0 σ → Y Δ G mi_x_readValue (qV Q) E 0 0 σ 210 [] [.long s0, .ref (Δ.1 0)] := by
  intro s0 σ h
  unfold w_x_readValue_210 at h
  refine y_l2i cx (pc := 210) d_x_readValue_210 ?_
  refine y_put cx (pc := 211) (j := 8) (ty := .int) (le_b rfl) ck_GM kw_405 (le_b rfl) rfl (t_GM_ok 8 (le_b rfl)) rfl rfl (pf_0_8 Δ) d_x_readValue_211 ?_
  exact y_vret cx (pc := 214) rfl d_x_readValue_214 (le_b rfl) (le_b rfl) h
def w_x_readValue_181 (Q : Sg → Prop) (E : Nat → Sg → Prop) (v2 : Int32) (v3 : Int32) (v4 : Int64) (σ : Sg) : Prop := (v4 ≤ 2147483647 → ((v2 = 0 → (w_x_readValue_210 Q E v4 σ)) ∧ (¬ v2 = 0 → (w_x_readValue_210 Q E (-v4) σ)))) ∧ (¬ v4 ≤ 2147483647 → (w_x_bad 2 v3 σ (fun σ1 => E 0 σ1)))
theorem b_x_readValue_181 {Δ : Ly} {G : Gm} {Q : Sg → Prop} {E : Nat → Sg → Prop} (cx : Cx Δ G mi_x_readValue) : ∀ (v2 : Int32) (v3 : Int32) (v4 : Int64) (σ : Sg), w_x_readValue_181 Q E v2 v3 v4 σ → Y Δ G mi_x_readValue (qV Q) E 0 0 σ 181 [(0, .ref (Δ.1 0)), (2, .int v2), (3, .int v3), (4, .long v4)] [] := by
  intro v2 v3 v4 σ h
  unfold w_x_readValue_181 at h
  refine y_lload cx (pc := 181) d_x_readValue_181 3 rfl ?_
  refine y_ldc2 cx (pc := 183) kw_67 d_x_readValue_183 ?_
  refine y_lcmp_le cx (pc := 186) (tgt := 197) d_x_readValue_186 d_x_readValue_187 (by decide) (fun hc => ?_) (fun hc => ?_)
  · replace h := h.1 hc
    refine y_aload_n cx (pc := 197) d_x_readValue_197 rfl 0 rfl ?_
    refine y_iload_n cx (pc := 198) d_x_readValue_198 rfl 1 rfl ?_
    refine y_if_eq cx (pc := 199) (tgt := 208) d_x_readValue_199 (by decide) (fun hc => ?_) (fun hc => ?_)
    · replace h := h.1 hc
      refine y_lload cx (pc := 208) d_x_readValue_208 3 rfl ?_
      refine y_sub [] rfl ?_
      exact b_x_readValue_210 cx v4 σ h
    · replace h := h.2 hc
      refine y_lload cx (pc := 202) d_x_readValue_202 3 rfl ?_
      refine y_lneg cx (pc := 204) d_x_readValue_204 ?_
      refine y_goto cx (pc := 205) (tgt := 210) d_x_readValue_205 (by decide) ?_
      refine y_sub [] rfl ?_
      exact b_x_readValue_210 cx (-v4) σ h
  · replace h := h.2 hc
    refine y_aload_n cx (pc := 190) d_x_readValue_190 rfl 0 rfl ?_
    refine y_iconst cx (pc := 191) ic_2 d_x_readValue_191 ?_
    refine y_iload_n cx (pc := 192) d_x_readValue_192 rfl 2 rfl ?_
    refine y_vR cx (pc := 193) (st := []) [.int 2, .int v3] (c_x_bad cx.fl Δ 2 v3 _ _ h) mv_x_bad kw_44 (oc_0 Δ) ck_GM rfl (le_b rfl) (le_b rfl) (le_b rfl) (le_b rfl) (le_b rfl) d_x_readValue_193 (fun σ1 h => ?_) (fun x σ1 h => yt_no h)
    refine y_athrow cx (pc := 196) (x := 0) d_x_readValue_196 (fun H hP => ex_bad cx hP) ?_
    exact t_out cx rfl (le_b rfl) (le_b rfl) h
def w_x_readValue_106 (Q : Sg → Prop) (E : Nat → Sg → Prop) : Nat → Int32 → Int32 → Int64 → Sg → Prop
  | 0, _, _, _, _ => False
  | n + 1, v2, v3, v4, σ => ((σ 0 4) ≤ (σ 0 5) → (w_x_readValue_181 Q E v2 v3 v4 σ)) ∧ (¬ (σ 0 4) ≤ (σ 0 5) → (vp_in (σ 0 5) 600 ∧ (w_x_within ((σ 5 ((σ 0 5).toNatClampNeg)).toInt64) 48 57 σ (fun x1 σ2 => (x1 = 0 → (w_x_readValue_181 Q E v2 v3 v4 σ2)) ∧ (¬ x1 = 0 → (vp_in (σ2 0 5) 600 ∧ (w_j_min_JJ (((10 * v4) + ((σ2 5 ((σ2 0 5).toNatClampNeg)).toInt64)) - 48) 1099511627776 σ2 (fun x3 σ4 => (w_x_readValue_106 Q E n) v2 v3 x3 (up σ4 0 5 ((σ4 0 5) + 1))))))))))
theorem b_x_readValue_106 {Δ : Ly} {G : Gm} {Q : Sg → Prop} {E : Nat → Sg → Prop} (cx : Cx Δ G mi_x_readValue) : ∀ (n : Nat) (v2 : Int32) (v3 : Int32) (v4 : Int64) (σ : Sg), w_x_readValue_106 Q E n v2 v3 v4 σ → Y Δ G mi_x_readValue (qV Q) E 0 0 σ 106 [(0, .ref (Δ.1 0)), (2, .int v2), (3, .int v3), (4, .long v4)] [] := by
  intro n
  induction n with
  | zero => intro v2 v3 v4 σ h; exact h.elim
  | succ n ih =>
    intro v2 v3 v4 σ h
    unfold w_x_readValue_106 at h
    refine y_aload_n cx (pc := 106) d_x_readValue_106 rfl 0 rfl ?_
    refine y_get cx (pc := 107) (j := 5) (v := .int (σ 0 5)) (le_b rfl) ck_GM kw_402 (le_b rfl) (gf_0_5 Δ _) d_x_readValue_107 ?_
    refine y_aload_n cx (pc := 110) d_x_readValue_110 rfl 0 rfl ?_
    refine y_get cx (pc := 111) (j := 4) (v := .int (σ 0 4)) (le_b rfl) ck_GM kw_401 (le_b rfl) (gf_0_4 Δ _) d_x_readValue_111 ?_
    refine y_icmp_ge cx (pc := 114) (tgt := 181) d_x_readValue_114 (by decide) (fun hc => ?_) (fun hc => ?_)
    · replace h := h.1 hc
      exact b_x_readValue_181 cx v2 v3 v4 σ h
    · replace h := h.2 hc
      refine y_aload_n cx (pc := 117) d_x_readValue_117 rfl 0 rfl ?_
      refine y_get cx (pc := 118) (j := 3) (v := .ref (Δ.1 5)) (le_b rfl) ck_GM kw_400 (le_b rfl) (gf_0_3 Δ _) d_x_readValue_118 ?_
      refine y_aload_n cx (pc := 121) d_x_readValue_121 rfl 0 rfl ?_
      refine y_get cx (pc := 122) (j := 5) (v := .int (σ 0 5)) (le_b rfl) ck_GM kw_402 (le_b rfl) (gf_0_5 Δ _) d_x_readValue_122 ?_
      obtain ⟨h0, h⟩ := h
      refine y_bald cx (pc := 125) ⟨(le_b rfl), fun _ => rfl⟩ h0 d_x_readValue_125 ?_
      refine y_i2l cx (pc := 126) d_x_readValue_126 ?_
      refine y_ldc2 cx (pc := 127) kw_60 d_x_readValue_127 ?_
      refine y_ldc2 cx (pc := 130) kw_61 d_x_readValue_130 ?_
      refine y_sI cx (pc := 133) (st := []) [.long ((σ 5 ((σ 0 5).toNatClampNeg)).toInt64), .long 48, .long 57] (c_x_within cx.fl Δ ((σ 5 ((σ 0 5).toNatClampNeg)).toInt64) 48 57 _ _ h) mv_x_within kw_41 rfl (le_b rfl) (le_b rfl) (le_b rfl) (le_b rfl) (le_b rfl) d_x_readValue_133 (fun x1 σ2 h => ?_) (fun x σ2 h => yt_no h)
      refine y_if_eq cx (pc := 136) (tgt := 181) d_x_readValue_136 (by decide) (fun hc => ?_) (fun hc => ?_)
      · replace h := h.1 hc
        exact b_x_readValue_181 cx v2 v3 v4 σ2 h
      · replace h := h.2 hc
        refine y_ldc2 cx (pc := 139) kw_62 d_x_readValue_139 ?_
        refine y_lload cx (pc := 142) d_x_readValue_142 3 rfl ?_
        refine y_lmul cx (pc := 144) d_x_readValue_144 ?_
        refine y_aload_n cx (pc := 145) d_x_readValue_145 rfl 0 rfl ?_
        refine y_get cx (pc := 146) (j := 3) (v := .ref (Δ.1 5)) (le_b rfl) ck_GM kw_400 (le_b rfl) (gf_0_3 Δ _) d_x_readValue_146 ?_
        refine y_aload_n cx (pc := 149) d_x_readValue_149 rfl 0 rfl ?_
        refine y_get cx (pc := 150) (j := 5) (v := .int (σ2 0 5)) (le_b rfl) ck_GM kw_402 (le_b rfl) (gf_0_5 Δ _) d_x_readValue_150 ?_
        obtain ⟨h0, h⟩ := h
        refine y_bald cx (pc := 153) ⟨(le_b rfl), fun _ => rfl⟩ h0 d_x_readValue_153 ?_
        refine y_i2l cx (pc := 154) d_x_readValue_154 ?_
        refine y_ladd cx (pc := 155) d_x_readValue_155 ?_
        refine y_ldc2 cx (pc := 156) kw_60 d_x_readValue_156 ?_
        refine y_lsub cx (pc := 159) d_x_readValue_159 ?_
        refine y_ldc2 cx (pc := 160) kw_63 d_x_readValue_160 ?_
        refine y_sL cx (pc := 163) (st := []) [.long (((10 * v4) + ((σ2 5 ((σ2 0 5).toNatClampNeg)).toInt64)) - 48), .long 1099511627776] (c_j_min_JJ cx.fl Δ (((10 * v4) + ((σ2 5 ((σ2 0 5).toNatClampNeg)).toInt64)) - 48) 1099511627776 _ _ h) mv_j_min_JJ kw_64 rfl (le_b rfl) (le_b rfl) (le_b rfl) (le_b rfl) (le_b rfl) d_x_readValue_163 (fun x3 σ4 h => ?_) (fun x σ4 h => yt_no h)
        refine y_lstore (lv' := [(4, .long x3), (0, .ref (Δ.1 0)), (2, .int v2), (3, .int v3)]) cx (pc := 166) d_x_readValue_166 (le_b rfl) rfl ?_
        refine y_aload_n cx (pc := 168) d_x_readValue_168 rfl 1 rfl ?_
        refine y_dup cx (pc := 169) rfl d_x_readValue_169 ?_
        refine y_get cx (pc := 170) (j := 5) (v := .int (σ4 0 5)) (le_b rfl) ck_GM kw_402 (le_b rfl) (gf_0_5 Δ _) d_x_readValue_170 ?_
        refine y_iconst cx (pc := 173) ic_1 d_x_readValue_173 ?_
        refine y_iadd cx (pc := 174) d_x_readValue_174 ?_
        refine y_put cx (pc := 175) (j := 5) (ty := .int) (le_b rfl) ck_GM kw_402 (le_b rfl) rfl (t_GM_ok 5 (le_b rfl)) rfl rfl (pf_0_5 Δ) d_x_readValue_175 ?_
        refine y_goto cx (pc := 178) (tgt := 106) d_x_readValue_178 (by decide) ?_
        refine y_sub [1, 2, 3, 0] rfl ?_
        exact ih v2 v3 x3 (up σ4 0 5 ((σ4 0 5) + 1)) h
def w_x_readValue_67 (Q : Sg → Prop) (E : Nat → Sg → Prop) (v2 : Int32) (s0 : Int32) (s1 : Int32) (σ : Sg) : Prop := w_x_here (up σ 0 5 (s1 + s0)) (fun x1 σ2 => w_x_within (x1.toInt64) 48 57 σ2 (fun x3 σ4 => (¬ x3 = 0 → (∀ x5 : Int32, x5 = σ4 0 5 → (∃ q106, w_x_readValue_106 Q E q106 v2 x5 0 σ4))) ∧ (x3 = 0 → (w_x_bad 1 (σ4 0 5) σ4 (fun σ6 => E 0 σ6)))))
theorem b_x_readValue_67 {Δ : Ly} {G : Gm} {Q : Sg → Prop} {E : Nat → Sg → Prop} (cx : Cx Δ G mi_x_readValue) : ∀ (v2 : Int32) (s0 : Int32) (s1 : Int32) (σ : Sg), w_x_readValue_67 Q E v2 s0 s1 σ → Y Δ G mi_x_readValue (qV Q) E 0 0 σ 67 [(0, .ref (Δ.1 0)), (2, .int v2)] [.int s0, .int s1, .ref (Δ.1 0)] := by
  intro v2 s0 s1 σ h
  unfold w_x_readValue_67 at h
  refine y_iadd cx (pc := 67) d_x_readValue_67 ?_
  refine y_put cx (pc := 68) (j := 5) (ty := .int) (le_b rfl) ck_GM kw_402 (le_b rfl) rfl (t_GM_ok 5 (le_b rfl)) rfl rfl (pf_0_5 Δ) d_x_readValue_68 ?_
  refine y_aload_n cx (pc := 71) d_x_readValue_71 rfl 0 rfl ?_
  refine y_vI cx (pc := 72) (st := []) [] (c_x_here cx.fl Δ _ _ h) mv_x_here kw_29 (oc_0 Δ) ck_GM rfl (le_b rfl) (le_b rfl) (le_b rfl) (le_b rfl) (le_b rfl) d_x_readValue_72 (fun x1 σ2 h => ?_) (fun x σ2 h => yt_no h)
  refine y_i2l cx (pc := 75) d_x_readValue_75 ?_
  refine y_ldc2 cx (pc := 76) kw_60 d_x_readValue_76 ?_
  refine y_ldc2 cx (pc := 79) kw_61 d_x_readValue_79 ?_
  refine y_sI cx (pc := 82) (st := []) [.long (x1.toInt64), .long 48, .long 57] (c_x_within cx.fl Δ (x1.toInt64) 48 57 _ _ h) mv_x_within kw_41 rfl (le_b rfl) (le_b rfl) (le_b rfl) (le_b rfl) (le_b rfl) d_x_readValue_82 (fun x3 σ4 h => ?_) (fun x σ4 h => yt_no h)
  refine y_if_ne cx (pc := 85) (tgt := 98) d_x_readValue_85 (by decide) (fun hc => ?_) (fun hc => ?_)
  · replace h := h.1 hc
    refine y_aload_n cx (pc := 98) d_x_readValue_98 rfl 0 rfl ?_
    refine y_get cx (pc := 99) (j := 5) (v := .int (σ4 0 5)) (le_b rfl) ck_GM kw_402 (le_b rfl) (gf_0_5 Δ _) d_x_readValue_99 ?_
    refine y_topi (fun x5 ex5 => ?_)
    replace h := h x5 ex5
    refine y_istore_n (lv' := [(3, .int x5), (0, .ref (Δ.1 0)), (2, .int v2)]) cx (pc := 102) d_x_readValue_102 rfl (le_b rfl) rfl ?_
    refine y_lconst cx (pc := 103) (v := 0) lc_0 d_x_readValue_103 ?_
    refine y_lstore (lv' := [(4, .long 0), (3, .int x5), (0, .ref (Δ.1 0)), (2, .int v2)]) cx (pc := 104) d_x_readValue_104 (le_b rfl) rfl ?_
    refine y_sub [2, 3, 1, 0] rfl ?_
    obtain ⟨n, h⟩ := h
    exact b_x_readValue_106 cx n v2 x5 0 σ4 h
  · replace h := h.2 hc
    refine y_aload_n cx (pc := 88) d_x_readValue_88 rfl 0 rfl ?_
    refine y_iconst cx (pc := 89) ic_1 d_x_readValue_89 ?_
    refine y_aload_n cx (pc := 90) d_x_readValue_90 rfl 0 rfl ?_
    refine y_get cx (pc := 91) (j := 5) (v := .int (σ4 0 5)) (le_b rfl) ck_GM kw_402 (le_b rfl) (gf_0_5 Δ _) d_x_readValue_91 ?_
    refine y_vR cx (pc := 94) (st := []) [.int 1, .int (σ4 0 5)] (c_x_bad cx.fl Δ 1 (σ4 0 5) _ _ h) mv_x_bad kw_44 (oc_0 Δ) ck_GM rfl (le_b rfl) (le_b rfl) (le_b rfl) (le_b rfl) (le_b rfl) d_x_readValue_94 (fun σ6 h => ?_) (fun x σ6 h => yt_no h)
    refine y_athrow cx (pc := 97) (x := 0) d_x_readValue_97 (fun H hP => ex_bad cx hP) ?_
    exact t_out cx rfl (le_b rfl) (le_b rfl) h
def w_x_readValue_52 (Q : Sg → Prop) (E : Nat → Sg → Prop) (s0 : Int32) (σ : Sg) : Prop := (s0 = 0 → (w_x_readValue_67 Q E s0 0 (σ 0 5) σ)) ∧ (¬ s0 = 0 → (w_x_readValue_67 Q E s0 1 (σ 0 5) σ))
theorem b_x_readValue_52 {Δ : Ly} {G : Gm} {Q : Sg → Prop} {E : Nat → Sg → Prop} (cx : Cx Δ G mi_x_readValue) : ∀ (s0 : Int32) (σ : Sg), w_x_readValue_52 Q E s0 σ → Y Δ G mi_x_readValue (qV Q) E 0 0 σ 52 [(0, .ref (Δ.1 0))] [.int s0] := by
  intro s0 σ h
  unfold w_x_readValue_52 at h
  refine y_istore_n (lv' := [(2, .int s0), (0, .ref (Δ.1 0))]) cx (pc := 52) d_x_readValue_52 rfl (le_b rfl) rfl ?_
  refine y_aload_n cx (pc := 53) d_x_readValue_53 rfl 1 rfl ?_
  refine y_dup cx (pc := 54) rfl d_x_readValue_54 ?_
  refine y_get cx (pc := 55) (j := 5) (v := .int (σ 0 5)) (le_b rfl) ck_GM kw_402 (le_b rfl) (gf_0_5 Δ _) d_x_readValue_55 ?_
  refine y_iload_n cx (pc := 58) d_x_readValue_58 rfl 0 rfl ?_
  refine y_if_eq cx (pc := 59) (tgt := 66) d_x_readValue_59 (by decide) (fun hc => ?_) (fun hc => ?_)
  · replace h := h.1 hc
    refine y_iconst cx (pc := 66) ic_0 d_x_readValue_66 ?_
    refine y_sub [1, 0] rfl ?_
    exact b_x_readValue_67 cx s0 0 (σ 0 5) σ h
  · replace h := h.2 hc
    refine y_iconst cx (pc := 62) ic_1 d_x_readValue_62 ?_
    refine y_goto cx (pc := 63) (tgt := 67) d_x_readValue_63 (by decide) ?_
    refine y_sub [1, 0] rfl ?_
    exact b_x_readValue_67 cx s0 1 (σ 0 5) σ h
def w_x_readValue (σ : Sg) (Q : Sg → Prop) (E : Nat → Sg → Prop) : Prop := w_x_here σ (fun x1 σ2 => w_x_isVariable x1 (up (up σ2 0 7 (-1)) 0 8 0) (fun x3 σ4 => (x3 = 0 → ((¬ x1 = 45 → (w_x_readValue_52 Q E 0 σ4)) ∧ (x1 = 45 → (w_x_readValue_52 Q E 1 σ4)))) ∧ (¬ x3 = 0 → (Q (up (up σ4 0 7 (x1 - 97)) 0 5 ((σ4 0 5) + 1))))))
theorem b_x_readValue {Δ : Ly} {G : Gm} {Q : Sg → Prop} {E : Nat → Sg → Prop} (cx : Cx Δ G mi_x_readValue) (σ : Sg) (h : w_x_readValue σ Q E) : Y Δ G mi_x_readValue (qV Q) E 0 0 σ 0 [(0, .ref (Δ.1 0))] [] := by
  unfold w_x_readValue at h
  refine y_aload_n cx (pc := 0) d_x_readValue_0 rfl 0 rfl ?_
  refine y_vI cx (pc := 1) (st := []) [] (c_x_here cx.fl Δ _ _ h) mv_x_here kw_29 (oc_0 Δ) ck_GM rfl (le_b rfl) (le_b rfl) (le_b rfl) (le_b rfl) (le_b rfl) d_x_readValue_1 (fun x1 σ2 h => ?_) (fun x σ2 h => yt_no h)
  refine y_istore_n (lv' := [(1, .int x1), (0, .ref (Δ.1 0))]) cx (pc := 4) d_x_readValue_4 rfl (le_b rfl) rfl ?_
  refine y_aload_n cx (pc := 5) d_x_readValue_5 rfl 1 rfl ?_
  refine y_iconst cx (pc := 6) ic_m1 d_x_readValue_6 ?_
  refine y_put cx (pc := 7) (j := 7) (ty := .int) (le_b rfl) ck_GM kw_404 (le_b rfl) rfl (t_GM_ok 7 (le_b rfl)) rfl rfl (pf_0_7 Δ) d_x_readValue_7 ?_
  refine y_aload_n cx (pc := 10) d_x_readValue_10 rfl 1 rfl ?_
  refine y_iconst cx (pc := 11) ic_0 d_x_readValue_11 ?_
  refine y_put cx (pc := 12) (j := 8) (ty := .int) (le_b rfl) ck_GM kw_405 (le_b rfl) rfl (t_GM_ok 8 (le_b rfl)) rfl rfl (pf_0_8 Δ) d_x_readValue_12 ?_
  refine y_iload_n cx (pc := 15) d_x_readValue_15 rfl 0 rfl ?_
  refine y_sI cx (pc := 16) (st := []) [.int x1] (c_x_isVariable cx.fl Δ x1 _ _ h) mv_x_isVariable kw_36 rfl (le_b rfl) (le_b rfl) (le_b rfl) (le_b rfl) (le_b rfl) d_x_readValue_16 (fun x3 σ4 h => ?_) (fun x σ4 h => yt_no h)
  refine y_if_eq cx (pc := 19) (tgt := 41) d_x_readValue_19 (by decide) (fun hc => ?_) (fun hc => ?_)
  · replace h := h.1 hc
    refine y_iload_n cx (pc := 41) d_x_readValue_41 rfl 0 rfl ?_
    refine y_bipush cx (pc := 42) bp_45 d_x_readValue_42 ?_
    refine y_icmp_ne cx (pc := 44) (tgt := 51) d_x_readValue_44 (by decide) (fun hc => ?_) (fun hc => ?_)
    · replace h := h.1 hc
      refine y_iconst cx (pc := 51) ic_0 d_x_readValue_51 ?_
      refine y_sub [1] rfl ?_
      exact b_x_readValue_52 cx 0 σ4 h
    · replace h := h.2 hc
      refine y_iconst cx (pc := 47) ic_1 d_x_readValue_47 ?_
      refine y_goto cx (pc := 48) (tgt := 52) d_x_readValue_48 (by decide) ?_
      refine y_sub [1] rfl ?_
      exact b_x_readValue_52 cx 1 σ4 h
  · replace h := h.2 hc
    refine y_aload_n cx (pc := 22) d_x_readValue_22 rfl 1 rfl ?_
    refine y_iload_n cx (pc := 23) d_x_readValue_23 rfl 0 rfl ?_
    refine y_bipush cx (pc := 24) bp_97 d_x_readValue_24 ?_
    refine y_isub cx (pc := 26) d_x_readValue_26 ?_
    refine y_put cx (pc := 27) (j := 7) (ty := .int) (le_b rfl) ck_GM kw_404 (le_b rfl) rfl (t_GM_ok 7 (le_b rfl)) rfl rfl (pf_0_7 Δ) d_x_readValue_27 ?_
    refine y_aload_n cx (pc := 30) d_x_readValue_30 rfl 1 rfl ?_
    refine y_dup cx (pc := 31) rfl d_x_readValue_31 ?_
    refine y_get cx (pc := 32) (j := 5) (v := .int (σ4 0 5)) (le_b rfl) ck_GM kw_402 (le_b rfl) (gf_0_5 Δ _) d_x_readValue_32 ?_
    refine y_iconst cx (pc := 35) ic_1 d_x_readValue_35 ?_
    refine y_iadd cx (pc := 36) d_x_readValue_36 ?_
    refine y_put cx (pc := 37) (j := 5) (ty := .int) (le_b rfl) ck_GM kw_402 (le_b rfl) rfl (t_GM_ok 5 (le_b rfl)) rfl rfl (pf_0_5 Δ) d_x_readValue_37 ?_
    exact y_vret cx (pc := 40) rfl d_x_readValue_40 (le_b rfl) (le_b rfl) h
theorem c_x_readValue {l : Launch} (hfl : l.flags = flags0) (Δ : Ly) (σ : Sg) (Q : Sg → Prop) (E : Nat → Sg → Prop) (h : w_x_readValue σ Q E) : Ct l Δ mi_x_readValue [.ref (Δ.1 0)] σ (qV Q) E :=
  Ct.of hfl (by show plainFor ⟨"GuardedMoves", "readValue", "()V"⟩ = true; decide +kernel) rfl (le_b rfl) (fun G hl cx => b_x_readValue cx σ h)
def mi_x_takeFirst : Mi := ("GuardedMoves", prog_1_method_10_code, 2, [], none, 3, 82, 0, 0, ⟨"GuardedMoves", "takeFirst", "(I)V"⟩)
theorem d_x_takeFirst_0 : decode prog_1_method_10_code 0 = .ok (.aload_n 0, 1) := by decide +kernel
theorem d_x_takeFirst_1 : decode prog_1_method_10_code 1 = .ok (.invokevirtual 81, 3) := by decide +kernel
theorem d_x_takeFirst_4 : decode prog_1_method_10_code 4 = .ok (.aload_n 0, 1) := by decide +kernel
theorem d_x_takeFirst_5 : decode prog_1_method_10_code 5 = .ok (.getfield 84, 3) := by decide +kernel
theorem d_x_takeFirst_8 : decode prog_1_method_10_code 8 = .ok (.getfield 88, 3) := by decide +kernel
theorem d_x_takeFirst_11 : decode prog_1_method_10_code 11 = .ok (.iload_n 1, 1) := by decide +kernel
theorem d_x_takeFirst_12 : decode prog_1_method_10_code 12 = .ok (.aload_n 0, 1) := by decide +kernel
theorem d_x_takeFirst_13 : decode prog_1_method_10_code 13 = .ok (.getfield 53, 3) := by decide +kernel
theorem d_x_takeFirst_16 : decode prog_1_method_10_code 16 = .ok (.iastore, 1) := by decide +kernel
theorem d_x_takeFirst_17 : decode prog_1_method_10_code 17 = .ok (.aload_n 0, 1) := by decide +kernel
theorem d_x_takeFirst_18 : decode prog_1_method_10_code 18 = .ok (.getfield 84, 3) := by decide +kernel
theorem d_x_takeFirst_21 : decode prog_1_method_10_code 21 = .ok (.getfield 94, 3) := by decide +kernel
theorem d_x_takeFirst_24 : decode prog_1_method_10_code 24 = .ok (.iload_n 1, 1) := by decide +kernel
theorem d_x_takeFirst_25 : decode prog_1_method_10_code 25 = .ok (.aload_n 0, 1) := by decide +kernel
theorem d_x_takeFirst_26 : decode prog_1_method_10_code 26 = .ok (.getfield 56, 3) := by decide +kernel
theorem d_x_takeFirst_29 : decode prog_1_method_10_code 29 = .ok (.iastore, 1) := by decide +kernel
theorem d_x_takeFirst_30 : decode prog_1_method_10_code 30 = .ok (.return_, 1) := by decide +kernel
theorem kc_x_takeFirst : Kw (m_w (mi_x_takeFirst )) := ⟨(in_t1 (List.mem_of_getElem? (i := 55) rfl)), rfl⟩
theorem mv_x_takeFirst : MV (mi_x_takeFirst ) "GuardedMoves" 1 := ⟨kw_54, ks_4, kc_x_takeFirst , kw_1, ⟨⟨(by show ("GuardedMoves" : String) ≠ "java/lang/invoke/MethodHandle"; decide), (by show ("GuardedMoves" : String) ≠ "java/lang/invoke/VarHandle"; decide)⟩, (by show (parseMethodDescriptor "(I)V").map (fun d => d.parameters.length) = some 1; decide +kernel)⟩⟩
def w_x_takeFirst (p1 : Int32) (σ : Sg) (Q : Sg → Prop) (E : Nat → Sg → Prop) : Prop := w_x_readValue σ (fun σ1 => vp_in p1 60 ∧ (vp_in p1 60 ∧ (Q (up (up σ1 51 (p1.toNatClampNeg) (σ1 0 7)) 52 (p1.toNatClampNeg) (σ1 0 8))))) E
theorem b_x_takeFirst {Δ : Ly} {G : Gm} {Q : Sg → Prop} {E : Nat → Sg → Prop} (cx : Cx Δ G mi_x_takeFirst) (p1 : Int32) (σ : Sg) (h : w_x_takeFirst p1 σ Q E) : Y Δ G mi_x_takeFirst (qV Q) E 0 0 σ 0 [(0, .ref (Δ.1 0)), (1, .int p1)] [] := by
  unfold w_x_takeFirst at h
  refine y_aload_n cx (pc := 0) d_x_takeFirst_0 rfl 0 rfl ?_
  refine y_vV cx (pc := 1) (st := []) [] (c_x_readValue cx.fl Δ _ _ _ h) mv_x_readValue kw_56 (oc_0 Δ) ck_GM rfl (le_b rfl) (le_b rfl) (le_b rfl) (le_b rfl) (le_b rfl) d_x_takeFirst_1 (fun σ1 h => ?_) (fun x σ1 h => ?_)
  ·
    refine y_aload_n cx (pc := 4) d_x_takeFirst_4 rfl 0 rfl ?_
    refine y_get cx (pc := 5) (j := 1) (v := .ref (Δ.1 2)) (le_b rfl) ck_GM kw_398 (le_b rfl) (gf_0_1 Δ _) d_x_takeFirst_5 ?_
    refine y_getN cx (pc := 8) (j := 5) (v := .ref (Δ.1 51)) (le_b rfl) ck_Tx kw_266 (le_b rfl) (gf_2_5 Δ _) d_x_takeFirst_8 ?_
    refine y_iload_n cx (pc := 11) d_x_takeFirst_11 rfl 1 rfl ?_
    refine y_aload_n cx (pc := 12) d_x_takeFirst_12 rfl 0 rfl ?_
    refine y_get cx (pc := 13) (j := 7) (v := .int (σ1 0 7)) (le_b rfl) ck_GM kw_404 (le_b rfl) (gf_0_7 Δ _) d_x_takeFirst_13 ?_
    obtain ⟨h0, h⟩ := h
    refine y_iast cx (pc := 16) ⟨(le_b rfl), fun _ => rfl⟩ h0 d_x_takeFirst_16 ?_
    refine y_aload_n cx (pc := 17) d_x_takeFirst_17 rfl 0 rfl ?_
    refine y_get cx (pc := 18) (j := 1) (v := .ref (Δ.1 2)) (le_b rfl) ck_GM kw_398 (le_b rfl) (gf_0_1 Δ _) d_x_takeFirst_18 ?_
    refine y_getN cx (pc := 21) (j := 6) (v := .ref (Δ.1 52)) (le_b rfl) ck_Tx kw_268 (le_b rfl) (gf_2_6 Δ _) d_x_takeFirst_21 ?_
    refine y_iload_n cx (pc := 24) d_x_takeFirst_24 rfl 1 rfl ?_
    refine y_aload_n cx (pc := 25) d_x_takeFirst_25 rfl 0 rfl ?_
    refine y_get cx (pc := 26) (j := 8) (v := .int (σ1 0 8)) (le_b rfl) ck_GM kw_405 (le_b rfl) (gf_0_8 Δ _) d_x_takeFirst_26 ?_
    obtain ⟨h0, h⟩ := h
    refine y_iast cx (pc := 29) ⟨(le_b rfl), fun _ => rfl⟩ h0 d_x_takeFirst_29 ?_
    exact y_vret cx (pc := 30) rfl d_x_takeFirst_30 (le_b rfl) (le_b rfl) h
  ·
    exact t_out cx rfl (le_b rfl) (le_b rfl) h
theorem c_x_takeFirst {l : Launch} (hfl : l.flags = flags0) (Δ : Ly) (p1 : Int32) (σ : Sg) (Q : Sg → Prop) (E : Nat → Sg → Prop) (h : w_x_takeFirst p1 σ Q E) : Ct l Δ mi_x_takeFirst [.ref (Δ.1 0), .int p1] σ (qV Q) E :=
  Ct.of hfl (by show plainFor ⟨"GuardedMoves", "takeFirst", "(I)V"⟩ = true; decide +kernel) rfl (le_b rfl) (fun G hl cx => b_x_takeFirst cx p1 σ h)
def mi_x_takeSecond : Mi := ("GuardedMoves", prog_1_method_11_code, 2, [], none, 3, 82, 0, 0, ⟨"GuardedMoves", "takeSecond", "(I)V"⟩)
theorem d_x_takeSecond_0 : decode prog_1_method_11_code 0 = .ok (.aload_n 0, 1) := by decide +kernel
theorem d_x_takeSecond_1 : decode prog_1_method_11_code 1 = .ok (.invokevirtual 81, 3) := by decide +kernel
theorem d_x_takeSecond_4 : decode prog_1_method_11_code 4 = .ok (.aload_n 0, 1) := by decide +kernel
theorem d_x_takeSecond_5 : decode prog_1_method_11_code 5 = .ok (.getfield 84, 3) := by decide +kernel
theorem d_x_takeSecond_8 : decode prog_1_method_11_code 8 = .ok (.getfield 97, 3) := by decide +kernel
theorem d_x_takeSecond_11 : decode prog_1_method_11_code 11 = .ok (.iload_n 1, 1) := by decide +kernel
theorem d_x_takeSecond_12 : decode prog_1_method_11_code 12 = .ok (.aload_n 0, 1) := by decide +kernel
theorem d_x_takeSecond_13 : decode prog_1_method_11_code 13 = .ok (.getfield 53, 3) := by decide +kernel
theorem d_x_takeSecond_16 : decode prog_1_method_11_code 16 = .ok (.iastore, 1) := by decide +kernel
theorem d_x_takeSecond_17 : decode prog_1_method_11_code 17 = .ok (.aload_n 0, 1) := by decide +kernel
theorem d_x_takeSecond_18 : decode prog_1_method_11_code 18 = .ok (.getfield 84, 3) := by decide +kernel
theorem d_x_takeSecond_21 : decode prog_1_method_11_code 21 = .ok (.getfield 100, 3) := by decide +kernel
theorem d_x_takeSecond_24 : decode prog_1_method_11_code 24 = .ok (.iload_n 1, 1) := by decide +kernel
theorem d_x_takeSecond_25 : decode prog_1_method_11_code 25 = .ok (.aload_n 0, 1) := by decide +kernel
theorem d_x_takeSecond_26 : decode prog_1_method_11_code 26 = .ok (.getfield 56, 3) := by decide +kernel
theorem d_x_takeSecond_29 : decode prog_1_method_11_code 29 = .ok (.iastore, 1) := by decide +kernel
theorem d_x_takeSecond_30 : decode prog_1_method_11_code 30 = .ok (.return_, 1) := by decide +kernel
theorem kc_x_takeSecond : Kw (m_w (mi_x_takeSecond )) := ⟨(in_t1 (List.mem_of_getElem? (i := 158) rfl)), rfl⟩
theorem mv_x_takeSecond : MV (mi_x_takeSecond ) "GuardedMoves" 1 := ⟨kw_157, ks_6, kc_x_takeSecond , kw_1, ⟨⟨(by show ("GuardedMoves" : String) ≠ "java/lang/invoke/MethodHandle"; decide), (by show ("GuardedMoves" : String) ≠ "java/lang/invoke/VarHandle"; decide)⟩, (by show (parseMethodDescriptor "(I)V").map (fun d => d.parameters.length) = some 1; decide +kernel)⟩⟩
def w_x_takeSecond (p1 : Int32) (σ : Sg) (Q : Sg → Prop) (E : Nat → Sg → Prop) : Prop := w_x_readValue σ (fun σ1 => vp_in p1 60 ∧ (vp_in p1 60 ∧ (Q (up (up σ1 53 (p1.toNatClampNeg) (σ1 0 7)) 54 (p1.toNatClampNeg) (σ1 0 8))))) E
theorem b_x_takeSecond {Δ : Ly} {G : Gm} {Q : Sg → Prop} {E : Nat → Sg → Prop} (cx : Cx Δ G mi_x_takeSecond) (p1 : Int32) (σ : Sg) (h : w_x_takeSecond p1 σ Q E) : Y Δ G mi_x_takeSecond (qV Q) E 0 0 σ 0 [(0, .ref (Δ.1 0)), (1, .int p1)] [] := by
  unfold w_x_takeSecond at h
  refine y_aload_n cx (pc := 0) d_x_takeSecond_0 rfl 0 rfl ?_
  refine y_vV cx (pc := 1) (st := []) [] (c_x_readValue cx.fl Δ _ _ _ h) mv_x_readValue kw_56 (oc_0 Δ) ck_GM rfl (le_b rfl) (le_b rfl) (le_b rfl) (le_b rfl) (le_b rfl) d_x_takeSecond_1 (fun σ1 h => ?_) (fun x σ1 h => ?_)
  ·
    refine y_aload_n cx (pc := 4) d_x_takeSecond_4 rfl 0 rfl ?_
    refine y_get cx (pc := 5) (j := 1) (v := .ref (Δ.1 2)) (le_b rfl) ck_GM kw_398 (le_b rfl) (gf_0_1 Δ _) d_x_takeSecond_5 ?_
    refine y_getN cx (pc := 8) (j := 7) (v := .ref (Δ.1 53)) (le_b rfl) ck_Tx kw_270 (le_b rfl) (gf_2_7 Δ _) d_x_takeSecond_8 ?_
    refine y_iload_n cx (pc := 11) d_x_takeSecond_11 rfl 1 rfl ?_
    refine y_aload_n cx (pc := 12) d_x_takeSecond_12 rfl 0 rfl ?_
    refine y_get cx (pc := 13) (j := 7) (v := .int (σ1 0 7)) (le_b rfl) ck_GM kw_404 (le_b rfl) (gf_0_7 Δ _) d_x_takeSecond_13 ?_
    obtain ⟨h0, h⟩ := h
    refine y_iast cx (pc := 16) ⟨(le_b rfl), fun _ => rfl⟩ h0 d_x_takeSecond_16 ?_
    refine y_aload_n cx (pc := 17) d_x_takeSecond_17 rfl 0 rfl ?_
    refine y_get cx (pc := 18) (j := 1) (v := .ref (Δ.1 2)) (le_b rfl) ck_GM kw_398 (le_b rfl) (gf_0_1 Δ _) d_x_takeSecond_18 ?_
    refine y_getN cx (pc := 21) (j := 8) (v := .ref (Δ.1 54)) (le_b rfl) ck_Tx kw_272 (le_b rfl) (gf_2_8 Δ _) d_x_takeSecond_21 ?_
    refine y_iload_n cx (pc := 24) d_x_takeSecond_24 rfl 1 rfl ?_
    refine y_aload_n cx (pc := 25) d_x_takeSecond_25 rfl 0 rfl ?_
    refine y_get cx (pc := 26) (j := 8) (v := .int (σ1 0 8)) (le_b rfl) ck_GM kw_405 (le_b rfl) (gf_0_8 Δ _) d_x_takeSecond_26 ?_
    obtain ⟨h0, h⟩ := h
    refine y_iast cx (pc := 29) ⟨(le_b rfl), fun _ => rfl⟩ h0 d_x_takeSecond_29 ?_
    exact y_vret cx (pc := 30) rfl d_x_takeSecond_30 (le_b rfl) (le_b rfl) h
  ·
    exact t_out cx rfl (le_b rfl) (le_b rfl) h
theorem c_x_takeSecond {l : Launch} (hfl : l.flags = flags0) (Δ : Ly) (p1 : Int32) (σ : Sg) (Q : Sg → Prop) (E : Nat → Sg → Prop) (h : w_x_takeSecond p1 σ Q E) : Ct l Δ mi_x_takeSecond [.ref (Δ.1 0), .int p1] σ (qV Q) E :=
  Ct.of hfl (by show plainFor ⟨"GuardedMoves", "takeSecond", "(I)V"⟩ = true; decide +kernel) rfl (le_b rfl) (fun G hl cx => b_x_takeSecond cx p1 σ h)
def mi_x_want_I : Mi := ("GuardedMoves", prog_1_method_8_code, 2, [], none, 1, 26, 0, 0, ⟨"GuardedMoves", "want", "(I)V"⟩)
theorem d_x_want_I_0 : decode prog_1_method_8_code 0 = .ok (.aload_n 0, 1) := by decide +kernel
theorem d_x_want_I_1 : decode prog_1_method_8_code 1 = .ok (.invokevirtual 46, 3) := by decide +kernel
theorem d_x_want_I_4 : decode prog_1_method_8_code 4 = .ok (.iload_n 1, 1) := by decide +kernel
theorem d_x_want_I_5 : decode prog_1_method_8_code 5 = .ok (.if_icmp .eq 13, 3) := by decide +kernel
theorem d_x_want_I_8 : decode prog_1_method_8_code 8 = .ok (.aload_n 0, 1) := by decide +kernel
theorem d_x_want_I_9 : decode prog_1_method_8_code 9 = .ok (.iconst 1, 1) := by decide +kernel
theorem d_x_want_I_10 : decode prog_1_method_8_code 10 = .ok (.aload_n 0, 1) := by decide +kernel
theorem d_x_want_I_11 : decode prog_1_method_8_code 11 = .ok (.getfield 28, 3) := by decide +kernel
theorem d_x_want_I_14 : decode prog_1_method_8_code 14 = .ok (.invokevirtual 50, 3) := by decide +kernel
theorem d_x_want_I_17 : decode prog_1_method_8_code 17 = .ok (.athrow, 1) := by decide +kernel
theorem d_x_want_I_18 : decode prog_1_method_8_code 18 = .ok (.aload_n 0, 1) := by decide +kernel
theorem d_x_want_I_19 : decode prog_1_method_8_code 19 = .ok (.dup, 1) := by decide +kernel
theorem d_x_want_I_20 : decode prog_1_method_8_code 20 = .ok (.getfield 28, 3) := by decide +kernel
theorem d_x_want_I_23 : decode prog_1_method_8_code 23 = .ok (.iconst 1, 1) := by decide +kernel
theorem d_x_want_I_24 : decode prog_1_method_8_code 24 = .ok (.iadd, 1) := by decide +kernel
theorem d_x_want_I_25 : decode prog_1_method_8_code 25 = .ok (.putfield 28, 3) := by decide +kernel
theorem d_x_want_I_28 : decode prog_1_method_8_code 28 = .ok (.return_, 1) := by decide +kernel
theorem kc_x_want_I : Kw (m_w (mi_x_want_I )) := ⟨(in_t1 (List.mem_of_getElem? (i := 162) rfl)), rfl⟩
theorem mv_x_want_I : MV (mi_x_want_I ) "GuardedMoves" 1 := ⟨kw_161, ks_7, kc_x_want_I , kw_1, ⟨⟨(by show ("GuardedMoves" : String) ≠ "java/lang/invoke/MethodHandle"; decide), (by show ("GuardedMoves" : String) ≠ "java/lang/invoke/VarHandle"; decide)⟩, (by show (parseMethodDescriptor "(I)V").map (fun d => d.parameters.length) = some 1; decide +kernel)⟩⟩
def w_x_want_I (p1 : Int32) (σ : Sg) (Q : Sg → Prop) (E : Nat → Sg → Prop) : Prop := w_x_here σ (fun x1 σ2 => (x1 = p1 → (Q (up σ2 0 5 ((σ2 0 5) + 1)))) ∧ (¬ x1 = p1 → (w_x_bad 1 (σ2 0 5) σ2 (fun σ3 => E 0 σ3))))
theorem b_x_want_I {Δ : Ly} {G : Gm} {Q : Sg → Prop} {E : Nat → Sg → Prop} (cx : Cx Δ G mi_x_want_I) (p1 : Int32) (σ : Sg) (h : w_x_want_I p1 σ Q E) : Y Δ G mi_x_want_I (qV Q) E 0 0 σ 0 [(0, .ref (Δ.1 0)), (1, .int p1)] [] := by
  unfold w_x_want_I at h
  refine y_aload_n cx (pc := 0) d_x_want_I_0 rfl 0 rfl ?_
  refine y_vI cx (pc := 1) (st := []) [] (c_x_here cx.fl Δ _ _ h) mv_x_here kw_29 (oc_0 Δ) ck_GM rfl (le_b rfl) (le_b rfl) (le_b rfl) (le_b rfl) (le_b rfl) d_x_want_I_1 (fun x1 σ2 h => ?_) (fun x σ2 h => yt_no h)
  refine y_iload_n cx (pc := 4) d_x_want_I_4 rfl 1 rfl ?_
  refine y_icmp_eq cx (pc := 5) (tgt := 18) d_x_want_I_5 (by decide) (fun hc => ?_) (fun hc => ?_)
  · replace h := h.1 hc
    refine y_aload_n cx (pc := 18) d_x_want_I_18 rfl 0 rfl ?_
    refine y_dup cx (pc := 19) rfl d_x_want_I_19 ?_
    refine y_get cx (pc := 20) (j := 5) (v := .int (σ2 0 5)) (le_b rfl) ck_GM kw_402 (le_b rfl) (gf_0_5 Δ _) d_x_want_I_20 ?_
    refine y_iconst cx (pc := 23) ic_1 d_x_want_I_23 ?_
    refine y_iadd cx (pc := 24) d_x_want_I_24 ?_
    refine y_put cx (pc := 25) (j := 5) (ty := .int) (le_b rfl) ck_GM kw_402 (le_b rfl) rfl (t_GM_ok 5 (le_b rfl)) rfl rfl (pf_0_5 Δ) d_x_want_I_25 ?_
    exact y_vret cx (pc := 28) rfl d_x_want_I_28 (le_b rfl) (le_b rfl) h
  · replace h := h.2 hc
    refine y_aload_n cx (pc := 8) d_x_want_I_8 rfl 0 rfl ?_
    refine y_iconst cx (pc := 9) ic_1 d_x_want_I_9 ?_
    refine y_aload_n cx (pc := 10) d_x_want_I_10 rfl 0 rfl ?_
    refine y_get cx (pc := 11) (j := 5) (v := .int (σ2 0 5)) (le_b rfl) ck_GM kw_402 (le_b rfl) (gf_0_5 Δ _) d_x_want_I_11 ?_
    refine y_vR cx (pc := 14) (st := []) [.int 1, .int (σ2 0 5)] (c_x_bad cx.fl Δ 1 (σ2 0 5) _ _ h) mv_x_bad kw_44 (oc_0 Δ) ck_GM rfl (le_b rfl) (le_b rfl) (le_b rfl) (le_b rfl) (le_b rfl) d_x_want_I_14 (fun σ3 h => ?_) (fun x σ3 h => yt_no h)
    refine y_athrow cx (pc := 17) (x := 0) d_x_want_I_17 (fun H hP => ex_bad cx hP) ?_
    exact t_out cx rfl (le_b rfl) (le_b rfl) h
theorem c_x_want_I {l : Launch} (hfl : l.flags = flags0) (Δ : Ly) (p1 : Int32) (σ : Sg) (Q : Sg → Prop) (E : Nat → Sg → Prop) (h : w_x_want_I p1 σ Q E) : Ct l Δ mi_x_want_I [.ref (Δ.1 0), .int p1] σ (qV Q) E :=
  Ct.of hfl (by show plainFor ⟨"GuardedMoves", "want", "(I)V"⟩ = true; decide +kernel) rfl (le_b rfl) (fun G hl cx => b_x_want_I cx p1 σ h)

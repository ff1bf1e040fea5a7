def mi_j_min_JJ : Mi := ("java/lang/Math", prog_13_method_70_code, 4, [], (some .long), 0, 0, 0, 0, ⟨"java/lang/Math", "min", "(JJ)J"⟩)
theorem d_j_min_JJ_0 : decode prog_13_method_70_code 0 = .ok (.lload_n 0, 1) := by decide +kernel
theorem d_j_min_JJ_1 : decode prog_13_method_70_code 1 = .ok (.lload_n 2, 1) := by decide +kernel
theorem d_j_min_JJ_2 : decode prog_13_method_70_code 2 = .ok (.lcmp, 1) := by decide +kernel
theorem d_j_min_JJ_3 : decode prog_13_method_70_code 3 = .ok (.ifCond .gt 7, 3) := by decide +kernel
theorem d_j_min_JJ_6 : decode prog_13_method_70_code 6 = .ok (.lload_n 0, 1) := by decide +kernel
theorem d_j_min_JJ_7 : decode prog_13_method_70_code 7 = .ok (.goto 4, 3) := by decide +kernel
theorem d_j_min_JJ_10 : decode prog_13_method_70_code 10 = .ok (.lload_n 2, 1) := by decide +kernel
theorem d_j_min_JJ_11 : decode prog_13_method_70_code 11 = .ok (.lreturn, 1) := by decide +kernel
theorem kc_j_min_JJ : Kw (m_w (mi_j_min_JJ )) := ⟨(in_t1 (List.mem_of_getElem? (i := 66) rfl)), rfl⟩
theorem mv_j_min_JJ : MS mi_j_min_JJ 2 := ⟨kw_65, kc_j_min_JJ, kw_14, ⟨⟨(by show ("java/lang/Math" : String) ≠ "java/lang/invoke/MethodHandle"; decide), (by show ("java/lang/Math" : String) ≠ "java/lang/invoke/VarHandle"; decide)⟩, (by show (parseMethodDescriptor "(JJ)J").map (fun d => d.parameters.length) = some 2; decide +kernel)⟩⟩
def w_j_min_JJ_11 (Q : Int64 → Sg → Prop) (s0 : Int64) (σ : Sg) : Prop := Q s0 σ
theorem b_j_min_JJ_11 {Δ : Ly} {G : Gm} {Q : Int64 → Sg → Prop} (cx : Cx Δ G mi_j_min_JJ) : ∀ (s0 : Int64) (σ : Sg), w_j_min_JJ_11 Q s0 σ → Y Δ G mi_j_min_JJ (qL Q) noE 0 0 σ 11 [] [.long s0] := by
  intro s0 σ h
  unfold w_j_min_JJ_11 at h
  exact y_lret cx (pc := 11) rfl d_j_min_JJ_11 (le_b rfl) (le_b rfl) h
def w_j_min_JJ (p1 : Int64) (p2 : Int64) (σ : Sg) (Q : Int64 → Sg → Prop) : Prop := (p2 < p1 → (w_j_min_JJ_11 Q p2 σ)) ∧ (¬ p2 < p1 → (w_j_min_JJ_11 Q p1 σ))
theorem b_j_min_JJ {Δ : Ly} {G : Gm} {Q : Int64 → Sg → Prop} (cx : Cx Δ G mi_j_min_JJ) (p1 : Int64) (p2 : Int64) (σ : Sg) (h : w_j_min_JJ p1 p2 σ Q) : Y Δ G mi_j_min_JJ (qL Q) noE 0 0 σ 0 [(0, .long p1), (2, .long p2)] [] := by
  unfold w_j_min_JJ at h
  refine y_lload_n cx (pc := 0) d_j_min_JJ_0 rfl 0 rfl ?_
  refine y_lload_n cx (pc := 1) d_j_min_JJ_1 rfl 1 rfl ?_
  refine y_lcmp_gt cx (pc := 2) (tgt := 10) d_j_min_JJ_2 d_j_min_JJ_3 (by decide) (fun hc => ?_) (fun hc => ?_)
  · replace h := h.1 hc
    refine y_lload_n cx (pc := 10) d_j_min_JJ_10 rfl 1 rfl ?_
    refine y_sub [] rfl ?_
    exact b_j_min_JJ_11 cx p2 σ h
  · replace h := h.2 hc
    refine y_lload_n cx (pc := 6) d_j_min_JJ_6 rfl 0 rfl ?_
    refine y_goto cx (pc := 7) (tgt := 11) d_j_min_JJ_7 (by decide) ?_
    refine y_sub [] rfl ?_
    exact b_j_min_JJ_11 cx p1 σ h
theorem c_j_min_JJ {l : Launch} (hfl : l.flags = flags0) (Δ : Ly) (p1 : Int64) (p2 : Int64) (σ : Sg) (Q : Int64 → Sg → Prop) (h : w_j_min_JJ p1 p2 σ Q) : Ct l Δ mi_j_min_JJ [.long p1, .long p2] σ (qL Q) noE :=
  Ct.of hfl (by show plainFor ⟨"java/lang/Math", "min", "(JJ)J"⟩ = true; decide +kernel) rfl (le_b rfl) (fun G hl cx => b_j_min_JJ cx p1 p2 σ h)
def mi_j_max : Mi := ("java/lang/Math", prog_13_method_65_code, 2, [], (some .int), 0, 0, 0, 0, ⟨"java/lang/Math", "max", "(II)I"⟩)
theorem d_j_max_0 : decode prog_13_method_65_code 0 = .ok (.iload_n 0, 1) := by decide +kernel
theorem d_j_max_1 : decode prog_13_method_65_code 1 = .ok (.iload_n 1, 1) := by decide +kernel
theorem d_j_max_2 : decode prog_13_method_65_code 2 = .ok (.if_icmp .lt 7, 3) := by decide +kernel
theorem d_j_max_5 : decode prog_13_method_65_code 5 = .ok (.iload_n 0, 1) := by decide +kernel
theorem d_j_max_6 : decode prog_13_method_65_code 6 = .ok (.goto 4, 3) := by decide +kernel
theorem d_j_max_9 : decode prog_13_method_65_code 9 = .ok (.iload_n 1, 1) := by decide +kernel
theorem d_j_max_10 : decode prog_13_method_65_code 10 = .ok (.ireturn, 1) := by decide +kernel
theorem kc_j_max : Kw (m_w (mi_j_max )) := ⟨(in_t1 (List.mem_of_getElem? (i := 99) rfl)), rfl⟩
theorem mv_j_max : MS mi_j_max 2 := ⟨kw_98, kc_j_max, kw_14, ⟨⟨(by show ("java/lang/Math" : String) ≠ "java/lang/invoke/MethodHandle"; decide), (by show ("java/lang/Math" : String) ≠ "java/lang/invoke/VarHandle"; decide)⟩, (by show (parseMethodDescriptor "(II)I").map (fun d => d.parameters.length) = some 2; decide +kernel)⟩⟩
def w_j_max_10 (Q : Int32 → Sg → Prop) (s0 : Int32) (σ : Sg) : Prop := Q s0 σ
theorem b_j_max_10 {Δ : Ly} {G : Gm} {Q : Int32 → Sg → Prop} (cx : Cx Δ G mi_j_max) : ∀ (s0 : Int32) (σ : Sg), w_j_max_10 Q s0 σ → Y Δ G mi_j_max (qI Q) noE 0 0 σ 10 [] [.int s0] := by
  intro s0 σ h
  unfold w_j_max_10 at h
  exact y_iret cx (pc := 10) rfl d_j_max_10 (le_b rfl) (le_b rfl) h
def w_j_max (p1 : Int32) (p2 : Int32) (σ : Sg) (Q : Int32 → Sg → Prop) : Prop := (p1 < p2 → (w_j_max_10 Q p2 σ)) ∧ (¬ p1 < p2 → (w_j_max_10 Q p1 σ))
theorem b_j_max {Δ : Ly} {G : Gm} {Q : Int32 → Sg → Prop} (cx : Cx Δ G mi_j_max) (p1 : Int32) (p2 : Int32) (σ : Sg) (h : w_j_max p1 p2 σ Q) : Y Δ G mi_j_max (qI Q) noE 0 0 σ 0 [(0, .int p1), (1, .int p2)] [] := by
  unfold w_j_max at h
  refine y_iload_n cx (pc := 0) d_j_max_0 rfl 0 rfl ?_
  refine y_iload_n cx (pc := 1) d_j_max_1 rfl 1 rfl ?_
  refine y_icmp_lt cx (pc := 2) (tgt := 9) d_j_max_2 (by decide) (fun hc => ?_) (fun hc => ?_)
  · replace h := h.1 hc
    refine y_iload_n cx (pc := 9) d_j_max_9 rfl 1 rfl ?_
    refine y_sub [] rfl ?_
    exact b_j_max_10 cx p2 σ h
  · replace h := h.2 hc
    refine y_iload_n cx (pc := 5) d_j_max_5 rfl 0 rfl ?_
    refine y_goto cx (pc := 6) (tgt := 10) d_j_max_6 (by decide) ?_
    refine y_sub [] rfl ?_
    exact b_j_max_10 cx p1 σ h
theorem c_j_max {l : Launch} (hfl : l.flags = flags0) (Δ : Ly) (p1 : Int32) (p2 : Int32) (σ : Sg) (Q : Int32 → Sg → Prop) (h : w_j_max p1 p2 σ Q) : Ct l Δ mi_j_max [.int p1, .int p2] σ (qI Q) noE :=
  Ct.of hfl (by show plainFor ⟨"java/lang/Math", "max", "(II)I"⟩ = true; decide +kernel) rfl (le_b rfl) (fun G hl cx => b_j_max cx p1 p2 σ h)
def mi_j_min_II : Mi := ("java/lang/Math", prog_13_method_69_code, 2, [], (some .int), 0, 0, 0, 0, ⟨"java/lang/Math", "min", "(II)I"⟩)
theorem d_j_min_II_0 : decode prog_13_method_69_code 0 = .ok (.iload_n 0, 1) := by decide +kernel
theorem d_j_min_II_1 : decode prog_13_method_69_code 1 = .ok (.iload_n 1, 1) := by decide +kernel
theorem d_j_min_II_2 : decode prog_13_method_69_code 2 = .ok (.if_icmp .gt 7, 3) := by decide +kernel
theorem d_j_min_II_5 : decode prog_13_method_69_code 5 = .ok (.iload_n 0, 1) := by decide +kernel
theorem d_j_min_II_6 : decode prog_13_method_69_code 6 = .ok (.goto 4, 3) := by decide +kernel
theorem d_j_min_II_9 : decode prog_13_method_69_code 9 = .ok (.iload_n 1, 1) := by decide +kernel
theorem d_j_min_II_10 : decode prog_13_method_69_code 10 = .ok (.ireturn, 1) := by decide +kernel
theorem kc_j_min_II : Kw (m_w (mi_j_min_II )) := ⟨(in_t1 (List.mem_of_getElem? (i := 102) rfl)), rfl⟩
theorem mv_j_min_II : MS mi_j_min_II 2 := ⟨kw_101, kc_j_min_II, kw_14, ⟨⟨(by show ("java/lang/Math" : String) ≠ "java/lang/invoke/MethodHandle"; decide), (by show ("java/lang/Math" : String) ≠ "java/lang/invoke/VarHandle"; decide)⟩, (by show (parseMethodDescriptor "(II)I").map (fun d => d.parameters.length) = some 2; decide +kernel)⟩⟩
def w_j_min_II_10 (Q : Int32 → Sg → Prop) (s0 : Int32) (σ : Sg) : Prop := Q s0 σ
theorem b_j_min_II_10 {Δ : Ly} {G : Gm} {Q : Int32 → Sg → Prop} (cx : Cx Δ G mi_j_min_II) : ∀ (s0 : Int32) (σ : Sg), w_j_min_II_10 Q s0 σ → Y Δ G mi_j_min_II (qI Q) noE 0 0 σ 10 [] [.int s0] := by
  intro s0 σ h
  unfold w_j_min_II_10 at h
  exact y_iret cx (pc := 10) rfl d_j_min_II_10 (le_b rfl) (le_b rfl) h
def w_j_min_II (p1 : Int32) (p2 : Int32) (σ : Sg) (Q : Int32 → Sg → Prop) : Prop := (p2 < p1 → (w_j_min_II_10 Q p2 σ)) ∧ (¬ p2 < p1 → (w_j_min_II_10 Q p1 σ))
theorem b_j_min_II {Δ : Ly} {G : Gm} {Q : Int32 → Sg → Prop} (cx : Cx Δ G mi_j_min_II) (p1 : Int32) (p2 : Int32) (σ : Sg) (h : w_j_min_II p1 p2 σ Q) : Y Δ G mi_j_min_II (qI Q) noE 0 0 σ 0 [(0, .int p1), (1, .int p2)] [] := by
  unfold w_j_min_II at h
  refine y_iload_n cx (pc := 0) d_j_min_II_0 rfl 0 rfl ?_
  refine y_iload_n cx (pc := 1) d_j_min_II_1 rfl 1 rfl ?_
  refine y_icmp_gt cx (pc := 2) (tgt := 9) d_j_min_II_2 (by decide) (fun hc => ?_) (fun hc => ?_)
  · replace h := h.1 hc
    refine y_iload_n cx (pc := 9) d_j_min_II_9 rfl 1 rfl ?_
    refine y_sub [] rfl ?_
    exact b_j_min_II_10 cx p2 σ h
  · replace h := h.2 hc
    refine y_iload_n cx (pc := 5) d_j_min_II_5 rfl 0 rfl ?_
    refine y_goto cx (pc := 6) (tgt := 10) d_j_min_II_6 (by decide) ?_
    refine y_sub [] rfl ?_
    exact b_j_min_II_10 cx p1 σ h
theorem c_j_min_II {l : Launch} (hfl : l.flags = flags0) (Δ : Ly) (p1 : Int32) (p2 : Int32) (σ : Sg) (Q : Int32 → Sg → Prop) (h : w_j_min_II p1 p2 σ Q) : Ct l Δ mi_j_min_II [.int p1, .int p2] σ (qI Q) noE :=
  Ct.of hfl (by show plainFor ⟨"java/lang/Math", "min", "(II)I"⟩ = true; decide +kernel) rfl (le_b rfl) (fun G hl cx => b_j_min_II cx p1 p2 σ h)
def mi_jl_canEncode : Mi := ("java/lang/StringLatin1", prog_16_method_4_code, 1, [], (some .boolean), 0, 0, 0, 0, ⟨"java/lang/StringLatin1", "canEncode", "(I)Z"⟩)
theorem d_jl_canEncode_0 : decode prog_16_method_4_code 0 = .ok (.iload_n 0, 1) := by decide +kernel
theorem d_jl_canEncode_1 : decode prog_16_method_4_code 1 = .ok (.ifCond .lt 14, 3) := by decide +kernel
theorem d_jl_canEncode_4 : decode prog_16_method_4_code 4 = .ok (.iload_n 0, 1) := by decide +kernel
theorem d_jl_canEncode_5 : decode prog_16_method_4_code 5 = .ok (.sipush 255, 3) := by decide +kernel
theorem d_jl_canEncode_8 : decode prog_16_method_4_code 8 = .ok (.if_icmp .gt 7, 3) := by decide +kernel
theorem d_jl_canEncode_11 : decode prog_16_method_4_code 11 = .ok (.iconst 1, 1) := by decide +kernel
theorem d_jl_canEncode_12 : decode prog_16_method_4_code 12 = .ok (.goto 4, 3) := by decide +kernel
theorem d_jl_canEncode_15 : decode prog_16_method_4_code 15 = .ok (.iconst 0, 1) := by decide +kernel
theorem d_jl_canEncode_16 : decode prog_16_method_4_code 16 = .ok (.ireturn, 1) := by decide +kernel
theorem kc_jl_canEncode : Kw (m_w (mi_jl_canEncode )) := ⟨(in_t1 (List.mem_of_getElem? (i := 96) rfl)), rfl⟩
theorem mv_jl_canEncode : MS mi_jl_canEncode 1 := ⟨kw_95, kc_jl_canEncode, kw_15, ⟨⟨(by show ("java/lang/StringLatin1" : String) ≠ "java/lang/invoke/MethodHandle"; decide), (by show ("java/lang/StringLatin1" : String) ≠ "java/lang/invoke/VarHandle"; decide)⟩, (by show (parseMethodDescriptor "(I)Z").map (fun d => d.parameters.length) = some 1; decide +kernel)⟩⟩
def w_jl_canEncode_16 (Q : Int32 → Sg → Prop) (s0 : Int32) (σ : Sg) : Prop := bz s0 ∧ (Q s0 σ)
theorem b_jl_canEncode_16 {Δ : Ly} {G : Gm} {Q : Int32 → Sg → Prop} (cx : Cx Δ G mi_jl_canEncode) : ∀ (s0 : Int32) (σ : Sg), w_jl_canEncode_16 Q s0 σ → Y Δ G mi_jl_canEncode (qI Q) noE 0 0 σ 16 [] [.int s0] := by
  intro s0 σ h
  unfold w_jl_canEncode_16 at h
  obtain ⟨hb, h⟩ := h
  exact y_zret cx (pc := 16) rfl hb d_jl_canEncode_16 (le_b rfl) (le_b rfl) h
def w_jl_canEncode_15 (Q : Int32 → Sg → Prop) (σ : Sg) : Prop := w_jl_canEncode_16 Q 0 σ
theorem b_jl_canEncode_15 {Δ : Ly} {G : Gm} {Q : Int32 → Sg → Prop} (cx : Cx Δ G mi_jl_canEncode) : ∀ (σ : Sg), w_jl_canEncode_15 Q σ → Y Δ G mi_jl_canEncode (qI Q) noE 0 0 σ 15 [] [] := by
  intro σ h
  unfold w_jl_canEncode_15 at h
  refine y_iconst cx (pc := 15) ic_0 d_jl_canEncode_15 ?_
  exact b_jl_canEncode_16 cx 0 σ h
def w_jl_canEncode (p1 : Int32) (σ : Sg) (Q : Int32 → Sg → Prop) : Prop := (p1 < 0 → (w_jl_canEncode_15 Q σ)) ∧ (¬ p1 < 0 → ((255 < p1 → (w_jl_canEncode_15 Q σ)) ∧ (¬ 255 < p1 → (w_jl_canEncode_16 Q 1 σ))))
theorem b_jl_canEncode {Δ : Ly} {G : Gm} {Q : Int32 → Sg → Prop} (cx : Cx Δ G mi_jl_canEncode) (p1 : Int32) (σ : Sg) (h : w_jl_canEncode p1 σ Q) : Y Δ G mi_jl_canEncode (qI Q) noE 0 0 σ 0 [(0, .int p1)] [] := by
  unfold w_jl_canEncode at h
  refine y_iload_n cx (pc := 0) d_jl_canEncode_0 rfl 0 rfl ?_
  refine y_if_lt cx (pc := 1) (tgt := 15) d_jl_canEncode_1 (by decide) (fun hc => ?_) (fun hc => ?_)
  · replace h := h.1 hc
    refine y_sub [] rfl ?_
    exact b_jl_canEncode_15 cx σ h
  · replace h := h.2 hc
    refine y_iload_n cx (pc := 4) d_jl_canEncode_4 rfl 0 rfl ?_
    refine y_sipush cx (pc := 5) sp_255 d_jl_canEncode_5 ?_
    refine y_icmp_gt cx (pc := 8) (tgt := 15) d_jl_canEncode_8 (by decide) (fun hc => ?_) (fun hc => ?_)
    · replace h := h.1 hc
      refine y_sub [] rfl ?_
      exact b_jl_canEncode_15 cx σ h
    · replace h := h.2 hc
      refine y_iconst cx (pc := 11) ic_1 d_jl_canEncode_11 ?_
      refine y_goto cx (pc := 12) (tgt := 16) d_jl_canEncode_12 (by decide) ?_
      refine y_sub [] rfl ?_
      exact b_jl_canEncode_16 cx 1 σ h
theorem c_jl_canEncode {l : Launch} (hfl : l.flags = flags0) (Δ : Ly) (p1 : Int32) (σ : Sg) (Q : Int32 → Sg → Prop) (h : w_jl_canEncode p1 σ Q) : Ct l Δ mi_jl_canEncode [.int p1] σ (qI Q) noE :=
  Ct.of hfl (by show plainFor ⟨"java/lang/StringLatin1", "canEncode", "(I)Z"⟩ = true; decide +kernel) rfl (le_b rfl) (fun G hl cx => b_jl_canEncode cx p1 σ h)
def mi_js_coder : Mi := ("java/lang/String", prog_15_method_152_code, 1, [], (some .byte), 0, 0, 0, 0, ⟨"java/lang/String", "coder", "()B"⟩)
theorem d_js_coder_0 : decode prog_15_method_152_code 0 = .ok (.getstatic 38, 3) := by decide +kernel
theorem d_js_coder_3 : decode prog_15_method_152_code 3 = .ok (.ifCond .eq 10, 3) := by decide +kernel
theorem d_js_coder_6 : decode prog_15_method_152_code 6 = .ok (.aload_n 0, 1) := by decide +kernel
theorem d_js_coder_7 : decode prog_15_method_152_code 7 = .ok (.getfield 15, 3) := by decide +kernel
theorem d_js_coder_10 : decode prog_15_method_152_code 10 = .ok (.goto 4, 3) := by decide +kernel
theorem d_js_coder_13 : decode prog_15_method_152_code 13 = .ok (.iconst 1, 1) := by decide +kernel
theorem d_js_coder_14 : decode prog_15_method_152_code 14 = .ok (.ireturn, 1) := by decide +kernel
theorem kc_js_coder : Kw (m_w (mi_js_coder )) := ⟨(in_t1 (List.mem_of_getElem? (i := 90) rfl)), rfl⟩
theorem mv_js_coder : MV (mi_js_coder ) "java/lang/String" 0 := ⟨kw_88, kw_89, kc_js_coder , kw_11, ⟨⟨(by show ("java/lang/String" : String) ≠ "java/lang/invoke/MethodHandle"; decide), (by show ("java/lang/String" : String) ≠ "java/lang/invoke/VarHandle"; decide)⟩, (by show (parseMethodDescriptor "()B").map (fun d => d.parameters.length) = some 0; decide +kernel)⟩⟩
def w_js_coder_14 (i : Nat) (Q : Int32 → Sg → Prop) (s0 : Int32) (σ : Sg) : Prop := narrow .byte (.int s0) = .int s0 ∧ (Q s0 σ)
theorem b_js_coder_14 {Δ : Ly} {G : Gm} {i : Nat} {Q : Int32 → Sg → Prop} (cx : Cx Δ G mi_js_coder) (hi : i < 2) : ∀ (s0 : Int32) (σ : Sg), w_js_coder_14 i Q s0 σ → Y Δ G mi_js_coder (qI Q) noE 0 0 σ 14 [] [.int s0] := by
  intro s0 σ h
  unfold w_js_coder_14 at h
  obtain ⟨hb, h⟩ := h
  exact y_bret cx (pc := 14) rfl hb d_js_coder_14 (le_b rfl) (le_b rfl) h
def w_js_coder (i : Nat) (σ : Sg) (Q : Int32 → Sg → Prop) : Prop := ((1 : Int32) = 0 → (w_js_coder_14 i Q 1 σ)) ∧ (¬ (1 : Int32) = 0 → (w_js_coder_14 i Q 0 σ))
theorem b_js_coder {Δ : Ly} {G : Gm} {Q : Int32 → Sg → Prop} (cx : Cx Δ G mi_js_coder) (i : Nat) (hi : i < 2) (σ : Sg) (h : w_js_coder i σ Q) : Y Δ G mi_js_coder (qI Q) noE 0 0 σ 0 [(0, .ref (Δ.2.2.2.1 i))] [] := by
  unfold w_js_coder at h
  refine y_compact cx (pc := 0) kw_81 d_js_coder_0 ?_
  refine y_if_eq cx (pc := 3) (tgt := 13) d_js_coder_3 (by decide) (fun hc => ?_) (fun hc => ?_)
  · replace h := h.1 hc
    refine y_iconst cx (pc := 13) ic_1 d_js_coder_13 ?_
    refine y_sub [] rfl ?_
    exact b_js_coder_14 cx hi 1 σ h
  · replace h := h.2 hc
    refine y_aload_n cx (pc := 6) d_js_coder_6 rfl 0 rfl ?_
    refine y_str_coder cx (pc := 7) hi kw_1146 d_js_coder_7 ?_
    refine y_goto cx (pc := 10) (tgt := 14) d_js_coder_10 (by decide) ?_
    refine y_sub [] rfl ?_
    exact b_js_coder_14 cx hi 0 σ h
theorem c_js_coder {l : Launch} (hfl : l.flags = flags0) (Δ : Ly) (i : Nat) (hi : i < 2) (σ : Sg) (Q : Int32 → Sg → Prop) (h : w_js_coder i σ Q) : Ct l Δ mi_js_coder [.ref (Δ.2.2.2.1 i)] σ (qI Q) noE :=
  Ct.of hfl (by show plainFor ⟨"java/lang/String", "coder", "()B"⟩ = true; decide +kernel) rfl (le_b rfl) (fun G hl cx => b_js_coder cx i hi σ h)
def mi_js_isLatin1 : Mi := ("java/lang/String", prog_15_method_154_code, 1, [], (some .boolean), 0, 0, 0, 0, ⟨"java/lang/String", "isLatin1", "()Z"⟩)
theorem d_js_isLatin1_0 : decode prog_15_method_154_code 0 = .ok (.getstatic 38, 3) := by decide +kernel
theorem d_js_isLatin1_3 : decode prog_15_method_154_code 3 = .ok (.ifCond .eq 14, 3) := by decide +kernel
theorem d_js_isLatin1_6 : decode prog_15_method_154_code 6 = .ok (.aload_n 0, 1) := by decide +kernel
theorem d_js_isLatin1_7 : decode prog_15_method_154_code 7 = .ok (.getfield 15, 3) := by decide +kernel
theorem d_js_isLatin1_10 : decode prog_15_method_154_code 10 = .ok (.ifCond .ne 7, 3) := by decide +kernel
theorem d_js_isLatin1_13 : decode prog_15_method_154_code 13 = .ok (.iconst 1, 1) := by decide +kernel
theorem d_js_isLatin1_14 : decode prog_15_method_154_code 14 = .ok (.goto 4, 3) := by decide +kernel
theorem d_js_isLatin1_17 : decode prog_15_method_154_code 17 = .ok (.iconst 0, 1) := by decide +kernel
theorem d_js_isLatin1_18 : decode prog_15_method_154_code 18 = .ok (.ireturn, 1) := by decide +kernel
theorem kc_js_isLatin1 : Kw (m_w (mi_js_isLatin1 )) := ⟨(in_t1 (List.mem_of_getElem? (i := 80) rfl)), rfl⟩
theorem mv_js_isLatin1 : MV (mi_js_isLatin1 ) "java/lang/String" 0 := ⟨kw_78, kw_79, kc_js_isLatin1 , kw_11, ⟨⟨(by show ("java/lang/String" : String) ≠ "java/lang/invoke/MethodHandle"; decide), (by show ("java/lang/String" : String) ≠ "java/lang/invoke/VarHandle"; decide)⟩, (by show (parseMethodDescriptor "()Z").map (fun d => d.parameters.length) = some 0; decide +kernel)⟩⟩
def w_js_isLatin1_18 (i : Nat) (Q : Int32 → Sg → Prop) (s0 : Int32) (σ : Sg) : Prop := bz s0 ∧ (Q s0 σ)
theorem b_js_isLatin1_18 {Δ : Ly} {G : Gm} {i : Nat} {Q : Int32 → Sg → Prop} (cx : Cx Δ G mi_js_isLatin1) (hi : i < 2) : ∀ (s0 : Int32) (σ : Sg), w_js_isLatin1_18 i Q s0 σ → Y Δ G mi_js_isLatin1 (qI Q) noE 0 0 σ 18 [] [.int s0] := by
  intro s0 σ h
  unfold w_js_isLatin1_18 at h
  obtain ⟨hb, h⟩ := h
  exact y_zret cx (pc := 18) rfl hb d_js_isLatin1_18 (le_b rfl) (le_b rfl) h
def w_js_isLatin1_17 (i : Nat) (Q : Int32 → Sg → Prop) (σ : Sg) : Prop := w_js_isLatin1_18 i Q 0 σ
theorem b_js_isLatin1_17 {Δ : Ly} {G : Gm} {i : Nat} {Q : Int32 → Sg → Prop} (cx : Cx Δ G mi_js_isLatin1) (hi : i < 2) : ∀ (σ : Sg), w_js_isLatin1_17 i Q σ → Y Δ G mi_js_isLatin1 (qI Q) noE 0 0 σ 17 [] [] := by
  intro σ h
  unfold w_js_isLatin1_17 at h
  refine y_iconst cx (pc := 17) ic_0 d_js_isLatin1_17 ?_
  exact b_js_isLatin1_18 cx hi 0 σ h
def w_js_isLatin1 (i : Nat) (σ : Sg) (Q : Int32 → Sg → Prop) : Prop := ((1 : Int32) = 0 → (w_js_isLatin1_17 i Q σ)) ∧ (¬ (1 : Int32) = 0 → ((¬ (0 : Int32) = 0 → (w_js_isLatin1_17 i Q σ)) ∧ ((0 : Int32) = 0 → (w_js_isLatin1_18 i Q 1 σ))))
theorem b_js_isLatin1 {Δ : Ly} {G : Gm} {Q : Int32 → Sg → Prop} (cx : Cx Δ G mi_js_isLatin1) (i : Nat) (hi : i < 2) (σ : Sg) (h : w_js_isLatin1 i σ Q) : Y Δ G mi_js_isLatin1 (qI Q) noE 0 0 σ 0 [(0, .ref (Δ.2.2.2.1 i))] [] := by
  unfold w_js_isLatin1 at h
  refine y_compact cx (pc := 0) kw_81 d_js_isLatin1_0 ?_
  refine y_if_eq cx (pc := 3) (tgt := 17) d_js_isLatin1_3 (by decide) (fun hc => ?_) (fun hc => ?_)
  · replace h := h.1 hc
    refine y_sub [] rfl ?_
    exact b_js_isLatin1_17 cx hi σ h
  · replace h := h.2 hc
    refine y_aload_n cx (pc := 6) d_js_isLatin1_6 rfl 0 rfl ?_
    refine y_str_coder cx (pc := 7) hi kw_1146 d_js_isLatin1_7 ?_
    refine y_if_ne cx (pc := 10) (tgt := 17) d_js_isLatin1_10 (by decide) (fun hc => ?_) (fun hc => ?_)
    · replace h := h.1 hc
      refine y_sub [] rfl ?_
      exact b_js_isLatin1_17 cx hi σ h
    · replace h := h.2 hc
      refine y_iconst cx (pc := 13) ic_1 d_js_isLatin1_13 ?_
      refine y_goto cx (pc := 14) (tgt := 18) d_js_isLatin1_14 (by decide) ?_
      refine y_sub [] rfl ?_
      exact b_js_isLatin1_18 cx hi 1 σ h
theorem c_js_isLatin1 {l : Launch} (hfl : l.flags = flags0) (Δ : Ly) (i : Nat) (hi : i < 2) (σ : Sg) (Q : Int32 → Sg → Prop) (h : w_js_isLatin1 i σ Q) : Ct l Δ mi_js_isLatin1 [.ref (Δ.2.2.2.1 i)] σ (qI Q) noE :=
  Ct.of hfl (by show plainFor ⟨"java/lang/String", "isLatin1", "()Z"⟩ = true; decide +kernel) rfl (le_b rfl) (fun G hl cx => b_js_isLatin1 cx i hi σ h)
def mi_js_length : Mi := ("java/lang/String", prog_15_method_54_code, 1, [], (some .int), 1, 24, 0, 0, ⟨"java/lang/String", "length", "()I"⟩)
theorem d_js_length_0 : decode prog_15_method_54_code 0 = .ok (.aload_n 0, 1) := by decide +kernel
theorem d_js_length_1 : decode prog_15_method_54_code 1 = .ok (.getfield 9, 3) := by decide +kernel
theorem d_js_length_4 : decode prog_15_method_54_code 4 = .ok (.arraylength, 1) := by decide +kernel
theorem d_js_length_5 : decode prog_15_method_54_code 5 = .ok (.aload_n 0, 1) := by decide +kernel
theorem d_js_length_6 : decode prog_15_method_54_code 6 = .ok (.invokevirtual 335, 3) := by decide +kernel
theorem d_js_length_9 : decode prog_15_method_54_code 9 = .ok (.ishr, 1) := by decide +kernel
theorem d_js_length_10 : decode prog_15_method_54_code 10 = .ok (.ireturn, 1) := by decide +kernel
theorem kc_js_length : Kw (m_w (mi_js_length )) := ⟨(in_t1 (List.mem_of_getElem? (i := 86) rfl)), rfl⟩
theorem mv_js_length : MV (mi_js_length ) "java/lang/String" 0 := ⟨kw_84, kw_85, kc_js_length , kw_11, ⟨⟨(by show ("java/lang/String" : String) ≠ "java/lang/invoke/MethodHandle"; decide), (by show ("java/lang/String" : String) ≠ "java/lang/invoke/VarHandle"; decide)⟩, (by show (parseMethodDescriptor "()I").map (fun d => d.parameters.length) = some 0; decide +kernel)⟩⟩
def w_js_length (i : Nat) (σ : Sg) (Q : Int32 → Sg → Prop) : Prop := w_js_coder i σ (fun x1 σ2 => Q ((nI (str_len i)) >>> (x1 &&& 31)) σ2)
theorem b_js_length {Δ : Ly} {G : Gm} {Q : Int32 → Sg → Prop} (cx : Cx Δ G mi_js_length) (i : Nat) (hi : i < 2) (σ : Sg) (h : w_js_length i σ Q) : Y Δ G mi_js_length (qI Q) noE 0 0 σ 0 [(0, .ref (Δ.2.2.2.1 i))] [] := by
  unfold w_js_length at h
  refine y_aload_n cx (pc := 0) d_js_length_0 rfl 0 rfl ?_
  refine y_str_value cx (pc := 1) hi kw_1147 d_js_length_1 ?_
  refine y_str_alen cx (pc := 4) hi d_js_length_4 ?_
  refine y_aload_n cx (pc := 5) d_js_length_5 rfl 0 rfl ?_
  refine y_kI cx (pc := 6) (st := [.int (nI (str_len i))]) [] (c_js_coder cx.fl Δ i hi _ _ h) hi mv_js_coder kw_87 rfl (le_b rfl) (le_b rfl) (le_b rfl) (le_b rfl) (le_b rfl) d_js_length_6 (fun x1 σ2 h => ?_) (fun x σ2 h => yt_no h)
  refine y_ishr cx (pc := 9) d_js_length_9 ?_
  exact y_iret cx (pc := 10) rfl d_js_length_10 (le_b rfl) (le_b rfl) h
theorem c_js_length {l : Launch} (hfl : l.flags = flags0) (Δ : Ly) (i : Nat) (hi : i < 2) (σ : Sg) (Q : Int32 → Sg → Prop) (h : w_js_length i σ Q) : Ct l Δ mi_js_length [.ref (Δ.2.2.2.1 i)] σ (qI Q) noE :=
  Ct.of hfl (by show plainFor ⟨"java/lang/String", "length", "()I"⟩ = true; decide +kernel) rfl (le_b rfl) (fun G hl cx => b_js_length cx i hi σ h)
def mi_jl_indexOfChar : Mi := ("java/lang/StringLatin1", prog_16_method_23_code, 6, [], (some .int), 0, 0, 0, 0, ⟨"java/lang/StringLatin1", "indexOfChar", "([BIII)I"⟩)
theorem d_jl_indexOfChar_0 : decode prog_16_method_23_code 0 = .ok (.iload_n 1, 1) := by decide +kernel
theorem d_jl_indexOfChar_1 : decode prog_16_method_23_code 1 = .ok (.i2b, 1) := by decide +kernel
theorem d_jl_indexOfChar_2 : decode prog_16_method_23_code 2 = .ok (.istore 4, 2) := by decide +kernel
theorem d_jl_indexOfChar_4 : decode prog_16_method_23_code 4 = .ok (.iload_n 2, 1) := by decide +kernel
theorem d_jl_indexOfChar_5 : decode prog_16_method_23_code 5 = .ok (.istore 5, 2) := by decide +kernel
theorem d_jl_indexOfChar_7 : decode prog_16_method_23_code 7 = .ok (.iload 5, 2) := by decide +kernel
theorem d_jl_indexOfChar_9 : decode prog_16_method_23_code 9 = .ok (.iload_n 3, 1) := by decide +kernel
theorem d_jl_indexOfChar_10 : decode prog_16_method_23_code 10 = .ok (.if_icmp .ge 21, 3) := by decide +kernel
theorem d_jl_indexOfChar_13 : decode prog_16_method_23_code 13 = .ok (.aload_n 0, 1) := by decide +kernel
theorem d_jl_indexOfChar_14 : decode prog_16_method_23_code 14 = .ok (.iload 5, 2) := by decide +kernel
theorem d_jl_indexOfChar_16 : decode prog_16_method_23_code 16 = .ok (.baload, 1) := by decide +kernel
theorem d_jl_indexOfChar_17 : decode prog_16_method_23_code 17 = .ok (.iload 4, 2) := by decide +kernel
theorem d_jl_indexOfChar_19 : decode prog_16_method_23_code 19 = .ok (.if_icmp .ne 6, 3) := by decide +kernel
theorem d_jl_indexOfChar_22 : decode prog_16_method_23_code 22 = .ok (.iload 5, 2) := by decide +kernel
theorem d_jl_indexOfChar_24 : decode prog_16_method_23_code 24 = .ok (.ireturn, 1) := by decide +kernel
theorem d_jl_indexOfChar_25 : decode prog_16_method_23_code 25 = .ok (.iinc 5 1, 3) := by decide +kernel
theorem d_jl_indexOfChar_28 : decode prog_16_method_23_code 28 = .ok (.goto (-21), 3) := by decide +kernel
theorem d_jl_indexOfChar_31 : decode prog_16_method_23_code 31 = .ok (.iconst (-1), 1) := by decide +kernel
theorem d_jl_indexOfChar_32 : decode prog_16_method_23_code 32 = .ok (.ireturn, 1) := by decide +kernel
theorem kc_jl_indexOfChar : Kw (m_w (mi_jl_indexOfChar )) := ⟨(in_t1 (List.mem_of_getElem? (i := 105) rfl)), rfl⟩
theorem mv_jl_indexOfChar : MS mi_jl_indexOfChar 4 := ⟨kw_104, kc_jl_indexOfChar, kw_15, ⟨⟨(by show ("java/lang/StringLatin1" : String) ≠ "java/lang/invoke/MethodHandle"; decide), (by show ("java/lang/StringLatin1" : String) ≠ "java/lang/invoke/VarHandle"; decide)⟩, (by show (parseMethodDescriptor "([BIII)I").map (fun d => d.parameters.length) = some 4; decide +kernel)⟩⟩
def w_jl_indexOfChar_7 (i : Nat) (Q : Int32 → Sg → Prop) : Nat → Int32 → Int32 → Int32 → Sg → Prop
  | 0, _, _, _, _ => False
  | n + 1, v3, v4, v5, σ => (v3 ≤ v5 → (Q (-1) σ)) ∧ (¬ v3 ≤ v5 → (vp_in v5 (str_len i) ∧ ((¬ (str_at i v5.toNatClampNeg) = v4 → (∀ x1 : Int32, x1 = v5 + 1 → ((w_jl_indexOfChar_7 i Q n) v3 v4 x1 σ))) ∧ ((str_at i v5.toNatClampNeg) = v4 → (Q v5 σ)))))
theorem b_jl_indexOfChar_7 {Δ : Ly} {G : Gm} {i : Nat} {Q : Int32 → Sg → Prop} (cx : Cx Δ G mi_jl_indexOfChar) (hi : i < 2) : ∀ (n : Nat) (v3 : Int32) (v4 : Int32) (v5 : Int32) (σ : Sg), w_jl_indexOfChar_7 i Q n v3 v4 v5 σ → Y Δ G mi_jl_indexOfChar (qI Q) noE 0 0 σ 7 [(0, .ref (Δ.2.2.2.2 i)), (3, .int v3), (4, .int v4), (5, .int v5)] [] := by
  intro n
  induction n with
  | zero => intro v3 v4 v5 σ h; exact h.elim
  | succ n ih =>
    intro v3 v4 v5 σ h
    unfold w_jl_indexOfChar_7 at h
    refine y_iload cx (pc := 7) d_jl_indexOfChar_7 3 rfl ?_
    refine y_iload_n cx (pc := 9) d_jl_indexOfChar_9 rfl 1 rfl ?_
    refine y_icmp_ge cx (pc := 10) (tgt := 31) d_jl_indexOfChar_10 (by decide) (fun hc => ?_) (fun hc => ?_)
    · replace h := h.1 hc
      refine y_iconst cx (pc := 31) ic_m1 d_jl_indexOfChar_31 ?_
      exact y_iret cx (pc := 32) rfl d_jl_indexOfChar_32 (le_b rfl) (le_b rfl) h
    · replace h := h.2 hc
      refine y_aload_n cx (pc := 13) d_jl_indexOfChar_13 rfl 0 rfl ?_
      refine y_iload cx (pc := 14) d_jl_indexOfChar_14 3 rfl ?_
      obtain ⟨h0, h⟩ := h
      refine y_str_ald cx (pc := 16) hi h0 d_jl_indexOfChar_16 ?_
      refine y_iload cx (pc := 17) d_jl_indexOfChar_17 2 rfl ?_
      refine y_icmp_ne cx (pc := 19) (tgt := 25) d_jl_indexOfChar_19 (by decide) (fun hc => ?_) (fun hc => ?_)
      · replace h := h.1 hc
        obtain ⟨x1, ex1⟩ : ∃ y : Int32, y = v5 + 1 := ⟨_, rfl⟩
        replace h := h x1 ex1
        refine y_iinc (v := x1) (lv' := [(5, .int x1), (0, .ref (Δ.2.2.2.2 i)), (3, .int v3), (4, .int v4)]) cx (pc := 25) d_jl_indexOfChar_25 (j := 3) rfl (by rw [ex1]; rfl) (le_b rfl) rfl ?_
        refine y_goto cx (pc := 28) (tgt := 7) d_jl_indexOfChar_28 (by decide) ?_
        refine y_sub [1, 2, 3, 0] rfl ?_
        exact ih v3 v4 x1 σ h
      · replace h := h.2 hc
        refine y_iload cx (pc := 22) d_jl_indexOfChar_22 3 rfl ?_
        exact y_iret cx (pc := 24) rfl d_jl_indexOfChar_24 (le_b rfl) (le_b rfl) h
def w_jl_indexOfChar (i : Nat) (p2 : Int32) (p3 : Int32) (p4 : Int32) (σ : Sg) (Q : Int32 → Sg → Prop) : Prop := ∀ x1 : Int32, x1 = p2.toInt8.toInt32 → (∃ q7, w_jl_indexOfChar_7 i Q q7 p4 x1 p3 σ)
theorem b_jl_indexOfChar {Δ : Ly} {G : Gm} {Q : Int32 → Sg → Prop} (cx : Cx Δ G mi_jl_indexOfChar) (i : Nat) (p2 : Int32) (p3 : Int32) (p4 : Int32) (hi : i < 2) (σ : Sg) (h : w_jl_indexOfChar i p2 p3 p4 σ Q) : Y Δ G mi_jl_indexOfChar (qI Q) noE 0 0 σ 0 [(0, .ref (Δ.2.2.2.2 i)), (1, .int p2), (2, .int p3), (3, .int p4)] [] := by
  unfold w_jl_indexOfChar at h
  refine y_iload_n cx (pc := 0) d_jl_indexOfChar_0 rfl 1 rfl ?_
  refine y_i2b cx (pc := 1) d_jl_indexOfChar_1 ?_
  refine y_topi (fun x1 ex1 => ?_)
  replace h := h x1 ex1
  refine y_istore (lv' := [(4, .int x1), (0, .ref (Δ.2.2.2.2 i)), (1, .int p2), (2, .int p3), (3, .int p4)]) cx (pc := 2) d_jl_indexOfChar_2 (le_b rfl) rfl ?_
  refine y_iload_n cx (pc := 4) d_jl_indexOfChar_4 rfl 3 rfl ?_
  refine y_istore (lv' := [(5, .int p3), (4, .int x1), (0, .ref (Δ.2.2.2.2 i)), (1, .int p2), (2, .int p3), (3, .int p4)]) cx (pc := 5) d_jl_indexOfChar_5 (le_b rfl) rfl ?_
  refine y_sub [2, 5, 1, 0] rfl ?_
  obtain ⟨n, h⟩ := h
  exact b_jl_indexOfChar_7 cx hi n p4 x1 p3 σ h
theorem c_jl_indexOfChar {l : Launch} (hfl : l.flags = flags0) (Δ : Ly) (i : Nat) (p2 : Int32) (p3 : Int32) (p4 : Int32) (hi : i < 2) (σ : Sg) (Q : Int32 → Sg → Prop) (h : w_jl_indexOfChar i p2 p3 p4 σ Q) : Ct l Δ mi_jl_indexOfChar [.ref (Δ.2.2.2.2 i), .int p2, .int p3, .int p4] σ (qI Q) noE :=
  Ct.of hfl (by show plainFor ⟨"java/lang/StringLatin1", "indexOfChar", "([BIII)I"⟩ = true; decide +kernel) rfl (le_b rfl) (fun G hl cx => b_jl_indexOfChar cx i p2 p3 p4 hi σ h)
def mi_jl_indexOf : Mi := ("java/lang/StringLatin1", prog_16_method_22_code, 4, [], (some .int), 1, 29, 0, 0, ⟨"java/lang/StringLatin1", "indexOf", "([BIII)I"⟩)
theorem d_jl_indexOf_0 : decode prog_16_method_22_code 0 = .ok (.iload_n 1, 1) := by decide +kernel
theorem d_jl_indexOf_1 : decode prog_16_method_22_code 1 = .ok (.invokestatic 88, 3) := by decide +kernel
theorem d_jl_indexOf_4 : decode prog_16_method_22_code 4 = .ok (.ifCond .ne 5, 3) := by decide +kernel
theorem d_jl_indexOf_7 : decode prog_16_method_22_code 7 = .ok (.iconst (-1), 1) := by decide +kernel
theorem d_jl_indexOf_8 : decode prog_16_method_22_code 8 = .ok (.ireturn, 1) := by decide +kernel
theorem d_jl_indexOf_9 : decode prog_16_method_22_code 9 = .ok (.iload_n 2, 1) := by decide +kernel
theorem d_jl_indexOf_10 : decode prog_16_method_22_code 10 = .ok (.iconst 0, 1) := by decide +kernel
theorem d_jl_indexOf_11 : decode prog_16_method_22_code 11 = .ok (.invokestatic 92, 3) := by decide +kernel
theorem d_jl_indexOf_14 : decode prog_16_method_22_code 14 = .ok (.istore_n 2, 1) := by decide +kernel
theorem d_jl_indexOf_15 : decode prog_16_method_22_code 15 = .ok (.iload_n 3, 1) := by decide +kernel
theorem d_jl_indexOf_16 : decode prog_16_method_22_code 16 = .ok (.aload_n 0, 1) := by decide +kernel
theorem d_jl_indexOf_17 : decode prog_16_method_22_code 17 = .ok (.arraylength, 1) := by decide +kernel
theorem d_jl_indexOf_18 : decode prog_16_method_22_code 18 = .ok (.invokestatic 38, 3) := by decide +kernel
theorem d_jl_indexOf_21 : decode prog_16_method_22_code 21 = .ok (.istore_n 3, 1) := by decide +kernel
theorem d_jl_indexOf_22 : decode prog_16_method_22_code 22 = .ok (.iload_n 2, 1) := by decide +kernel
theorem d_jl_indexOf_23 : decode prog_16_method_22_code 23 = .ok (.iload_n 3, 1) := by decide +kernel
theorem d_jl_indexOf_24 : decode prog_16_method_22_code 24 = .ok (.if_icmp .lt 5, 3) := by decide +kernel
theorem d_jl_indexOf_27 : decode prog_16_method_22_code 27 = .ok (.iconst (-1), 1) := by decide +kernel
theorem d_jl_indexOf_28 : decode prog_16_method_22_code 28 = .ok (.ireturn, 1) := by decide +kernel
theorem d_jl_indexOf_29 : decode prog_16_method_22_code 29 = .ok (.aload_n 0, 1) := by decide +kernel
theorem d_jl_indexOf_30 : decode prog_16_method_22_code 30 = .ok (.iload_n 1, 1) := by decide +kernel
theorem d_jl_indexOf_31 : decode prog_16_method_22_code 31 = .ok (.iload_n 2, 1) := by decide +kernel
theorem d_jl_indexOf_32 : decode prog_16_method_22_code 32 = .ok (.iload_n 3, 1) := by decide +kernel
theorem d_jl_indexOf_33 : decode prog_16_method_22_code 33 = .ok (.invokestatic 95, 3) := by decide +kernel
theorem d_jl_indexOf_36 : decode prog_16_method_22_code 36 = .ok (.ireturn, 1) := by decide +kernel
theorem kc_jl_indexOf : Kw (m_w (mi_jl_indexOf )) := ⟨(in_t1 (List.mem_of_getElem? (i := 93) rfl)), rfl⟩
theorem mv_jl_indexOf : MS mi_jl_indexOf 4 := ⟨kw_92, kc_jl_indexOf, kw_15, ⟨⟨(by show ("java/lang/StringLatin1" : String) ≠ "java/lang/invoke/MethodHandle"; decide), (by show ("java/lang/StringLatin1" : String) ≠ "java/lang/invoke/VarHandle"; decide)⟩, (by show (parseMethodDescriptor "([BIII)I").map (fun d => d.parameters.length) = some 4; decide +kernel)⟩⟩
def w_jl_indexOf (i : Nat) (p2 : Int32) (p3 : Int32) (p4 : Int32) (σ : Sg) (Q : Int32 → Sg → Prop) : Prop := w_jl_canEncode p2 σ (fun x1 σ2 => (¬ x1 = 0 → (w_j_max p3 0 σ2 (fun x3 σ4 => w_j_min_II p4 (nI (str_len i)) σ4 (fun x5 σ6 => (x3 < x5 → (w_jl_indexOfChar i p2 x3 x5 σ6 (fun x7 σ8 => Q x7 σ8))) ∧ (¬ x3 < x5 → (Q (-1) σ6)))))) ∧ (x1 = 0 → (Q (-1) σ2)))
theorem b_jl_indexOf {Δ : Ly} {G : Gm} {Q : Int32 → Sg → Prop} (cx : Cx Δ G mi_jl_indexOf) (i : Nat) (p2 : Int32) (p3 : Int32) (p4 : Int32) (hi : i < 2) (σ : Sg) (h : w_jl_indexOf i p2 p3 p4 σ Q) : Y Δ G mi_jl_indexOf (qI Q) noE 0 0 σ 0 [(0, .ref (Δ.2.2.2.2 i)), (1, .int p2), (2, .int p3), (3, .int p4)] [] := by
  unfold w_jl_indexOf at h
  refine y_iload_n cx (pc := 0) d_jl_indexOf_0 rfl 1 rfl ?_
  refine y_sI cx (pc := 1) (st := []) [.int p2] (c_jl_canEncode cx.fl Δ p2 _ _ h) mv_jl_canEncode kw_94 rfl (le_b rfl) (le_b rfl) (le_b rfl) (le_b rfl) (le_b rfl) d_jl_indexOf_1 (fun x1 σ2 h => ?_) (fun x σ2 h => yt_no h)
  refine y_if_ne cx (pc := 4) (tgt := 9) d_jl_indexOf_4 (by decide) (fun hc => ?_) (fun hc => ?_)
  · replace h := h.1 hc
    refine y_iload_n cx (pc := 9) d_jl_indexOf_9 rfl 2 rfl ?_
    refine y_iconst cx (pc := 10) ic_0 d_jl_indexOf_10 ?_
    refine y_sI cx (pc := 11) (st := []) [.int p3, .int 0] (c_j_max cx.fl Δ p3 0 _ _ h) mv_j_max kw_97 rfl (le_b rfl) (le_b rfl) (le_b rfl) (le_b rfl) (le_b rfl) d_jl_indexOf_11 (fun x3 σ4 h => ?_) (fun x σ4 h => yt_no h)
    refine y_istore_n (lv' := [(2, .int x3), (0, .ref (Δ.2.2.2.2 i)), (1, .int p2), (3, .int p4)]) cx (pc := 14) d_jl_indexOf_14 rfl (le_b rfl) rfl ?_
    refine y_iload_n cx (pc := 15) d_jl_indexOf_15 rfl 3 rfl ?_
    refine y_aload_n cx (pc := 16) d_jl_indexOf_16 rfl 1 rfl ?_
    refine y_str_alen cx (pc := 17) hi d_jl_indexOf_17 ?_
    refine y_sI cx (pc := 18) (st := []) [.int p4, .int (nI (str_len i))] (c_j_min_II cx.fl Δ p4 (nI (str_len i)) _ _ h) mv_j_min_II kw_100 rfl (le_b rfl) (le_b rfl) (le_b rfl) (le_b rfl) (le_b rfl) d_jl_indexOf_18 (fun x5 σ6 h => ?_) (fun x σ6 h => yt_no h)
    refine y_istore_n (lv' := [(3, .int x5), (2, .int x3), (0, .ref (Δ.2.2.2.2 i)), (1, .int p2)]) cx (pc := 21) d_jl_indexOf_21 rfl (le_b rfl) rfl ?_
    refine y_iload_n cx (pc := 22) d_jl_indexOf_22 rfl 1 rfl ?_
    refine y_iload_n cx (pc := 23) d_jl_indexOf_23 rfl 0 rfl ?_
    refine y_icmp_lt cx (pc := 24) (tgt := 29) d_jl_indexOf_24 (by decide) (fun hc => ?_) (fun hc => ?_)
    · replace h := h.1 hc
      refine y_aload_n cx (pc := 29) d_jl_indexOf_29 rfl 2 rfl ?_
      refine y_iload_n cx (pc := 30) d_jl_indexOf_30 rfl 3 rfl ?_
      refine y_iload_n cx (pc := 31) d_jl_indexOf_31 rfl 1 rfl ?_
      refine y_iload_n cx (pc := 32) d_jl_indexOf_32 rfl 0 rfl ?_
      refine y_sI cx (pc := 33) (st := []) [.ref (Δ.2.2.2.2 i), .int p2, .int x3, .int x5] (c_jl_indexOfChar cx.fl Δ i p2 x3 x5 hi _ _ h) mv_jl_indexOfChar kw_103 rfl (le_b rfl) (le_b rfl) (le_b rfl) (le_b rfl) (le_b rfl) d_jl_indexOf_33 (fun x7 σ8 h => ?_) (fun x σ8 h => yt_no h)
      exact y_iret cx (pc := 36) rfl d_jl_indexOf_36 (le_b rfl) (le_b rfl) h
    · replace h := h.2 hc
      refine y_iconst cx (pc := 27) ic_m1 d_jl_indexOf_27 ?_
      exact y_iret cx (pc := 28) rfl d_jl_indexOf_28 (le_b rfl) (le_b rfl) h
  · replace h := h.2 hc
    refine y_iconst cx (pc := 7) ic_m1 d_jl_indexOf_7 ?_
    exact y_iret cx (pc := 8) rfl d_jl_indexOf_8 (le_b rfl) (le_b rfl) h
theorem c_jl_indexOf {l : Launch} (hfl : l.flags = flags0) (Δ : Ly) (i : Nat) (p2 : Int32) (p3 : Int32) (p4 : Int32) (hi : i < 2) (σ : Sg) (Q : Int32 → Sg → Prop) (h : w_jl_indexOf i p2 p3 p4 σ Q) : Ct l Δ mi_jl_indexOf [.ref (Δ.2.2.2.2 i), .int p2, .int p3, .int p4] σ (qI Q) noE :=
  Ct.of hfl (by show plainFor ⟨"java/lang/StringLatin1", "indexOf", "([BIII)I"⟩ = true; decide +kernel) rfl (le_b rfl) (fun G hl cx => b_jl_indexOf cx i p2 p3 p4 hi σ h)
def mi_js_indexOf_II : Mi := ("java/lang/String", prog_15_method_80_code, 3, [], (some .int), 2, 56, 0, 0, ⟨"java/lang/String", "indexOf", "(II)I"⟩)
theorem d_js_indexOf_II_0 : decode prog_15_method_80_code 0 = .ok (.aload_n 0, 1) := by decide +kernel
theorem d_js_indexOf_II_1 : decode prog_15_method_80_code 1 = .ok (.invokevirtual 492, 3) := by decide +kernel
theorem d_js_indexOf_II_4 : decode prog_15_method_80_code 4 = .ok (.ifCond .eq 19, 3) := by decide +kernel
theorem d_js_indexOf_II_7 : decode prog_15_method_80_code 7 = .ok (.aload_n 0, 1) := by decide +kernel
theorem d_js_indexOf_II_8 : decode prog_15_method_80_code 8 = .ok (.getfield 9, 3) := by decide +kernel
theorem d_js_indexOf_II_11 : decode prog_15_method_80_code 11 = .ok (.iload_n 1, 1) := by decide +kernel
theorem d_js_indexOf_II_12 : decode prog_15_method_80_code 12 = .ok (.iload_n 2, 1) := by decide +kernel
theorem d_js_indexOf_II_13 : decode prog_15_method_80_code 13 = .ok (.aload_n 0, 1) := by decide +kernel
theorem d_js_indexOf_II_14 : decode prog_15_method_80_code 14 = .ok (.invokevirtual 505, 3) := by decide +kernel
theorem d_js_indexOf_II_17 : decode prog_15_method_80_code 17 = .ok (.invokestatic 637, 3) := by decide +kernel
theorem d_js_indexOf_II_20 : decode prog_15_method_80_code 20 = .ok (.goto 16, 3) := by decide +kernel
theorem d_js_indexOf_II_23 : decode prog_15_method_80_code 23 = .ok (.aload_n 0, 1) := by decide +kernel
theorem d_js_indexOf_II_24 : decode prog_15_method_80_code 24 = .ok (.getfield 9, 3) := by decide +kernel
theorem d_js_indexOf_II_27 : decode prog_15_method_80_code 27 = .ok (.iload_n 1, 1) := by decide +kernel
theorem d_js_indexOf_II_28 : decode prog_15_method_80_code 28 = .ok (.iload_n 2, 1) := by decide +kernel
theorem d_js_indexOf_II_29 : decode prog_15_method_80_code 29 = .ok (.aload_n 0, 1) := by decide +kernel
theorem d_js_indexOf_II_30 : decode prog_15_method_80_code 30 = .ok (.invokevirtual 505, 3) := by decide +kernel
theorem d_js_indexOf_II_33 : decode prog_15_method_80_code 33 = .ok (.invokestatic 640, 3) := by decide +kernel
theorem d_js_indexOf_II_36 : decode prog_15_method_80_code 36 = .ok (.ireturn, 1) := by decide +kernel
theorem kc_js_indexOf_II : Kw (m_w (mi_js_indexOf_II )) := ⟨(in_t1 (List.mem_of_getElem? (i := 76) rfl)), rfl⟩
theorem mv_js_indexOf_II : MV (mi_js_indexOf_II ) "java/lang/String" 2 := ⟨kw_74, kw_75, kc_js_indexOf_II , kw_11, ⟨⟨(by show ("java/lang/String" : String) ≠ "java/lang/invoke/MethodHandle"; decide), (by show ("java/lang/String" : String) ≠ "java/lang/invoke/VarHandle"; decide)⟩, (by show (parseMethodDescriptor "(II)I").map (fun d => d.parameters.length) = some 2; decide +kernel)⟩⟩
def w_js_indexOf_II_36 (i : Nat) (Q : Int32 → Sg → Prop) (s0 : Int32) (σ : Sg) : Prop := Q s0 σ
theorem b_js_indexOf_II_36 {Δ : Ly} {G : Gm} {i : Nat} {Q : Int32 → Sg → Prop} (cx : Cx Δ G mi_js_indexOf_II) (hi : i < 2) : ∀ (s0 : Int32) (σ : Sg), w_js_indexOf_II_36 i Q s0 σ → Y Δ G mi_js_indexOf_II (qI Q) noE 0 0 σ 36 [] [.int s0] := by
  intro s0 σ h
  unfold w_js_indexOf_II_36 at h
  exact y_iret cx (pc := 36) rfl d_js_indexOf_II_36 (le_b rfl) (le_b rfl) h
def w_js_indexOf_II (i : Nat) (p1 : Int32) (p2 : Int32) (σ : Sg) (Q : Int32 → Sg → Prop) : Prop := w_js_isLatin1 i σ (fun x1 σ2 => (x1 = 0 → (w_js_length i σ2 (fun x3 σ4 => False))) ∧ (¬ x1 = 0 → (w_js_length i σ2 (fun x5 σ6 => w_jl_indexOf i p1 p2 x5 σ6 (fun x7 σ8 => w_js_indexOf_II_36 i Q x7 σ8)))))
theorem b_js_indexOf_II {Δ : Ly} {G : Gm} {Q : Int32 → Sg → Prop} (cx : Cx Δ G mi_js_indexOf_II) (i : Nat) (p1 : Int32) (p2 : Int32) (hi : i < 2) (σ : Sg) (h : w_js_indexOf_II i p1 p2 σ Q) : Y Δ G mi_js_indexOf_II (qI Q) noE 0 0 σ 0 [(0, .ref (Δ.2.2.2.1 i)), (1, .int p1), (2, .int p2)] [] := by
  unfold w_js_indexOf_II at h
  refine y_aload_n cx (pc := 0) d_js_indexOf_II_0 rfl 0 rfl ?_
  refine y_kI cx (pc := 1) (st := []) [] (c_js_isLatin1 cx.fl Δ i hi _ _ h) hi mv_js_isLatin1 kw_77 rfl (le_b rfl) (le_b rfl) (le_b rfl) (le_b rfl) (le_b rfl) d_js_indexOf_II_1 (fun x1 σ2 h => ?_) (fun x σ2 h => yt_no h)
  refine y_if_eq cx (pc := 4) (tgt := 23) d_js_indexOf_II_4 (by decide) (fun hc => ?_) (fun hc => ?_)
  · replace h := h.1 hc
    refine y_aload_n cx (pc := 23) d_js_indexOf_II_23 rfl 0 rfl ?_
    refine y_str_value cx (pc := 24) hi kw_1147 d_js_indexOf_II_24 ?_
    refine y_iload_n cx (pc := 27) d_js_indexOf_II_27 rfl 1 rfl ?_
    refine y_iload_n cx (pc := 28) d_js_indexOf_II_28 rfl 2 rfl ?_
    refine y_aload_n cx (pc := 29) d_js_indexOf_II_29 rfl 0 rfl ?_
    refine y_kI cx (pc := 30) (st := [.int p2, .int p1, .ref (Δ.2.2.2.2 i)]) [] (c_js_length cx.fl Δ i hi _ _ h) hi mv_js_length kw_83 rfl (le_b rfl) (le_b rfl) (le_b rfl) (le_b rfl) (le_b rfl) d_js_indexOf_II_30 (fun x3 σ4 h => ?_) (fun x σ4 h => yt_no h)
    exact h.elim
  · replace h := h.2 hc
    refine y_aload_n cx (pc := 7) d_js_indexOf_II_7 rfl 0 rfl ?_
    refine y_str_value cx (pc := 8) hi kw_1147 d_js_indexOf_II_8 ?_
    refine y_iload_n cx (pc := 11) d_js_indexOf_II_11 rfl 1 rfl ?_
    refine y_iload_n cx (pc := 12) d_js_indexOf_II_12 rfl 2 rfl ?_
    refine y_aload_n cx (pc := 13) d_js_indexOf_II_13 rfl 0 rfl ?_
    refine y_kI cx (pc := 14) (st := [.int p2, .int p1, .ref (Δ.2.2.2.2 i)]) [] (c_js_length cx.fl Δ i hi _ _ h) hi mv_js_length kw_83 rfl (le_b rfl) (le_b rfl) (le_b rfl) (le_b rfl) (le_b rfl) d_js_indexOf_II_14 (fun x5 σ6 h => ?_) (fun x σ6 h => yt_no h)
    refine y_sI cx (pc := 17) (st := []) [.ref (Δ.2.2.2.2 i), .int p1, .int p2, .int x5] (c_jl_indexOf cx.fl Δ i p1 p2 x5 hi _ _ h) mv_jl_indexOf kw_91 rfl (le_b rfl) (le_b rfl) (le_b rfl) (le_b rfl) (le_b rfl) d_js_indexOf_II_17 (fun x7 σ8 h => ?_) (fun x σ8 h => yt_no h)
    refine y_goto cx (pc := 20) (tgt := 36) d_js_indexOf_II_20 (by decide) ?_
    refine y_sub [] rfl ?_
    exact b_js_indexOf_II_36 cx hi x7 σ8 h
theorem c_js_indexOf_II {l : Launch} (hfl : l.flags = flags0) (Δ : Ly) (i : Nat) (p1 : Int32) (p2 : Int32) (hi : i < 2) (σ : Sg) (Q : Int32 → Sg → Prop) (h : w_js_indexOf_II i p1 p2 σ Q) : Ct l Δ mi_js_indexOf_II [.ref (Δ.2.2.2.1 i), .int p1, .int p2] σ (qI Q) noE :=
  Ct.of hfl (by show plainFor ⟨"java/lang/String", "indexOf", "(II)I"⟩ = true; decide +kernel) rfl (le_b rfl) (fun G hl cx => b_js_indexOf_II cx i p1 p2 hi σ h)
def mi_js_indexOf_I : Mi := ("java/lang/String", prog_15_method_79_code, 2, [], (some .int), 3, 82, 0, 0, ⟨"java/lang/String", "indexOf", "(I)I"⟩)
theorem d_js_indexOf_I_0 : decode prog_15_method_79_code 0 = .ok (.aload_n 0, 1) := by decide +kernel
theorem d_js_indexOf_I_1 : decode prog_15_method_79_code 1 = .ok (.iload_n 1, 1) := by decide +kernel
theorem d_js_indexOf_I_2 : decode prog_15_method_79_code 2 = .ok (.iconst 0, 1) := by decide +kernel
theorem d_js_indexOf_I_3 : decode prog_15_method_79_code 3 = .ok (.invokevirtual 633, 3) := by decide +kernel
theorem d_js_indexOf_I_6 : decode prog_15_method_79_code 6 = .ok (.ireturn, 1) := by decide +kernel
theorem kc_js_indexOf_I : Kw (m_w (mi_js_indexOf_I )) := ⟨(in_t1 (List.mem_of_getElem? (i := 72) rfl)), rfl⟩
theorem mv_js_indexOf_I : MV (mi_js_indexOf_I ) "java/lang/String" 1 := ⟨kw_70, kw_71, kc_js_indexOf_I , kw_11, ⟨⟨(by show ("java/lang/String" : String) ≠ "java/lang/invoke/MethodHandle"; decide), (by show ("java/lang/String" : String) ≠ "java/lang/invoke/VarHandle"; decide)⟩, (by show (parseMethodDescriptor "(I)I").map (fun d => d.parameters.length) = some 1; decide +kernel)⟩⟩
def w_js_indexOf_I (i : Nat) (p1 : Int32) (σ : Sg) (Q : Int32 → Sg → Prop) : Prop := w_js_indexOf_II i p1 0 σ (fun x1 σ2 => Q x1 σ2)
theorem b_js_indexOf_I {Δ : Ly} {G : Gm} {Q : Int32 → Sg → Prop} (cx : Cx Δ G mi_js_indexOf_I) (i : Nat) (p1 : Int32) (hi : i < 2) (σ : Sg) (h : w_js_indexOf_I i p1 σ Q) : Y Δ G mi_js_indexOf_I (qI Q) noE 0 0 σ 0 [(0, .ref (Δ.2.2.2.1 i)), (1, .int p1)] [] := by
  unfold w_js_indexOf_I at h
  refine y_aload_n cx (pc := 0) d_js_indexOf_I_0 rfl 0 rfl ?_
  refine y_iload_n cx (pc := 1) d_js_indexOf_I_1 rfl 1 rfl ?_
  refine y_iconst cx (pc := 2) ic_0 d_js_indexOf_I_2 ?_
  refine y_kI cx (pc := 3) (st := []) [.int p1, .int 0] (c_js_indexOf_II cx.fl Δ i p1 0 hi _ _ h) hi mv_js_indexOf_II kw_73 rfl (le_b rfl) (le_b rfl) (le_b rfl) (le_b rfl) (le_b rfl) d_js_indexOf_I_3 (fun x1 σ2 h => ?_) (fun x σ2 h => yt_no h)
  exact y_iret cx (pc := 6) rfl d_js_indexOf_I_6 (le_b rfl) (le_b rfl) h
theorem c_js_indexOf_I {l : Launch} (hfl : l.flags = flags0) (Δ : Ly) (i : Nat) (p1 : Int32) (hi : i < 2) (σ : Sg) (Q : Int32 → Sg → Prop) (h : w_js_indexOf_I i p1 σ Q) : Ct l Δ mi_js_indexOf_I [.ref (Δ.2.2.2.1 i), .int p1] σ (qI Q) noE :=
  Ct.of hfl (by show plainFor ⟨"java/lang/String", "indexOf", "(I)I"⟩ = true; decide +kernel) rfl (le_b rfl) (fun G hl cx => b_js_indexOf_I cx i p1 hi σ h)

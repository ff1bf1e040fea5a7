def mi_x_takes : Mi := ("GuardedMoves", prog_1_method_38_code, 1, [], (some .int), 0, 0, 0, 0, ⟨"GuardedMoves", "takes", "(I)I"⟩)
theorem d_x_takes_0 : decode prog_1_method_38_code 0 = .ok (.iload_n 0, 1) := by decide +kernel
theorem d_x_takes_1 : decode prog_1_method_38_code 1 = .ok (.ifCond .eq 9, 3) := by decide +kernel
theorem d_x_takes_4 : decode prog_1_method_38_code 4 = .ok (.iload_n 0, 1) := by decide +kernel
theorem d_x_takes_5 : decode prog_1_method_38_code 5 = .ok (.bipush 16, 2) := by decide +kernel
theorem d_x_takes_7 : decode prog_1_method_38_code 7 = .ok (.if_icmp .ne 7, 3) := by decide +kernel
theorem d_x_takes_10 : decode prog_1_method_38_code 10 = .ok (.iconst 0, 1) := by decide +kernel
theorem d_x_takes_11 : decode prog_1_method_38_code 11 = .ok (.goto 57, 3) := by decide +kernel
theorem d_x_takes_14 : decode prog_1_method_38_code 14 = .ok (.iload_n 0, 1) := by decide +kernel
theorem d_x_takes_15 : decode prog_1_method_38_code 15 = .ok (.iconst 1, 1) := by decide +kernel
theorem d_x_takes_16 : decode prog_1_method_38_code 16 = .ok (.if_icmp .eq 9, 3) := by decide +kernel
theorem d_x_takes_19 : decode prog_1_method_38_code 19 = .ok (.iload_n 0, 1) := by decide +kernel
theorem d_x_takes_20 : decode prog_1_method_38_code 20 = .ok (.bipush 14, 2) := by decide +kernel
theorem d_x_takes_22 : decode prog_1_method_38_code 22 = .ok (.if_icmp .ne 7, 3) := by decide +kernel
theorem d_x_takes_25 : decode prog_1_method_38_code 25 = .ok (.iconst 2, 1) := by decide +kernel
theorem d_x_takes_26 : decode prog_1_method_38_code 26 = .ok (.goto 42, 3) := by decide +kernel
theorem d_x_takes_29 : decode prog_1_method_38_code 29 = .ok (.iload_n 0, 1) := by decide +kernel
theorem d_x_takes_30 : decode prog_1_method_38_code 30 = .ok (.bipush 13, 2) := by decide +kernel
theorem d_x_takes_32 : decode prog_1_method_38_code 32 = .ok (.if_icmp .ne 8, 3) := by decide +kernel
theorem d_x_takes_35 : decode prog_1_method_38_code 35 = .ok (.bipush 14, 2) := by decide +kernel
theorem d_x_takes_37 : decode prog_1_method_38_code 37 = .ok (.goto 31, 3) := by decide +kernel
theorem d_x_takes_40 : decode prog_1_method_38_code 40 = .ok (.iload_n 0, 1) := by decide +kernel
theorem d_x_takes_41 : decode prog_1_method_38_code 41 = .ok (.bipush 15, 2) := by decide +kernel
theorem d_x_takes_43 : decode prog_1_method_38_code 43 = .ok (.if_icmp .ne 7, 3) := by decide +kernel
theorem d_x_takes_46 : decode prog_1_method_38_code 46 = .ok (.iconst 3, 1) := by decide +kernel
theorem d_x_takes_47 : decode prog_1_method_38_code 47 = .ok (.goto 21, 3) := by decide +kernel
theorem d_x_takes_50 : decode prog_1_method_38_code 50 = .ok (.iload_n 0, 1) := by decide +kernel
theorem d_x_takes_51 : decode prog_1_method_38_code 51 = .ok (.bipush 17, 2) := by decide +kernel
theorem d_x_takes_53 : decode prog_1_method_38_code 53 = .ok (.if_icmp .eq 9, 3) := by decide +kernel
theorem d_x_takes_56 : decode prog_1_method_38_code 56 = .ok (.iload_n 0, 1) := by decide +kernel
theorem d_x_takes_57 : decode prog_1_method_38_code 57 = .ok (.bipush 18, 2) := by decide +kernel
theorem d_x_takes_59 : decode prog_1_method_38_code 59 = .ok (.if_icmp .ne 7, 3) := by decide +kernel
theorem d_x_takes_62 : decode prog_1_method_38_code 62 = .ok (.iconst 1, 1) := by decide +kernel
theorem d_x_takes_63 : decode prog_1_method_38_code 63 = .ok (.goto 5, 3) := by decide +kernel
theorem d_x_takes_66 : decode prog_1_method_38_code 66 = .ok (.bipush 6, 2) := by decide +kernel
theorem d_x_takes_68 : decode prog_1_method_38_code 68 = .ok (.ireturn, 1) := by decide +kernel
theorem kc_x_takes : Kw (m_w (mi_x_takes )) := ⟨(in_t1 (List.mem_of_getElem? (i := 191) rfl)), rfl⟩
theorem mv_x_takes : MS mi_x_takes 1 := ⟨kw_190, kc_x_takes, kw_1, ⟨⟨(by show ("GuardedMoves" : String) ≠ "java/lang/invoke/MethodHandle"; decide), (by show ("GuardedMoves" : String) ≠ "java/lang/invoke/VarHandle"; decide)⟩, (by show (parseMethodDescriptor "(I)I").map (fun d => d.parameters.length) = some 1; decide +kernel)⟩⟩
def w_x_takes_68 (Q : Int32 → Sg → Prop) (s0 : Int32) (σ : Sg) : Prop := Q s0 σ
theorem b_x_takes_68 {Δ : Ly} {G : Gm} {Q : Int32 → Sg → Prop} (cx : Cx Δ G mi_x_takes) : ∀ (s0 : Int32) (σ : Sg), w_x_takes_68 Q s0 σ → Y Δ G mi_x_takes (qI Q) noE 0 0 σ 68 [] [.int s0] := by
  intro s0 σ h
  unfold w_x_takes_68 at h
  exact y_iret cx (pc := 68) rfl d_x_takes_68 (le_b rfl) (le_b rfl) h
def w_x_takes_10 (Q : Int32 → Sg → Prop) (σ : Sg) : Prop := w_x_takes_68 Q 0 σ
theorem b_x_takes_10 {Δ : Ly} {G : Gm} {Q : Int32 → Sg → Prop} (cx : Cx Δ G mi_x_takes) : ∀ (σ : Sg), w_x_takes_10 Q σ → Y Δ G mi_x_takes (qI Q) noE 0 0 σ 10 [] [] := by
  intro σ h
  unfold w_x_takes_10 at h
  refine y_iconst cx (pc := 10) ic_0 d_x_takes_10 ?_
  refine y_goto cx (pc := 11) (tgt := 68) d_x_takes_11 (by decide) ?_
  exact b_x_takes_68 cx 0 σ h
def w_x_takes_25 (Q : Int32 → Sg → Prop) (σ : Sg) : Prop := w_x_takes_68 Q 2 σ
theorem b_x_takes_25 {Δ : Ly} {G : Gm} {Q : Int32 → Sg → Prop} (cx : Cx Δ G mi_x_takes) : ∀ (σ : Sg), w_x_takes_25 Q σ → Y Δ G mi_x_takes (qI Q) noE 0 0 σ 25 [] [] := by
  intro σ h
  unfold w_x_takes_25 at h
  refine y_iconst cx (pc := 25) ic_2 d_x_takes_25 ?_
  refine y_goto cx (pc := 26) (tgt := 68) d_x_takes_26 (by decide) ?_
  exact b_x_takes_68 cx 2 σ h
def w_x_takes_62 (Q : Int32 → Sg → Prop) (σ : Sg) : Prop := w_x_takes_68 Q 1 σ
theorem b_x_takes_62 {Δ : Ly} {G : Gm} {Q : Int32 → Sg → Prop} (cx : Cx Δ G mi_x_takes) : ∀ (σ : Sg), w_x_takes_62 Q σ → Y Δ G mi_x_takes (qI Q) noE 0 0 σ 62 [] [] := by
  intro σ h
  unfold w_x_takes_62 at h
  refine y_iconst cx (pc := 62) ic_1 d_x_takes_62 ?_
  refine y_goto cx (pc := 63) (tgt := 68) d_x_takes_63 (by decide) ?_
  exact b_x_takes_68 cx 1 σ h
def w_x_takes (p1 : Int32) (σ : Sg) (Q : Int32 → Sg → Prop) : Prop := (p1 = 0 → (w_x_takes_10 Q σ)) ∧ (¬ p1 = 0 → ((¬ p1 = 16 → ((p1 = 1 → (w_x_takes_25 Q σ)) ∧ (¬ p1 = 1 → ((¬ p1 = 14 → ((¬ p1 = 13 → ((¬ p1 = 15 → ((p1 = 17 → (w_x_takes_62 Q σ)) ∧ (¬ p1 = 17 → ((¬ p1 = 18 → (w_x_takes_68 Q 6 σ)) ∧ (p1 = 18 → (w_x_takes_62 Q σ)))))) ∧ (p1 = 15 → (w_x_takes_68 Q 3 σ)))) ∧ (p1 = 13 → (w_x_takes_68 Q 14 σ)))) ∧ (p1 = 14 → (w_x_takes_25 Q σ)))))) ∧ (p1 = 16 → (w_x_takes_10 Q σ))))
theorem b_x_takes {Δ : Ly} {G : Gm} {Q : Int32 → Sg → Prop} (cx : Cx Δ G mi_x_takes) (p1 : Int32) (σ : Sg) (h : w_x_takes p1 σ Q) : Y Δ G mi_x_takes (qI Q) noE 0 0 σ 0 [(0, .int p1)] [] := by
  unfold w_x_takes at h
  refine y_iload_n cx (pc := 0) d_x_takes_0 rfl 0 rfl ?_
  refine y_if_eq cx (pc := 1) (tgt := 10) d_x_takes_1 (by decide) (fun hc => ?_) (fun hc => ?_)
  · replace h := h.1 hc
    refine y_sub [] rfl ?_
    exact b_x_takes_10 cx σ h
  · replace h := h.2 hc
    refine y_iload_n cx (pc := 4) d_x_takes_4 rfl 0 rfl ?_
    refine y_bipush cx (pc := 5) bp_16 d_x_takes_5 ?_
    refine y_icmp_ne cx (pc := 7) (tgt := 14) d_x_takes_7 (by decide) (fun hc => ?_) (fun hc => ?_)
    · replace h := h.1 hc
      refine y_iload_n cx (pc := 14) d_x_takes_14 rfl 0 rfl ?_
      refine y_iconst cx (pc := 15) ic_1 d_x_takes_15 ?_
      refine y_icmp_eq cx (pc := 16) (tgt := 25) d_x_takes_16 (by decide) (fun hc => ?_) (fun hc => ?_)
      · replace h := h.1 hc
        refine y_sub [] rfl ?_
        exact b_x_takes_25 cx σ h
      · replace h := h.2 hc
        refine y_iload_n cx (pc := 19) d_x_takes_19 rfl 0 rfl ?_
        refine y_bipush cx (pc := 20) bp_14 d_x_takes_20 ?_
        refine y_icmp_ne cx (pc := 22) (tgt := 29) d_x_takes_22 (by decide) (fun hc => ?_) (fun hc => ?_)
        · replace h := h.1 hc
          refine y_iload_n cx (pc := 29) d_x_takes_29 rfl 0 rfl ?_
          refine y_bipush cx (pc := 30) bp_13 d_x_takes_30 ?_
          refine y_icmp_ne cx (pc := 32) (tgt := 40) d_x_takes_32 (by decide) (fun hc => ?_) (fun hc => ?_)
          · replace h := h.1 hc
            refine y_iload_n cx (pc := 40) d_x_takes_40 rfl 0 rfl ?_
            refine y_bipush cx (pc := 41) bp_15 d_x_takes_41 ?_
            refine y_icmp_ne cx (pc := 43) (tgt := 50) d_x_takes_43 (by decide) (fun hc => ?_) (fun hc => ?_)
            · replace h := h.1 hc
              refine y_iload_n cx (pc := 50) d_x_takes_50 rfl 0 rfl ?_
              refine y_bipush cx (pc := 51) bp_17 d_x_takes_51 ?_
              refine y_icmp_eq cx (pc := 53) (tgt := 62) d_x_takes_53 (by decide) (fun hc => ?_) (fun hc => ?_)
              · replace h := h.1 hc
                refine y_sub [] rfl ?_
                exact b_x_takes_62 cx σ h
              · replace h := h.2 hc
                refine y_iload_n cx (pc := 56) d_x_takes_56 rfl 0 rfl ?_
                refine y_bipush cx (pc := 57) bp_18 d_x_takes_57 ?_
                refine y_icmp_ne cx (pc := 59) (tgt := 66) d_x_takes_59 (by decide) (fun hc => ?_) (fun hc => ?_)
                · replace h := h.1 hc
                  refine y_bipush cx (pc := 66) bp_6 d_x_takes_66 ?_
                  refine y_sub [] rfl ?_
                  exact b_x_takes_68 cx 6 σ h
                · replace h := h.2 hc
                  refine y_sub [] rfl ?_
                  exact b_x_takes_62 cx σ h
            · replace h := h.2 hc
              refine y_iconst cx (pc := 46) ic_3 d_x_takes_46 ?_
              refine y_goto cx (pc := 47) (tgt := 68) d_x_takes_47 (by decide) ?_
              refine y_sub [] rfl ?_
              exact b_x_takes_68 cx 3 σ h
          · replace h := h.2 hc
            refine y_bipush cx (pc := 35) bp_14 d_x_takes_35 ?_
            refine y_goto cx (pc := 37) (tgt := 68) d_x_takes_37 (by decide) ?_
            refine y_sub [] rfl ?_
            exact b_x_takes_68 cx 14 σ h
        · replace h := h.2 hc
          refine y_sub [] rfl ?_
          exact b_x_takes_25 cx σ h
    · replace h := h.2 hc
      refine y_sub [] rfl ?_
      exact b_x_takes_10 cx σ h
theorem c_x_takes {l : Launch} (hfl : l.flags = flags0) (Δ : Ly) (p1 : Int32) (σ : Sg) (Q : Int32 → Sg → Prop) (h : w_x_takes p1 σ Q) : Ct l Δ mi_x_takes [.int p1] σ (qI Q) noE :=
  Ct.of hfl (by show plainFor ⟨"GuardedMoves", "takes", "(I)I"⟩ = true; decide +kernel) rfl (le_b rfl) (fun G hl cx => b_x_takes cx p1 σ h)
def mi_x_isTaken : Mi := ("GuardedMoves", prog_1_method_39_code, 5, [], (some .boolean), 1, 24, 0, 0, ⟨"GuardedMoves", "isTaken", "(I)Z"⟩)
theorem d_x_isTaken_0 : decode prog_1_method_39_code 0 = .ok (.iconst 0, 1) := by decide +kernel
theorem d_x_isTaken_1 : decode prog_1_method_39_code 1 = .ok (.istore_n 2, 1) := by decide +kernel
theorem d_x_isTaken_2 : decode prog_1_method_39_code 2 = .ok (.iconst 0, 1) := by decide +kernel
theorem d_x_isTaken_3 : decode prog_1_method_39_code 3 = .ok (.istore_n 3, 1) := by decide +kernel
theorem d_x_isTaken_4 : decode prog_1_method_39_code 4 = .ok (.iload_n 3, 1) := by decide +kernel
theorem d_x_isTaken_5 : decode prog_1_method_39_code 5 = .ok (.aload_n 0, 1) := by decide +kernel
theorem d_x_isTaken_6 : decode prog_1_method_39_code 6 = .ok (.getfield 183, 3) := by decide +kernel
theorem d_x_isTaken_9 : decode prog_1_method_39_code 9 = .ok (.if_icmp .ge 69, 3) := by decide +kernel
theorem d_x_isTaken_12 : decode prog_1_method_39_code 12 = .ok (.iload_n 2, 1) := by decide +kernel
theorem d_x_isTaken_13 : decode prog_1_method_39_code 13 = .ok (.ifCond .ne 65, 3) := by decide +kernel
theorem d_x_isTaken_16 : decode prog_1_method_39_code 16 = .ok (.iconst 0, 1) := by decide +kernel
theorem d_x_isTaken_17 : decode prog_1_method_39_code 17 = .ok (.istore 4, 2) := by decide +kernel
theorem d_x_isTaken_19 : decode prog_1_method_39_code 19 = .ok (.iload 4, 2) := by decide +kernel
theorem d_x_isTaken_21 : decode prog_1_method_39_code 21 = .ok (.iconst 4, 1) := by decide +kernel
theorem d_x_isTaken_22 : decode prog_1_method_39_code 22 = .ok (.if_icmp .ge 50, 3) := by decide +kernel
theorem d_x_isTaken_25 : decode prog_1_method_39_code 25 = .ok (.iload_n 2, 1) := by decide +kernel
theorem d_x_isTaken_26 : decode prog_1_method_39_code 26 = .ok (.ifCond .ne 34, 3) := by decide +kernel
theorem d_x_isTaken_29 : decode prog_1_method_39_code 29 = .ok (.aload_n 0, 1) := by decide +kernel
theorem d_x_isTaken_30 : decode prog_1_method_39_code 30 = .ok (.getfield 186, 3) := by decide +kernel
theorem d_x_isTaken_33 : decode prog_1_method_39_code 33 = .ok (.iload_n 3, 1) := by decide +kernel
theorem d_x_isTaken_34 : decode prog_1_method_39_code 34 = .ok (.iaload, 1) := by decide +kernel
theorem d_x_isTaken_35 : decode prog_1_method_39_code 35 = .ok (.invokestatic 274, 3) := by decide +kernel
theorem d_x_isTaken_38 : decode prog_1_method_39_code 38 = .ok (.iload 4, 2) := by decide +kernel
theorem d_x_isTaken_40 : decode prog_1_method_39_code 40 = .ok (.ishr, 1) := by decide +kernel
theorem d_x_isTaken_41 : decode prog_1_method_39_code 41 = .ok (.iconst 1, 1) := by decide +kernel
theorem d_x_isTaken_42 : decode prog_1_method_39_code 42 = .ok (.iand, 1) := by decide +kernel
theorem d_x_isTaken_43 : decode prog_1_method_39_code 43 = .ok (.iconst 1, 1) := by decide +kernel
theorem d_x_isTaken_44 : decode prog_1_method_39_code 44 = .ok (.if_icmp .ne 20, 3) := by decide +kernel
theorem d_x_isTaken_47 : decode prog_1_method_39_code 47 = .ok (.aload_n 0, 1) := by decide +kernel
theorem d_x_isTaken_48 : decode prog_1_method_39_code 48 = .ok (.getfield 189, 3) := by decide +kernel
theorem d_x_isTaken_51 : decode prog_1_method_39_code 51 = .ok (.iload 4, 2) := by decide +kernel
theorem d_x_isTaken_53 : decode prog_1_method_39_code 53 = .ok (.aaload, 1) := by decide +kernel
theorem d_x_isTaken_54 : decode prog_1_method_39_code 54 = .ok (.iload_n 3, 1) := by decide +kernel
theorem d_x_isTaken_55 : decode prog_1_method_39_code 55 = .ok (.iaload, 1) := by decide +kernel
theorem d_x_isTaken_56 : decode prog_1_method_39_code 56 = .ok (.iload_n 1, 1) := by decide +kernel
theorem d_x_isTaken_57 : decode prog_1_method_39_code 57 = .ok (.if_icmp .ne 7, 3) := by decide +kernel
theorem d_x_isTaken_60 : decode prog_1_method_39_code 60 = .ok (.iconst 1, 1) := by decide +kernel
theorem d_x_isTaken_61 : decode prog_1_method_39_code 61 = .ok (.goto 4, 3) := by decide +kernel
theorem d_x_isTaken_64 : decode prog_1_method_39_code 64 = .ok (.iconst 0, 1) := by decide +kernel
theorem d_x_isTaken_65 : decode prog_1_method_39_code 65 = .ok (.istore_n 2, 1) := by decide +kernel
theorem d_x_isTaken_66 : decode prog_1_method_39_code 66 = .ok (.iinc 4 1, 3) := by decide +kernel
theorem d_x_isTaken_69 : decode prog_1_method_39_code 69 = .ok (.goto (-50), 3) := by decide +kernel
theorem d_x_isTaken_72 : decode prog_1_method_39_code 72 = .ok (.iinc 3 1, 3) := by decide +kernel
theorem d_x_isTaken_75 : decode prog_1_method_39_code 75 = .ok (.goto (-71), 3) := by decide +kernel
theorem d_x_isTaken_78 : decode prog_1_method_39_code 78 = .ok (.iload_n 2, 1) := by decide +kernel
theorem d_x_isTaken_79 : decode prog_1_method_39_code 79 = .ok (.ireturn, 1) := by decide +kernel
theorem kc_x_isTaken : Kw (m_w (mi_x_isTaken )) := ⟨(in_t1 (List.mem_of_getElem? (i := 188) rfl)), rfl⟩
theorem mv_x_isTaken : MV (mi_x_isTaken ) "GuardedMoves" 1 := ⟨kw_187, ks_10, kc_x_isTaken , kw_1, ⟨⟨(by show ("GuardedMoves" : String) ≠ "java/lang/invoke/MethodHandle"; decide), (by show ("GuardedMoves" : String) ≠ "java/lang/invoke/VarHandle"; decide)⟩, (by show (parseMethodDescriptor "(I)Z").map (fun d => d.parameters.length) = some 1; decide +kernel)⟩⟩
def w_x_isTaken_78 (Q : Int32 → Sg → Prop) (v2 : Int32) (σ : Sg) : Prop := bz v2 ∧ (Q v2 σ)
theorem b_x_isTaken_78 {Δ : Ly} {G : Gm} {Q : Int32 → Sg → Prop} (cx : Cx Δ G mi_x_isTaken) : ∀ (v2 : Int32) (σ : Sg), w_x_isTaken_78 Q v2 σ → Y Δ G mi_x_isTaken (qI Q) noE 0 0 σ 78 [(2, .int v2)] [] := by
  intro v2 σ h
  unfold w_x_isTaken_78 at h
  refine y_iload_n cx (pc := 78) d_x_isTaken_78 rfl 0 rfl ?_
  obtain ⟨hb, h⟩ := h
  exact y_zret cx (pc := 79) rfl hb d_x_isTaken_79 (le_b rfl) (le_b rfl) h
def w_x_isTaken_65 (K4 : Int32 → Int32 → Int32 → Sg → Prop) (K19 : Int32 → Int32 → Int32 → Int32 → Sg → Prop) (Q : Int32 → Sg → Prop) (v1 : Int32) (v3 : Int32) (v4 : Int32) (s0 : Int32) (σ : Sg) : Prop := ∀ x1 : Int32, x1 = v4 + 1 → (K19 v1 s0 v3 x1 σ)
theorem b_x_isTaken_65 {Δ : Ly} {G : Gm} {K4 : Int32 → Int32 → Int32 → Sg → Prop} {K19 : Int32 → Int32 → Int32 → Int32 → Sg → Prop} {Q : Int32 → Sg → Prop} (cx : Cx Δ G mi_x_isTaken) (hK4 : ∀ (v1 : Int32) (v2 : Int32) (v3 : Int32) (σ : Sg), K4 v1 v2 v3 σ → Y Δ G mi_x_isTaken (qI Q) noE 0 0 σ 4 [(0, .ref (Δ.1 0)), (1, .int v1), (2, .int v2), (3, .int v3)] []) (hK19 : ∀ (v1 : Int32) (v2 : Int32) (v3 : Int32) (v4 : Int32) (σ : Sg), K19 v1 v2 v3 v4 σ → Y Δ G mi_x_isTaken (qI Q) noE 0 0 σ 19 [(0, .ref (Δ.1 0)), (1, .int v1), (2, .int v2), (3, .int v3), (4, .int v4)] []) : ∀ (v1 : Int32) (v3 : Int32) (v4 : Int32) (s0 : Int32) (σ : Sg), w_x_isTaken_65 K4 K19 Q v1 v3 v4 s0 σ → Y Δ G mi_x_isTaken (qI Q) noE 0 0 σ 65 [(0, .ref (Δ.1 0)), (1, .int v1), (3, .int v3), (4, .int v4)] [.int s0] := by
  intro v1 v3 v4 s0 σ h
  unfold w_x_isTaken_65 at h
  refine y_istore_n (lv' := [(2, .int s0), (0, .ref (Δ.1 0)), (1, .int v1), (3, .int v3), (4, .int v4)]) cx (pc := 65) d_x_isTaken_65 rfl (le_b rfl) rfl ?_
  obtain ⟨x1, ex1⟩ : ∃ y : Int32, y = v4 + 1 := ⟨_, rfl⟩
  replace h := h x1 ex1
  refine y_iinc (v := x1) (lv' := [(4, .int x1), (2, .int s0), (0, .ref (Δ.1 0)), (1, .int v1), (3, .int v3)]) cx (pc := 66) d_x_isTaken_66 (j := 4) rfl (by rw [ex1]; rfl) (le_b rfl) rfl ?_
  refine y_goto cx (pc := 69) (tgt := 19) d_x_isTaken_69 (by decide) ?_
  refine y_sub [2, 3, 1, 4, 0] rfl ?_
  exact hK19 v1 s0 v3 x1 σ h
def w_x_isTaken_64 (K4 : Int32 → Int32 → Int32 → Sg → Prop) (K19 : Int32 → Int32 → Int32 → Int32 → Sg → Prop) (Q : Int32 → Sg → Prop) (v1 : Int32) (v3 : Int32) (v4 : Int32) (σ : Sg) : Prop := w_x_isTaken_65 K4 K19 Q v1 v3 v4 0 σ
theorem b_x_isTaken_64 {Δ : Ly} {G : Gm} {K4 : Int32 → Int32 → Int32 → Sg → Prop} {K19 : Int32 → Int32 → Int32 → Int32 → Sg → Prop} {Q : Int32 → Sg → Prop} (cx : Cx Δ G mi_x_isTaken) (hK4 : ∀ (v1 : Int32) (v2 : Int32) (v3 : Int32) (σ : Sg), K4 v1 v2 v3 σ → Y Δ G mi_x_isTaken (qI Q) noE 0 0 σ 4 [(0, .ref (Δ.1 0)), (1, .int v1), (2, .int v2), (3, .int v3)] []) (hK19 : ∀ (v1 : Int32) (v2 : Int32) (v3 : Int32) (v4 : Int32) (σ : Sg), K19 v1 v2 v3 v4 σ → Y Δ G mi_x_isTaken (qI Q) noE 0 0 σ 19 [(0, .ref (Δ.1 0)), (1, .int v1), (2, .int v2), (3, .int v3), (4, .int v4)] []) : ∀ (v1 : Int32) (v3 : Int32) (v4 : Int32) (σ : Sg), w_x_isTaken_64 K4 K19 Q v1 v3 v4 σ → Y Δ G mi_x_isTaken (qI Q) noE 0 0 σ 64 [(0, .ref (Δ.1 0)), (1, .int v1), (3, .int v3), (4, .int v4)] [] := by
  intro v1 v3 v4 σ h
  unfold w_x_isTaken_64 at h
  refine y_iconst cx (pc := 64) ic_0 d_x_isTaken_64 ?_
  exact b_x_isTaken_65 cx hK4 hK19 v1 v3 v4 0 σ h
def w_x_isTaken_60 (K4 : Int32 → Int32 → Int32 → Sg → Prop) (K19 : Int32 → Int32 → Int32 → Int32 → Sg → Prop) (Q : Int32 → Sg → Prop) (v1 : Int32) (v3 : Int32) (v4 : Int32) (σ : Sg) : Prop := w_x_isTaken_65 K4 K19 Q v1 v3 v4 1 σ
theorem b_x_isTaken_60 {Δ : Ly} {G : Gm} {K4 : Int32 → Int32 → Int32 → Sg → Prop} {K19 : Int32 → Int32 → Int32 → Int32 → Sg → Prop} {Q : Int32 → Sg → Prop} (cx : Cx Δ G mi_x_isTaken) (hK4 : ∀ (v1 : Int32) (v2 : Int32) (v3 : Int32) (σ : Sg), K4 v1 v2 v3 σ → Y Δ G mi_x_isTaken (qI Q) noE 0 0 σ 4 [(0, .ref (Δ.1 0)), (1, .int v1), (2, .int v2), (3, .int v3)] []) (hK19 : ∀ (v1 : Int32) (v2 : Int32) (v3 : Int32) (v4 : Int32) (σ : Sg), K19 v1 v2 v3 v4 σ → Y Δ G mi_x_isTaken (qI Q) noE 0 0 σ 19 [(0, .ref (Δ.1 0)), (1, .int v1), (2, .int v2), (3, .int v3), (4, .int v4)] []) : ∀ (v1 : Int32) (v3 : Int32) (v4 : Int32) (σ : Sg), w_x_isTaken_60 K4 K19 Q v1 v3 v4 σ → Y Δ G mi_x_isTaken (qI Q) noE 0 0 σ 60 [(0, .ref (Δ.1 0)), (1, .int v1), (3, .int v3), (4, .int v4)] [] := by
  intro v1 v3 v4 σ h
  unfold w_x_isTaken_60 at h
  refine y_iconst cx (pc := 60) ic_1 d_x_isTaken_60 ?_
  refine y_goto cx (pc := 61) (tgt := 65) d_x_isTaken_61 (by decide) ?_
  exact b_x_isTaken_65 cx hK4 hK19 v1 v3 v4 1 σ h
def w_x_isTaken_19 (K4 : Int32 → Int32 → Int32 → Sg → Prop) (Q : Int32 → Sg → Prop) : Nat → Int32 → Int32 → Int32 → Int32 → Sg → Prop
  | 0, _, _, _, _, _ => False
  | n + 1, v1, v2, v3, v4, σ => (4 ≤ v4 → (∀ x1 : Int32, x1 = v3 + 1 → (K4 v1 v2 x1 σ))) ∧ (¬ 4 ≤ v4 → ((¬ v2 = 0 → (w_x_isTaken_60 K4 (w_x_isTaken_19 K4 Q n) Q v1 v3 v4 σ)) ∧ (v2 = 0 → (vp_in v3 3000 ∧ (w_x_takes (σ 6 (v3.toNatClampNeg)) σ (fun x2 σ3 => (¬ ((x2 >>> (v4 &&& 31)) &&& 1) = 1 → (w_x_isTaken_64 K4 (w_x_isTaken_19 K4 Q n) Q v1 v3 v4 σ3)) ∧ (((x2 >>> (v4 &&& 31)) &&& 1) = 1 → (vp_in v4 4 ∧ (inN (14 + v4.toNatClampNeg) ∧ (vp_in v3 3000 ∧ ((¬ (σ3 (14 + v4.toNatClampNeg) (v3.toNatClampNeg)) = v1 → (w_x_isTaken_64 K4 (w_x_isTaken_19 K4 Q n) Q v1 v3 v4 σ3)) ∧ ((σ3 (14 + v4.toNatClampNeg) (v3.toNatClampNeg)) = v1 → (w_x_isTaken_60 K4 (w_x_isTaken_19 K4 Q n) Q v1 v3 v4 σ3)))))))))))))
theorem b_x_isTaken_19 {Δ : Ly} {G : Gm} {K4 : Int32 → Int32 → Int32 → Sg → Prop} {Q : Int32 → Sg → Prop} (cx : Cx Δ G mi_x_isTaken) (hK4 : ∀ (v1 : Int32) (v2 : Int32) (v3 : Int32) (σ : Sg), K4 v1 v2 v3 σ → Y Δ G mi_x_isTaken (qI Q) noE 0 0 σ 4 [(0, .ref (Δ.1 0)), (1, .int v1), (2, .int v2), (3, .int v3)] []) : ∀ (n : Nat) (v1 : Int32) (v2 : Int32) (v3 : Int32) (v4 : Int32) (σ : Sg), w_x_isTaken_19 K4 Q n v1 v2 v3 v4 σ → Y Δ G mi_x_isTaken (qI Q) noE 0 0 σ 19 [(0, .ref (Δ.1 0)), (1, .int v1), (2, .int v2), (3, .int v3), (4, .int v4)] [] := by
  intro n
  induction n with
  | zero => intro v1 v2 v3 v4 σ h; exact h.elim
  | succ n ih =>
    intro v1 v2 v3 v4 σ h
    unfold w_x_isTaken_19 at h
    refine y_iload cx (pc := 19) d_x_isTaken_19 4 rfl ?_
    refine y_iconst cx (pc := 21) ic_4 d_x_isTaken_21 ?_
    refine y_icmp_ge cx (pc := 22) (tgt := 72) d_x_isTaken_22 (by decide) (fun hc => ?_) (fun hc => ?_)
    · replace h := h.1 hc
      obtain ⟨x1, ex1⟩ : ∃ y : Int32, y = v3 + 1 := ⟨_, rfl⟩
      replace h := h x1 ex1
      refine y_iinc (v := x1) (lv' := [(3, .int x1), (0, .ref (Δ.1 0)), (1, .int v1), (2, .int v2), (4, .int v4)]) cx (pc := 72) d_x_isTaken_72 (j := 3) rfl (by rw [ex1]; rfl) (le_b rfl) rfl ?_
      refine y_goto cx (pc := 75) (tgt := 4) d_x_isTaken_75 (by decide) ?_
      refine y_sub [1, 2, 3, 0] rfl ?_
      exact hK4 v1 v2 x1 σ h
    · replace h := h.2 hc
      refine y_iload_n cx (pc := 25) d_x_isTaken_25 rfl 2 rfl ?_
      refine y_if_ne cx (pc := 26) (tgt := 60) d_x_isTaken_26 (by decide) (fun hc => ?_) (fun hc => ?_)
      · replace h := h.1 hc
        refine y_sub [0, 1, 3, 4] rfl ?_
        exact b_x_isTaken_60 cx hK4 ih v1 v3 v4 σ h
      · replace h := h.2 hc
        refine y_aload_n cx (pc := 29) d_x_isTaken_29 rfl 0 rfl ?_
        refine y_get cx (pc := 30) (j := 9) (v := .ref (Δ.1 6)) (le_b rfl) ck_GM kw_406 (le_b rfl) (gf_0_9 Δ _) d_x_isTaken_30 ?_
        refine y_iload_n cx (pc := 33) d_x_isTaken_33 rfl 3 rfl ?_
        obtain ⟨h0, h⟩ := h
        refine y_iald cx (pc := 34) ⟨(le_b rfl), fun _ => rfl⟩ h0 d_x_isTaken_34 ?_
        refine y_sI cx (pc := 35) (st := []) [.int (σ 6 (v3.toNatClampNeg))] (c_x_takes cx.fl Δ (σ 6 (v3.toNatClampNeg)) _ _ h) mv_x_takes kw_189 rfl (le_b rfl) (le_b rfl) (le_b rfl) (le_b rfl) (le_b rfl) d_x_isTaken_35 (fun x2 σ3 h => ?_) (fun x σ3 h => yt_no h)
        refine y_iload cx (pc := 38) d_x_isTaken_38 4 rfl ?_
        refine y_ishr cx (pc := 40) d_x_isTaken_40 ?_
        refine y_iconst cx (pc := 41) ic_1 d_x_isTaken_41 ?_
        refine y_iand cx (pc := 42) d_x_isTaken_42 ?_
        refine y_iconst cx (pc := 43) ic_1 d_x_isTaken_43 ?_
        refine y_icmp_ne cx (pc := 44) (tgt := 64) d_x_isTaken_44 (by decide) (fun hc => ?_) (fun hc => ?_)
        · replace h := h.1 hc
          refine y_sub [0, 1, 3, 4] rfl ?_
          exact b_x_isTaken_64 cx hK4 ih v1 v3 v4 σ3 h
        · replace h := h.2 hc
          refine y_aload_n cx (pc := 47) d_x_isTaken_47 rfl 0 rfl ?_
          refine y_get cx (pc := 48) (j := 10) (v := .ref (Δ.1 34)) (le_b rfl) ck_GM kw_407 (le_b rfl) (gf_0_10 Δ _) d_x_isTaken_48 ?_
          refine y_iload cx (pc := 51) d_x_isTaken_51 4 rfl ?_
          obtain ⟨h0, h⟩ := h
          refine y_aald cx (pc := 53) (base := 14) ⟨(le_b rfl), fun _ => rfl⟩ h0 d_x_isTaken_53 ?_
          refine y_iload_n cx (pc := 54) d_x_isTaken_54 rfl 3 rfl ?_
          obtain ⟨h9, h⟩ := h
          obtain ⟨h0, h⟩ := h
          refine y_iald cx (pc := 55) (av_inN h9) h0 d_x_isTaken_55 ?_
          refine y_iload_n cx (pc := 56) d_x_isTaken_56 rfl 1 rfl ?_
          refine y_icmp_ne cx (pc := 57) (tgt := 64) d_x_isTaken_57 (by decide) (fun hc => ?_) (fun hc => ?_)
          · replace h := h.1 hc
            refine y_sub [0, 1, 3, 4] rfl ?_
            exact b_x_isTaken_64 cx hK4 ih v1 v3 v4 σ3 h
          · replace h := h.2 hc
            refine y_sub [0, 1, 3, 4] rfl ?_
            exact b_x_isTaken_60 cx hK4 ih v1 v3 v4 σ3 h
def w_x_isTaken_4 (Q : Int32 → Sg → Prop) : Nat → Int32 → Int32 → Int32 → Sg → Prop
  | 0, _, _, _, _ => False
  | n + 1, v1, v2, v3, σ => ((σ 0 12) ≤ v3 → (w_x_isTaken_78 Q v2 σ)) ∧ (¬ (σ 0 12) ≤ v3 → ((¬ v2 = 0 → (w_x_isTaken_78 Q v2 σ)) ∧ (v2 = 0 → (∃ q19, w_x_isTaken_19 (w_x_isTaken_4 Q n) Q q19 v1 v2 v3 0 σ))))
theorem b_x_isTaken_4 {Δ : Ly} {G : Gm} {Q : Int32 → Sg → Prop} (cx : Cx Δ G mi_x_isTaken) : ∀ (n : Nat) (v1 : Int32) (v2 : Int32) (v3 : Int32) (σ : Sg), w_x_isTaken_4 Q n v1 v2 v3 σ → Y Δ G mi_x_isTaken (qI Q) noE 0 0 σ 4 [(0, .ref (Δ.1 0)), (1, .int v1), (2, .int v2), (3, .int v3)] [] := by
  intro n
  induction n with
  | zero => intro v1 v2 v3 σ h; exact h.elim
  | succ n ih =>
    intro v1 v2 v3 σ h
    unfold w_x_isTaken_4 at h
    refine y_iload_n cx (pc := 4) d_x_isTaken_4 rfl 3 rfl ?_
    refine y_aload_n cx (pc := 5) d_x_isTaken_5 rfl 0 rfl ?_
    refine y_get cx (pc := 6) (j := 12) (v := .int (σ 0 12)) (le_b rfl) ck_GM kw_409 (le_b rfl) (gf_0_12 Δ _) d_x_isTaken_6 ?_
    refine y_icmp_ge cx (pc := 9) (tgt := 78) d_x_isTaken_9 (by decide) (fun hc => ?_) (fun hc => ?_)
    · replace h := h.1 hc
      refine y_sub [2] rfl ?_
      exact b_x_isTaken_78 cx v2 σ h
    · replace h := h.2 hc
      refine y_iload_n cx (pc := 12) d_x_isTaken_12 rfl 2 rfl ?_
      refine y_if_ne cx (pc := 13) (tgt := 78) d_x_isTaken_13 (by decide) (fun hc => ?_) (fun hc => ?_)
      · replace h := h.1 hc
        refine y_sub [2] rfl ?_
        exact b_x_isTaken_78 cx v2 σ h
      · replace h := h.2 hc
        refine y_iconst cx (pc := 16) ic_0 d_x_isTaken_16 ?_
        refine y_istore (lv' := [(4, .int 0), (0, .ref (Δ.1 0)), (1, .int v1), (2, .int v2), (3, .int v3)]) cx (pc := 17) d_x_isTaken_17 (le_b rfl) rfl ?_
        refine y_sub [1, 2, 3, 4, 0] rfl ?_
        obtain ⟨n, h⟩ := h
        exact b_x_isTaken_19 cx ih n v1 v2 v3 0 σ h
def w_x_isTaken (p1 : Int32) (σ : Sg) (Q : Int32 → Sg → Prop) : Prop := ∃ q4, w_x_isTaken_4 Q q4 p1 0 0 σ
theorem b_x_isTaken {Δ : Ly} {G : Gm} {Q : Int32 → Sg → Prop} (cx : Cx Δ G mi_x_isTaken) (p1 : Int32) (σ : Sg) (h : w_x_isTaken p1 σ Q) : Y Δ G mi_x_isTaken (qI Q) noE 0 0 σ 0 [(0, .ref (Δ.1 0)), (1, .int p1)] [] := by
  unfold w_x_isTaken at h
  refine y_iconst cx (pc := 0) ic_0 d_x_isTaken_0 ?_
  refine y_istore_n (lv' := [(2, .int 0), (0, .ref (Δ.1 0)), (1, .int p1)]) cx (pc := 1) d_x_isTaken_1 rfl (le_b rfl) rfl ?_
  refine y_iconst cx (pc := 2) ic_0 d_x_isTaken_2 ?_
  refine y_istore_n (lv' := [(3, .int 0), (2, .int 0), (0, .ref (Δ.1 0)), (1, .int p1)]) cx (pc := 3) d_x_isTaken_3 rfl (le_b rfl) rfl ?_
  refine y_sub [2, 3, 1, 0] rfl ?_
  obtain ⟨n, h⟩ := h
  exact b_x_isTaken_4 cx n p1 0 0 σ h
theorem c_x_isTaken {l : Launch} (hfl : l.flags = flags0) (Δ : Ly) (p1 : Int32) (σ : Sg) (Q : Int32 → Sg → Prop) (h : w_x_isTaken p1 σ Q) : Ct l Δ mi_x_isTaken [.ref (Δ.1 0), .int p1] σ (qI Q) noE :=
  Ct.of hfl (by show plainFor ⟨"GuardedMoves", "isTaken", "(I)Z"⟩ = true; decide +kernel) rfl (le_b rfl) (fun G hl cx => b_x_isTaken cx p1 σ h)
def mi_x_isUseless : Mi := ("GuardedMoves", prog_1_method_40_code, 4, [], (some .boolean), 2, 52, 0, 0, ⟨"GuardedMoves", "isUseless", "(I)Z"⟩)
theorem d_x_isUseless_0 : decode prog_1_method_40_code 0 = .ok (.aload_n 0, 1) := by decide +kernel
theorem d_x_isUseless_1 : decode prog_1_method_40_code 1 = .ok (.getfield 186, 3) := by decide +kernel
theorem d_x_isUseless_4 : decode prog_1_method_40_code 4 = .ok (.iload_n 1, 1) := by decide +kernel
theorem d_x_isUseless_5 : decode prog_1_method_40_code 5 = .ok (.iaload, 1) := by decide +kernel
theorem d_x_isUseless_6 : decode prog_1_method_40_code 6 = .ok (.istore_n 2, 1) := by decide +kernel
theorem d_x_isUseless_7 : decode prog_1_method_40_code 7 = .ok (.iload_n 2, 1) := by decide +kernel
theorem d_x_isUseless_8 : decode prog_1_method_40_code 8 = .ok (.bipush 13, 2) := by decide +kernel
theorem d_x_isUseless_10 : decode prog_1_method_40_code 10 = .ok (.if_icmp .gt 18, 3) := by decide +kernel
theorem d_x_isUseless_13 : decode prog_1_method_40_code 13 = .ok (.iload_n 2, 1) := by decide +kernel
theorem d_x_isUseless_14 : decode prog_1_method_40_code 14 = .ok (.iconst 5, 1) := by decide +kernel
theorem d_x_isUseless_15 : decode prog_1_method_40_code 15 = .ok (.if_icmp .eq 13, 3) := by decide +kernel
theorem d_x_isUseless_18 : decode prog_1_method_40_code 18 = .ok (.iload_n 2, 1) := by decide +kernel
theorem d_x_isUseless_19 : decode prog_1_method_40_code 19 = .ok (.bipush 6, 2) := by decide +kernel
theorem d_x_isUseless_21 : decode prog_1_method_40_code 21 = .ok (.if_icmp .eq 7, 3) := by decide +kernel
theorem d_x_isUseless_24 : decode prog_1_method_40_code 24 = .ok (.iconst 1, 1) := by decide +kernel
theorem d_x_isUseless_25 : decode prog_1_method_40_code 25 = .ok (.goto 4, 3) := by decide +kernel
theorem d_x_isUseless_28 : decode prog_1_method_40_code 28 = .ok (.iconst 0, 1) := by decide +kernel
theorem d_x_isUseless_29 : decode prog_1_method_40_code 29 = .ok (.istore_n 3, 1) := by decide +kernel
theorem d_x_isUseless_30 : decode prog_1_method_40_code 30 = .ok (.iload_n 3, 1) := by decide +kernel
theorem d_x_isUseless_31 : decode prog_1_method_40_code 31 = .ok (.ifCond .eq 35, 3) := by decide +kernel
theorem d_x_isUseless_34 : decode prog_1_method_40_code 34 = .ok (.aload_n 0, 1) := by decide +kernel
theorem d_x_isUseless_35 : decode prog_1_method_40_code 35 = .ok (.getfield 189, 3) := by decide +kernel
theorem d_x_isUseless_38 : decode prog_1_method_40_code 38 = .ok (.iconst 0, 1) := by decide +kernel
theorem d_x_isUseless_39 : decode prog_1_method_40_code 39 = .ok (.aaload, 1) := by decide +kernel
theorem d_x_isUseless_40 : decode prog_1_method_40_code 40 = .ok (.iload_n 1, 1) := by decide +kernel
theorem d_x_isUseless_41 : decode prog_1_method_40_code 41 = .ok (.iaload, 1) := by decide +kernel
theorem d_x_isUseless_42 : decode prog_1_method_40_code 42 = .ok (.bipush 16, 2) := by decide +kernel
theorem d_x_isUseless_44 : decode prog_1_method_40_code 44 = .ok (.if_icmp .lt 22, 3) := by decide +kernel
theorem d_x_isUseless_47 : decode prog_1_method_40_code 47 = .ok (.aload_n 0, 1) := by decide +kernel
theorem d_x_isUseless_48 : decode prog_1_method_40_code 48 = .ok (.aload_n 0, 1) := by decide +kernel
theorem d_x_isUseless_49 : decode prog_1_method_40_code 49 = .ok (.getfield 189, 3) := by decide +kernel
theorem d_x_isUseless_52 : decode prog_1_method_40_code 52 = .ok (.iconst 0, 1) := by decide +kernel
theorem d_x_isUseless_53 : decode prog_1_method_40_code 53 = .ok (.aaload, 1) := by decide +kernel
theorem d_x_isUseless_54 : decode prog_1_method_40_code 54 = .ok (.iload_n 1, 1) := by decide +kernel
theorem d_x_isUseless_55 : decode prog_1_method_40_code 55 = .ok (.iaload, 1) := by decide +kernel
theorem d_x_isUseless_56 : decode prog_1_method_40_code 56 = .ok (.invokevirtual 277, 3) := by decide +kernel
theorem d_x_isUseless_59 : decode prog_1_method_40_code 59 = .ok (.ifCond .ne 7, 3) := by decide +kernel
theorem d_x_isUseless_62 : decode prog_1_method_40_code 62 = .ok (.iconst 1, 1) := by decide +kernel
theorem d_x_isUseless_63 : decode prog_1_method_40_code 63 = .ok (.goto 4, 3) := by decide +kernel
theorem d_x_isUseless_66 : decode prog_1_method_40_code 66 = .ok (.iconst 0, 1) := by decide +kernel
theorem d_x_isUseless_67 : decode prog_1_method_40_code 67 = .ok (.ireturn, 1) := by decide +kernel
theorem kc_x_isUseless : Kw (m_w (mi_x_isUseless )) := ⟨(in_t1 (List.mem_of_getElem? (i := 184) rfl)), rfl⟩
theorem mv_x_isUseless : MV (mi_x_isUseless ) "GuardedMoves" 1 := ⟨kw_183, ks_9, kc_x_isUseless , kw_1, ⟨⟨(by show ("GuardedMoves" : String) ≠ "java/lang/invoke/MethodHandle"; decide), (by show ("GuardedMoves" : String) ≠ "java/lang/invoke/VarHandle"; decide)⟩, (by show (parseMethodDescriptor "(I)Z").map (fun d => d.parameters.length) = some 1; decide +kernel)⟩⟩
def w_x_isUseless_67 (Q : Int32 → Sg → Prop) (s0 : Int32) (σ : Sg) : Prop := bz s0 ∧ (Q s0 σ)
theorem b_x_isUseless_67 {Δ : Ly} {G : Gm} {Q : Int32 → Sg → Prop} (cx : Cx Δ G mi_x_isUseless) : ∀ (s0 : Int32) (σ : Sg), w_x_isUseless_67 Q s0 σ → Y Δ G mi_x_isUseless (qI Q) noE 0 0 σ 67 [] [.int s0] := by
  intro s0 σ h
  unfold w_x_isUseless_67 at h
  obtain ⟨hb, h⟩ := h
  exact y_zret cx (pc := 67) rfl hb d_x_isUseless_67 (le_b rfl) (le_b rfl) h
def w_x_isUseless_66 (Q : Int32 → Sg → Prop) (σ : Sg) : Prop := w_x_isUseless_67 Q 0 σ
theorem b_x_isUseless_66 {Δ : Ly} {G : Gm} {Q : Int32 → Sg → Prop} (cx : Cx Δ G mi_x_isUseless) : ∀ (σ : Sg), w_x_isUseless_66 Q σ → Y Δ G mi_x_isUseless (qI Q) noE 0 0 σ 66 [] [] := by
  intro σ h
  unfold w_x_isUseless_66 at h
  refine y_iconst cx (pc := 66) ic_0 d_x_isUseless_66 ?_
  exact b_x_isUseless_67 cx 0 σ h
def w_x_isUseless_29 (Q : Int32 → Sg → Prop) (v1 : Int32) (s0 : Int32) (σ : Sg) : Prop := (s0 = 0 → (w_x_isUseless_66 Q σ)) ∧ (¬ s0 = 0 → (vp_in v1 3000 ∧ (((σ 14 (v1.toNatClampNeg)) < 16 → (w_x_isUseless_66 Q σ)) ∧ (¬ (σ 14 (v1.toNatClampNeg)) < 16 → (vp_in v1 3000 ∧ (w_x_isTaken (σ 14 (v1.toNatClampNeg)) σ (fun x1 σ2 => (¬ x1 = 0 → (w_x_isUseless_66 Q σ2)) ∧ (x1 = 0 → (w_x_isUseless_67 Q 1 σ2)))))))))
theorem b_x_isUseless_29 {Δ : Ly} {G : Gm} {Q : Int32 → Sg → Prop} (cx : Cx Δ G mi_x_isUseless) : ∀ (v1 : Int32) (s0 : Int32) (σ : Sg), w_x_isUseless_29 Q v1 s0 σ → Y Δ G mi_x_isUseless (qI Q) noE 0 0 σ 29 [(0, .ref (Δ.1 0)), (1, .int v1)] [.int s0] := by
  intro v1 s0 σ h
  unfold w_x_isUseless_29 at h
  refine y_istore_n (lv' := [(3, .int s0), (0, .ref (Δ.1 0)), (1, .int v1)]) cx (pc := 29) d_x_isUseless_29 rfl (le_b rfl) rfl ?_
  refine y_iload_n cx (pc := 30) d_x_isUseless_30 rfl 0 rfl ?_
  refine y_if_eq cx (pc := 31) (tgt := 66) d_x_isUseless_31 (by decide) (fun hc => ?_) (fun hc => ?_)
  · replace h := h.1 hc
    refine y_sub [] rfl ?_
    exact b_x_isUseless_66 cx σ h
  · replace h := h.2 hc
    refine y_aload_n cx (pc := 34) d_x_isUseless_34 rfl 1 rfl ?_
    refine y_get cx (pc := 35) (j := 10) (v := .ref (Δ.1 34)) (le_b rfl) ck_GM kw_407 (le_b rfl) (gf_0_10 Δ _) d_x_isUseless_35 ?_
    refine y_iconst cx (pc := 38) ic_0 d_x_isUseless_38 ?_
    refine y_aaldK cx (pc := 39) 0 (base := 14) ⟨(le_b rfl), fun _ => rfl⟩ (vp_dec _ _ (by decide)) (by decide) d_x_isUseless_39 ?_
    refine y_iload_n cx (pc := 40) d_x_isUseless_40 rfl 2 rfl ?_
    obtain ⟨h0, h⟩ := h
    refine y_iald cx (pc := 41) ⟨(le_b rfl), fun _ => rfl⟩ h0 d_x_isUseless_41 ?_
    refine y_bipush cx (pc := 42) bp_16 d_x_isUseless_42 ?_
    refine y_icmp_lt cx (pc := 44) (tgt := 66) d_x_isUseless_44 (by decide) (fun hc => ?_) (fun hc => ?_)
    · replace h := h.1 hc
      refine y_sub [] rfl ?_
      exact b_x_isUseless_66 cx σ h
    · replace h := h.2 hc
      refine y_aload_n cx (pc := 47) d_x_isUseless_47 rfl 1 rfl ?_
      refine y_aload_n cx (pc := 48) d_x_isUseless_48 rfl 1 rfl ?_
      refine y_get cx (pc := 49) (j := 10) (v := .ref (Δ.1 34)) (le_b rfl) ck_GM kw_407 (le_b rfl) (gf_0_10 Δ _) d_x_isUseless_49 ?_
      refine y_iconst cx (pc := 52) ic_0 d_x_isUseless_52 ?_
      refine y_aaldK cx (pc := 53) 0 (base := 14) ⟨(le_b rfl), fun _ => rfl⟩ (vp_dec _ _ (by decide)) (by decide) d_x_isUseless_53 ?_
      refine y_iload_n cx (pc := 54) d_x_isUseless_54 rfl 2 rfl ?_
      obtain ⟨h0, h⟩ := h
      refine y_iald cx (pc := 55) ⟨(le_b rfl), fun _ => rfl⟩ h0 d_x_isUseless_55 ?_
      refine y_vI cx (pc := 56) (st := []) [.int (σ 14 (v1.toNatClampNeg))] (c_x_isTaken cx.fl Δ (σ 14 (v1.toNatClampNeg)) _ _ h) mv_x_isTaken kw_185 (oc_0 Δ) ck_GM rfl (le_b rfl) (le_b rfl) (le_b rfl) (le_b rfl) (le_b rfl) d_x_isUseless_56 (fun x1 σ2 h => ?_) (fun x σ2 h => yt_no h)
      refine y_if_ne cx (pc := 59) (tgt := 66) d_x_isUseless_59 (by decide) (fun hc => ?_) (fun hc => ?_)
      · replace h := h.1 hc
        refine y_sub [] rfl ?_
        exact b_x_isUseless_66 cx σ2 h
      · replace h := h.2 hc
        refine y_iconst cx (pc := 62) ic_1 d_x_isUseless_62 ?_
        refine y_goto cx (pc := 63) (tgt := 67) d_x_isUseless_63 (by decide) ?_
        refine y_sub [] rfl ?_
        exact b_x_isUseless_67 cx 1 σ2 h
def w_x_isUseless_28 (Q : Int32 → Sg → Prop) (v1 : Int32) (σ : Sg) : Prop := w_x_isUseless_29 Q v1 0 σ
theorem b_x_isUseless_28 {Δ : Ly} {G : Gm} {Q : Int32 → Sg → Prop} (cx : Cx Δ G mi_x_isUseless) : ∀ (v1 : Int32) (σ : Sg), w_x_isUseless_28 Q v1 σ → Y Δ G mi_x_isUseless (qI Q) noE 0 0 σ 28 [(0, .ref (Δ.1 0)), (1, .int v1)] [] := by
  intro v1 σ h
  unfold w_x_isUseless_28 at h
  refine y_iconst cx (pc := 28) ic_0 d_x_isUseless_28 ?_
  exact b_x_isUseless_29 cx v1 0 σ h
def w_x_isUseless (p1 : Int32) (σ : Sg) (Q : Int32 → Sg → Prop) : Prop := vp_in p1 3000 ∧ (∀ x1 : Int32, x1 = σ 6 (p1.toNatClampNeg) → ((13 < x1 → (w_x_isUseless_28 Q p1 σ)) ∧ (¬ 13 < x1 → ((x1 = 5 → (w_x_isUseless_28 Q p1 σ)) ∧ (¬ x1 = 5 → ((x1 = 6 → (w_x_isUseless_28 Q p1 σ)) ∧ (¬ x1 = 6 → (w_x_isUseless_29 Q p1 1 σ))))))))
theorem b_x_isUseless {Δ : Ly} {G : Gm} {Q : Int32 → Sg → Prop} (cx : Cx Δ G mi_x_isUseless) (p1 : Int32) (σ : Sg) (h : w_x_isUseless p1 σ Q) : Y Δ G mi_x_isUseless (qI Q) noE 0 0 σ 0 [(0, .ref (Δ.1 0)), (1, .int p1)] [] := by
  unfold w_x_isUseless at h
  refine y_aload_n cx (pc := 0) d_x_isUseless_0 rfl 0 rfl ?_
  refine y_get cx (pc := 1) (j := 9) (v := .ref (Δ.1 6)) (le_b rfl) ck_GM kw_406 (le_b rfl) (gf_0_9 Δ _) d_x_isUseless_1 ?_
  refine y_iload_n cx (pc := 4) d_x_isUseless_4 rfl 1 rfl ?_
  obtain ⟨h0, h⟩ := h
  refine y_iald cx (pc := 5) ⟨(le_b rfl), fun _ => rfl⟩ h0 d_x_isUseless_5 ?_
  refine y_topi (fun x1 ex1 => ?_)
  replace h := h x1 ex1
  refine y_istore_n (lv' := [(2, .int x1), (0, .ref (Δ.1 0)), (1, .int p1)]) cx (pc := 6) d_x_isUseless_6 rfl (le_b rfl) rfl ?_
  refine y_iload_n cx (pc := 7) d_x_isUseless_7 rfl 0 rfl ?_
  refine y_bipush cx (pc := 8) bp_13 d_x_isUseless_8 ?_
  refine y_icmp_gt cx (pc := 10) (tgt := 28) d_x_isUseless_10 (by decide) (fun hc => ?_) (fun hc => ?_)
  · replace h := h.1 hc
    refine y_sub [1, 2] rfl ?_
    exact b_x_isUseless_28 cx p1 σ h
  · replace h := h.2 hc
    refine y_iload_n cx (pc := 13) d_x_isUseless_13 rfl 0 rfl ?_
    refine y_iconst cx (pc := 14) ic_5 d_x_isUseless_14 ?_
    refine y_icmp_eq cx (pc := 15) (tgt := 28) d_x_isUseless_15 (by decide) (fun hc => ?_) (fun hc => ?_)
    · replace h := h.1 hc
      refine y_sub [1, 2] rfl ?_
      exact b_x_isUseless_28 cx p1 σ h
    · replace h := h.2 hc
      refine y_iload_n cx (pc := 18) d_x_isUseless_18 rfl 0 rfl ?_
      refine y_bipush cx (pc := 19) bp_6 d_x_isUseless_19 ?_
      refine y_icmp_eq cx (pc := 21) (tgt := 28) d_x_isUseless_21 (by decide) (fun hc => ?_) (fun hc => ?_)
      · replace h := h.1 hc
        refine y_sub [1, 2] rfl ?_
        exact b_x_isUseless_28 cx p1 σ h
      · replace h := h.2 hc
        refine y_iconst cx (pc := 24) ic_1 d_x_isUseless_24 ?_
        refine y_goto cx (pc := 25) (tgt := 29) d_x_isUseless_25 (by decide) ?_
        refine y_sub [1, 2] rfl ?_
        exact b_x_isUseless_29 cx p1 1 σ h
theorem c_x_isUseless {l : Launch} (hfl : l.flags = flags0) (Δ : Ly) (p1 : Int32) (σ : Sg) (Q : Int32 → Sg → Prop) (h : w_x_isUseless p1 σ Q) : Ct l Δ mi_x_isUseless [.ref (Δ.1 0), .int p1] σ (qI Q) noE :=
  Ct.of hfl (by show plainFor ⟨"GuardedMoves", "isUseless", "(I)Z"⟩ = true; decide +kernel) rfl (le_b rfl) (fun G hl cx => b_x_isUseless cx p1 σ h)
def mi_x_lose : Mi := ("GuardedMoves", prog_1_method_41_code, 4, [], none, 0, 0, 0, 0, ⟨"GuardedMoves", "lose", "(I)V"⟩)
theorem d_x_lose_0 : decode prog_1_method_41_code 0 = .ok (.aload_n 0, 1) := by decide +kernel
theorem d_x_lose_1 : decode prog_1_method_41_code 1 = .ok (.dup, 1) := by decide +kernel
theorem d_x_lose_2 : decode prog_1_method_41_code 2 = .ok (.getfield 183, 3) := by decide +kernel
theorem d_x_lose_5 : decode prog_1_method_41_code 5 = .ok (.iconst 1, 1) := by decide +kernel
theorem d_x_lose_6 : decode prog_1_method_41_code 6 = .ok (.isub, 1) := by decide +kernel
theorem d_x_lose_7 : decode prog_1_method_41_code 7 = .ok (.putfield 183, 3) := by decide +kernel
theorem d_x_lose_10 : decode prog_1_method_41_code 10 = .ok (.iload_n 1, 1) := by decide +kernel
theorem d_x_lose_11 : decode prog_1_method_41_code 11 = .ok (.istore_n 2, 1) := by decide +kernel
theorem d_x_lose_12 : decode prog_1_method_41_code 12 = .ok (.iload_n 2, 1) := by decide +kernel
theorem d_x_lose_13 : decode prog_1_method_41_code 13 = .ok (.aload_n 0, 1) := by decide +kernel
theorem d_x_lose_14 : decode prog_1_method_41_code 14 = .ok (.getfield 183, 3) := by decide +kernel
theorem d_x_lose_17 : decode prog_1_method_41_code 17 = .ok (.if_icmp .ge 68, 3) := by decide +kernel
theorem d_x_lose_20 : decode prog_1_method_41_code 20 = .ok (.aload_n 0, 1) := by decide +kernel
theorem d_x_lose_21 : decode prog_1_method_41_code 21 = .ok (.getfield 186, 3) := by decide +kernel
theorem d_x_lose_24 : decode prog_1_method_41_code 24 = .ok (.iload_n 2, 1) := by decide +kernel
theorem d_x_lose_25 : decode prog_1_method_41_code 25 = .ok (.aload_n 0, 1) := by decide +kernel
theorem d_x_lose_26 : decode prog_1_method_41_code 26 = .ok (.getfield 186, 3) := by decide +kernel
theorem d_x_lose_29 : decode prog_1_method_41_code 29 = .ok (.iload_n 2, 1) := by decide +kernel
theorem d_x_lose_30 : decode prog_1_method_41_code 30 = .ok (.iconst 1, 1) := by decide +kernel
theorem d_x_lose_31 : decode prog_1_method_41_code 31 = .ok (.iadd, 1) := by decide +kernel
theorem d_x_lose_32 : decode prog_1_method_41_code 32 = .ok (.iaload, 1) := by decide +kernel
theorem d_x_lose_33 : decode prog_1_method_41_code 33 = .ok (.iastore, 1) := by decide +kernel
theorem d_x_lose_34 : decode prog_1_method_41_code 34 = .ok (.aload_n 0, 1) := by decide +kernel
theorem d_x_lose_35 : decode prog_1_method_41_code 35 = .ok (.getfield 193, 3) := by decide +kernel
theorem d_x_lose_38 : decode prog_1_method_41_code 38 = .ok (.iload_n 2, 1) := by decide +kernel
theorem d_x_lose_39 : decode prog_1_method_41_code 39 = .ok (.aload_n 0, 1) := by decide +kernel
theorem d_x_lose_40 : decode prog_1_method_41_code 40 = .ok (.getfield 193, 3) := by decide +kernel
theorem d_x_lose_43 : decode prog_1_method_41_code 43 = .ok (.iload_n 2, 1) := by decide +kernel
theorem d_x_lose_44 : decode prog_1_method_41_code 44 = .ok (.iconst 1, 1) := by decide +kernel
theorem d_x_lose_45 : decode prog_1_method_41_code 45 = .ok (.iadd, 1) := by decide +kernel
theorem d_x_lose_46 : decode prog_1_method_41_code 46 = .ok (.iaload, 1) := by decide +kernel
theorem d_x_lose_47 : decode prog_1_method_41_code 47 = .ok (.iastore, 1) := by decide +kernel
theorem d_x_lose_48 : decode prog_1_method_41_code 48 = .ok (.iconst 0, 1) := by decide +kernel
theorem d_x_lose_49 : decode prog_1_method_41_code 49 = .ok (.istore_n 3, 1) := by decide +kernel
theorem d_x_lose_50 : decode prog_1_method_41_code 50 = .ok (.iload_n 3, 1) := by decide +kernel
theorem d_x_lose_51 : decode prog_1_method_41_code 51 = .ok (.iconst 4, 1) := by decide +kernel
theorem d_x_lose_52 : decode prog_1_method_41_code 52 = .ok (.if_icmp .ge 27, 3) := by decide +kernel
theorem d_x_lose_55 : decode prog_1_method_41_code 55 = .ok (.aload_n 0, 1) := by decide +kernel
theorem d_x_lose_56 : decode prog_1_method_41_code 56 = .ok (.getfield 189, 3) := by decide +kernel
theorem d_x_lose_59 : decode prog_1_method_41_code 59 = .ok (.iload_n 3, 1) := by decide +kernel
theorem d_x_lose_60 : decode prog_1_method_41_code 60 = .ok (.aaload, 1) := by decide +kernel
theorem d_x_lose_61 : decode prog_1_method_41_code 61 = .ok (.iload_n 2, 1) := by decide +kernel
theorem d_x_lose_62 : decode prog_1_method_41_code 62 = .ok (.aload_n 0, 1) := by decide +kernel
theorem d_x_lose_63 : decode prog_1_method_41_code 63 = .ok (.getfield 189, 3) := by decide +kernel
theorem d_x_lose_66 : decode prog_1_method_41_code 66 = .ok (.iload_n 3, 1) := by decide +kernel
theorem d_x_lose_67 : decode prog_1_method_41_code 67 = .ok (.aaload, 1) := by decide +kernel
theorem d_x_lose_68 : decode prog_1_method_41_code 68 = .ok (.iload_n 2, 1) := by decide +kernel
theorem d_x_lose_69 : decode prog_1_method_41_code 69 = .ok (.iconst 1, 1) := by decide +kernel
theorem d_x_lose_70 : decode prog_1_method_41_code 70 = .ok (.iadd, 1) := by decide +kernel
theorem d_x_lose_71 : decode prog_1_method_41_code 71 = .ok (.iaload, 1) := by decide +kernel
theorem d_x_lose_72 : decode prog_1_method_41_code 72 = .ok (.iastore, 1) := by decide +kernel
theorem d_x_lose_73 : decode prog_1_method_41_code 73 = .ok (.iinc 3 1, 3) := by decide +kernel
theorem d_x_lose_76 : decode prog_1_method_41_code 76 = .ok (.goto (-26), 3) := by decide +kernel
theorem d_x_lose_79 : decode prog_1_method_41_code 79 = .ok (.iinc 2 1, 3) := by decide +kernel
theorem d_x_lose_82 : decode prog_1_method_41_code 82 = .ok (.goto (-70), 3) := by decide +kernel
theorem d_x_lose_85 : decode prog_1_method_41_code 85 = .ok (.iconst 0, 1) := by decide +kernel
theorem d_x_lose_86 : decode prog_1_method_41_code 86 = .ok (.istore_n 2, 1) := by decide +kernel
theorem d_x_lose_87 : decode prog_1_method_41_code 87 = .ok (.iload_n 2, 1) := by decide +kernel
theorem d_x_lose_88 : decode prog_1_method_41_code 88 = .ok (.aload_n 0, 1) := by decide +kernel
theorem d_x_lose_89 : decode prog_1_method_41_code 89 = .ok (.getfield 183, 3) := by decide +kernel
theorem d_x_lose_92 : decode prog_1_method_41_code 92 = .ok (.if_icmp .ge 90, 3) := by decide +kernel
theorem d_x_lose_95 : decode prog_1_method_41_code 95 = .ok (.aload_n 0, 1) := by decide +kernel
theorem d_x_lose_96 : decode prog_1_method_41_code 96 = .ok (.getfield 186, 3) := by decide +kernel
theorem d_x_lose_99 : decode prog_1_method_41_code 99 = .ok (.iload_n 2, 1) := by decide +kernel
theorem d_x_lose_100 : decode prog_1_method_41_code 100 = .ok (.iaload, 1) := by decide +kernel
theorem d_x_lose_101 : decode prog_1_method_41_code 101 = .ok (.bipush 16, 2) := by decide +kernel
theorem d_x_lose_103 : decode prog_1_method_41_code 103 = .ok (.if_icmp .ne 34, 3) := by decide +kernel
theorem d_x_lose_106 : decode prog_1_method_41_code 106 = .ok (.aload_n 0, 1) := by decide +kernel
theorem d_x_lose_107 : decode prog_1_method_41_code 107 = .ok (.getfield 189, 3) := by decide +kernel
theorem d_x_lose_110 : decode prog_1_method_41_code 110 = .ok (.iconst 0, 1) := by decide +kernel
theorem d_x_lose_111 : decode prog_1_method_41_code 111 = .ok (.aaload, 1) := by decide +kernel
theorem d_x_lose_112 : decode prog_1_method_41_code 112 = .ok (.iload_n 2, 1) := by decide +kernel
theorem d_x_lose_113 : decode prog_1_method_41_code 113 = .ok (.dup2, 1) := by decide +kernel
theorem d_x_lose_114 : decode prog_1_method_41_code 114 = .ok (.iaload, 1) := by decide +kernel
theorem d_x_lose_115 : decode prog_1_method_41_code 115 = .ok (.aload_n 0, 1) := by decide +kernel
theorem d_x_lose_116 : decode prog_1_method_41_code 116 = .ok (.getfield 189, 3) := by decide +kernel
theorem d_x_lose_119 : decode prog_1_method_41_code 119 = .ok (.iconst 0, 1) := by decide +kernel
theorem d_x_lose_120 : decode prog_1_method_41_code 120 = .ok (.aaload, 1) := by decide +kernel
theorem d_x_lose_121 : decode prog_1_method_41_code 121 = .ok (.iload_n 2, 1) := by decide +kernel
theorem d_x_lose_122 : decode prog_1_method_41_code 122 = .ok (.iaload, 1) := by decide +kernel
theorem d_x_lose_123 : decode prog_1_method_41_code 123 = .ok (.iload_n 1, 1) := by decide +kernel
theorem d_x_lose_124 : decode prog_1_method_41_code 124 = .ok (.if_icmp .le 7, 3) := by decide +kernel
theorem d_x_lose_127 : decode prog_1_method_41_code 127 = .ok (.iconst 1, 1) := by decide +kernel
theorem d_x_lose_128 : decode prog_1_method_41_code 128 = .ok (.goto 4, 3) := by decide +kernel
theorem d_x_lose_131 : decode prog_1_method_41_code 131 = .ok (.iconst 0, 1) := by decide +kernel
theorem d_x_lose_132 : decode prog_1_method_41_code 132 = .ok (.isub, 1) := by decide +kernel
theorem d_x_lose_133 : decode prog_1_method_41_code 133 = .ok (.iastore, 1) := by decide +kernel
theorem d_x_lose_134 : decode prog_1_method_41_code 134 = .ok (.goto 42, 3) := by decide +kernel
theorem d_x_lose_137 : decode prog_1_method_41_code 137 = .ok (.aload_n 0, 1) := by decide +kernel
theorem d_x_lose_138 : decode prog_1_method_41_code 138 = .ok (.getfield 186, 3) := by decide +kernel
theorem d_x_lose_141 : decode prog_1_method_41_code 141 = .ok (.iload_n 2, 1) := by decide +kernel
theorem d_x_lose_142 : decode prog_1_method_41_code 142 = .ok (.iaload, 1) := by decide +kernel
theorem d_x_lose_143 : decode prog_1_method_41_code 143 = .ok (.bipush 17, 2) := by decide +kernel
theorem d_x_lose_145 : decode prog_1_method_41_code 145 = .ok (.if_icmp .ne 31, 3) := by decide +kernel
theorem d_x_lose_148 : decode prog_1_method_41_code 148 = .ok (.aload_n 0, 1) := by decide +kernel
theorem d_x_lose_149 : decode prog_1_method_41_code 149 = .ok (.getfield 189, 3) := by decide +kernel
theorem d_x_lose_152 : decode prog_1_method_41_code 152 = .ok (.iconst 1, 1) := by decide +kernel
theorem d_x_lose_153 : decode prog_1_method_41_code 153 = .ok (.aaload, 1) := by decide +kernel
theorem d_x_lose_154 : decode prog_1_method_41_code 154 = .ok (.iload_n 2, 1) := by decide +kernel
theorem d_x_lose_155 : decode prog_1_method_41_code 155 = .ok (.dup2, 1) := by decide +kernel
theorem d_x_lose_156 : decode prog_1_method_41_code 156 = .ok (.iaload, 1) := by decide +kernel
theorem d_x_lose_157 : decode prog_1_method_41_code 157 = .ok (.aload_n 0, 1) := by decide +kernel
theorem d_x_lose_158 : decode prog_1_method_41_code 158 = .ok (.getfield 189, 3) := by decide +kernel
theorem d_x_lose_161 : decode prog_1_method_41_code 161 = .ok (.iconst 1, 1) := by decide +kernel
theorem d_x_lose_162 : decode prog_1_method_41_code 162 = .ok (.aaload, 1) := by decide +kernel
theorem d_x_lose_163 : decode prog_1_method_41_code 163 = .ok (.iload_n 2, 1) := by decide +kernel
theorem d_x_lose_164 : decode prog_1_method_41_code 164 = .ok (.iaload, 1) := by decide +kernel
theorem d_x_lose_165 : decode prog_1_method_41_code 165 = .ok (.iload_n 1, 1) := by decide +kernel
theorem d_x_lose_166 : decode prog_1_method_41_code 166 = .ok (.if_icmp .le 7, 3) := by decide +kernel
theorem d_x_lose_169 : decode prog_1_method_41_code 169 = .ok (.iconst 1, 1) := by decide +kernel
theorem d_x_lose_170 : decode prog_1_method_41_code 170 = .ok (.goto 4, 3) := by decide +kernel
theorem d_x_lose_173 : decode prog_1_method_41_code 173 = .ok (.iconst 0, 1) := by decide +kernel
theorem d_x_lose_174 : decode prog_1_method_41_code 174 = .ok (.isub, 1) := by decide +kernel
theorem d_x_lose_175 : decode prog_1_method_41_code 175 = .ok (.iastore, 1) := by decide +kernel
theorem d_x_lose_176 : decode prog_1_method_41_code 176 = .ok (.iinc 2 1, 3) := by decide +kernel
theorem d_x_lose_179 : decode prog_1_method_41_code 179 = .ok (.goto (-92), 3) := by decide +kernel
theorem d_x_lose_182 : decode prog_1_method_41_code 182 = .ok (.return_, 1) := by decide +kernel
theorem kc_x_lose : Kw (m_w (mi_x_lose )) := ⟨(in_t1 (List.mem_of_getElem? (i := 195) rfl)), rfl⟩
theorem mv_x_lose : MV (mi_x_lose ) "GuardedMoves" 1 := ⟨kw_194, ks_11, kc_x_lose , kw_1, ⟨⟨(by show ("GuardedMoves" : String) ≠ "java/lang/invoke/MethodHandle"; decide), (by show ("GuardedMoves" : String) ≠ "java/lang/invoke/VarHandle"; decide)⟩, (by show (parseMethodDescriptor "(I)V").map (fun d => d.parameters.length) = some 1; decide +kernel)⟩⟩
def w_x_lose_176 (K87 : Int32 → Int32 → Sg → Prop) (Q : Sg → Prop) (v1 : Int32) (v2 : Int32) (σ : Sg) : Prop := ∀ x1 : Int32, x1 = v2 + 1 → (K87 v1 x1 σ)
theorem b_x_lose_176 {Δ : Ly} {G : Gm} {K87 : Int32 → Int32 → Sg → Prop} {Q : Sg → Prop} (cx : Cx Δ G mi_x_lose) (hK87 : ∀ (v1 : Int32) (v2 : Int32) (σ : Sg), K87 v1 v2 σ → Y Δ G mi_x_lose (qV Q) noE 0 0 σ 87 [(0, .ref (Δ.1 0)), (1, .int v1), (2, .int v2)] []) : ∀ (v1 : Int32) (v2 : Int32) (σ : Sg), w_x_lose_176 K87 Q v1 v2 σ → Y Δ G mi_x_lose (qV Q) noE 0 0 σ 176 [(0, .ref (Δ.1 0)), (1, .int v1), (2, .int v2)] [] := by
  intro v1 v2 σ h
  unfold w_x_lose_176 at h
  obtain ⟨x1, ex1⟩ : ∃ y : Int32, y = v2 + 1 := ⟨_, rfl⟩
  replace h := h x1 ex1
  refine y_iinc (v := x1) (lv' := [(2, .int x1), (0, .ref (Δ.1 0)), (1, .int v1)]) cx (pc := 176) d_x_lose_176 (j := 2) rfl (by rw [ex1]; rfl) (le_b rfl) rfl ?_
  refine y_goto cx (pc := 179) (tgt := 87) d_x_lose_179 (by decide) ?_
  refine y_sub [1, 2, 0] rfl ?_
  exact hK87 v1 x1 σ h
def w_x_lose_174 (K87 : Int32 → Int32 → Sg → Prop) (Q : Sg → Prop) (v1 : Int32) (v2 : Int32) (s0 : Int32) (s1 : Int32) (s2 : Int32) (σ : Sg) : Prop := vp_in s2 3000 ∧ (w_x_lose_176 K87 Q v1 v2 (up σ 15 (s2.toNatClampNeg) (s1 - s0)))
theorem b_x_lose_174 {Δ : Ly} {G : Gm} {K87 : Int32 → Int32 → Sg → Prop} {Q : Sg → Prop} (cx : Cx Δ G mi_x_lose) (hK87 : ∀ (v1 : Int32) (v2 : Int32) (σ : Sg), K87 v1 v2 σ → Y Δ G mi_x_lose (qV Q) noE 0 0 σ 87 [(0, .ref (Δ.1 0)), (1, .int v1), (2, .int v2)] []) : ∀ (v1 : Int32) (v2 : Int32) (s0 : Int32) (s1 : Int32) (s2 : Int32) (σ : Sg), w_x_lose_174 K87 Q v1 v2 s0 s1 s2 σ → Y Δ G mi_x_lose (qV Q) noE 0 0 σ 174 [(0, .ref (Δ.1 0)), (1, .int v1), (2, .int v2)] [.int s0, .int s1, .int s2, .ref (Δ.1 15)] := by
  intro v1 v2 s0 s1 s2 σ h
  unfold w_x_lose_174 at h
  refine y_isub cx (pc := 174) d_x_lose_174 ?_
  obtain ⟨h0, h⟩ := h
  refine y_iast cx (pc := 175) ⟨(le_b rfl), fun _ => rfl⟩ h0 d_x_lose_175 ?_
  exact b_x_lose_176 cx hK87 v1 v2 (up σ 15 (s2.toNatClampNeg) (s1 - s0)) h
def w_x_lose_132 (K87 : Int32 → Int32 → Sg → Prop) (Q : Sg → Prop) (v1 : Int32) (v2 : Int32) (s0 : Int32) (s1 : Int32) (s2 : Int32) (σ : Sg) : Prop := vp_in s2 3000 ∧ (w_x_lose_176 K87 Q v1 v2 (up σ 14 (s2.toNatClampNeg) (s1 - s0)))
theorem b_x_lose_132 {Δ : Ly} {G : Gm} {K87 : Int32 → Int32 → Sg → Prop} {Q : Sg → Prop} (cx : Cx Δ G mi_x_lose) (hK87 : ∀ (v1 : Int32) (v2 : Int32) (σ : Sg), K87 v1 v2 σ → Y Δ G mi_x_lose (qV Q) noE 0 0 σ 87 [(0, .ref (Δ.1 0)), (1, .int v1), (2, .int v2)] []) : ∀ (v1 : Int32) (v2 : Int32) (s0 : Int32) (s1 : Int32) (s2 : Int32) (σ : Sg), w_x_lose_132 K87 Q v1 v2 s0 s1 s2 σ → Y Δ G mi_x_lose (qV Q) noE 0 0 σ 132 [(0, .ref (Δ.1 0)), (1, .int v1), (2, .int v2)] [.int s0, .int s1, .int s2, .ref (Δ.1 14)] := by
  intro v1 v2 s0 s1 s2 σ h
  unfold w_x_lose_132 at h
  refine y_isub cx (pc := 132) d_x_lose_132 ?_
  obtain ⟨h0, h⟩ := h
  refine y_iast cx (pc := 133) ⟨(le_b rfl), fun _ => rfl⟩ h0 d_x_lose_133 ?_
  refine y_goto cx (pc := 134) (tgt := 176) d_x_lose_134 (by decide) ?_
  exact b_x_lose_176 cx hK87 v1 v2 (up σ 14 (s2.toNatClampNeg) (s1 - s0)) h
def w_x_lose_87 (Q : Sg → Prop) : Nat → Int32 → Int32 → Sg → Prop
  | 0, _, _, _ => False
  | n + 1, v1, v2, σ => ((σ 0 12) ≤ v2 → (Q σ)) ∧ (¬ (σ 0 12) ≤ v2 → (vp_in v2 3000 ∧ ((¬ (σ 6 (v2.toNatClampNeg)) = 16 → (vp_in v2 3000 ∧ ((¬ (σ 6 (v2.toNatClampNeg)) = 17 → (w_x_lose_176 (w_x_lose_87 Q n) Q v1 v2 σ)) ∧ ((σ 6 (v2.toNatClampNeg)) = 17 → (vp_in v2 3000 ∧ (vp_in v2 3000 ∧ (((σ 15 (v2.toNatClampNeg)) ≤ v1 → (w_x_lose_174 (w_x_lose_87 Q n) Q v1 v2 0 (σ 15 (v2.toNatClampNeg)) v2 σ)) ∧ (¬ (σ 15 (v2.toNatClampNeg)) ≤ v1 → (w_x_lose_174 (w_x_lose_87 Q n) Q v1 v2 1 (σ 15 (v2.toNatClampNeg)) v2 σ))))))))) ∧ ((σ 6 (v2.toNatClampNeg)) = 16 → (vp_in v2 3000 ∧ (vp_in v2 3000 ∧ (((σ 14 (v2.toNatClampNeg)) ≤ v1 → (w_x_lose_132 (w_x_lose_87 Q n) Q v1 v2 0 (σ 14 (v2.toNatClampNeg)) v2 σ)) ∧ (¬ (σ 14 (v2.toNatClampNeg)) ≤ v1 → (w_x_lose_132 (w_x_lose_87 Q n) Q v1 v2 1 (σ 14 (v2.toNatClampNeg)) v2 σ)))))))))
theorem b_x_lose_87 {Δ : Ly} {G : Gm} {Q : Sg → Prop} (cx : Cx Δ G mi_x_lose) : ∀ (n : Nat) (v1 : Int32) (v2 : Int32) (σ : Sg), w_x_lose_87 Q n v1 v2 σ → Y Δ G mi_x_lose (qV Q) noE 0 0 σ 87 [(0, .ref (Δ.1 0)), (1, .int v1), (2, .int v2)] [] := by
  intro n
  induction n with
  | zero => intro v1 v2 σ h; exact h.elim
  | succ n ih =>
    intro v1 v2 σ h
    unfold w_x_lose_87 at h
    refine y_iload_n cx (pc := 87) d_x_lose_87 rfl 2 rfl ?_
    refine y_aload_n cx (pc := 88) d_x_lose_88 rfl 0 rfl ?_
    refine y_get cx (pc := 89) (j := 12) (v := .int (σ 0 12)) (le_b rfl) ck_GM kw_409 (le_b rfl) (gf_0_12 Δ _) d_x_lose_89 ?_
    refine y_icmp_ge cx (pc := 92) (tgt := 182) d_x_lose_92 (by decide) (fun hc => ?_) (fun hc => ?_)
    · replace h := h.1 hc
      exact y_vret cx (pc := 182) rfl d_x_lose_182 (le_b rfl) (le_b rfl) h
    · replace h := h.2 hc
      refine y_aload_n cx (pc := 95) d_x_lose_95 rfl 0 rfl ?_
      refine y_get cx (pc := 96) (j := 9) (v := .ref (Δ.1 6)) (le_b rfl) ck_GM kw_406 (le_b rfl) (gf_0_9 Δ _) d_x_lose_96 ?_
      refine y_iload_n cx (pc := 99) d_x_lose_99 rfl 2 rfl ?_
      obtain ⟨h0, h⟩ := h
      refine y_iald cx (pc := 100) ⟨(le_b rfl), fun _ => rfl⟩ h0 d_x_lose_100 ?_
      refine y_bipush cx (pc := 101) bp_16 d_x_lose_101 ?_
      refine y_icmp_ne cx (pc := 103) (tgt := 137) d_x_lose_103 (by decide) (fun hc => ?_) (fun hc => ?_)
      · replace h := h.1 hc
        refine y_aload_n cx (pc := 137) d_x_lose_137 rfl 0 rfl ?_
        refine y_get cx (pc := 138) (j := 9) (v := .ref (Δ.1 6)) (le_b rfl) ck_GM kw_406 (le_b rfl) (gf_0_9 Δ _) d_x_lose_138 ?_
        refine y_iload_n cx (pc := 141) d_x_lose_141 rfl 2 rfl ?_
        obtain ⟨h0, h⟩ := h
        refine y_iald cx (pc := 142) ⟨(le_b rfl), fun _ => rfl⟩ h0 d_x_lose_142 ?_
        refine y_bipush cx (pc := 143) bp_17 d_x_lose_143 ?_
        refine y_icmp_ne cx (pc := 145) (tgt := 176) d_x_lose_145 (by decide) (fun hc => ?_) (fun hc => ?_)
        · replace h := h.1 hc
          exact b_x_lose_176 cx ih v1 v2 σ h
        · replace h := h.2 hc
          refine y_aload_n cx (pc := 148) d_x_lose_148 rfl 0 rfl ?_
          refine y_get cx (pc := 149) (j := 10) (v := .ref (Δ.1 34)) (le_b rfl) ck_GM kw_407 (le_b rfl) (gf_0_10 Δ _) d_x_lose_149 ?_
          refine y_iconst cx (pc := 152) ic_1 d_x_lose_152 ?_
          refine y_aaldK cx (pc := 153) 1 (base := 14) ⟨(le_b rfl), fun _ => rfl⟩ (vp_dec _ _ (by decide)) (by decide) d_x_lose_153 ?_
          refine y_iload_n cx (pc := 154) d_x_lose_154 rfl 2 rfl ?_
          refine y_dup2 cx (pc := 155) rfl rfl d_x_lose_155 ?_
          obtain ⟨h0, h⟩ := h
          refine y_iald cx (pc := 156) ⟨(le_b rfl), fun _ => rfl⟩ h0 d_x_lose_156 ?_
          refine y_aload_n cx (pc := 157) d_x_lose_157 rfl 0 rfl ?_
          refine y_get cx (pc := 158) (j := 10) (v := .ref (Δ.1 34)) (le_b rfl) ck_GM kw_407 (le_b rfl) (gf_0_10 Δ _) d_x_lose_158 ?_
          refine y_iconst cx (pc := 161) ic_1 d_x_lose_161 ?_
          refine y_aaldK cx (pc := 162) 1 (base := 14) ⟨(le_b rfl), fun _ => rfl⟩ (vp_dec _ _ (by decide)) (by decide) d_x_lose_162 ?_
          refine y_iload_n cx (pc := 163) d_x_lose_163 rfl 2 rfl ?_
          obtain ⟨h0, h⟩ := h
          refine y_iald cx (pc := 164) ⟨(le_b rfl), fun _ => rfl⟩ h0 d_x_lose_164 ?_
          refine y_iload_n cx (pc := 165) d_x_lose_165 rfl 1 rfl ?_
          refine y_icmp_le cx (pc := 166) (tgt := 173) d_x_lose_166 (by decide) (fun hc => ?_) (fun hc => ?_)
          · replace h := h.1 hc
            refine y_iconst cx (pc := 173) ic_0 d_x_lose_173 ?_
            exact b_x_lose_174 cx ih v1 v2 0 (σ 15 (v2.toNatClampNeg)) v2 σ h
          · replace h := h.2 hc
            refine y_iconst cx (pc := 169) ic_1 d_x_lose_169 ?_
            refine y_goto cx (pc := 170) (tgt := 174) d_x_lose_170 (by decide) ?_
            exact b_x_lose_174 cx ih v1 v2 1 (σ 15 (v2.toNatClampNeg)) v2 σ h
      · replace h := h.2 hc
        refine y_aload_n cx (pc := 106) d_x_lose_106 rfl 0 rfl ?_
        refine y_get cx (pc := 107) (j := 10) (v := .ref (Δ.1 34)) (le_b rfl) ck_GM kw_407 (le_b rfl) (gf_0_10 Δ _) d_x_lose_107 ?_
        refine y_iconst cx (pc := 110) ic_0 d_x_lose_110 ?_
        refine y_aaldK cx (pc := 111) 0 (base := 14) ⟨(le_b rfl), fun _ => rfl⟩ (vp_dec _ _ (by decide)) (by decide) d_x_lose_111 ?_
        refine y_iload_n cx (pc := 112) d_x_lose_112 rfl 2 rfl ?_
        refine y_dup2 cx (pc := 113) rfl rfl d_x_lose_113 ?_
        obtain ⟨h0, h⟩ := h
        refine y_iald cx (pc := 114) ⟨(le_b rfl), fun _ => rfl⟩ h0 d_x_lose_114 ?_
        refine y_aload_n cx (pc := 115) d_x_lose_115 rfl 0 rfl ?_
        refine y_get cx (pc := 116) (j := 10) (v := .ref (Δ.1 34)) (le_b rfl) ck_GM kw_407 (le_b rfl) (gf_0_10 Δ _) d_x_lose_116 ?_
        refine y_iconst cx (pc := 119) ic_0 d_x_lose_119 ?_
        refine y_aaldK cx (pc := 120) 0 (base := 14) ⟨(le_b rfl), fun _ => rfl⟩ (vp_dec _ _ (by decide)) (by decide) d_x_lose_120 ?_
        refine y_iload_n cx (pc := 121) d_x_lose_121 rfl 2 rfl ?_
        obtain ⟨h0, h⟩ := h
        refine y_iald cx (pc := 122) ⟨(le_b rfl), fun _ => rfl⟩ h0 d_x_lose_122 ?_
        refine y_iload_n cx (pc := 123) d_x_lose_123 rfl 1 rfl ?_
        refine y_icmp_le cx (pc := 124) (tgt := 131) d_x_lose_124 (by decide) (fun hc => ?_) (fun hc => ?_)
        · replace h := h.1 hc
          refine y_iconst cx (pc := 131) ic_0 d_x_lose_131 ?_
          exact b_x_lose_132 cx ih v1 v2 0 (σ 14 (v2.toNatClampNeg)) v2 σ h
        · replace h := h.2 hc
          refine y_iconst cx (pc := 127) ic_1 d_x_lose_127 ?_
          refine y_goto cx (pc := 128) (tgt := 132) d_x_lose_128 (by decide) ?_
          exact b_x_lose_132 cx ih v1 v2 1 (σ 14 (v2.toNatClampNeg)) v2 σ h
def w_x_lose_50 (K12 : Int32 → Int32 → Sg → Prop) (Q : Sg → Prop) : Nat → Int32 → Int32 → Int32 → Sg → Prop
  | 0, _, _, _, _ => False
  | n + 1, v1, v2, v3, σ => (4 ≤ v3 → (∀ x1 : Int32, x1 = v2 + 1 → (K12 v1 x1 σ))) ∧ (¬ 4 ≤ v3 → (vp_in v3 4 ∧ (vp_in v3 4 ∧ (inN (14 + v3.toNatClampNeg) ∧ (vp_in (v2 + 1) 3000 ∧ (inN (14 + v3.toNatClampNeg) ∧ (vp_in v2 3000 ∧ (∀ x2 : Int32, x2 = v3 + 1 → ((w_x_lose_50 K12 Q n) v1 v2 x2 (up σ (14 + v3.toNatClampNeg) (v2.toNatClampNeg) (σ (14 + v3.toNatClampNeg) ((v2 + 1).toNatClampNeg))))))))))))
theorem b_x_lose_50 {Δ : Ly} {G : Gm} {K12 : Int32 → Int32 → Sg → Prop} {Q : Sg → Prop} (cx : Cx Δ G mi_x_lose) (hK12 : ∀ (v1 : Int32) (v2 : Int32) (σ : Sg), K12 v1 v2 σ → Y Δ G mi_x_lose (qV Q) noE 0 0 σ 12 [(0, .ref (Δ.1 0)), (1, .int v1), (2, .int v2)] []) : ∀ (n : Nat) (v1 : Int32) (v2 : Int32) (v3 : Int32) (σ : Sg), w_x_lose_50 K12 Q n v1 v2 v3 σ → Y Δ G mi_x_lose (qV Q) noE 0 0 σ 50 [(0, .ref (Δ.1 0)), (1, .int v1), (2, .int v2), (3, .int v3)] [] := by
  intro n
  induction n with
  | zero => intro v1 v2 v3 σ h; exact h.elim
  | succ n ih =>
    intro v1 v2 v3 σ h
    unfold w_x_lose_50 at h
    refine y_iload_n cx (pc := 50) d_x_lose_50 rfl 3 rfl ?_
    refine y_iconst cx (pc := 51) ic_4 d_x_lose_51 ?_
    refine y_icmp_ge cx (pc := 52) (tgt := 79) d_x_lose_52 (by decide) (fun hc => ?_) (fun hc => ?_)
    · replace h := h.1 hc
      obtain ⟨x1, ex1⟩ : ∃ y : Int32, y = v2 + 1 := ⟨_, rfl⟩
      replace h := h x1 ex1
      refine y_iinc (v := x1) (lv' := [(2, .int x1), (0, .ref (Δ.1 0)), (1, .int v1), (3, .int v3)]) cx (pc := 79) d_x_lose_79 (j := 2) rfl (by rw [ex1]; rfl) (le_b rfl) rfl ?_
      refine y_goto cx (pc := 82) (tgt := 12) d_x_lose_82 (by decide) ?_
      refine y_sub [1, 2, 0] rfl ?_
      exact hK12 v1 x1 σ h
    · replace h := h.2 hc
      refine y_aload_n cx (pc := 55) d_x_lose_55 rfl 0 rfl ?_
      refine y_get cx (pc := 56) (j := 10) (v := .ref (Δ.1 34)) (le_b rfl) ck_GM kw_407 (le_b rfl) (gf_0_10 Δ _) d_x_lose_56 ?_
      refine y_iload_n cx (pc := 59) d_x_lose_59 rfl 3 rfl ?_
      obtain ⟨h0, h⟩ := h
      refine y_aald cx (pc := 60) (base := 14) ⟨(le_b rfl), fun _ => rfl⟩ h0 d_x_lose_60 ?_
      refine y_iload_n cx (pc := 61) d_x_lose_61 rfl 2 rfl ?_
      refine y_aload_n cx (pc := 62) d_x_lose_62 rfl 0 rfl ?_
      refine y_get cx (pc := 63) (j := 10) (v := .ref (Δ.1 34)) (le_b rfl) ck_GM kw_407 (le_b rfl) (gf_0_10 Δ _) d_x_lose_63 ?_
      refine y_iload_n cx (pc := 66) d_x_lose_66 rfl 3 rfl ?_
      obtain ⟨h0, h⟩ := h
      refine y_aald cx (pc := 67) (base := 14) ⟨(le_b rfl), fun _ => rfl⟩ h0 d_x_lose_67 ?_
      refine y_iload_n cx (pc := 68) d_x_lose_68 rfl 2 rfl ?_
      refine y_iconst cx (pc := 69) ic_1 d_x_lose_69 ?_
      refine y_iadd cx (pc := 70) d_x_lose_70 ?_
      obtain ⟨h9, h⟩ := h
      obtain ⟨h0, h⟩ := h
      refine y_iald cx (pc := 71) (av_inN h9) h0 d_x_lose_71 ?_
      obtain ⟨h9, h⟩ := h
      obtain ⟨h0, h⟩ := h
      refine y_iast cx (pc := 72) (av_inN h9) h0 d_x_lose_72 ?_
      obtain ⟨x2, ex2⟩ : ∃ y : Int32, y = v3 + 1 := ⟨_, rfl⟩
      replace h := h x2 ex2
      refine y_iinc (v := x2) (lv' := [(3, .int x2), (0, .ref (Δ.1 0)), (1, .int v1), (2, .int v2)]) cx (pc := 73) d_x_lose_73 (j := 3) rfl (by rw [ex2]; rfl) (le_b rfl) rfl ?_
      refine y_goto cx (pc := 76) (tgt := 50) d_x_lose_76 (by decide) ?_
      refine y_sub [1, 2, 3, 0] rfl ?_
      exact ih v1 v2 x2 (up σ (14 + v3.toNatClampNeg) (v2.toNatClampNeg) (σ (14 + v3.toNatClampNeg) ((v2 + 1).toNatClampNeg))) h
def w_x_lose_12 (Q : Sg → Prop) : Nat → Int32 → Int32 → Sg → Prop
  | 0, _, _, _ => False
  | n + 1, v1, v2, σ => ((σ 0 12) ≤ v2 → (∃ q87, w_x_lose_87 Q q87 v1 0 σ)) ∧ (¬ (σ 0 12) ≤ v2 → (vp_in (v2 + 1) 3000 ∧ (vp_in v2 3000 ∧ (vp_in (v2 + 1) 3000 ∧ (vp_in v2 3000 ∧ (∃ q50, w_x_lose_50 (w_x_lose_12 Q n) Q q50 v1 v2 0 (up (up σ 6 (v2.toNatClampNeg) (σ 6 ((v2 + 1).toNatClampNeg))) 7 (v2.toNatClampNeg) (σ 7 ((v2 + 1).toNatClampNeg)))))))))
theorem b_x_lose_12 {Δ : Ly} {G : Gm} {Q : Sg → Prop} (cx : Cx Δ G mi_x_lose) : ∀ (n : Nat) (v1 : Int32) (v2 : Int32) (σ : Sg), w_x_lose_12 Q n v1 v2 σ → Y Δ G mi_x_lose (qV Q) noE 0 0 σ 12 [(0, .ref (Δ.1 0)), (1, .int v1), (2, .int v2)] [] := by
  intro n
  induction n with
  | zero => intro v1 v2 σ h; exact h.elim
  | succ n ih =>
    intro v1 v2 σ h
    unfold w_x_lose_12 at h
    refine y_iload_n cx (pc := 12) d_x_lose_12 rfl 2 rfl ?_
    refine y_aload_n cx (pc := 13) d_x_lose_13 rfl 0 rfl ?_
    refine y_get cx (pc := 14) (j := 12) (v := .int (σ 0 12)) (le_b rfl) ck_GM kw_409 (le_b rfl) (gf_0_12 Δ _) d_x_lose_14 ?_
    refine y_icmp_ge cx (pc := 17) (tgt := 85) d_x_lose_17 (by decide) (fun hc => ?_) (fun hc => ?_)
    · replace h := h.1 hc
      refine y_iconst cx (pc := 85) ic_0 d_x_lose_85 ?_
      refine y_istore_n (lv' := [(2, .int 0), (0, .ref (Δ.1 0)), (1, .int v1)]) cx (pc := 86) d_x_lose_86 rfl (le_b rfl) rfl ?_
      refine y_sub [1, 2, 0] rfl ?_
      obtain ⟨n, h⟩ := h
      exact b_x_lose_87 cx n v1 0 σ h
    · replace h := h.2 hc
      refine y_aload_n cx (pc := 20) d_x_lose_20 rfl 0 rfl ?_
      refine y_get cx (pc := 21) (j := 9) (v := .ref (Δ.1 6)) (le_b rfl) ck_GM kw_406 (le_b rfl) (gf_0_9 Δ _) d_x_lose_21 ?_
      refine y_iload_n cx (pc := 24) d_x_lose_24 rfl 2 rfl ?_
      refine y_aload_n cx (pc := 25) d_x_lose_25 rfl 0 rfl ?_
      refine y_get cx (pc := 26) (j := 9) (v := .ref (Δ.1 6)) (le_b rfl) ck_GM kw_406 (le_b rfl) (gf_0_9 Δ _) d_x_lose_26 ?_
      refine y_iload_n cx (pc := 29) d_x_lose_29 rfl 2 rfl ?_
      refine y_iconst cx (pc := 30) ic_1 d_x_lose_30 ?_
      refine y_iadd cx (pc := 31) d_x_lose_31 ?_
      obtain ⟨h0, h⟩ := h
      refine y_iald cx (pc := 32) ⟨(le_b rfl), fun _ => rfl⟩ h0 d_x_lose_32 ?_
      obtain ⟨h0, h⟩ := h
      refine y_iast cx (pc := 33) ⟨(le_b rfl), fun _ => rfl⟩ h0 d_x_lose_33 ?_
      refine y_aload_n cx (pc := 34) d_x_lose_34 rfl 0 rfl ?_
      refine y_get cx (pc := 35) (j := 11) (v := .ref (Δ.1 7)) (le_b rfl) ck_GM kw_408 (le_b rfl) (gf_0_11 Δ _) d_x_lose_35 ?_
      refine y_iload_n cx (pc := 38) d_x_lose_38 rfl 2 rfl ?_
      refine y_aload_n cx (pc := 39) d_x_lose_39 rfl 0 rfl ?_
      refine y_get cx (pc := 40) (j := 11) (v := .ref (Δ.1 7)) (le_b rfl) ck_GM kw_408 (le_b rfl) (gf_0_11 Δ _) d_x_lose_40 ?_
      refine y_iload_n cx (pc := 43) d_x_lose_43 rfl 2 rfl ?_
      refine y_iconst cx (pc := 44) ic_1 d_x_lose_44 ?_
      refine y_iadd cx (pc := 45) d_x_lose_45 ?_
      obtain ⟨h0, h⟩ := h
      refine y_iald cx (pc := 46) ⟨(le_b rfl), fun _ => rfl⟩ h0 d_x_lose_46 ?_
      obtain ⟨h0, h⟩ := h
      refine y_iast cx (pc := 47) ⟨(le_b rfl), fun _ => rfl⟩ h0 d_x_lose_47 ?_
      refine y_iconst cx (pc := 48) ic_0 d_x_lose_48 ?_
      refine y_istore_n (lv' := [(3, .int 0), (0, .ref (Δ.1 0)), (1, .int v1), (2, .int v2)]) cx (pc := 49) d_x_lose_49 rfl (le_b rfl) rfl ?_
      refine y_sub [1, 2, 3, 0] rfl ?_
      obtain ⟨n, h⟩ := h
      exact b_x_lose_50 cx ih n v1 v2 0 (up (up σ 6 (v2.toNatClampNeg) (σ 6 ((v2 + 1).toNatClampNeg))) 7 (v2.toNatClampNeg) (σ 7 ((v2 + 1).toNatClampNeg))) h
def w_x_lose (p1 : Int32) (σ : Sg) (Q : Sg → Prop) : Prop := ∃ q12, w_x_lose_12 Q q12 p1 p1 (up σ 0 12 ((σ 0 12) - 1))
theorem b_x_lose {Δ : Ly} {G : Gm} {Q : Sg → Prop} (cx : Cx Δ G mi_x_lose) (p1 : Int32) (σ : Sg) (h : w_x_lose p1 σ Q) : Y Δ G mi_x_lose (qV Q) noE 0 0 σ 0 [(0, .ref (Δ.1 0)), (1, .int p1)] [] := by
  unfold w_x_lose at h
  refine y_aload_n cx (pc := 0) d_x_lose_0 rfl 0 rfl ?_
  refine y_dup cx (pc := 1) rfl d_x_lose_1 ?_
  refine y_get cx (pc := 2) (j := 12) (v := .int (σ 0 12)) (le_b rfl) ck_GM kw_409 (le_b rfl) (gf_0_12 Δ _) d_x_lose_2 ?_
  refine y_iconst cx (pc := 5) ic_1 d_x_lose_5 ?_
  refine y_isub cx (pc := 6) d_x_lose_6 ?_
  refine y_put cx (pc := 7) (j := 12) (ty := .int) (le_b rfl) ck_GM kw_409 (le_b rfl) rfl (t_GM_ok 12 (le_b rfl)) rfl rfl (pf_0_12 Δ) d_x_lose_7 ?_
  refine y_iload_n cx (pc := 10) d_x_lose_10 rfl 1 rfl ?_
  refine y_istore_n (lv' := [(2, .int p1), (0, .ref (Δ.1 0)), (1, .int p1)]) cx (pc := 11) d_x_lose_11 rfl (le_b rfl) rfl ?_
  refine y_sub [1, 2, 0] rfl ?_
  obtain ⟨n, h⟩ := h
  exact b_x_lose_12 cx n p1 p1 (up σ 0 12 ((σ 0 12) - 1)) h
theorem c_x_lose {l : Launch} (hfl : l.flags = flags0) (Δ : Ly) (p1 : Int32) (σ : Sg) (Q : Sg → Prop) (h : w_x_lose p1 σ Q) : Ct l Δ mi_x_lose [.ref (Δ.1 0), .int p1] σ (qV Q) noE :=
  Ct.of hfl (by show plainFor ⟨"GuardedMoves", "lose", "(I)V"⟩ = true; decide +kernel) rfl (le_b rfl) (fun G hl cx => b_x_lose cx p1 σ h)
def mi_x_trim : Mi := ("GuardedMoves", prog_1_method_42_code, 3, [], (some .int), 3, 79, 0, 0, ⟨"GuardedMoves", "trim", "()I"⟩)
theorem d_x_trim_0 : decode prog_1_method_42_code 0 = .ok (.aload_n 0, 1) := by decide +kernel
theorem d_x_trim_1 : decode prog_1_method_42_code 1 = .ok (.getfield 183, 3) := by decide +kernel
theorem d_x_trim_4 : decode prog_1_method_42_code 4 = .ok (.istore_n 1, 1) := by decide +kernel
theorem d_x_trim_5 : decode prog_1_method_42_code 5 = .ok (.aload_n 0, 1) := by decide +kernel
theorem d_x_trim_6 : decode prog_1_method_42_code 6 = .ok (.getfield 183, 3) := by decide +kernel
theorem d_x_trim_9 : decode prog_1_method_42_code 9 = .ok (.iconst 1, 1) := by decide +kernel
theorem d_x_trim_10 : decode prog_1_method_42_code 10 = .ok (.isub, 1) := by decide +kernel
theorem d_x_trim_11 : decode prog_1_method_42_code 11 = .ok (.istore_n 2, 1) := by decide +kernel
theorem d_x_trim_12 : decode prog_1_method_42_code 12 = .ok (.iload_n 2, 1) := by decide +kernel
theorem d_x_trim_13 : decode prog_1_method_42_code 13 = .ok (.ifCond .lt 22, 3) := by decide +kernel
theorem d_x_trim_16 : decode prog_1_method_42_code 16 = .ok (.aload_n 0, 1) := by decide +kernel
theorem d_x_trim_17 : decode prog_1_method_42_code 17 = .ok (.iload_n 2, 1) := by decide +kernel
theorem d_x_trim_18 : decode prog_1_method_42_code 18 = .ok (.invokevirtual 280, 3) := by decide +kernel
theorem d_x_trim_21 : decode prog_1_method_42_code 21 = .ok (.ifCond .eq 8, 3) := by decide +kernel
theorem d_x_trim_24 : decode prog_1_method_42_code 24 = .ok (.aload_n 0, 1) := by decide +kernel
theorem d_x_trim_25 : decode prog_1_method_42_code 25 = .ok (.iload_n 2, 1) := by decide +kernel
theorem d_x_trim_26 : decode prog_1_method_42_code 26 = .ok (.invokevirtual 283, 3) := by decide +kernel
theorem d_x_trim_29 : decode prog_1_method_42_code 29 = .ok (.iinc 2 (-1), 3) := by decide +kernel
theorem d_x_trim_32 : decode prog_1_method_42_code 32 = .ok (.goto (-20), 3) := by decide +kernel
theorem d_x_trim_35 : decode prog_1_method_42_code 35 = .ok (.iload_n 1, 1) := by decide +kernel
theorem d_x_trim_36 : decode prog_1_method_42_code 36 = .ok (.aload_n 0, 1) := by decide +kernel
theorem d_x_trim_37 : decode prog_1_method_42_code 37 = .ok (.getfield 183, 3) := by decide +kernel
theorem d_x_trim_40 : decode prog_1_method_42_code 40 = .ok (.isub, 1) := by decide +kernel
theorem d_x_trim_41 : decode prog_1_method_42_code 41 = .ok (.ireturn, 1) := by decide +kernel
theorem kc_x_trim : Kw (m_w (mi_x_trim )) := ⟨(in_t1 (List.mem_of_getElem? (i := 180) rfl)), rfl⟩
theorem mv_x_trim : MV (mi_x_trim ) "GuardedMoves" 0 := ⟨kw_178, kw_179, kc_x_trim , kw_1, ⟨⟨(by show ("GuardedMoves" : String) ≠ "java/lang/invoke/MethodHandle"; decide), (by show ("GuardedMoves" : String) ≠ "java/lang/invoke/VarHandle"; decide)⟩, (by show (parseMethodDescriptor "()I").map (fun d => d.parameters.length) = some 0; decide +kernel)⟩⟩
def w_x_trim_29 (K12 : Int32 → Int32 → Sg → Prop) (Q : Int32 → Sg → Prop) (v1 : Int32) (v2 : Int32) (σ : Sg) : Prop := ∀ x1 : Int32, x1 = v2 + (-1) → (K12 v1 x1 σ)
theorem b_x_trim_29 {Δ : Ly} {G : Gm} {K12 : Int32 → Int32 → Sg → Prop} {Q : Int32 → Sg → Prop} (cx : Cx Δ G mi_x_trim) (hK12 : ∀ (v1 : Int32) (v2 : Int32) (σ : Sg), K12 v1 v2 σ → Y Δ G mi_x_trim (qI Q) noE 0 0 σ 12 [(0, .ref (Δ.1 0)), (1, .int v1), (2, .int v2)] []) : ∀ (v1 : Int32) (v2 : Int32) (σ : Sg), w_x_trim_29 K12 Q v1 v2 σ → Y Δ G mi_x_trim (qI Q) noE 0 0 σ 29 [(0, .ref (Δ.1 0)), (1, .int v1), (2, .int v2)] [] := by
  intro v1 v2 σ h
  unfold w_x_trim_29 at h
  obtain ⟨x1, ex1⟩ : ∃ y : Int32, y = v2 + (-1) := ⟨_, rfl⟩
  replace h := h x1 ex1
  refine y_iinc (v := x1) (lv' := [(2, .int x1), (0, .ref (Δ.1 0)), (1, .int v1)]) cx (pc := 29) d_x_trim_29 (j := 2) rfl (by rw [ex1]; rfl) (le_b rfl) rfl ?_
  refine y_goto cx (pc := 32) (tgt := 12) d_x_trim_32 (by decide) ?_
  refine y_sub [1, 2, 0] rfl ?_
  exact hK12 v1 x1 σ h
def w_x_trim_12 (Q : Int32 → Sg → Prop) : Nat → Int32 → Int32 → Sg → Prop
  | 0, _, _, _ => False
  | n + 1, v1, v2, σ => (v2 < 0 → (Q (v1 - (σ 0 12)) σ)) ∧ (¬ v2 < 0 → (w_x_isUseless v2 σ (fun x1 σ2 => (x1 = 0 → (w_x_trim_29 (w_x_trim_12 Q n) Q v1 v2 σ2)) ∧ (¬ x1 = 0 → (w_x_lose v2 σ2 (fun σ3 => w_x_trim_29 (w_x_trim_12 Q n) Q v1 v2 σ3))))))
theorem b_x_trim_12 {Δ : Ly} {G : Gm} {Q : Int32 → Sg → Prop} (cx : Cx Δ G mi_x_trim) : ∀ (n : Nat) (v1 : Int32) (v2 : Int32) (σ : Sg), w_x_trim_12 Q n v1 v2 σ → Y Δ G mi_x_trim (qI Q) noE 0 0 σ 12 [(0, .ref (Δ.1 0)), (1, .int v1), (2, .int v2)] [] := by
  intro n
  induction n with
  | zero => intro v1 v2 σ h; exact h.elim
  | succ n ih =>
    intro v1 v2 σ h
    unfold w_x_trim_12 at h
    refine y_iload_n cx (pc := 12) d_x_trim_12 rfl 2 rfl ?_
    refine y_if_lt cx (pc := 13) (tgt := 35) d_x_trim_13 (by decide) (fun hc => ?_) (fun hc => ?_)
    · replace h := h.1 hc
      refine y_iload_n cx (pc := 35) d_x_trim_35 rfl 1 rfl ?_
      refine y_aload_n cx (pc := 36) d_x_trim_36 rfl 0 rfl ?_
      refine y_get cx (pc := 37) (j := 12) (v := .int (σ 0 12)) (le_b rfl) ck_GM kw_409 (le_b rfl) (gf_0_12 Δ _) d_x_trim_37 ?_
      refine y_isub cx (pc := 40) d_x_trim_40 ?_
      exact y_iret cx (pc := 41) rfl d_x_trim_41 (le_b rfl) (le_b rfl) h
    · replace h := h.2 hc
      refine y_aload_n cx (pc := 16) d_x_trim_16 rfl 0 rfl ?_
      refine y_iload_n cx (pc := 17) d_x_trim_17 rfl 2 rfl ?_
      refine y_vI cx (pc := 18) (st := []) [.int v2] (c_x_isUseless cx.fl Δ v2 _ _ h) mv_x_isUseless kw_181 (oc_0 Δ) ck_GM rfl (le_b rfl) (le_b rfl) (le_b rfl) (le_b rfl) (le_b rfl) d_x_trim_18 (fun x1 σ2 h => ?_) (fun x σ2 h => yt_no h)
      refine y_if_eq cx (pc := 21) (tgt := 29) d_x_trim_21 (by decide) (fun hc => ?_) (fun hc => ?_)
      · replace h := h.1 hc
        exact b_x_trim_29 cx ih v1 v2 σ2 h
      · replace h := h.2 hc
        refine y_aload_n cx (pc := 24) d_x_trim_24 rfl 0 rfl ?_
        refine y_iload_n cx (pc := 25) d_x_trim_25 rfl 2 rfl ?_
        refine y_vV cx (pc := 26) (st := []) [.int v2] (c_x_lose cx.fl Δ v2 _ _ h) mv_x_lose kw_192 (oc_0 Δ) ck_GM rfl (le_b rfl) (le_b rfl) (le_b rfl) (le_b rfl) (le_b rfl) d_x_trim_26 (fun σ3 h => ?_) (fun x σ3 h => yt_no h)
        exact b_x_trim_29 cx ih v1 v2 σ3 h
def w_x_trim (σ : Sg) (Q : Int32 → Sg → Prop) : Prop := ∀ x1 : Int32, x1 = σ 0 12 → (∀ x2 : Int32, x2 = (σ 0 12) - 1 → (∃ q12, w_x_trim_12 Q q12 x1 x2 σ))
theorem b_x_trim {Δ : Ly} {G : Gm} {Q : Int32 → Sg → Prop} (cx : Cx Δ G mi_x_trim) (σ : Sg) (h : w_x_trim σ Q) : Y Δ G mi_x_trim (qI Q) noE 0 0 σ 0 [(0, .ref (Δ.1 0))] [] := by
  unfold w_x_trim at h
  refine y_aload_n cx (pc := 0) d_x_trim_0 rfl 0 rfl ?_
  refine y_get cx (pc := 1) (j := 12) (v := .int (σ 0 12)) (le_b rfl) ck_GM kw_409 (le_b rfl) (gf_0_12 Δ _) d_x_trim_1 ?_
  refine y_topi (fun x1 ex1 => ?_)
  replace h := h x1 ex1
  refine y_istore_n (lv' := [(1, .int x1), (0, .ref (Δ.1 0))]) cx (pc := 4) d_x_trim_4 rfl (le_b rfl) rfl ?_
  refine y_aload_n cx (pc := 5) d_x_trim_5 rfl 1 rfl ?_
  refine y_get cx (pc := 6) (j := 12) (v := .int (σ 0 12)) (le_b rfl) ck_GM kw_409 (le_b rfl) (gf_0_12 Δ _) d_x_trim_6 ?_
  refine y_iconst cx (pc := 9) ic_1 d_x_trim_9 ?_
  refine y_isub cx (pc := 10) d_x_trim_10 ?_
  refine y_topi (fun x2 ex2 => ?_)
  replace h := h x2 ex2
  refine y_istore_n (lv' := [(2, .int x2), (1, .int x1), (0, .ref (Δ.1 0))]) cx (pc := 11) d_x_trim_11 rfl (le_b rfl) rfl ?_
  refine y_sub [2, 1, 0] rfl ?_
  obtain ⟨n, h⟩ := h
  exact b_x_trim_12 cx n x1 x2 σ h
theorem c_x_trim {l : Launch} (hfl : l.flags = flags0) (Δ : Ly) (σ : Sg) (Q : Int32 → Sg → Prop) (h : w_x_trim σ Q) : Ct l Δ mi_x_trim [.ref (Δ.1 0)] σ (qI Q) noE :=
  Ct.of hfl (by show plainFor ⟨"GuardedMoves", "trim", "()I"⟩ = true; decide +kernel) rfl (le_b rfl) (fun G hl cx => b_x_trim cx σ h)
def mi_x_beginRun : Mi := ("GuardedMoves", prog_1_method_49_code, 2, [], none, 0, 0, 0, 0, ⟨"GuardedMoves", "beginRun", "()V"⟩)
theorem d_x_beginRun_0 : decode prog_1_method_49_code 0 = .ok (.iconst 0, 1) := by decide +kernel
theorem d_x_beginRun_1 : decode prog_1_method_49_code 1 = .ok (.istore_n 1, 1) := by decide +kernel
theorem d_x_beginRun_2 : decode prog_1_method_49_code 2 = .ok (.iload_n 1, 1) := by decide +kernel
theorem d_x_beginRun_3 : decode prog_1_method_49_code 3 = .ok (.bipush 16, 2) := by decide +kernel
theorem d_x_beginRun_5 : decode prog_1_method_49_code 5 = .ok (.if_icmp .ge 21, 3) := by decide +kernel
theorem d_x_beginRun_8 : decode prog_1_method_49_code 8 = .ok (.aload_n 0, 1) := by decide +kernel
theorem d_x_beginRun_9 : decode prog_1_method_49_code 9 = .ok (.getfield 314, 3) := by decide +kernel
theorem d_x_beginRun_12 : decode prog_1_method_49_code 12 = .ok (.iload_n 1, 1) := by decide +kernel
theorem d_x_beginRun_13 : decode prog_1_method_49_code 13 = .ok (.aload_n 0, 1) := by decide +kernel
theorem d_x_beginRun_14 : decode prog_1_method_49_code 14 = .ok (.getfield 298, 3) := by decide +kernel
theorem d_x_beginRun_17 : decode prog_1_method_49_code 17 = .ok (.iload_n 1, 1) := by decide +kernel
theorem d_x_beginRun_18 : decode prog_1_method_49_code 18 = .ok (.iaload, 1) := by decide +kernel
theorem d_x_beginRun_19 : decode prog_1_method_49_code 19 = .ok (.iastore, 1) := by decide +kernel
theorem d_x_beginRun_20 : decode prog_1_method_49_code 20 = .ok (.iinc 1 1, 3) := by decide +kernel
theorem d_x_beginRun_23 : decode prog_1_method_49_code 23 = .ok (.goto (-21), 3) := by decide +kernel
theorem d_x_beginRun_26 : decode prog_1_method_49_code 26 = .ok (.iconst 0, 1) := by decide +kernel
theorem d_x_beginRun_27 : decode prog_1_method_49_code 27 = .ok (.istore_n 1, 1) := by decide +kernel
theorem d_x_beginRun_28 : decode prog_1_method_49_code 28 = .ok (.iload_n 1, 1) := by decide +kernel
theorem d_x_beginRun_29 : decode prog_1_method_49_code 29 = .ok (.bipush 32, 2) := by decide +kernel
theorem d_x_beginRun_31 : decode prog_1_method_49_code 31 = .ok (.if_icmp .ge 21, 3) := by decide +kernel
theorem d_x_beginRun_34 : decode prog_1_method_49_code 34 = .ok (.aload_n 0, 1) := by decide +kernel
theorem d_x_beginRun_35 : decode prog_1_method_49_code 35 = .ok (.getfield 317, 3) := by decide +kernel
theorem d_x_beginRun_38 : decode prog_1_method_49_code 38 = .ok (.iload_n 1, 1) := by decide +kernel
theorem d_x_beginRun_39 : decode prog_1_method_49_code 39 = .ok (.aload_n 0, 1) := by decide +kernel
theorem d_x_beginRun_40 : decode prog_1_method_49_code 40 = .ok (.getfield 299, 3) := by decide +kernel
theorem d_x_beginRun_43 : decode prog_1_method_49_code 43 = .ok (.iload_n 1, 1) := by decide +kernel
theorem d_x_beginRun_44 : decode prog_1_method_49_code 44 = .ok (.iaload, 1) := by decide +kernel
theorem d_x_beginRun_45 : decode prog_1_method_49_code 45 = .ok (.iastore, 1) := by decide +kernel
theorem d_x_beginRun_46 : decode prog_1_method_49_code 46 = .ok (.iinc 1 1, 3) := by decide +kernel
theorem d_x_beginRun_49 : decode prog_1_method_49_code 49 = .ok (.goto (-21), 3) := by decide +kernel
theorem d_x_beginRun_52 : decode prog_1_method_49_code 52 = .ok (.aload_n 0, 1) := by decide +kernel
theorem d_x_beginRun_53 : decode prog_1_method_49_code 53 = .ok (.iconst 0, 1) := by decide +kernel
theorem d_x_beginRun_54 : decode prog_1_method_49_code 54 = .ok (.putfield 320, 3) := by decide +kernel
theorem d_x_beginRun_57 : decode prog_1_method_49_code 57 = .ok (.aload_n 0, 1) := by decide +kernel
theorem d_x_beginRun_58 : decode prog_1_method_49_code 58 = .ok (.iconst (-1), 1) := by decide +kernel
theorem d_x_beginRun_59 : decode prog_1_method_49_code 59 = .ok (.putfield 323, 3) := by decide +kernel
theorem d_x_beginRun_62 : decode prog_1_method_49_code 62 = .ok (.aload_n 0, 1) := by decide +kernel
theorem d_x_beginRun_63 : decode prog_1_method_49_code 63 = .ok (.iconst 0, 1) := by decide +kernel
theorem d_x_beginRun_64 : decode prog_1_method_49_code 64 = .ok (.putfield 326, 3) := by decide +kernel
theorem d_x_beginRun_67 : decode prog_1_method_49_code 67 = .ok (.return_, 1) := by decide +kernel
theorem kc_x_beginRun : Kw (m_w (mi_x_beginRun )) := ⟨(in_t1 (List.mem_of_getElem? (i := 204) rfl)), rfl⟩
theorem mv_x_beginRun : MV (mi_x_beginRun ) "GuardedMoves" 0 := ⟨kw_203, ks_12, kc_x_beginRun , kw_1, ⟨⟨(by show ("GuardedMoves" : String) ≠ "java/lang/invoke/MethodHandle"; decide), (by show ("GuardedMoves" : String) ≠ "java/lang/invoke/VarHandle"; decide)⟩, (by show (parseMethodDescriptor "()V").map (fun d => d.parameters.length) = some 0; decide +kernel)⟩⟩
def w_x_beginRun_28 (Q : Sg → Prop) : Nat → Int32 → Sg → Prop
  | 0, _, _ => False
  | n + 1, v1, σ => (32 ≤ v1 → (Q (up (up (up σ 0 23 0) 0 24 (-1)) 0 25 0))) ∧ (¬ 32 ≤ v1 → (vp_in v1 32 ∧ (vp_in v1 32 ∧ (∀ x1 : Int32, x1 = v1 + 1 → ((w_x_beginRun_28 Q n) x1 (up σ 12 (v1.toNatClampNeg) (σ 10 (v1.toNatClampNeg))))))))
theorem b_x_beginRun_28 {Δ : Ly} {G : Gm} {Q : Sg → Prop} (cx : Cx Δ G mi_x_beginRun) : ∀ (n : Nat) (v1 : Int32) (σ : Sg), w_x_beginRun_28 Q n v1 σ → Y Δ G mi_x_beginRun (qV Q) noE 0 0 σ 28 [(0, .ref (Δ.1 0)), (1, .int v1)] [] := by
  intro n
  induction n with
  | zero => intro v1 σ h; exact h.elim
  | succ n ih =>
    intro v1 σ h
    unfold w_x_beginRun_28 at h
    refine y_iload_n cx (pc := 28) d_x_beginRun_28 rfl 1 rfl ?_
    refine y_bipush cx (pc := 29) bp_32 d_x_beginRun_29 ?_
    refine y_icmp_ge cx (pc := 31) (tgt := 52) d_x_beginRun_31 (by decide) (fun hc => ?_) (fun hc => ?_)
    · replace h := h.1 hc
      refine y_aload_n cx (pc := 52) d_x_beginRun_52 rfl 0 rfl ?_
      refine y_iconst cx (pc := 53) ic_0 d_x_beginRun_53 ?_
      refine y_put cx (pc := 54) (j := 23) (ty := .int) (le_b rfl) ck_GM kw_420 (le_b rfl) rfl (t_GM_ok 23 (le_b rfl)) rfl rfl (pf_0_23 Δ) d_x_beginRun_54 ?_
      refine y_aload_n cx (pc := 57) d_x_beginRun_57 rfl 0 rfl ?_
      refine y_iconst cx (pc := 58) ic_m1 d_x_beginRun_58 ?_
      refine y_put cx (pc := 59) (j := 24) (ty := .int) (le_b rfl) ck_GM kw_421 (le_b rfl) rfl (t_GM_ok 24 (le_b rfl)) rfl rfl (pf_0_24 Δ) d_x_beginRun_59 ?_
      refine y_aload_n cx (pc := 62) d_x_beginRun_62 rfl 0 rfl ?_
      refine y_iconst cx (pc := 63) ic_0 d_x_beginRun_63 ?_
      refine y_put cx (pc := 64) (j := 25) (ty := .int) (le_b rfl) ck_GM kw_422 (le_b rfl) rfl (t_GM_ok 25 (le_b rfl)) rfl rfl (pf_0_25 Δ) d_x_beginRun_64 ?_
      exact y_vret cx (pc := 67) rfl d_x_beginRun_67 (le_b rfl) (le_b rfl) h
    · replace h := h.2 hc
      refine y_aload_n cx (pc := 34) d_x_beginRun_34 rfl 0 rfl ?_
      refine y_get cx (pc := 35) (j := 21) (v := .ref (Δ.1 12)) (le_b rfl) ck_GM kw_418 (le_b rfl) (gf_0_21 Δ _) d_x_beginRun_35 ?_
      refine y_iload_n cx (pc := 38) d_x_beginRun_38 rfl 1 rfl ?_
      refine y_aload_n cx (pc := 39) d_x_beginRun_39 rfl 0 rfl ?_
      refine y_get cx (pc := 40) (j := 19) (v := .ref (Δ.1 10)) (le_b rfl) ck_GM kw_416 (le_b rfl) (gf_0_19 Δ _) d_x_beginRun_40 ?_
      refine y_iload_n cx (pc := 43) d_x_beginRun_43 rfl 1 rfl ?_
      obtain ⟨h0, h⟩ := h
      refine y_iald cx (pc := 44) ⟨(le_b rfl), fun _ => rfl⟩ h0 d_x_beginRun_44 ?_
      obtain ⟨h0, h⟩ := h
      refine y_iast cx (pc := 45) ⟨(le_b rfl), fun _ => rfl⟩ h0 d_x_beginRun_45 ?_
      obtain ⟨x1, ex1⟩ : ∃ y : Int32, y = v1 + 1 := ⟨_, rfl⟩
      replace h := h x1 ex1
      refine y_iinc (v := x1) (lv' := [(1, .int x1), (0, .ref (Δ.1 0))]) cx (pc := 46) d_x_beginRun_46 (j := 1) rfl (by rw [ex1]; rfl) (le_b rfl) rfl ?_
      refine y_goto cx (pc := 49) (tgt := 28) d_x_beginRun_49 (by decide) ?_
      refine y_sub [1, 0] rfl ?_
      exact ih x1 (up σ 12 (v1.toNatClampNeg) (σ 10 (v1.toNatClampNeg))) h
def w_x_beginRun_2 (Q : Sg → Prop) : Nat → Int32 → Sg → Prop
  | 0, _, _ => False
  | n + 1, v1, σ => (16 ≤ v1 → (∃ q28, w_x_beginRun_28 Q q28 0 σ)) ∧ (¬ 16 ≤ v1 → (vp_in v1 16 ∧ (vp_in v1 3016 ∧ (∀ x1 : Int32, x1 = v1 + 1 → ((w_x_beginRun_2 Q n) x1 (up σ 11 (v1.toNatClampNeg) (σ 9 (v1.toNatClampNeg))))))))
theorem b_x_beginRun_2 {Δ : Ly} {G : Gm} {Q : Sg → Prop} (cx : Cx Δ G mi_x_beginRun) : ∀ (n : Nat) (v1 : Int32) (σ : Sg), w_x_beginRun_2 Q n v1 σ → Y Δ G mi_x_beginRun (qV Q) noE 0 0 σ 2 [(0, .ref (Δ.1 0)), (1, .int v1)] [] := by
  intro n
  induction n with
  | zero => intro v1 σ h; exact h.elim
  | succ n ih =>
    intro v1 σ h
    unfold w_x_beginRun_2 at h
    refine y_iload_n cx (pc := 2) d_x_beginRun_2 rfl 1 rfl ?_
    refine y_bipush cx (pc := 3) bp_16 d_x_beginRun_3 ?_
    refine y_icmp_ge cx (pc := 5) (tgt := 26) d_x_beginRun_5 (by decide) (fun hc => ?_) (fun hc => ?_)
    · replace h := h.1 hc
      refine y_iconst cx (pc := 26) ic_0 d_x_beginRun_26 ?_
      refine y_istore_n (lv' := [(1, .int 0), (0, .ref (Δ.1 0))]) cx (pc := 27) d_x_beginRun_27 rfl (le_b rfl) rfl ?_
      refine y_sub [1, 0] rfl ?_
      obtain ⟨n, h⟩ := h
      exact b_x_beginRun_28 cx n 0 σ h
    · replace h := h.2 hc
      refine y_aload_n cx (pc := 8) d_x_beginRun_8 rfl 0 rfl ?_
      refine y_get cx (pc := 9) (j := 20) (v := .ref (Δ.1 11)) (le_b rfl) ck_GM kw_417 (le_b rfl) (gf_0_20 Δ _) d_x_beginRun_9 ?_
      refine y_iload_n cx (pc := 12) d_x_beginRun_12 rfl 1 rfl ?_
      refine y_aload_n cx (pc := 13) d_x_beginRun_13 rfl 0 rfl ?_
      refine y_get cx (pc := 14) (j := 18) (v := .ref (Δ.1 9)) (le_b rfl) ck_GM kw_415 (le_b rfl) (gf_0_18 Δ _) d_x_beginRun_14 ?_
      refine y_iload_n cx (pc := 17) d_x_beginRun_17 rfl 1 rfl ?_
      obtain ⟨h0, h⟩ := h
      refine y_iald cx (pc := 18) ⟨(le_b rfl), fun _ => rfl⟩ h0 d_x_beginRun_18 ?_
      obtain ⟨h0, h⟩ := h
      refine y_iast cx (pc := 19) ⟨(le_b rfl), fun _ => rfl⟩ h0 d_x_beginRun_19 ?_
      obtain ⟨x1, ex1⟩ : ∃ y : Int32, y = v1 + 1 := ⟨_, rfl⟩
      replace h := h x1 ex1
      refine y_iinc (v := x1) (lv' := [(1, .int x1), (0, .ref (Δ.1 0))]) cx (pc := 20) d_x_beginRun_20 (j := 1) rfl (by rw [ex1]; rfl) (le_b rfl) rfl ?_
      refine y_goto cx (pc := 23) (tgt := 2) d_x_beginRun_23 (by decide) ?_
      refine y_sub [1, 0] rfl ?_
      exact ih x1 (up σ 11 (v1.toNatClampNeg) (σ 9 (v1.toNatClampNeg))) h
def w_x_beginRun (σ : Sg) (Q : Sg → Prop) : Prop := ∃ q2, w_x_beginRun_2 Q q2 0 σ
theorem b_x_beginRun {Δ : Ly} {G : Gm} {Q : Sg → Prop} (cx : Cx Δ G mi_x_beginRun) (σ : Sg) (h : w_x_beginRun σ Q) : Y Δ G mi_x_beginRun (qV Q) noE 0 0 σ 0 [(0, .ref (Δ.1 0))] [] := by
  unfold w_x_beginRun at h
  refine y_iconst cx (pc := 0) ic_0 d_x_beginRun_0 ?_
  refine y_istore_n (lv' := [(1, .int 0), (0, .ref (Δ.1 0))]) cx (pc := 1) d_x_beginRun_1 rfl (le_b rfl) rfl ?_
  refine y_sub [1, 0] rfl ?_
  obtain ⟨n, h⟩ := h
  exact b_x_beginRun_2 cx n 0 σ h
theorem c_x_beginRun {l : Launch} (hfl : l.flags = flags0) (Δ : Ly) (σ : Sg) (Q : Sg → Prop) (h : w_x_beginRun σ Q) : Ct l Δ mi_x_beginRun [.ref (Δ.1 0)] σ (qV Q) noE :=
  Ct.of hfl (by show plainFor ⟨"GuardedMoves", "beginRun", "()V"⟩ = true; decide +kernel) rfl (le_b rfl) (fun G hl cx => b_x_beginRun cx σ h)
def mi_x_first_I : Mi := ("GuardedMoves", prog_1_method_53_code, 2, [], (some .int), 0, 0, 0, 0, ⟨"GuardedMoves", "first", "(I)I"⟩)
theorem d_x_first_I_0 : decode prog_1_method_53_code 0 = .ok (.aload_n 0, 1) := by decide +kernel
theorem d_x_first_I_1 : decode prog_1_method_53_code 1 = .ok (.getfield 172, 3) := by decide +kernel
theorem d_x_first_I_4 : decode prog_1_method_53_code 4 = .ok (.getfield 88, 3) := by decide +kernel
theorem d_x_first_I_7 : decode prog_1_method_53_code 7 = .ok (.iload_n 1, 1) := by decide +kernel
theorem d_x_first_I_8 : decode prog_1_method_53_code 8 = .ok (.iaload, 1) := by decide +kernel
theorem d_x_first_I_9 : decode prog_1_method_53_code 9 = .ok (.iconst (-1), 1) := by decide +kernel
theorem d_x_first_I_10 : decode prog_1_method_53_code 10 = .ok (.if_icmp .ne 15, 3) := by decide +kernel
theorem d_x_first_I_13 : decode prog_1_method_53_code 13 = .ok (.aload_n 0, 1) := by decide +kernel
theorem d_x_first_I_14 : decode prog_1_method_53_code 14 = .ok (.getfield 172, 3) := by decide +kernel
theorem d_x_first_I_17 : decode prog_1_method_53_code 17 = .ok (.getfield 94, 3) := by decide +kernel
theorem d_x_first_I_20 : decode prog_1_method_53_code 20 = .ok (.iload_n 1, 1) := by decide +kernel
theorem d_x_first_I_21 : decode prog_1_method_53_code 21 = .ok (.iaload, 1) := by decide +kernel
theorem d_x_first_I_22 : decode prog_1_method_53_code 22 = .ok (.goto 17, 3) := by decide +kernel
theorem d_x_first_I_25 : decode prog_1_method_53_code 25 = .ok (.aload_n 0, 1) := by decide +kernel
theorem d_x_first_I_26 : decode prog_1_method_53_code 26 = .ok (.getfield 314, 3) := by decide +kernel
theorem d_x_first_I_29 : decode prog_1_method_53_code 29 = .ok (.aload_n 0, 1) := by decide +kernel
theorem d_x_first_I_30 : decode prog_1_method_53_code 30 = .ok (.getfield 172, 3) := by decide +kernel
theorem d_x_first_I_33 : decode prog_1_method_53_code 33 = .ok (.getfield 88, 3) := by decide +kernel
theorem d_x_first_I_36 : decode prog_1_method_53_code 36 = .ok (.iload_n 1, 1) := by decide +kernel
theorem d_x_first_I_37 : decode prog_1_method_53_code 37 = .ok (.iaload, 1) := by decide +kernel
theorem d_x_first_I_38 : decode prog_1_method_53_code 38 = .ok (.iaload, 1) := by decide +kernel
theorem d_x_first_I_39 : decode prog_1_method_53_code 39 = .ok (.ireturn, 1) := by decide +kernel
theorem kc_x_first_I : Kw (m_w (mi_x_first_I )) := ⟨(in_t1 (List.mem_of_getElem? (i := 216) rfl)), rfl⟩
theorem mv_x_first_I : MV (mi_x_first_I ) "GuardedMoves" 1 := ⟨kw_215, ks_15, kc_x_first_I , kw_1, ⟨⟨(by show ("GuardedMoves" : String) ≠ "java/lang/invoke/MethodHandle"; decide), (by show ("GuardedMoves" : String) ≠ "java/lang/invoke/VarHandle"; decide)⟩, (by show (parseMethodDescriptor "(I)I").map (fun d => d.parameters.length) = some 1; decide +kernel)⟩⟩
def w_x_first_I_39 (Q : Int32 → Sg → Prop) (s0 : Int32) (σ : Sg) : Prop := Q s0 σ
theorem b_x_first_I_39 {Δ : Ly} {G : Gm} {Q : Int32 → Sg → Prop} (cx : Cx Δ G mi_x_first_I) : ∀ (s0 : Int32) (σ : Sg), w_x_first_I_39 Q s0 σ → Y Δ G mi_x_first_I (qI Q) noE 0 0 σ 39 [] [.int s0] := by
  intro s0 σ h
  unfold w_x_first_I_39 at h
  exact y_iret cx (pc := 39) rfl d_x_first_I_39 (le_b rfl) (le_b rfl) h
def w_x_first_I (p1 : Int32) (σ : Sg) (Q : Int32 → Sg → Prop) : Prop := vp_in p1 60 ∧ ((¬ (σ 40 (p1.toNatClampNeg)) = (-1) → (vp_in p1 60 ∧ (vp_in (σ 40 (p1.toNatClampNeg)) 3016 ∧ (w_x_first_I_39 Q (σ 11 ((σ 40 (p1.toNatClampNeg)).toNatClampNeg)) σ)))) ∧ ((σ 40 (p1.toNatClampNeg)) = (-1) → (vp_in p1 60 ∧ (w_x_first_I_39 Q (σ 41 (p1.toNatClampNeg)) σ))))
theorem b_x_first_I {Δ : Ly} {G : Gm} {Q : Int32 → Sg → Prop} (cx : Cx Δ G mi_x_first_I) (p1 : Int32) (σ : Sg) (h : w_x_first_I p1 σ Q) : Y Δ G mi_x_first_I (qI Q) noE 0 0 σ 0 [(0, .ref (Δ.1 0)), (1, .int p1)] [] := by
  unfold w_x_first_I at h
  refine y_aload_n cx (pc := 0) d_x_first_I_0 rfl 0 rfl ?_
  refine y_get cx (pc := 1) (j := 0) (v := .ref (Δ.1 1)) (le_b rfl) ck_GM kw_397 (le_b rfl) (gf_0_0 Δ _) d_x_first_I_1 ?_
  refine y_getN cx (pc := 4) (j := 5) (v := .ref (Δ.1 40)) (le_b rfl) ck_Tx kw_266 (le_b rfl) (gf_1_5 Δ _) d_x_first_I_4 ?_
  refine y_iload_n cx (pc := 7) d_x_first_I_7 rfl 1 rfl ?_
  obtain ⟨h0, h⟩ := h
  refine y_iald cx (pc := 8) ⟨(le_b rfl), fun _ => rfl⟩ h0 d_x_first_I_8 ?_
  refine y_iconst cx (pc := 9) ic_m1 d_x_first_I_9 ?_
  refine y_icmp_ne cx (pc := 10) (tgt := 25) d_x_first_I_10 (by decide) (fun hc => ?_) (fun hc => ?_)
  · replace h := h.1 hc
    refine y_aload_n cx (pc := 25) d_x_first_I_25 rfl 0 rfl ?_
    refine y_get cx (pc := 26) (j := 20) (v := .ref (Δ.1 11)) (le_b rfl) ck_GM kw_417 (le_b rfl) (gf_0_20 Δ _) d_x_first_I_26 ?_
    refine y_aload_n cx (pc := 29) d_x_first_I_29 rfl 0 rfl ?_
    refine y_get cx (pc := 30) (j := 0) (v := .ref (Δ.1 1)) (le_b rfl) ck_GM kw_397 (le_b rfl) (gf_0_0 Δ _) d_x_first_I_30 ?_
    refine y_getN cx (pc := 33) (j := 5) (v := .ref (Δ.1 40)) (le_b rfl) ck_Tx kw_266 (le_b rfl) (gf_1_5 Δ _) d_x_first_I_33 ?_
    refine y_iload_n cx (pc := 36) d_x_first_I_36 rfl 1 rfl ?_
    obtain ⟨h0, h⟩ := h
    refine y_iald cx (pc := 37) ⟨(le_b rfl), fun _ => rfl⟩ h0 d_x_first_I_37 ?_
    obtain ⟨h0, h⟩ := h
    refine y_iald cx (pc := 38) ⟨(le_b rfl), fun _ => rfl⟩ h0 d_x_first_I_38 ?_
    refine y_sub [] rfl ?_
    exact b_x_first_I_39 cx (σ 11 ((σ 40 (p1.toNatClampNeg)).toNatClampNeg)) σ h
  · replace h := h.2 hc
    refine y_aload_n cx (pc := 13) d_x_first_I_13 rfl 0 rfl ?_
    refine y_get cx (pc := 14) (j := 0) (v := .ref (Δ.1 1)) (le_b rfl) ck_GM kw_397 (le_b rfl) (gf_0_0 Δ _) d_x_first_I_14 ?_
    refine y_getN cx (pc := 17) (j := 6) (v := .ref (Δ.1 41)) (le_b rfl) ck_Tx kw_268 (le_b rfl) (gf_1_6 Δ _) d_x_first_I_17 ?_
    refine y_iload_n cx (pc := 20) d_x_first_I_20 rfl 1 rfl ?_
    obtain ⟨h0, h⟩ := h
    refine y_iald cx (pc := 21) ⟨(le_b rfl), fun _ => rfl⟩ h0 d_x_first_I_21 ?_
    refine y_goto cx (pc := 22) (tgt := 39) d_x_first_I_22 (by decide) ?_
    refine y_sub [] rfl ?_
    exact b_x_first_I_39 cx (σ 41 (p1.toNatClampNeg)) σ h
theorem c_x_first_I {l : Launch} (hfl : l.flags = flags0) (Δ : Ly) (p1 : Int32) (σ : Sg) (Q : Int32 → Sg → Prop) (h : w_x_first_I p1 σ Q) : Ct l Δ mi_x_first_I [.ref (Δ.1 0), .int p1] σ (qI Q) noE :=
  Ct.of hfl (by show plainFor ⟨"GuardedMoves", "first", "(I)I"⟩ = true; decide +kernel) rfl (le_b rfl) (fun G hl cx => b_x_first_I cx p1 σ h)
def mi_x_end : Mi := ("GuardedMoves", prog_1_method_48_code, 3, [], (some (.object "GuardedMoves$Ended")), 0, 0, 0, 0, ⟨"GuardedMoves", "end", "(II)LGuardedMoves$Ended;"⟩)
theorem d_x_end_0 : decode prog_1_method_48_code 0 = .ok (.aload_n 0, 1) := by decide +kernel
theorem d_x_end_1 : decode prog_1_method_48_code 1 = .ok (.getfield 302, 3) := by decide +kernel
theorem d_x_end_4 : decode prog_1_method_48_code 4 = .ok (.iload_n 1, 1) := by decide +kernel
theorem d_x_end_5 : decode prog_1_method_48_code 5 = .ok (.putfield 306, 3) := by decide +kernel
theorem d_x_end_8 : decode prog_1_method_48_code 8 = .ok (.aload_n 0, 1) := by decide +kernel
theorem d_x_end_9 : decode prog_1_method_48_code 9 = .ok (.getfield 302, 3) := by decide +kernel
theorem d_x_end_12 : decode prog_1_method_48_code 12 = .ok (.iload_n 2, 1) := by decide +kernel
theorem d_x_end_13 : decode prog_1_method_48_code 13 = .ok (.putfield 311, 3) := by decide +kernel
theorem d_x_end_16 : decode prog_1_method_48_code 16 = .ok (.aload_n 0, 1) := by decide +kernel
theorem d_x_end_17 : decode prog_1_method_48_code 17 = .ok (.getfield 302, 3) := by decide +kernel
theorem d_x_end_20 : decode prog_1_method_48_code 20 = .ok (.areturn, 1) := by decide +kernel
theorem kc_x_end : Kw (m_w (mi_x_end )) := ⟨(in_t1 (List.mem_of_getElem? (i := 228) rfl)), rfl⟩
theorem mv_x_end : MV (mi_x_end ) "GuardedMoves" 2 := ⟨kw_227, ks_18, kc_x_end , kw_1, ⟨⟨(by show ("GuardedMoves" : String) ≠ "java/lang/invoke/MethodHandle"; decide), (by show ("GuardedMoves" : String) ≠ "java/lang/invoke/VarHandle"; decide)⟩, (by show (parseMethodDescriptor "(II)LGuardedMoves$Ended;").map (fun d => d.parameters.length) = some 2; decide +kernel)⟩⟩
def w_x_end (p1 : Int32) (p2 : Int32) (σ : Sg) (Q : Sg → Prop) : Prop := Q (up (up σ 4 5 p1) 4 6 p2)
theorem b_x_end {Δ : Ly} {G : Gm} {Q : Sg → Prop} (cx : Cx Δ G mi_x_end) (p1 : Int32) (p2 : Int32) (σ : Sg) (h : w_x_end p1 p2 σ Q) : Y Δ G mi_x_end (qR (Δ.1 4) Q) noE 0 0 σ 0 [(0, .ref (Δ.1 0)), (1, .int p1), (2, .int p2)] [] := by
  unfold w_x_end at h
  refine y_aload_n cx (pc := 0) d_x_end_0 rfl 0 rfl ?_
  refine y_get cx (pc := 1) (j := 17) (v := .ref (Δ.1 4)) (le_b rfl) ck_GM kw_414 (le_b rfl) (gf_0_17 Δ _) d_x_end_1 ?_
  refine y_iload_n cx (pc := 4) d_x_end_4 rfl 1 rfl ?_
  refine y_putN cx (pc := 5) (j := 5) (ty := .int) (le_b rfl) ck_En kw_389 (le_b rfl) rfl (t_En_ok 5 (le_b rfl)) rfl rfl (pf_4_5 Δ) d_x_end_5 ?_
  refine y_aload_n cx (pc := 8) d_x_end_8 rfl 0 rfl ?_
  refine y_get cx (pc := 9) (j := 17) (v := .ref (Δ.1 4)) (le_b rfl) ck_GM kw_414 (le_b rfl) (gf_0_17 Δ _) d_x_end_9 ?_
  refine y_iload_n cx (pc := 12) d_x_end_12 rfl 2 rfl ?_
  refine y_putN cx (pc := 13) (j := 6) (ty := .int) (le_b rfl) ck_En kw_390 (le_b rfl) rfl (t_En_ok 6 (le_b rfl)) rfl rfl (pf_4_6 Δ) d_x_end_13 ?_
  refine y_aload_n cx (pc := 16) d_x_end_16 rfl 0 rfl ?_
  refine y_get cx (pc := 17) (j := 17) (v := .ref (Δ.1 4)) (le_b rfl) ck_GM kw_414 (le_b rfl) (gf_0_17 Δ _) d_x_end_17 ?_
  exact y_rret cx (pc := 20) rfl d_x_end_20 (le_b rfl) (le_b rfl) h
theorem c_x_end {l : Launch} (hfl : l.flags = flags0) (Δ : Ly) (p1 : Int32) (p2 : Int32) (σ : Sg) (Q : Sg → Prop) (h : w_x_end p1 p2 σ Q) : Ct l Δ mi_x_end [.ref (Δ.1 0), .int p1, .int p2] σ (qR (Δ.1 4) Q) noE :=
  Ct.of hfl (by show plainFor ⟨"GuardedMoves", "end", "(II)LGuardedMoves$Ended;"⟩ = true; decide +kernel) rfl (le_b rfl) (fun G hl cx => b_x_end cx p1 p2 σ h)
def mi_x_place : Mi := ("GuardedMoves", prog_1_method_51_code, 3, [], (some .int), 1, 29, 0, 0, ⟨"GuardedMoves", "place", "(II)I"⟩)
theorem d_x_place_0 : decode prog_1_method_51_code 0 = .ok (.iload_n 1, 1) := by decide +kernel
theorem d_x_place_1 : decode prog_1_method_51_code 1 = .ok (.i2l, 1) := by decide +kernel
theorem d_x_place_2 : decode prog_1_method_51_code 2 = .ok (.lconst 0, 1) := by decide +kernel
theorem d_x_place_3 : decode prog_1_method_51_code 3 = .ok (.ldc2_w 256, 3) := by decide +kernel
theorem d_x_place_6 : decode prog_1_method_51_code 6 = .ok (.invokestatic 42, 3) := by decide +kernel
theorem d_x_place_9 : decode prog_1_method_51_code 9 = .ok (.ifCond .ne 10, 3) := by decide +kernel
theorem d_x_place_12 : decode prog_1_method_51_code 12 = .ok (.aload_n 0, 1) := by decide +kernel
theorem d_x_place_13 : decode prog_1_method_51_code 13 = .ok (.iconst 2, 1) := by decide +kernel
theorem d_x_place_14 : decode prog_1_method_51_code 14 = .ok (.iload_n 2, 1) := by decide +kernel
theorem d_x_place_15 : decode prog_1_method_51_code 15 = .ok (.invokevirtual 329, 3) := by decide +kernel
theorem d_x_place_18 : decode prog_1_method_51_code 18 = .ok (.athrow, 1) := by decide +kernel
theorem d_x_place_19 : decode prog_1_method_51_code 19 = .ok (.iload_n 1, 1) := by decide +kernel
theorem d_x_place_20 : decode prog_1_method_51_code 20 = .ok (.ireturn, 1) := by decide +kernel
theorem kc_x_place : Kw (m_w (mi_x_place )) := ⟨(in_t1 (List.mem_of_getElem? (i := 232) rfl)), rfl⟩
theorem mv_x_place : MV (mi_x_place ) "GuardedMoves" 2 := ⟨kw_231, ks_19, kc_x_place , kw_1, ⟨⟨(by show ("GuardedMoves" : String) ≠ "java/lang/invoke/MethodHandle"; decide), (by show ("GuardedMoves" : String) ≠ "java/lang/invoke/VarHandle"; decide)⟩, (by show (parseMethodDescriptor "(II)I").map (fun d => d.parameters.length) = some 2; decide +kernel)⟩⟩
def w_x_place (p1 : Int32) (p2 : Int32) (σ : Sg) (Q : Int32 → Sg → Prop) (E : Nat → Sg → Prop) : Prop := w_x_within (p1.toInt64) 0 31 σ (fun x1 σ2 => (¬ x1 = 0 → (Q p1 σ2)) ∧ (x1 = 0 → (w_x_end 2 p2 σ2 (fun σ3 => E 1 σ3))))
theorem b_x_place {Δ : Ly} {G : Gm} {Q : Int32 → Sg → Prop} {E : Nat → Sg → Prop} (cx : Cx Δ G mi_x_place) (p1 : Int32) (p2 : Int32) (σ : Sg) (h : w_x_place p1 p2 σ Q E) : Y Δ G mi_x_place (qI Q) E 0 0 σ 0 [(0, .ref (Δ.1 0)), (1, .int p1), (2, .int p2)] [] := by
  unfold w_x_place at h
  refine y_iload_n cx (pc := 0) d_x_place_0 rfl 1 rfl ?_
  refine y_i2l cx (pc := 1) d_x_place_1 ?_
  refine y_lconst cx (pc := 2) (v := 0) lc_0 d_x_place_2 ?_
  refine y_ldc2 cx (pc := 3) kw_233 d_x_place_3 ?_
  refine y_sI cx (pc := 6) (st := []) [.long (p1.toInt64), .long 0, .long 31] (c_x_within cx.fl Δ (p1.toInt64) 0 31 _ _ h) mv_x_within kw_41 rfl (le_b rfl) (le_b rfl) (le_b rfl) (le_b rfl) (le_b rfl) d_x_place_6 (fun x1 σ2 h => ?_) (fun x σ2 h => yt_no h)
  refine y_if_ne cx (pc := 9) (tgt := 19) d_x_place_9 (by decide) (fun hc => ?_) (fun hc => ?_)
  · replace h := h.1 hc
    refine y_iload_n cx (pc := 19) d_x_place_19 rfl 1 rfl ?_
    exact y_iret cx (pc := 20) rfl d_x_place_20 (le_b rfl) (le_b rfl) h
  · replace h := h.2 hc
    refine y_aload_n cx (pc := 12) d_x_place_12 rfl 0 rfl ?_
    refine y_iconst cx (pc := 13) ic_2 d_x_place_13 ?_
    refine y_iload_n cx (pc := 14) d_x_place_14 rfl 2 rfl ?_
    refine y_vR cx (pc := 15) (st := []) [.int 2, .int p2] (c_x_end cx.fl Δ 2 p2 _ _ h) mv_x_end kw_225 (oc_0 Δ) ck_GM rfl (le_b rfl) (le_b rfl) (le_b rfl) (le_b rfl) (le_b rfl) d_x_place_15 (fun σ3 h => ?_) (fun x σ3 h => yt_no h)
    refine y_athrow cx (pc := 18) (x := 1) d_x_place_18 (fun H hP => ex_end cx hP) ?_
    exact t_out cx rfl (le_b rfl) (le_b rfl) h
theorem c_x_place {l : Launch} (hfl : l.flags = flags0) (Δ : Ly) (p1 : Int32) (p2 : Int32) (σ : Sg) (Q : Int32 → Sg → Prop) (E : Nat → Sg → Prop) (h : w_x_place p1 p2 σ Q E) : Ct l Δ mi_x_place [.ref (Δ.1 0), .int p1, .int p2] σ (qI Q) E :=
  Ct.of hfl (by show plainFor ⟨"GuardedMoves", "place", "(II)I"⟩ = true; decide +kernel) rfl (le_b rfl) (fun G hl cx => b_x_place cx p1 p2 σ h)

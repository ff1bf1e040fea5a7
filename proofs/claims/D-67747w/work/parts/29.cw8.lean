def mi_x_mayConvert : Mi := ("GuardedMoves", prog_1_method_35_code, 4, [], (some .boolean), 0, 0, 0, 0, ⟨"GuardedMoves", "mayConvert", "(I)Z"⟩)
theorem d_x_mayConvert_0 : decode prog_1_method_35_code 0 = .ok (.iconst 1, 1) := by decide +kernel
theorem d_x_mayConvert_1 : decode prog_1_method_35_code 1 = .ok (.istore_n 2, 1) := by decide +kernel
theorem d_x_mayConvert_2 : decode prog_1_method_35_code 2 = .ok (.iload_n 1, 1) := by decide +kernel
theorem d_x_mayConvert_3 : decode prog_1_method_35_code 3 = .ok (.iconst 1, 1) := by decide +kernel
theorem d_x_mayConvert_4 : decode prog_1_method_35_code 4 = .ok (.iadd, 1) := by decide +kernel
theorem d_x_mayConvert_5 : decode prog_1_method_35_code 5 = .ok (.istore_n 3, 1) := by decide +kernel
theorem d_x_mayConvert_6 : decode prog_1_method_35_code 6 = .ok (.iload_n 3, 1) := by decide +kernel
theorem d_x_mayConvert_7 : decode prog_1_method_35_code 7 = .ok (.aload_n 0, 1) := by decide +kernel
theorem d_x_mayConvert_8 : decode prog_1_method_35_code 8 = .ok (.getfield 172, 3) := by decide +kernel
theorem d_x_mayConvert_11 : decode prog_1_method_35_code 11 = .ok (.getfield 158, 3) := by decide +kernel
theorem d_x_mayConvert_14 : decode prog_1_method_35_code 14 = .ok (.iload_n 1, 1) := by decide +kernel
theorem d_x_mayConvert_15 : decode prog_1_method_35_code 15 = .ok (.iaload, 1) := by decide +kernel
theorem d_x_mayConvert_16 : decode prog_1_method_35_code 16 = .ok (.if_icmp .ge 54, 3) := by decide +kernel
theorem d_x_mayConvert_19 : decode prog_1_method_35_code 19 = .ok (.iload_n 2, 1) := by decide +kernel
theorem d_x_mayConvert_20 : decode prog_1_method_35_code 20 = .ok (.ifCond .eq 42, 3) := by decide +kernel
theorem d_x_mayConvert_23 : decode prog_1_method_35_code 23 = .ok (.aload_n 0, 1) := by decide +kernel
theorem d_x_mayConvert_24 : decode prog_1_method_35_code 24 = .ok (.getfield 172, 3) := by decide +kernel
theorem d_x_mayConvert_27 : decode prog_1_method_35_code 27 = .ok (.getfield 116, 3) := by decide +kernel
theorem d_x_mayConvert_30 : decode prog_1_method_35_code 30 = .ok (.iload_n 3, 1) := by decide +kernel
theorem d_x_mayConvert_31 : decode prog_1_method_35_code 31 = .ok (.iaload, 1) := by decide +kernel
theorem d_x_mayConvert_32 : decode prog_1_method_35_code 32 = .ok (.iconst 4, 1) := by decide +kernel
theorem d_x_mayConvert_33 : decode prog_1_method_35_code 33 = .ok (.if_icmp .eq 29, 3) := by decide +kernel
theorem d_x_mayConvert_36 : decode prog_1_method_35_code 36 = .ok (.aload_n 0, 1) := by decide +kernel
theorem d_x_mayConvert_37 : decode prog_1_method_35_code 37 = .ok (.getfield 172, 3) := by decide +kernel
theorem d_x_mayConvert_40 : decode prog_1_method_35_code 40 = .ok (.getfield 116, 3) := by decide +kernel
theorem d_x_mayConvert_43 : decode prog_1_method_35_code 43 = .ok (.iload_n 3, 1) := by decide +kernel
theorem d_x_mayConvert_44 : decode prog_1_method_35_code 44 = .ok (.iaload, 1) := by decide +kernel
theorem d_x_mayConvert_45 : decode prog_1_method_35_code 45 = .ok (.iconst 5, 1) := by decide +kernel
theorem d_x_mayConvert_46 : decode prog_1_method_35_code 46 = .ok (.if_icmp .ne 12, 3) := by decide +kernel
theorem d_x_mayConvert_49 : decode prog_1_method_35_code 49 = .ok (.aload_n 0, 1) := by decide +kernel
theorem d_x_mayConvert_50 : decode prog_1_method_35_code 50 = .ok (.getfield 230, 3) := by decide +kernel
theorem d_x_mayConvert_53 : decode prog_1_method_35_code 53 = .ok (.iload_n 3, 1) := by decide +kernel
theorem d_x_mayConvert_54 : decode prog_1_method_35_code 54 = .ok (.baload, 1) := by decide +kernel
theorem d_x_mayConvert_55 : decode prog_1_method_35_code 55 = .ok (.ifCond .eq 7, 3) := by decide +kernel
theorem d_x_mayConvert_58 : decode prog_1_method_35_code 58 = .ok (.iconst 1, 1) := by decide +kernel
theorem d_x_mayConvert_59 : decode prog_1_method_35_code 59 = .ok (.goto 4, 3) := by decide +kernel
theorem d_x_mayConvert_62 : decode prog_1_method_35_code 62 = .ok (.iconst 0, 1) := by decide +kernel
theorem d_x_mayConvert_63 : decode prog_1_method_35_code 63 = .ok (.istore_n 2, 1) := by decide +kernel
theorem d_x_mayConvert_64 : decode prog_1_method_35_code 64 = .ok (.iinc 3 1, 3) := by decide +kernel
theorem d_x_mayConvert_67 : decode prog_1_method_35_code 67 = .ok (.goto (-61), 3) := by decide +kernel
theorem d_x_mayConvert_70 : decode prog_1_method_35_code 70 = .ok (.iload_n 2, 1) := by decide +kernel
theorem d_x_mayConvert_71 : decode prog_1_method_35_code 71 = .ok (.ireturn, 1) := by decide +kernel
theorem kc_x_mayConvert : Kw (m_w (mi_x_mayConvert )) := ⟨(in_t3 (List.mem_of_getElem? (i := 138) rfl)), rfl⟩
theorem mv_x_mayConvert : MV (mi_x_mayConvert ) "GuardedMoves" 1 := ⟨kw_617, ks_23, kc_x_mayConvert , kw_1, ⟨⟨(by show ("GuardedMoves" : String) ≠ "java/lang/invoke/MethodHandle"; decide), (by show ("GuardedMoves" : String) ≠ "java/lang/invoke/VarHandle"; decide)⟩, (by show (parseMethodDescriptor "(I)Z").map (fun d => d.parameters.length) = some 1; decide +kernel)⟩⟩
def w_x_mayConvert_63 (K6 : Int32 → Int32 → Int32 → Sg → Prop) (Q : Int32 → Sg → Prop) (v1 : Int32) (v3 : Int32) (s0 : Int32) (σ : Sg) : Prop := ∀ x1 : Int32, x1 = v3 + 1 → (K6 v1 s0 x1 σ)
theorem b_x_mayConvert_63 {Δ : Ly} {G : Gm} {K6 : Int32 → Int32 → Int32 → Sg → Prop} {Q : Int32 → Sg → Prop} (cx : Cx Δ G mi_x_mayConvert) (hK6 : ∀ (v1 : Int32) (v2 : Int32) (v3 : Int32) (σ : Sg), K6 v1 v2 v3 σ → Y Δ G mi_x_mayConvert (qI Q) noE 0 0 σ 6 [(0, .ref (Δ.1 0)), (1, .int v1), (2, .int v2), (3, .int v3)] []) : ∀ (v1 : Int32) (v3 : Int32) (s0 : Int32) (σ : Sg), w_x_mayConvert_63 K6 Q v1 v3 s0 σ → Y Δ G mi_x_mayConvert (qI Q) noE 0 0 σ 63 [(0, .ref (Δ.1 0)), (1, .int v1), (3, .int v3)] [.int s0] := by
  intro v1 v3 s0 σ h
  unfold w_x_mayConvert_63 at h
  refine y_istore_n (lv' := [(2, .int s0), (0, .ref (Δ.1 0)), (1, .int v1), (3, .int v3)]) cx (pc := 63) d_x_mayConvert_63 rfl (le_b rfl) rfl ?_
  obtain ⟨x1, ex1⟩ : ∃ y : Int32, y = v3 + 1 := ⟨_, rfl⟩
  replace h := h x1 ex1
  refine y_iinc (v := x1) (lv' := [(3, .int x1), (2, .int s0), (0, .ref (Δ.1 0)), (1, .int v1)]) cx (pc := 64) d_x_mayConvert_64 (j := 3) rfl (by rw [ex1]; rfl) (le_b rfl) rfl ?_
  refine y_goto cx (pc := 67) (tgt := 6) d_x_mayConvert_67 (by decide) ?_
  refine y_sub [2, 3, 1, 0] rfl ?_
  exact hK6 v1 s0 x1 σ h
def w_x_mayConvert_62 (K6 : Int32 → Int32 → Int32 → Sg → Prop) (Q : Int32 → Sg → Prop) (v1 : Int32) (v3 : Int32) (σ : Sg) : Prop := w_x_mayConvert_63 K6 Q v1 v3 0 σ
theorem b_x_mayConvert_62 {Δ : Ly} {G : Gm} {K6 : Int32 → Int32 → Int32 → Sg → Prop} {Q : Int32 → Sg → Prop} (cx : Cx Δ G mi_x_mayConvert) (hK6 : ∀ (v1 : Int32) (v2 : Int32) (v3 : Int32) (σ : Sg), K6 v1 v2 v3 σ → Y Δ G mi_x_mayConvert (qI Q) noE 0 0 σ 6 [(0, .ref (Δ.1 0)), (1, .int v1), (2, .int v2), (3, .int v3)] []) : ∀ (v1 : Int32) (v3 : Int32) (σ : Sg), w_x_mayConvert_62 K6 Q v1 v3 σ → Y Δ G mi_x_mayConvert (qI Q) noE 0 0 σ 62 [(0, .ref (Δ.1 0)), (1, .int v1), (3, .int v3)] [] := by
  intro v1 v3 σ h
  unfold w_x_mayConvert_62 at h
  refine y_iconst cx (pc := 62) ic_0 d_x_mayConvert_62 ?_
  exact b_x_mayConvert_63 cx hK6 v1 v3 0 σ h
def w_x_mayConvert_58 (K6 : Int32 → Int32 → Int32 → Sg → Prop) (Q : Int32 → Sg → Prop) (v1 : Int32) (v3 : Int32) (σ : Sg) : Prop := w_x_mayConvert_63 K6 Q v1 v3 1 σ
theorem b_x_mayConvert_58 {Δ : Ly} {G : Gm} {K6 : Int32 → Int32 → Int32 → Sg → Prop} {Q : Int32 → Sg → Prop} (cx : Cx Δ G mi_x_mayConvert) (hK6 : ∀ (v1 : Int32) (v2 : Int32) (v3 : Int32) (σ : Sg), K6 v1 v2 v3 σ → Y Δ G mi_x_mayConvert (qI Q) noE 0 0 σ 6 [(0, .ref (Δ.1 0)), (1, .int v1), (2, .int v2), (3, .int v3)] []) : ∀ (v1 : Int32) (v3 : Int32) (σ : Sg), w_x_mayConvert_58 K6 Q v1 v3 σ → Y Δ G mi_x_mayConvert (qI Q) noE 0 0 σ 58 [(0, .ref (Δ.1 0)), (1, .int v1), (3, .int v3)] [] := by
  intro v1 v3 σ h
  unfold w_x_mayConvert_58 at h
  refine y_iconst cx (pc := 58) ic_1 d_x_mayConvert_58 ?_
  refine y_goto cx (pc := 59) (tgt := 63) d_x_mayConvert_59 (by decide) ?_
  exact b_x_mayConvert_63 cx hK6 v1 v3 1 σ h
def w_x_mayConvert_6 (Q : Int32 → Sg → Prop) : Nat → Int32 → Int32 → Int32 → Sg → Prop
  | 0, _, _, _, _ => False
  | n + 1, v1, v2, v3, σ => vp_in v1 60 ∧ (((σ 45 (v1.toNatClampNeg)) ≤ v3 → (bz v2 ∧ (Q v2 σ))) ∧ (¬ (σ 45 (v1.toNatClampNeg)) ≤ v3 → ((v2 = 0 → (w_x_mayConvert_62 (w_x_mayConvert_6 Q n) Q v1 v3 σ)) ∧ (¬ v2 = 0 → (vp_in v3 60 ∧ (((σ 36 (v3.toNatClampNeg)) = 4 → (w_x_mayConvert_62 (w_x_mayConvert_6 Q n) Q v1 v3 σ)) ∧ (¬ (σ 36 (v3.toNatClampNeg)) = 4 → (vp_in v3 60 ∧ ((¬ (σ 36 (v3.toNatClampNeg)) = 5 → (w_x_mayConvert_58 (w_x_mayConvert_6 Q n) Q v1 v3 σ)) ∧ ((σ 36 (v3.toNatClampNeg)) = 5 → (vp_in v3 60 ∧ (((σ 8 (v3.toNatClampNeg)) = 0 → (w_x_mayConvert_62 (w_x_mayConvert_6 Q n) Q v1 v3 σ)) ∧ (¬ (σ 8 (v3.toNatClampNeg)) = 0 → (w_x_mayConvert_58 (w_x_mayConvert_6 Q n) Q v1 v3 σ))))))))))))))
theorem b_x_mayConvert_6 {Δ : Ly} {G : Gm} {Q : Int32 → Sg → Prop} (cx : Cx Δ G mi_x_mayConvert) : ∀ (n : Nat) (v1 : Int32) (v2 : Int32) (v3 : Int32) (σ : Sg), w_x_mayConvert_6 Q n v1 v2 v3 σ → Y Δ G mi_x_mayConvert (qI Q) noE 0 0 σ 6 [(0, .ref (Δ.1 0)), (1, .int v1), (2, .int v2), (3, .int v3)] [] := by
  intro n
  induction n with
  | zero => intro v1 v2 v3 σ h; exact h.elim
  | succ n ih =>
    intro v1 v2 v3 σ h
    unfold w_x_mayConvert_6 at h
    refine y_iload_n cx (pc := 6) d_x_mayConvert_6 rfl 3 rfl ?_
    refine y_aload_n cx (pc := 7) d_x_mayConvert_7 rfl 0 rfl ?_
    refine y_get cx (pc := 8) (j := 0) (v := .ref (Δ.1 1)) (le_b rfl) ck_GM kw_397 (le_b rfl) (gf_0_0 Δ _) d_x_mayConvert_8 ?_
    refine y_getN cx (pc := 11) (j := 10) (v := .ref (Δ.1 45)) (le_b rfl) ck_Tx kw_276 (le_b rfl) (gf_1_10 Δ _) d_x_mayConvert_11 ?_
    refine y_iload_n cx (pc := 14) d_x_mayConvert_14 rfl 1 rfl ?_
    obtain ⟨h0, h⟩ := h
    refine y_iald cx (pc := 15) ⟨(le_b rfl), fun _ => rfl⟩ h0 d_x_mayConvert_15 ?_
    refine y_icmp_ge cx (pc := 16) (tgt := 70) d_x_mayConvert_16 (by decide) (fun hc => ?_) (fun hc => ?_)
    · replace h := h.1 hc
      refine y_iload_n cx (pc := 70) d_x_mayConvert_70 rfl 2 rfl ?_
      obtain ⟨hb, h⟩ := h
      exact y_zret cx (pc := 71) rfl hb d_x_mayConvert_71 (le_b rfl) (le_b rfl) h
    · replace h := h.2 hc
      refine y_iload_n cx (pc := 19) d_x_mayConvert_19 rfl 2 rfl ?_
      refine y_if_eq cx (pc := 20) (tgt := 62) d_x_mayConvert_20 (by decide) (fun hc => ?_) (fun hc => ?_)
      · replace h := h.1 hc
        refine y_sub [0, 1, 3] rfl ?_
        exact b_x_mayConvert_62 cx ih v1 v3 σ h
      · replace h := h.2 hc
        refine y_aload_n cx (pc := 23) d_x_mayConvert_23 rfl 0 rfl ?_
        refine y_get cx (pc := 24) (j := 0) (v := .ref (Δ.1 1)) (le_b rfl) ck_GM kw_397 (le_b rfl) (gf_0_0 Δ _) d_x_mayConvert_24 ?_
        refine y_getN cx (pc := 27) (j := 1) (v := .ref (Δ.1 36)) (le_b rfl) ck_Tx kw_258 (le_b rfl) (gf_1_1 Δ _) d_x_mayConvert_27 ?_
        refine y_iload_n cx (pc := 30) d_x_mayConvert_30 rfl 3 rfl ?_
        obtain ⟨h0, h⟩ := h
        refine y_iald cx (pc := 31) ⟨(le_b rfl), fun _ => rfl⟩ h0 d_x_mayConvert_31 ?_
        refine y_iconst cx (pc := 32) ic_4 d_x_mayConvert_32 ?_
        refine y_icmp_eq cx (pc := 33) (tgt := 62) d_x_mayConvert_33 (by decide) (fun hc => ?_) (fun hc => ?_)
        · replace h := h.1 hc
          refine y_sub [0, 1, 3] rfl ?_
          exact b_x_mayConvert_62 cx ih v1 v3 σ h
        · replace h := h.2 hc
          refine y_aload_n cx (pc := 36) d_x_mayConvert_36 rfl 0 rfl ?_
          refine y_get cx (pc := 37) (j := 0) (v := .ref (Δ.1 1)) (le_b rfl) ck_GM kw_397 (le_b rfl) (gf_0_0 Δ _) d_x_mayConvert_37 ?_
          refine y_getN cx (pc := 40) (j := 1) (v := .ref (Δ.1 36)) (le_b rfl) ck_Tx kw_258 (le_b rfl) (gf_1_1 Δ _) d_x_mayConvert_40 ?_
          refine y_iload_n cx (pc := 43) d_x_mayConvert_43 rfl 3 rfl ?_
          obtain ⟨h0, h⟩ := h
          refine y_iald cx (pc := 44) ⟨(le_b rfl), fun _ => rfl⟩ h0 d_x_mayConvert_44 ?_
          refine y_iconst cx (pc := 45) ic_5 d_x_mayConvert_45 ?_
          refine y_icmp_ne cx (pc := 46) (tgt := 58) d_x_mayConvert_46 (by decide) (fun hc => ?_) (fun hc => ?_)
          · replace h := h.1 hc
            refine y_sub [0, 1, 3] rfl ?_
            exact b_x_mayConvert_58 cx ih v1 v3 σ h
          · replace h := h.2 hc
            refine y_aload_n cx (pc := 49) d_x_mayConvert_49 rfl 0 rfl ?_
            refine y_get cx (pc := 50) (j := 15) (v := .ref (Δ.1 8)) (le_b rfl) ck_GM kw_412 (le_b rfl) (gf_0_15 Δ _) d_x_mayConvert_50 ?_
            refine y_iload_n cx (pc := 53) d_x_mayConvert_53 rfl 3 rfl ?_
            obtain ⟨h0, h⟩ := h
            refine y_zald cx (pc := 54) ⟨(le_b rfl), fun _ => rfl⟩ h0 d_x_mayConvert_54 ?_
            refine y_if_eq cx (pc := 55) (tgt := 62) d_x_mayConvert_55 (by decide) (fun hc => ?_) (fun hc => ?_)
            · replace h := h.1 hc
              refine y_sub [0, 1, 3] rfl ?_
              exact b_x_mayConvert_62 cx ih v1 v3 σ h
            · replace h := h.2 hc
              refine y_sub [0, 1, 3] rfl ?_
              exact b_x_mayConvert_58 cx ih v1 v3 σ h
def w_x_mayConvert (p1 : Int32) (σ : Sg) (Q : Int32 → Sg → Prop) : Prop := ∀ x1 : Int32, x1 = p1 + 1 → (∃ q6, w_x_mayConvert_6 Q q6 p1 1 x1 σ)
theorem b_x_mayConvert {Δ : Ly} {G : Gm} {Q : Int32 → Sg → Prop} (cx : Cx Δ G mi_x_mayConvert) (p1 : Int32) (σ : Sg) (h : w_x_mayConvert p1 σ Q) : Y Δ G mi_x_mayConvert (qI Q) noE 0 0 σ 0 [(0, .ref (Δ.1 0)), (1, .int p1)] [] := by
  unfold w_x_mayConvert at h
  refine y_iconst cx (pc := 0) ic_1 d_x_mayConvert_0 ?_
  refine y_istore_n (lv' := [(2, .int 1), (0, .ref (Δ.1 0)), (1, .int p1)]) cx (pc := 1) d_x_mayConvert_1 rfl (le_b rfl) rfl ?_
  refine y_iload_n cx (pc := 2) d_x_mayConvert_2 rfl 2 rfl ?_
  refine y_iconst cx (pc := 3) ic_1 d_x_mayConvert_3 ?_
  refine y_iadd cx (pc := 4) d_x_mayConvert_4 ?_
  refine y_topi (fun x1 ex1 => ?_)
  replace h := h x1 ex1
  refine y_istore_n (lv' := [(3, .int x1), (2, .int 1), (0, .ref (Δ.1 0)), (1, .int p1)]) cx (pc := 5) d_x_mayConvert_5 rfl (le_b rfl) rfl ?_
  refine y_sub [2, 3, 1, 0] rfl ?_
  obtain ⟨n, h⟩ := h
  exact b_x_mayConvert_6 cx n p1 1 x1 σ h
theorem c_x_mayConvert {l : Launch} (hfl : l.flags = flags0) (Δ : Ly) (p1 : Int32) (σ : Sg) (Q : Int32 → Sg → Prop) (h : w_x_mayConvert p1 σ Q) : Ct l Δ mi_x_mayConvert [.ref (Δ.1 0), .int p1] σ (qI Q) noE :=
  Ct.of hfl (by show plainFor ⟨"GuardedMoves", "mayConvert", "(I)Z"⟩ = true; decide +kernel) rfl (le_b rfl) (fun G hl cx => b_x_mayConvert cx p1 σ h)
def mi_x_lower : Mi := ("GuardedMoves", prog_1_method_37_code, 3, [], (some .int), 217, 6182, 1, 6, ⟨"GuardedMoves", "lower", "(I)I"⟩)
theorem d_x_lower_0 : decode prog_1_method_37_code 0 = .ok (.iload_n 1, 1) := by decide +kernel
theorem d_x_lower_1 : decode prog_1_method_37_code 1 = .ok (.i2l, 1) := by decide +kernel
theorem d_x_lower_2 : decode prog_1_method_37_code 2 = .ok (.lconst 0, 1) := by decide +kernel
theorem d_x_lower_3 : decode prog_1_method_37_code 3 = .ok (.ldc2_w 266, 3) := by decide +kernel
theorem d_x_lower_6 : decode prog_1_method_37_code 6 = .ok (.invokestatic 42, 3) := by decide +kernel
theorem d_x_lower_9 : decode prog_1_method_37_code 9 = .ok (.invokestatic 163, 3) := by decide +kernel
theorem d_x_lower_12 : decode prog_1_method_37_code 12 = .ok (.aload_n 0, 1) := by decide +kernel
theorem d_x_lower_13 : decode prog_1_method_37_code 13 = .ok (.getfield 172, 3) := by decide +kernel
theorem d_x_lower_16 : decode prog_1_method_37_code 16 = .ok (.getfield 106, 3) := by decide +kernel
theorem d_x_lower_19 : decode prog_1_method_37_code 19 = .ok (.iconst 1, 1) := by decide +kernel
theorem d_x_lower_20 : decode prog_1_method_37_code 20 = .ok (.isub, 1) := by decide +kernel
theorem d_x_lower_21 : decode prog_1_method_37_code 21 = .ok (.istore_n 2, 1) := by decide +kernel
theorem d_x_lower_22 : decode prog_1_method_37_code 22 = .ok (.iload_n 2, 1) := by decide +kernel
theorem d_x_lower_23 : decode prog_1_method_37_code 23 = .ok (.ifCond .lt 68, 3) := by decide +kernel
theorem d_x_lower_26 : decode prog_1_method_37_code 26 = .ok (.aload_n 0, 1) := by decide +kernel
theorem d_x_lower_27 : decode prog_1_method_37_code 27 = .ok (.getfield 230, 3) := by decide +kernel
theorem d_x_lower_30 : decode prog_1_method_37_code 30 = .ok (.iload_n 2, 1) := by decide +kernel
theorem d_x_lower_31 : decode prog_1_method_37_code 31 = .ok (.iconst 0, 1) := by decide +kernel
theorem d_x_lower_32 : decode prog_1_method_37_code 32 = .ok (.bastore, 1) := by decide +kernel
theorem d_x_lower_33 : decode prog_1_method_37_code 33 = .ok (.aload_n 0, 1) := by decide +kernel
theorem d_x_lower_34 : decode prog_1_method_37_code 34 = .ok (.getfield 172, 3) := by decide +kernel
theorem d_x_lower_37 : decode prog_1_method_37_code 37 = .ok (.getfield 116, 3) := by decide +kernel
theorem d_x_lower_40 : decode prog_1_method_37_code 40 = .ok (.iload_n 2, 1) := by decide +kernel
theorem d_x_lower_41 : decode prog_1_method_37_code 41 = .ok (.iaload, 1) := by decide +kernel
theorem d_x_lower_42 : decode prog_1_method_37_code 42 = .ok (.iconst 5, 1) := by decide +kernel
theorem d_x_lower_43 : decode prog_1_method_37_code 43 = .ok (.if_icmp .ne 42, 3) := by decide +kernel
theorem d_x_lower_46 : decode prog_1_method_37_code 46 = .ok (.aload_n 0, 1) := by decide +kernel
theorem d_x_lower_47 : decode prog_1_method_37_code 47 = .ok (.iload_n 2, 1) := by decide +kernel
theorem d_x_lower_48 : decode prog_1_method_37_code 48 = .ok (.invokevirtual 268, 3) := by decide +kernel
theorem d_x_lower_51 : decode prog_1_method_37_code 51 = .ok (.ifCond .eq 34, 3) := by decide +kernel
theorem d_x_lower_54 : decode prog_1_method_37_code 54 = .ok (.aload_n 0, 1) := by decide +kernel
theorem d_x_lower_55 : decode prog_1_method_37_code 55 = .ok (.invokevirtual 271, 3) := by decide +kernel
theorem d_x_lower_58 : decode prog_1_method_37_code 58 = .ok (.aload_n 0, 1) := by decide +kernel
theorem d_x_lower_59 : decode prog_1_method_37_code 59 = .ok (.iload_n 2, 1) := by decide +kernel
theorem d_x_lower_60 : decode prog_1_method_37_code 60 = .ok (.iconst (-1), 1) := by decide +kernel
theorem d_x_lower_61 : decode prog_1_method_37_code 61 = .ok (.iconst 0, 1) := by decide +kernel
theorem d_x_lower_62 : decode prog_1_method_37_code 62 = .ok (.iconst 1, 1) := by decide +kernel
theorem d_x_lower_63 : decode prog_1_method_37_code 63 = .ok (.invokevirtual 233, 3) := by decide +kernel
theorem d_x_lower_66 : decode prog_1_method_37_code 66 = .ok (.aload_n 0, 1) := by decide +kernel
theorem d_x_lower_67 : decode prog_1_method_37_code 67 = .ok (.getfield 230, 3) := by decide +kernel
theorem d_x_lower_70 : decode prog_1_method_37_code 70 = .ok (.iload_n 2, 1) := by decide +kernel
theorem d_x_lower_71 : decode prog_1_method_37_code 71 = .ok (.aload_n 0, 1) := by decide +kernel
theorem d_x_lower_72 : decode prog_1_method_37_code 72 = .ok (.getfield 183, 3) := by decide +kernel
theorem d_x_lower_75 : decode prog_1_method_37_code 75 = .ok (.iload_n 1, 1) := by decide +kernel
theorem d_x_lower_76 : decode prog_1_method_37_code 76 = .ok (.if_icmp .gt 7, 3) := by decide +kernel
theorem d_x_lower_79 : decode prog_1_method_37_code 79 = .ok (.iconst 1, 1) := by decide +kernel
theorem d_x_lower_80 : decode prog_1_method_37_code 80 = .ok (.goto 4, 3) := by decide +kernel
theorem d_x_lower_83 : decode prog_1_method_37_code 83 = .ok (.iconst 0, 1) := by decide +kernel
theorem d_x_lower_84 : decode prog_1_method_37_code 84 = .ok (.bastore, 1) := by decide +kernel
theorem d_x_lower_85 : decode prog_1_method_37_code 85 = .ok (.iinc 2 (-1), 3) := by decide +kernel
theorem d_x_lower_88 : decode prog_1_method_37_code 88 = .ok (.goto (-66), 3) := by decide +kernel
theorem d_x_lower_91 : decode prog_1_method_37_code 91 = .ok (.aload_n 0, 1) := by decide +kernel
theorem d_x_lower_92 : decode prog_1_method_37_code 92 = .ok (.invokevirtual 271, 3) := by decide +kernel
theorem d_x_lower_95 : decode prog_1_method_37_code 95 = .ok (.aload_n 0, 1) := by decide +kernel
theorem d_x_lower_96 : decode prog_1_method_37_code 96 = .ok (.iconst 0, 1) := by decide +kernel
theorem d_x_lower_97 : decode prog_1_method_37_code 97 = .ok (.aload_n 0, 1) := by decide +kernel
theorem d_x_lower_98 : decode prog_1_method_37_code 98 = .ok (.getfield 172, 3) := by decide +kernel
theorem d_x_lower_101 : decode prog_1_method_37_code 101 = .ok (.getfield 106, 3) := by decide +kernel
theorem d_x_lower_104 : decode prog_1_method_37_code 104 = .ok (.invokevirtual 243, 3) := by decide +kernel
theorem d_x_lower_107 : decode prog_1_method_37_code 107 = .ok (.aload_n 0, 1) := by decide +kernel
theorem d_x_lower_108 : decode prog_1_method_37_code 108 = .ok (.iconst 1, 1) := by decide +kernel
theorem d_x_lower_109 : decode prog_1_method_37_code 109 = .ok (.putfield 179, 3) := by decide +kernel
theorem d_x_lower_112 : decode prog_1_method_37_code 112 = .ok (.aload_n 0, 1) := by decide +kernel
theorem d_x_lower_113 : decode prog_1_method_37_code 113 = .ok (.getfield 183, 3) := by decide +kernel
theorem d_x_lower_116 : decode prog_1_method_37_code 116 = .ok (.ireturn, 1) := by decide +kernel
theorem kc_x_lower : Kw (m_w (mi_x_lower )) := ⟨(in_t3 (List.mem_of_getElem? (i := 133) rfl)), rfl⟩
theorem mv_x_lower : MV (mi_x_lower ) "GuardedMoves" 1 := ⟨kw_611, kw_612, kc_x_lower , kw_1, ⟨⟨(by show ("GuardedMoves" : String) ≠ "java/lang/invoke/MethodHandle"; decide), (by show ("GuardedMoves" : String) ≠ "java/lang/invoke/VarHandle"; decide)⟩, (by show (parseMethodDescriptor "(I)I").map (fun d => d.parameters.length) = some 1; decide +kernel)⟩⟩
def w_x_lower_85 (K22 : Int32 → Int32 → Sg → Prop) (Q : Int32 → Sg → Prop) (E : Nat → Sg → Prop) (v1 : Int32) (v2 : Int32) (σ : Sg) : Prop := ∀ x1 : Int32, x1 = v2 + (-1) → (K22 v1 x1 σ)
theorem b_x_lower_85 {Δ : Ly} {G : Gm} {K22 : Int32 → Int32 → Sg → Prop} {Q : Int32 → Sg → Prop} {E : Nat → Sg → Prop} (cx : Cx Δ G mi_x_lower) (hK22 : ∀ (v1 : Int32) (v2 : Int32) (σ : Sg), K22 v1 v2 σ → Y Δ G mi_x_lower (qI Q) E 1 6 σ 22 [(0, .ref (Δ.1 0)), (1, .int v1), (2, .int v2)] []) : ∀ (v1 : Int32) (v2 : Int32) (σ : Sg), w_x_lower_85 K22 Q E v1 v2 σ → Y Δ G mi_x_lower (qI Q) E 1 6 σ 85 [(0, .ref (Δ.1 0)), (1, .int v1), (2, .int v2)] [] := by
  intro v1 v2 σ h
  unfold w_x_lower_85 at h
  obtain ⟨x1, ex1⟩ : ∃ y : Int32, y = v2 + (-1) := ⟨_, rfl⟩
  replace h := h x1 ex1
  refine y_iinc (v := x1) (lv' := [(2, .int x1), (0, .ref (Δ.1 0)), (1, .int v1)]) cx (pc := 85) d_x_lower_85 (j := 2) rfl (by rw [ex1]; rfl) (le_b rfl) rfl ?_
  refine y_goto cx (pc := 88) (tgt := 22) d_x_lower_88 (by decide) ?_
  refine y_sub [1, 2, 0] rfl ?_
  exact hK22 v1 x1 σ h
def w_x_lower_84 (K22 : Int32 → Int32 → Sg → Prop) (Q : Int32 → Sg → Prop) (E : Nat → Sg → Prop) (v1 : Int32) (v2 : Int32) (s0 : Int32) (s1 : Int32) (σ : Sg) : Prop := vp_in s1 60 ∧ (bz s0 ∧ (w_x_lower_85 K22 Q E v1 v2 (up σ 8 (s1.toNatClampNeg) s0)))
theorem b_x_lower_84 {Δ : Ly} {G : Gm} {K22 : Int32 → Int32 → Sg → Prop} {Q : Int32 → Sg → Prop} {E : Nat → Sg → Prop} (cx : Cx Δ G mi_x_lower) (hK22 : ∀ (v1 : Int32) (v2 : Int32) (σ : Sg), K22 v1 v2 σ → Y Δ G mi_x_lower (qI Q) E 1 6 σ 22 [(0, .ref (Δ.1 0)), (1, .int v1), (2, .int v2)] []) : ∀ (v1 : Int32) (v2 : Int32) (s0 : Int32) (s1 : Int32) (σ : Sg), w_x_lower_84 K22 Q E v1 v2 s0 s1 σ → Y Δ G mi_x_lower (qI Q) E 1 6 σ 84 [(0, .ref (Δ.1 0)), (1, .int v1), (2, .int v2)] [.int s0, .int s1, .ref (Δ.1 8)] := by
  intro v1 v2 s0 s1 σ h
  unfold w_x_lower_84 at h
  obtain ⟨h0, h⟩ := h
  obtain ⟨hb, h⟩ := h
  refine y_zastB cx (pc := 84) ⟨(le_b rfl), fun _ => rfl⟩ h0 hb d_x_lower_84 ?_
  exact b_x_lower_85 cx hK22 v1 v2 (up σ 8 (s1.toNatClampNeg) s0) h
def w_x_lower_22 (Q : Int32 → Sg → Prop) (E : Nat → Sg → Prop) : Nat → Int32 → Int32 → Sg → Prop
  | 0, _, _, _ => False
  | n + 1, v1, v2, σ => (v2 < 0 → (w_x_beginCode σ (fun σ1 => w_x_lowerAll 62 0 (σ1 1 0) σ1 (fun σ2 => Q (σ2 0 12) (up σ2 0 14 1))))) ∧ (¬ v2 < 0 → (vp_in v2 60 ∧ (vp_in v2 60 ∧ ((¬ (σ 36 (v2.toNatClampNeg)) = 5 → (w_x_lower_85 (w_x_lower_22 Q E n) Q E v1 v2 (up σ 8 (v2.toNatClampNeg) 0))) ∧ ((σ 36 (v2.toNatClampNeg)) = 5 → (w_x_mayConvert v2 (up σ 8 (v2.toNatClampNeg) 0) (fun x3 σ4 => (x3 = 0 → (w_x_lower_85 (w_x_lower_22 Q E n) Q E v1 v2 σ4)) ∧ (¬ x3 = 0 → (w_x_beginCode σ4 (fun σ5 => w_x_convert 8 v2 (-1) 0 1 σ5 (fun σ6 => (v1 < (σ6 0 12) → (w_x_lower_84 (w_x_lower_22 Q E n) Q E v1 v2 0 v2 σ6)) ∧ (¬ v1 < (σ6 0 12) → (w_x_lower_84 (w_x_lower_22 Q E n) Q E v1 v2 1 v2 σ6)))))))))))))
theorem b_x_lower_22 {Δ : Ly} {G : Gm} {Q : Int32 → Sg → Prop} {E : Nat → Sg → Prop} (cx : Cx Δ G mi_x_lower) : ∀ (n : Nat) (v1 : Int32) (v2 : Int32) (σ : Sg), w_x_lower_22 Q E n v1 v2 σ → Y Δ G mi_x_lower (qI Q) E 1 6 σ 22 [(0, .ref (Δ.1 0)), (1, .int v1), (2, .int v2)] [] := by
  intro n
  induction n with
  | zero => intro v1 v2 σ h; exact h.elim
  | succ n ih =>
    intro v1 v2 σ h
    unfold w_x_lower_22 at h
    refine y_iload_n cx (pc := 22) d_x_lower_22 rfl 2 rfl ?_
    refine y_if_lt cx (pc := 23) (tgt := 91) d_x_lower_23 (by decide) (fun hc => ?_) (fun hc => ?_)
    · replace h := h.1 hc
      refine y_aload_n cx (pc := 91) d_x_lower_91 rfl 0 rfl ?_
      refine y_vV cx (pc := 92) (st := []) [] (c_x_beginCode cx.fl Δ _ _ h) mv_x_beginCode kw_619 (oc_0 Δ) ck_GM rfl (le_b rfl) (le_b rfl) (le_b rfl) (le_b rfl) (le_b rfl) d_x_lower_92 (fun σ1 h => ?_) (fun x σ1 h => yt_no h)
      refine y_aload_n cx (pc := 95) d_x_lower_95 rfl 0 rfl ?_
      refine y_iconst cx (pc := 96) ic_0 d_x_lower_96 ?_
      refine y_aload_n cx (pc := 97) d_x_lower_97 rfl 0 rfl ?_
      refine y_get cx (pc := 98) (j := 0) (v := .ref (Δ.1 1)) (le_b rfl) ck_GM kw_397 (le_b rfl) (gf_0_0 Δ _) d_x_lower_98 ?_
      refine y_getN cx (pc := 101) (j := 0) (v := .int (σ1 1 0)) (le_b rfl) ck_Tx kw_256 (le_b rfl) (gf_1_0 Δ _) d_x_lower_101 ?_
      refine y_vV cx (pc := 104) (st := []) [.int 0, .int (σ1 1 0)] (c_x_lowerAll cx.fl Δ 62 0 (σ1 1 0) _ _ h) (mv_x_lowerAll 62) kw_675 (oc_0 Δ) ck_GM rfl (le_b rfl) (le_b rfl) (le_b rfl) (le_b rfl) (le_b rfl) d_x_lower_104 (fun σ2 h => ?_) (fun x σ2 h => yt_no h)
      refine y_aload_n cx (pc := 107) d_x_lower_107 rfl 0 rfl ?_
      refine y_iconst cx (pc := 108) ic_1 d_x_lower_108 ?_
      refine y_put cx (pc := 109) (j := 14) (ty := .boolean) (le_b rfl) ck_GM kw_411 (le_b rfl) rfl (t_GM_ok 14 (le_b rfl)) (bz_nar bz_1) (bz_fit bz_1) (pf_0_14 Δ) d_x_lower_109 ?_
      refine y_aload_n cx (pc := 112) d_x_lower_112 rfl 0 rfl ?_
      refine y_get cx (pc := 113) (j := 12) (v := .int (σ2 0 12)) (le_b rfl) ck_GM kw_409 (le_b rfl) (gf_0_12 Δ _) d_x_lower_113 ?_
      exact y_iret cx (pc := 116) rfl d_x_lower_116 (le_b rfl) (le_b rfl) h
    · replace h := h.2 hc
      refine y_aload_n cx (pc := 26) d_x_lower_26 rfl 0 rfl ?_
      refine y_get cx (pc := 27) (j := 15) (v := .ref (Δ.1 8)) (le_b rfl) ck_GM kw_412 (le_b rfl) (gf_0_15 Δ _) d_x_lower_27 ?_
      refine y_iload_n cx (pc := 30) d_x_lower_30 rfl 2 rfl ?_
      refine y_iconst cx (pc := 31) ic_0 d_x_lower_31 ?_
      obtain ⟨h0, h⟩ := h
      refine y_zastB cx (pc := 32) ⟨(le_b rfl), fun _ => rfl⟩ h0 bz_0 d_x_lower_32 ?_
      refine y_aload_n cx (pc := 33) d_x_lower_33 rfl 0 rfl ?_
      refine y_get cx (pc := 34) (j := 0) (v := .ref (Δ.1 1)) (le_b rfl) ck_GM kw_397 (le_b rfl) (gf_0_0 Δ _) d_x_lower_34 ?_
      refine y_getN cx (pc := 37) (j := 1) (v := .ref (Δ.1 36)) (le_b rfl) ck_Tx kw_258 (le_b rfl) (gf_1_1 Δ _) d_x_lower_37 ?_
      refine y_iload_n cx (pc := 40) d_x_lower_40 rfl 2 rfl ?_
      obtain ⟨h0, h⟩ := h
      refine y_iald cx (pc := 41) ⟨(le_b rfl), fun _ => rfl⟩ h0 d_x_lower_41 ?_
      refine y_iconst cx (pc := 42) ic_5 d_x_lower_42 ?_
      refine y_icmp_ne cx (pc := 43) (tgt := 85) d_x_lower_43 (by decide) (fun hc => ?_) (fun hc => ?_)
      · replace h := h.1 hc
        exact b_x_lower_85 cx ih v1 v2 (up σ 8 (v2.toNatClampNeg) 0) h
      · replace h := h.2 hc
        refine y_aload_n cx (pc := 46) d_x_lower_46 rfl 0 rfl ?_
        refine y_iload_n cx (pc := 47) d_x_lower_47 rfl 2 rfl ?_
        refine y_vI cx (pc := 48) (st := []) [.int v2] (c_x_mayConvert cx.fl Δ v2 _ _ h) mv_x_mayConvert kw_615 (oc_0 Δ) ck_GM rfl (le_b rfl) (le_b rfl) (le_b rfl) (le_b rfl) (le_b rfl) d_x_lower_48 (fun x3 σ4 h => ?_) (fun x σ4 h => yt_no h)
        refine y_if_eq cx (pc := 51) (tgt := 85) d_x_lower_51 (by decide) (fun hc => ?_) (fun hc => ?_)
        · replace h := h.1 hc
          exact b_x_lower_85 cx ih v1 v2 σ4 h
        · replace h := h.2 hc
          refine y_aload_n cx (pc := 54) d_x_lower_54 rfl 0 rfl ?_
          refine y_vV cx (pc := 55) (st := []) [] (c_x_beginCode cx.fl Δ _ _ h) mv_x_beginCode kw_619 (oc_0 Δ) ck_GM rfl (le_b rfl) (le_b rfl) (le_b rfl) (le_b rfl) (le_b rfl) d_x_lower_55 (fun σ5 h => ?_) (fun x σ5 h => yt_no h)
          refine y_aload_n cx (pc := 58) d_x_lower_58 rfl 0 rfl ?_
          refine y_iload_n cx (pc := 59) d_x_lower_59 rfl 2 rfl ?_
          refine y_iconst cx (pc := 60) ic_m1 d_x_lower_60 ?_
          refine y_iconst cx (pc := 61) ic_0 d_x_lower_61 ?_
          refine y_iconst cx (pc := 62) ic_1 d_x_lower_62 ?_
          refine y_vV cx (pc := 63) (st := []) [.int v2, .int (-1), .int 0, .int 1] (c_x_convert cx.fl Δ 8 v2 (-1) 0 1 _ _ h) (mv_x_convert 8) kw_623 (oc_0 Δ) ck_GM rfl (le_b rfl) (le_b rfl) (le_b rfl) (le_b rfl) (le_b rfl) d_x_lower_63 (fun σ6 h => ?_) (fun x σ6 h => yt_no h)
          refine y_aload_n cx (pc := 66) d_x_lower_66 rfl 0 rfl ?_
          refine y_get cx (pc := 67) (j := 15) (v := .ref (Δ.1 8)) (le_b rfl) ck_GM kw_412 (le_b rfl) (gf_0_15 Δ _) d_x_lower_67 ?_
          refine y_iload_n cx (pc := 70) d_x_lower_70 rfl 2 rfl ?_
          refine y_aload_n cx (pc := 71) d_x_lower_71 rfl 0 rfl ?_
          refine y_get cx (pc := 72) (j := 12) (v := .int (σ6 0 12)) (le_b rfl) ck_GM kw_409 (le_b rfl) (gf_0_12 Δ _) d_x_lower_72 ?_
          refine y_iload_n cx (pc := 75) d_x_lower_75 rfl 1 rfl ?_
          refine y_icmp_gt cx (pc := 76) (tgt := 83) d_x_lower_76 (by decide) (fun hc => ?_) (fun hc => ?_)
          · replace h := h.1 hc
            refine y_iconst cx (pc := 83) ic_0 d_x_lower_83 ?_
            exact b_x_lower_84 cx ih v1 v2 0 v2 σ6 h
          · replace h := h.2 hc
            refine y_iconst cx (pc := 79) ic_1 d_x_lower_79 ?_
            refine y_goto cx (pc := 80) (tgt := 84) d_x_lower_80 (by decide) ?_
            exact b_x_lower_84 cx ih v1 v2 1 v2 σ6 h
def w_x_lower (p1 : Int32) (σ : Sg) (Q : Int32 → Sg → Prop) (E : Nat → Sg → Prop) : Prop := w_x_within (p1.toInt64) 0 400 σ (fun x1 σ2 => w_x_want_Z x1 σ2 (fun σ3 => ∀ x4 : Int32, x4 = (σ3 1 0) - 1 → (∃ q22, w_x_lower_22 Q E q22 p1 x4 σ3)) E)
theorem b_x_lower {Δ : Ly} {G : Gm} {Q : Int32 → Sg → Prop} {E : Nat → Sg → Prop} (cx : Cx Δ G mi_x_lower) (p1 : Int32) (σ : Sg) (h : w_x_lower p1 σ Q E) : Y Δ G mi_x_lower (qI Q) E 0 0 σ 0 [(0, .ref (Δ.1 0)), (1, .int p1)] [] := by
  unfold w_x_lower at h
  refine y_iload_n cx (pc := 0) d_x_lower_0 rfl 1 rfl ?_
  refine y_i2l cx (pc := 1) d_x_lower_1 ?_
  refine y_lconst cx (pc := 2) (v := 0) lc_0 d_x_lower_2 ?_
  refine y_ldc2 cx (pc := 3) kw_614 d_x_lower_3 ?_
  refine y_sI cx (pc := 6) (st := []) [.long (p1.toInt64), .long 0, .long 400] (c_x_within cx.fl Δ (p1.toInt64) 0 400 _ _ h) mv_x_within kw_41 rfl (le_b rfl) (le_b rfl) (le_b rfl) (le_b rfl) (le_b rfl) d_x_lower_6 (fun x1 σ2 h => ?_) (fun x σ2 h => yt_no h)
  refine y_sV cx (pc := 9) (st := []) [.int x1] (c_x_want_Z cx.fl Δ x1 _ _ _ h) mv_x_want_Z kw_559 rfl (le_b rfl) (le_b rfl) (le_b rfl) (le_b rfl) (le_b rfl) d_x_lower_9 (fun σ3 h => ?_) (fun x σ3 h => ?_)
  ·
    refine y_aload_n cx (pc := 12) d_x_lower_12 rfl 0 rfl ?_
    refine y_get cx (pc := 13) (j := 0) (v := .ref (Δ.1 1)) (le_b rfl) ck_GM kw_397 (le_b rfl) (gf_0_0 Δ _) d_x_lower_13 ?_
    refine y_getN cx (pc := 16) (j := 0) (v := .int (σ3 1 0)) (le_b rfl) ck_Tx kw_256 (le_b rfl) (gf_1_0 Δ _) d_x_lower_16 ?_
    refine y_iconst cx (pc := 19) ic_1 d_x_lower_19 ?_
    refine y_isub cx (pc := 20) d_x_lower_20 ?_
    refine y_topi (fun x4 ex4 => ?_)
    replace h := h x4 ex4
    refine y_istore_n (lv' := [(2, .int x4), (0, .ref (Δ.1 0)), (1, .int p1)]) cx (pc := 21) d_x_lower_21 rfl (le_b rfl) rfl ?_
    refine y_sub [1, 2, 0] rfl ?_
    obtain ⟨n, h⟩ := h
    exact b_x_lower_22 cx n p1 x4 σ3 h
  ·
    exact t_out cx rfl (le_b rfl) (le_b rfl) h
theorem c_x_lower {l : Launch} (hfl : l.flags = flags0) (Δ : Ly) (p1 : Int32) (σ : Sg) (Q : Int32 → Sg → Prop) (E : Nat → Sg → Prop) (h : w_x_lower p1 σ Q E) : Ct l Δ mi_x_lower [.ref (Δ.1 0), .int p1] σ (qI Q) E :=
  Ct.of hfl (by show plainFor ⟨"GuardedMoves", "lower", "(I)I"⟩ = true; decide +kernel) rfl (le_b rfl) (fun G hl cx => b_x_lower cx p1 σ h)
def mi_x_step : Mi := ("GuardedMoves", prog_1_method_43_code, 3, [], (some .int), 9, 224, 2, 12, ⟨"GuardedMoves", "step", "(II)I"⟩)
theorem d_x_step_0 : decode prog_1_method_43_code 0 = .ok (.iload_n 1, 1) := by decide +kernel
theorem d_x_step_1 : decode prog_1_method_43_code 1 = .ok (.i2l, 1) := by decide +kernel
theorem d_x_step_2 : decode prog_1_method_43_code 2 = .ok (.lconst 0, 1) := by decide +kernel
theorem d_x_step_3 : decode prog_1_method_43_code 3 = .ok (.aload_n 0, 1) := by decide +kernel
theorem d_x_step_4 : decode prog_1_method_43_code 4 = .ok (.getfield 183, 3) := by decide +kernel
theorem d_x_step_7 : decode prog_1_method_43_code 7 = .ok (.iconst 1, 1) := by decide +kernel
theorem d_x_step_8 : decode prog_1_method_43_code 8 = .ok (.isub, 1) := by decide +kernel
theorem d_x_step_9 : decode prog_1_method_43_code 9 = .ok (.i2l, 1) := by decide +kernel
theorem d_x_step_10 : decode prog_1_method_43_code 10 = .ok (.invokestatic 42, 3) := by decide +kernel
theorem d_x_step_13 : decode prog_1_method_43_code 13 = .ok (.invokestatic 286, 3) := by decide +kernel
theorem d_x_step_16 : decode prog_1_method_43_code 16 = .ok (.iload_n 2, 1) := by decide +kernel
theorem d_x_step_17 : decode prog_1_method_43_code 17 = .ok (.i2l, 1) := by decide +kernel
theorem d_x_step_18 : decode prog_1_method_43_code 18 = .ok (.lconst 0, 1) := by decide +kernel
theorem d_x_step_19 : decode prog_1_method_43_code 19 = .ok (.ldc2_w 289, 3) := by decide +kernel
theorem d_x_step_22 : decode prog_1_method_43_code 22 = .ok (.invokestatic 42, 3) := by decide +kernel
theorem d_x_step_25 : decode prog_1_method_43_code 25 = .ok (.invokestatic 163, 3) := by decide +kernel
theorem d_x_step_28 : decode prog_1_method_43_code 28 = .ok (.iload_n 2, 1) := by decide +kernel
theorem d_x_step_29 : decode prog_1_method_43_code 29 = .ok (.ifCond .ne 12, 3) := by decide +kernel
theorem d_x_step_32 : decode prog_1_method_43_code 32 = .ok (.aload_n 0, 1) := by decide +kernel
theorem d_x_step_33 : decode prog_1_method_43_code 33 = .ok (.getfield 186, 3) := by decide +kernel
theorem d_x_step_36 : decode prog_1_method_43_code 36 = .ok (.iload_n 1, 1) := by decide +kernel
theorem d_x_step_37 : decode prog_1_method_43_code 37 = .ok (.iaload, 1) := by decide +kernel
theorem d_x_step_38 : decode prog_1_method_43_code 38 = .ok (.goto 27, 3) := by decide +kernel
theorem d_x_step_41 : decode prog_1_method_43_code 41 = .ok (.iload_n 2, 1) := by decide +kernel
theorem d_x_step_42 : decode prog_1_method_43_code 42 = .ok (.iconst 5, 1) := by decide +kernel
theorem d_x_step_43 : decode prog_1_method_43_code 43 = .ok (.if_icmp .ne 12, 3) := by decide +kernel
theorem d_x_step_46 : decode prog_1_method_43_code 46 = .ok (.aload_n 0, 1) := by decide +kernel
theorem d_x_step_47 : decode prog_1_method_43_code 47 = .ok (.getfield 193, 3) := by decide +kernel
theorem d_x_step_50 : decode prog_1_method_43_code 50 = .ok (.iload_n 1, 1) := by decide +kernel
theorem d_x_step_51 : decode prog_1_method_43_code 51 = .ok (.iaload, 1) := by decide +kernel
theorem d_x_step_52 : decode prog_1_method_43_code 52 = .ok (.goto 13, 3) := by decide +kernel
theorem d_x_step_55 : decode prog_1_method_43_code 55 = .ok (.aload_n 0, 1) := by decide +kernel
theorem d_x_step_56 : decode prog_1_method_43_code 56 = .ok (.getfield 189, 3) := by decide +kernel
theorem d_x_step_59 : decode prog_1_method_43_code 59 = .ok (.iload_n 2, 1) := by decide +kernel
theorem d_x_step_60 : decode prog_1_method_43_code 60 = .ok (.iconst 1, 1) := by decide +kernel
theorem d_x_step_61 : decode prog_1_method_43_code 61 = .ok (.isub, 1) := by decide +kernel
theorem d_x_step_62 : decode prog_1_method_43_code 62 = .ok (.aaload, 1) := by decide +kernel
theorem d_x_step_63 : decode prog_1_method_43_code 63 = .ok (.iload_n 1, 1) := by decide +kernel
theorem d_x_step_64 : decode prog_1_method_43_code 64 = .ok (.iaload, 1) := by decide +kernel
theorem d_x_step_65 : decode prog_1_method_43_code 65 = .ok (.ireturn, 1) := by decide +kernel
theorem kc_x_step : Kw (m_w (mi_x_step )) := ⟨(in_t3 (List.mem_of_getElem? (i := 213) rfl)), rfl⟩
theorem mv_x_step : MV (mi_x_step ) "GuardedMoves" 2 := ⟨kw_691, kw_692, kc_x_step , kw_1, ⟨⟨(by show ("GuardedMoves" : String) ≠ "java/lang/invoke/MethodHandle"; decide), (by show ("GuardedMoves" : String) ≠ "java/lang/invoke/VarHandle"; decide)⟩, (by show (parseMethodDescriptor "(II)I").map (fun d => d.parameters.length) = some 2; decide +kernel)⟩⟩
def w_x_step_65 (Q : Int32 → Sg → Prop) (E : Nat → Sg → Prop) (s0 : Int32) (σ : Sg) : Prop := Q s0 σ
theorem b_x_step_65 {Δ : Ly} {G : Gm} {Q : Int32 → Sg → Prop} {E : Nat → Sg → Prop} (cx : Cx Δ G mi_x_step) : ∀ (s0 : Int32) (σ : Sg), w_x_step_65 Q E s0 σ → Y Δ G mi_x_step (qI Q) E 2 12 σ 65 [] [.int s0] := by
  intro s0 σ h
  unfold w_x_step_65 at h
  exact y_iret cx (pc := 65) rfl d_x_step_65 (le_b rfl) (le_b rfl) h
def w_x_step (p1 : Int32) (p2 : Int32) (σ : Sg) (Q : Int32 → Sg → Prop) (E : Nat → Sg → Prop) : Prop := w_x_within (p1.toInt64) 0 (((σ 0 12) - 1).toInt64) σ (fun x1 σ2 => w_x_wantIndex x1 σ2 (fun σ3 => w_x_within (p2.toInt64) 0 5 σ3 (fun x4 σ5 => w_x_want_Z x4 σ5 (fun σ6 => (¬ p2 = 0 → ((¬ p2 = 5 → (vp_in (p2 - 1) 4 ∧ (inN (14 + (p2 - 1).toNatClampNeg) ∧ (vp_in p1 3000 ∧ (w_x_step_65 Q E (σ6 (14 + (p2 - 1).toNatClampNeg) (p1.toNatClampNeg)) σ6))))) ∧ (p2 = 5 → (vp_in p1 3000 ∧ (w_x_step_65 Q E (σ6 7 (p1.toNatClampNeg)) σ6))))) ∧ (p2 = 0 → (vp_in p1 3000 ∧ (w_x_step_65 Q E (σ6 6 (p1.toNatClampNeg)) σ6)))) E)) E)
theorem b_x_step {Δ : Ly} {G : Gm} {Q : Int32 → Sg → Prop} {E : Nat → Sg → Prop} (cx : Cx Δ G mi_x_step) (p1 : Int32) (p2 : Int32) (σ : Sg) (h : w_x_step p1 p2 σ Q E) : Y Δ G mi_x_step (qI Q) E 0 0 σ 0 [(0, .ref (Δ.1 0)), (1, .int p1), (2, .int p2)] [] := by
  unfold w_x_step at h
  refine y_iload_n cx (pc := 0) d_x_step_0 rfl 1 rfl ?_
  refine y_i2l cx (pc := 1) d_x_step_1 ?_
  refine y_lconst cx (pc := 2) (v := 0) lc_0 d_x_step_2 ?_
  refine y_aload_n cx (pc := 3) d_x_step_3 rfl 0 rfl ?_
  refine y_get cx (pc := 4) (j := 12) (v := .int (σ 0 12)) (le_b rfl) ck_GM kw_409 (le_b rfl) (gf_0_12 Δ _) d_x_step_4 ?_
  refine y_iconst cx (pc := 7) ic_1 d_x_step_7 ?_
  refine y_isub cx (pc := 8) d_x_step_8 ?_
  refine y_i2l cx (pc := 9) d_x_step_9 ?_
  refine y_sI cx (pc := 10) (st := []) [.long (p1.toInt64), .long 0, .long (((σ 0 12) - 1).toInt64)] (c_x_within cx.fl Δ (p1.toInt64) 0 (((σ 0 12) - 1).toInt64) _ _ h) mv_x_within kw_41 rfl (le_b rfl) (le_b rfl) (le_b rfl) (le_b rfl) (le_b rfl) d_x_step_10 (fun x1 σ2 h => ?_) (fun x σ2 h => yt_no h)
  refine y_sV cx (pc := 13) (st := []) [.int x1] (c_x_wantIndex cx.fl Δ x1 _ _ _ h) mv_x_wantIndex kw_518 rfl (le_b rfl) (le_b rfl) (le_b rfl) (le_b rfl) (le_b rfl) d_x_step_13 (fun σ3 h => ?_) (fun x σ3 h => ?_)
  ·
    refine y_iload_n cx (pc := 16) d_x_step_16 rfl 2 rfl ?_
    refine y_i2l cx (pc := 17) d_x_step_17 ?_
    refine y_lconst cx (pc := 18) (v := 0) lc_0 d_x_step_18 ?_
    refine y_ldc2 cx (pc := 19) kw_694 d_x_step_19 ?_
    refine y_sI cx (pc := 22) (st := []) [.long (p2.toInt64), .long 0, .long 5] (c_x_within cx.fl Δ (p2.toInt64) 0 5 _ _ h) mv_x_within kw_41 rfl (le_b rfl) (le_b rfl) (le_b rfl) (le_b rfl) (le_b rfl) d_x_step_22 (fun x4 σ5 h => ?_) (fun x σ5 h => yt_no h)
    refine y_sV cx (pc := 25) (st := []) [.int x4] (c_x_want_Z cx.fl Δ x4 _ _ _ h) mv_x_want_Z kw_559 rfl (le_b rfl) (le_b rfl) (le_b rfl) (le_b rfl) (le_b rfl) d_x_step_25 (fun σ6 h => ?_) (fun x σ6 h => ?_)
    ·
      refine y_iload_n cx (pc := 28) d_x_step_28 rfl 2 rfl ?_
      refine y_if_ne cx (pc := 29) (tgt := 41) d_x_step_29 (by decide) (fun hc => ?_) (fun hc => ?_)
      · replace h := h.1 hc
        refine y_iload_n cx (pc := 41) d_x_step_41 rfl 2 rfl ?_
        refine y_iconst cx (pc := 42) ic_5 d_x_step_42 ?_
        refine y_icmp_ne cx (pc := 43) (tgt := 55) d_x_step_43 (by decide) (fun hc => ?_) (fun hc => ?_)
        · replace h := h.1 hc
          refine y_aload_n cx (pc := 55) d_x_step_55 rfl 0 rfl ?_
          refine y_get cx (pc := 56) (j := 10) (v := .ref (Δ.1 34)) (le_b rfl) ck_GM kw_407 (le_b rfl) (gf_0_10 Δ _) d_x_step_56 ?_
          refine y_iload_n cx (pc := 59) d_x_step_59 rfl 2 rfl ?_
          refine y_iconst cx (pc := 60) ic_1 d_x_step_60 ?_
          refine y_isub cx (pc := 61) d_x_step_61 ?_
          obtain ⟨h0, h⟩ := h
          refine y_aald cx (pc := 62) (base := 14) ⟨(le_b rfl), fun _ => rfl⟩ h0 d_x_step_62 ?_
          refine y_iload_n cx (pc := 63) d_x_step_63 rfl 1 rfl ?_
          obtain ⟨h9, h⟩ := h
          obtain ⟨h0, h⟩ := h
          refine y_iald cx (pc := 64) (av_inN h9) h0 d_x_step_64 ?_
          refine y_sub [] rfl ?_
          exact b_x_step_65 cx (σ6 (14 + (p2 - 1).toNatClampNeg) (p1.toNatClampNeg)) σ6 h
        · replace h := h.2 hc
          refine y_aload_n cx (pc := 46) d_x_step_46 rfl 0 rfl ?_
          refine y_get cx (pc := 47) (j := 11) (v := .ref (Δ.1 7)) (le_b rfl) ck_GM kw_408 (le_b rfl) (gf_0_11 Δ _) d_x_step_47 ?_
          refine y_iload_n cx (pc := 50) d_x_step_50 rfl 1 rfl ?_
          obtain ⟨h0, h⟩ := h
          refine y_iald cx (pc := 51) ⟨(le_b rfl), fun _ => rfl⟩ h0 d_x_step_51 ?_
          refine y_goto cx (pc := 52) (tgt := 65) d_x_step_52 (by decide) ?_
          refine y_sub [] rfl ?_
          exact b_x_step_65 cx (σ6 7 (p1.toNatClampNeg)) σ6 h
      · replace h := h.2 hc
        refine y_aload_n cx (pc := 32) d_x_step_32 rfl 0 rfl ?_
        refine y_get cx (pc := 33) (j := 9) (v := .ref (Δ.1 6)) (le_b rfl) ck_GM kw_406 (le_b rfl) (gf_0_9 Δ _) d_x_step_33 ?_
        refine y_iload_n cx (pc := 36) d_x_step_36 rfl 1 rfl ?_
        obtain ⟨h0, h⟩ := h
        refine y_iald cx (pc := 37) ⟨(le_b rfl), fun _ => rfl⟩ h0 d_x_step_37 ?_
        refine y_goto cx (pc := 38) (tgt := 65) d_x_step_38 (by decide) ?_
        refine y_sub [] rfl ?_
        exact b_x_step_65 cx (σ6 6 (p1.toNatClampNeg)) σ6 h
    ·
      exact t_out cx rfl (le_b rfl) (le_b rfl) h
  ·
    exact t_out cx rfl (le_b rfl) (le_b rfl) h
theorem c_x_step {l : Launch} (hfl : l.flags = flags0) (Δ : Ly) (p1 : Int32) (p2 : Int32) (σ : Sg) (Q : Int32 → Sg → Prop) (E : Nat → Sg → Prop) (h : w_x_step p1 p2 σ Q E) : Ct l Δ mi_x_step [.ref (Δ.1 0), .int p1, .int p2] σ (qI Q) E :=
  Ct.of hfl (by show plainFor ⟨"GuardedMoves", "step", "(II)I"⟩ = true; decide +kernel) rfl (le_b rfl) (fun G hl cx => b_x_step cx p1 p2 σ h)
def mi_x_runAll : Mi := ("GuardedMoves", prog_1_method_58_code, 6, [], none, 2, 55, 0, 0, ⟨"GuardedMoves", "runAll", "()V"⟩)
theorem d_x_runAll_0 : decode prog_1_method_58_code 0 = .ok (.iconst 0, 1) := by decide +kernel
theorem d_x_runAll_1 : decode prog_1_method_58_code 1 = .ok (.istore_n 1, 1) := by decide +kernel
theorem d_x_runAll_2 : decode prog_1_method_58_code 2 = .ok (.iload_n 1, 1) := by decide +kernel
theorem d_x_runAll_3 : decode prog_1_method_58_code 3 = .ok (.aload_n 0, 1) := by decide +kernel
theorem d_x_runAll_4 : decode prog_1_method_58_code 4 = .ok (.getfield 183, 3) := by decide +kernel
theorem d_x_runAll_7 : decode prog_1_method_58_code 7 = .ok (.if_icmp .ge 347, 3) := by decide +kernel
theorem d_x_runAll_10 : decode prog_1_method_58_code 10 = .ok (.aload_n 0, 1) := by decide +kernel
theorem d_x_runAll_11 : decode prog_1_method_58_code 11 = .ok (.dup, 1) := by decide +kernel
theorem d_x_runAll_12 : decode prog_1_method_58_code 12 = .ok (.getfield 326, 3) := by decide +kernel
theorem d_x_runAll_15 : decode prog_1_method_58_code 15 = .ok (.iconst 1, 1) := by decide +kernel
theorem d_x_runAll_16 : decode prog_1_method_58_code 16 = .ok (.iadd, 1) := by decide +kernel
theorem d_x_runAll_17 : decode prog_1_method_58_code 17 = .ok (.putfield 326, 3) := by decide +kernel
theorem d_x_runAll_20 : decode prog_1_method_58_code 20 = .ok (.aload_n 0, 1) := by decide +kernel
theorem d_x_runAll_21 : decode prog_1_method_58_code 21 = .ok (.getfield 189, 3) := by decide +kernel
theorem d_x_runAll_24 : decode prog_1_method_58_code 24 = .ok (.iconst 0, 1) := by decide +kernel
theorem d_x_runAll_25 : decode prog_1_method_58_code 25 = .ok (.aaload, 1) := by decide +kernel
theorem d_x_runAll_26 : decode prog_1_method_58_code 26 = .ok (.iload_n 1, 1) := by decide +kernel
theorem d_x_runAll_27 : decode prog_1_method_58_code 27 = .ok (.iaload, 1) := by decide +kernel
theorem d_x_runAll_28 : decode prog_1_method_58_code 28 = .ok (.istore_n 2, 1) := by decide +kernel
theorem d_x_runAll_29 : decode prog_1_method_58_code 29 = .ok (.aload_n 0, 1) := by decide +kernel
theorem d_x_runAll_30 : decode prog_1_method_58_code 30 = .ok (.getfield 189, 3) := by decide +kernel
theorem d_x_runAll_33 : decode prog_1_method_58_code 33 = .ok (.iconst 1, 1) := by decide +kernel
theorem d_x_runAll_34 : decode prog_1_method_58_code 34 = .ok (.aaload, 1) := by decide +kernel
theorem d_x_runAll_35 : decode prog_1_method_58_code 35 = .ok (.iload_n 1, 1) := by decide +kernel
theorem d_x_runAll_36 : decode prog_1_method_58_code 36 = .ok (.iaload, 1) := by decide +kernel
theorem d_x_runAll_37 : decode prog_1_method_58_code 37 = .ok (.istore_n 3, 1) := by decide +kernel
theorem d_x_runAll_38 : decode prog_1_method_58_code 38 = .ok (.aload_n 0, 1) := by decide +kernel
theorem d_x_runAll_39 : decode prog_1_method_58_code 39 = .ok (.getfield 189, 3) := by decide +kernel
theorem d_x_runAll_42 : decode prog_1_method_58_code 42 = .ok (.iconst 2, 1) := by decide +kernel
theorem d_x_runAll_43 : decode prog_1_method_58_code 43 = .ok (.aaload, 1) := by decide +kernel
theorem d_x_runAll_44 : decode prog_1_method_58_code 44 = .ok (.iload_n 1, 1) := by decide +kernel
theorem d_x_runAll_45 : decode prog_1_method_58_code 45 = .ok (.iaload, 1) := by decide +kernel
theorem d_x_runAll_46 : decode prog_1_method_58_code 46 = .ok (.istore 4, 2) := by decide +kernel
theorem d_x_runAll_48 : decode prog_1_method_58_code 48 = .ok (.iload_n 1, 1) := by decide +kernel
theorem d_x_runAll_49 : decode prog_1_method_58_code 49 = .ok (.iconst 1, 1) := by decide +kernel
theorem d_x_runAll_50 : decode prog_1_method_58_code 50 = .ok (.iadd, 1) := by decide +kernel
theorem d_x_runAll_51 : decode prog_1_method_58_code 51 = .ok (.istore 5, 2) := by decide +kernel
theorem d_x_runAll_53 : decode prog_1_method_58_code 53 = .ok (.aload_n 0, 1) := by decide +kernel
theorem d_x_runAll_54 : decode prog_1_method_58_code 54 = .ok (.getfield 186, 3) := by decide +kernel
theorem d_x_runAll_57 : decode prog_1_method_58_code 57 = .ok (.iload_n 1, 1) := by decide +kernel
theorem d_x_runAll_58 : decode prog_1_method_58_code 58 = .ok (.iaload, 1) := by decide +kernel
theorem d_x_runAll_59 : decode prog_1_method_58_code 59 = .ok (.tableswitch 254 0 18 #[89, 99, 254, 254, 254, 254, 254, 254, 254, 254, 254, 254, 254, 114, 155, 185, 215, 221, 241], 89) := by decide +kernel
theorem d_x_runAll_148 : decode prog_1_method_58_code 148 = .ok (.aload_n 0, 1) := by decide +kernel
theorem d_x_runAll_149 : decode prog_1_method_58_code 149 = .ok (.getfield 314, 3) := by decide +kernel
theorem d_x_runAll_152 : decode prog_1_method_58_code 152 = .ok (.iload_n 2, 1) := by decide +kernel
theorem d_x_runAll_153 : decode prog_1_method_58_code 153 = .ok (.iload_n 3, 1) := by decide +kernel
theorem d_x_runAll_154 : decode prog_1_method_58_code 154 = .ok (.iastore, 1) := by decide +kernel
theorem d_x_runAll_155 : decode prog_1_method_58_code 155 = .ok (.goto 193, 3) := by decide +kernel
theorem d_x_runAll_158 : decode prog_1_method_58_code 158 = .ok (.aload_n 0, 1) := by decide +kernel
theorem d_x_runAll_159 : decode prog_1_method_58_code 159 = .ok (.getfield 314, 3) := by decide +kernel
theorem d_x_runAll_162 : decode prog_1_method_58_code 162 = .ok (.iload_n 2, 1) := by decide +kernel
theorem d_x_runAll_163 : decode prog_1_method_58_code 163 = .ok (.aload_n 0, 1) := by decide +kernel
theorem d_x_runAll_164 : decode prog_1_method_58_code 164 = .ok (.getfield 314, 3) := by decide +kernel
theorem d_x_runAll_167 : decode prog_1_method_58_code 167 = .ok (.iload_n 3, 1) := by decide +kernel
theorem d_x_runAll_168 : decode prog_1_method_58_code 168 = .ok (.iaload, 1) := by decide +kernel
theorem d_x_runAll_169 : decode prog_1_method_58_code 169 = .ok (.iastore, 1) := by decide +kernel
theorem d_x_runAll_170 : decode prog_1_method_58_code 170 = .ok (.goto 178, 3) := by decide +kernel
theorem d_x_runAll_173 : decode prog_1_method_58_code 173 = .ok (.aload_n 0, 1) := by decide +kernel
theorem d_x_runAll_174 : decode prog_1_method_58_code 174 = .ok (.getfield 314, 3) := by decide +kernel
theorem d_x_runAll_177 : decode prog_1_method_58_code 177 = .ok (.iload_n 2, 1) := by decide +kernel
theorem d_x_runAll_178 : decode prog_1_method_58_code 178 = .ok (.aload_n 0, 1) := by decide +kernel
theorem d_x_runAll_179 : decode prog_1_method_58_code 179 = .ok (.getfield 314, 3) := by decide +kernel
theorem d_x_runAll_182 : decode prog_1_method_58_code 182 = .ok (.iload_n 3, 1) := by decide +kernel
theorem d_x_runAll_183 : decode prog_1_method_58_code 183 = .ok (.iaload, 1) := by decide +kernel
theorem d_x_runAll_184 : decode prog_1_method_58_code 184 = .ok (.ifCond .eq 13, 3) := by decide +kernel
theorem d_x_runAll_187 : decode prog_1_method_58_code 187 = .ok (.aload_n 0, 1) := by decide +kernel
theorem d_x_runAll_188 : decode prog_1_method_58_code 188 = .ok (.getfield 314, 3) := by decide +kernel
theorem d_x_runAll_191 : decode prog_1_method_58_code 191 = .ok (.iload 4, 2) := by decide +kernel
theorem d_x_runAll_193 : decode prog_1_method_58_code 193 = .ok (.iaload, 1) := by decide +kernel
theorem d_x_runAll_194 : decode prog_1_method_58_code 194 = .ok (.goto 16, 3) := by decide +kernel
theorem d_x_runAll_197 : decode prog_1_method_58_code 197 = .ok (.aload_n 0, 1) := by decide +kernel
theorem d_x_runAll_198 : decode prog_1_method_58_code 198 = .ok (.getfield 314, 3) := by decide +kernel
theorem d_x_runAll_201 : decode prog_1_method_58_code 201 = .ok (.aload_n 0, 1) := by decide +kernel
theorem d_x_runAll_202 : decode prog_1_method_58_code 202 = .ok (.getfield 189, 3) := by decide +kernel
theorem d_x_runAll_205 : decode prog_1_method_58_code 205 = .ok (.iconst 3, 1) := by decide +kernel
theorem d_x_runAll_206 : decode prog_1_method_58_code 206 = .ok (.aaload, 1) := by decide +kernel
theorem d_x_runAll_207 : decode prog_1_method_58_code 207 = .ok (.iload_n 1, 1) := by decide +kernel
theorem d_x_runAll_208 : decode prog_1_method_58_code 208 = .ok (.iaload, 1) := by decide +kernel
theorem d_x_runAll_209 : decode prog_1_method_58_code 209 = .ok (.iaload, 1) := by decide +kernel
theorem d_x_runAll_210 : decode prog_1_method_58_code 210 = .ok (.iastore, 1) := by decide +kernel
theorem d_x_runAll_211 : decode prog_1_method_58_code 211 = .ok (.goto 137, 3) := by decide +kernel
theorem d_x_runAll_214 : decode prog_1_method_58_code 214 = .ok (.aload_n 0, 1) := by decide +kernel
theorem d_x_runAll_215 : decode prog_1_method_58_code 215 = .ok (.getfield 314, 3) := by decide +kernel
theorem d_x_runAll_218 : decode prog_1_method_58_code 218 = .ok (.iload_n 2, 1) := by decide +kernel
theorem d_x_runAll_219 : decode prog_1_method_58_code 219 = .ok (.aload_n 0, 1) := by decide +kernel
theorem d_x_runAll_220 : decode prog_1_method_58_code 220 = .ok (.getfield 317, 3) := by decide +kernel
theorem d_x_runAll_223 : decode prog_1_method_58_code 223 = .ok (.aload_n 0, 1) := by decide +kernel
theorem d_x_runAll_224 : decode prog_1_method_58_code 224 = .ok (.aload_n 0, 1) := by decide +kernel
theorem d_x_runAll_225 : decode prog_1_method_58_code 225 = .ok (.getfield 314, 3) := by decide +kernel
theorem d_x_runAll_228 : decode prog_1_method_58_code 228 = .ok (.iload_n 3, 1) := by decide +kernel
theorem d_x_runAll_229 : decode prog_1_method_58_code 229 = .ok (.iaload, 1) := by decide +kernel
theorem d_x_runAll_230 : decode prog_1_method_58_code 230 = .ok (.aload_n 0, 1) := by decide +kernel
theorem d_x_runAll_231 : decode prog_1_method_58_code 231 = .ok (.getfield 193, 3) := by decide +kernel
theorem d_x_runAll_234 : decode prog_1_method_58_code 234 = .ok (.iload_n 1, 1) := by decide +kernel
theorem d_x_runAll_235 : decode prog_1_method_58_code 235 = .ok (.iaload, 1) := by decide +kernel
theorem d_x_runAll_236 : decode prog_1_method_58_code 236 = .ok (.invokevirtual 346, 3) := by decide +kernel
theorem d_x_runAll_239 : decode prog_1_method_58_code 239 = .ok (.iaload, 1) := by decide +kernel
theorem d_x_runAll_240 : decode prog_1_method_58_code 240 = .ok (.iastore, 1) := by decide +kernel
theorem d_x_runAll_241 : decode prog_1_method_58_code 241 = .ok (.goto 107, 3) := by decide +kernel
theorem d_x_runAll_244 : decode prog_1_method_58_code 244 = .ok (.aload_n 0, 1) := by decide +kernel
theorem d_x_runAll_245 : decode prog_1_method_58_code 245 = .ok (.getfield 317, 3) := by decide +kernel
theorem d_x_runAll_248 : decode prog_1_method_58_code 248 = .ok (.aload_n 0, 1) := by decide +kernel
theorem d_x_runAll_249 : decode prog_1_method_58_code 249 = .ok (.aload_n 0, 1) := by decide +kernel
theorem d_x_runAll_250 : decode prog_1_method_58_code 250 = .ok (.getfield 314, 3) := by decide +kernel
theorem d_x_runAll_253 : decode prog_1_method_58_code 253 = .ok (.iload_n 2, 1) := by decide +kernel
theorem d_x_runAll_254 : decode prog_1_method_58_code 254 = .ok (.iaload, 1) := by decide +kernel
theorem d_x_runAll_255 : decode prog_1_method_58_code 255 = .ok (.aload_n 0, 1) := by decide +kernel
theorem d_x_runAll_256 : decode prog_1_method_58_code 256 = .ok (.getfield 193, 3) := by decide +kernel
theorem d_x_runAll_259 : decode prog_1_method_58_code 259 = .ok (.iload_n 1, 1) := by decide +kernel
theorem d_x_runAll_260 : decode prog_1_method_58_code 260 = .ok (.iaload, 1) := by decide +kernel
theorem d_x_runAll_261 : decode prog_1_method_58_code 261 = .ok (.invokevirtual 346, 3) := by decide +kernel
theorem d_x_runAll_264 : decode prog_1_method_58_code 264 = .ok (.aload_n 0, 1) := by decide +kernel
theorem d_x_runAll_265 : decode prog_1_method_58_code 265 = .ok (.getfield 314, 3) := by decide +kernel
theorem d_x_runAll_268 : decode prog_1_method_58_code 268 = .ok (.iload_n 3, 1) := by decide +kernel
theorem d_x_runAll_269 : decode prog_1_method_58_code 269 = .ok (.iaload, 1) := by decide +kernel
theorem d_x_runAll_270 : decode prog_1_method_58_code 270 = .ok (.iastore, 1) := by decide +kernel
theorem d_x_runAll_271 : decode prog_1_method_58_code 271 = .ok (.goto 77, 3) := by decide +kernel
theorem d_x_runAll_274 : decode prog_1_method_58_code 274 = .ok (.iload_n 2, 1) := by decide +kernel
theorem d_x_runAll_275 : decode prog_1_method_58_code 275 = .ok (.istore 5, 2) := by decide +kernel
theorem d_x_runAll_277 : decode prog_1_method_58_code 277 = .ok (.goto 71, 3) := by decide +kernel
theorem d_x_runAll_280 : decode prog_1_method_58_code 280 = .ok (.aload_n 0, 1) := by decide +kernel
theorem d_x_runAll_281 : decode prog_1_method_58_code 281 = .ok (.getfield 314, 3) := by decide +kernel
theorem d_x_runAll_284 : decode prog_1_method_58_code 284 = .ok (.iload_n 2, 1) := by decide +kernel
theorem d_x_runAll_285 : decode prog_1_method_58_code 285 = .ok (.iaload, 1) := by decide +kernel
theorem d_x_runAll_286 : decode prog_1_method_58_code 286 = .ok (.ifCond .ne 7, 3) := by decide +kernel
theorem d_x_runAll_289 : decode prog_1_method_58_code 289 = .ok (.iload_n 3, 1) := by decide +kernel
theorem d_x_runAll_290 : decode prog_1_method_58_code 290 = .ok (.goto 5, 3) := by decide +kernel
theorem d_x_runAll_293 : decode prog_1_method_58_code 293 = .ok (.iload 5, 2) := by decide +kernel
theorem d_x_runAll_295 : decode prog_1_method_58_code 295 = .ok (.istore 5, 2) := by decide +kernel
theorem d_x_runAll_297 : decode prog_1_method_58_code 297 = .ok (.goto 51, 3) := by decide +kernel
theorem d_x_runAll_300 : decode prog_1_method_58_code 300 = .ok (.aload_n 0, 1) := by decide +kernel
theorem d_x_runAll_301 : decode prog_1_method_58_code 301 = .ok (.aload_n 0, 1) := by decide +kernel
theorem d_x_runAll_302 : decode prog_1_method_58_code 302 = .ok (.getfield 314, 3) := by decide +kernel
theorem d_x_runAll_305 : decode prog_1_method_58_code 305 = .ok (.iload_n 2, 1) := by decide +kernel
theorem d_x_runAll_306 : decode prog_1_method_58_code 306 = .ok (.iaload, 1) := by decide +kernel
theorem d_x_runAll_307 : decode prog_1_method_58_code 307 = .ok (.invokevirtual 348, 3) := by decide +kernel
theorem d_x_runAll_310 : decode prog_1_method_58_code 310 = .ok (.goto 38, 3) := by decide +kernel
theorem d_x_runAll_313 : decode prog_1_method_58_code 313 = .ok (.aload_n 0, 1) := by decide +kernel
theorem d_x_runAll_314 : decode prog_1_method_58_code 314 = .ok (.getfield 314, 3) := by decide +kernel
theorem d_x_runAll_317 : decode prog_1_method_58_code 317 = .ok (.iload_n 2, 1) := by decide +kernel
theorem d_x_runAll_318 : decode prog_1_method_58_code 318 = .ok (.aload_n 0, 1) := by decide +kernel
theorem d_x_runAll_319 : decode prog_1_method_58_code 319 = .ok (.aload_n 0, 1) := by decide +kernel
theorem d_x_runAll_320 : decode prog_1_method_58_code 320 = .ok (.getfield 186, 3) := by decide +kernel
theorem d_x_runAll_323 : decode prog_1_method_58_code 323 = .ok (.iload_n 1, 1) := by decide +kernel
theorem d_x_runAll_324 : decode prog_1_method_58_code 324 = .ok (.iaload, 1) := by decide +kernel
theorem d_x_runAll_325 : decode prog_1_method_58_code 325 = .ok (.aload_n 0, 1) := by decide +kernel
theorem d_x_runAll_326 : decode prog_1_method_58_code 326 = .ok (.getfield 314, 3) := by decide +kernel
theorem d_x_runAll_329 : decode prog_1_method_58_code 329 = .ok (.iload_n 3, 1) := by decide +kernel
theorem d_x_runAll_330 : decode prog_1_method_58_code 330 = .ok (.iaload, 1) := by decide +kernel
theorem d_x_runAll_331 : decode prog_1_method_58_code 331 = .ok (.aload_n 0, 1) := by decide +kernel
theorem d_x_runAll_332 : decode prog_1_method_58_code 332 = .ok (.getfield 314, 3) := by decide +kernel
theorem d_x_runAll_335 : decode prog_1_method_58_code 335 = .ok (.iload 4, 2) := by decide +kernel
theorem d_x_runAll_337 : decode prog_1_method_58_code 337 = .ok (.iaload, 1) := by decide +kernel
theorem d_x_runAll_338 : decode prog_1_method_58_code 338 = .ok (.aload_n 0, 1) := by decide +kernel
theorem d_x_runAll_339 : decode prog_1_method_58_code 339 = .ok (.getfield 193, 3) := by decide +kernel
theorem d_x_runAll_342 : decode prog_1_method_58_code 342 = .ok (.iload_n 1, 1) := by decide +kernel
theorem d_x_runAll_343 : decode prog_1_method_58_code 343 = .ok (.iaload, 1) := by decide +kernel
theorem d_x_runAll_344 : decode prog_1_method_58_code 344 = .ok (.invokevirtual 343, 3) := by decide +kernel
theorem d_x_runAll_347 : decode prog_1_method_58_code 347 = .ok (.iastore, 1) := by decide +kernel
theorem d_x_runAll_348 : decode prog_1_method_58_code 348 = .ok (.iload 5, 2) := by decide +kernel
theorem d_x_runAll_350 : decode prog_1_method_58_code 350 = .ok (.istore_n 1, 1) := by decide +kernel
theorem d_x_runAll_351 : decode prog_1_method_58_code 351 = .ok (.goto (-349), 3) := by decide +kernel
theorem d_x_runAll_354 : decode prog_1_method_58_code 354 = .ok (.return_, 1) := by decide +kernel
theorem kc_x_runAll : Kw (m_w (mi_x_runAll )) := ⟨(in_t3 (List.mem_of_getElem? (i := 225) rfl)), rfl⟩
theorem mv_x_runAll : MV (mi_x_runAll ) "GuardedMoves" 0 := ⟨kw_704, ks_41, kc_x_runAll , kw_1, ⟨⟨(by show ("GuardedMoves" : String) ≠ "java/lang/invoke/MethodHandle"; decide), (by show ("GuardedMoves" : String) ≠ "java/lang/invoke/VarHandle"; decide)⟩, (by show (parseMethodDescriptor "()V").map (fun d => d.parameters.length) = some 0; decide +kernel)⟩⟩
def w_x_runAll_348 (K2 : Int32 → Sg → Prop) (Q : Sg → Prop) (E : Nat → Sg → Prop) (v5 : Int32) (σ : Sg) : Prop := K2 v5 σ
theorem b_x_runAll_348 {Δ : Ly} {G : Gm} {K2 : Int32 → Sg → Prop} {Q : Sg → Prop} {E : Nat → Sg → Prop} (cx : Cx Δ G mi_x_runAll) (hK2 : ∀ (v1 : Int32) (σ : Sg), K2 v1 σ → Y Δ G mi_x_runAll (qV Q) E 0 0 σ 2 [(0, .ref (Δ.1 0)), (1, .int v1)] []) : ∀ (v5 : Int32) (σ : Sg), w_x_runAll_348 K2 Q E v5 σ → Y Δ G mi_x_runAll (qV Q) E 0 0 σ 348 [(0, .ref (Δ.1 0)), (5, .int v5)] [] := by
  intro v5 σ h
  unfold w_x_runAll_348 at h
  refine y_iload cx (pc := 348) d_x_runAll_348 1 rfl ?_
  refine y_istore_n (lv' := [(1, .int v5), (0, .ref (Δ.1 0)), (5, .int v5)]) cx (pc := 350) d_x_runAll_350 rfl (le_b rfl) rfl ?_
  refine y_goto cx (pc := 351) (tgt := 2) d_x_runAll_351 (by decide) ?_
  refine y_sub [1, 0] rfl ?_
  exact hK2 v5 σ h
def w_x_runAll_295 (K2 : Int32 → Sg → Prop) (Q : Sg → Prop) (E : Nat → Sg → Prop) (s0 : Int32) (σ : Sg) : Prop := w_x_runAll_348 K2 Q E s0 σ
theorem b_x_runAll_295 {Δ : Ly} {G : Gm} {K2 : Int32 → Sg → Prop} {Q : Sg → Prop} {E : Nat → Sg → Prop} (cx : Cx Δ G mi_x_runAll) (hK2 : ∀ (v1 : Int32) (σ : Sg), K2 v1 σ → Y Δ G mi_x_runAll (qV Q) E 0 0 σ 2 [(0, .ref (Δ.1 0)), (1, .int v1)] []) : ∀ (s0 : Int32) (σ : Sg), w_x_runAll_295 K2 Q E s0 σ → Y Δ G mi_x_runAll (qV Q) E 0 0 σ 295 [(0, .ref (Δ.1 0))] [.int s0] := by
  intro s0 σ h
  unfold w_x_runAll_295 at h
  refine y_istore (lv' := [(5, .int s0), (0, .ref (Δ.1 0))]) cx (pc := 295) d_x_runAll_295 (le_b rfl) rfl ?_
  refine y_goto cx (pc := 297) (tgt := 348) d_x_runAll_297 (by decide) ?_
  refine y_sub [1, 0] rfl ?_
  exact b_x_runAll_348 cx hK2 s0 σ h
def w_x_runAll_210 (K2 : Int32 → Sg → Prop) (Q : Sg → Prop) (E : Nat → Sg → Prop) (v5 : Int32) (s0 : Int32) (s1 : Int32) (σ : Sg) : Prop := vp_in s1 3016 ∧ (w_x_runAll_348 K2 Q E v5 (up σ 11 (s1.toNatClampNeg) s0))
theorem b_x_runAll_210 {Δ : Ly} {G : Gm} {K2 : Int32 → Sg → Prop} {Q : Sg → Prop} {E : Nat → Sg → Prop} (cx : Cx Δ G mi_x_runAll) (hK2 : ∀ (v1 : Int32) (σ : Sg), K2 v1 σ → Y Δ G mi_x_runAll (qV Q) E 0 0 σ 2 [(0, .ref (Δ.1 0)), (1, .int v1)] []) : ∀ (v5 : Int32) (s0 : Int32) (s1 : Int32) (σ : Sg), w_x_runAll_210 K2 Q E v5 s0 s1 σ → Y Δ G mi_x_runAll (qV Q) E 0 0 σ 210 [(0, .ref (Δ.1 0)), (5, .int v5)] [.int s0, .int s1, .ref (Δ.1 11)] := by
  intro v5 s0 s1 σ h
  unfold w_x_runAll_210 at h
  obtain ⟨h0, h⟩ := h
  refine y_iast cx (pc := 210) ⟨(le_b rfl), fun _ => rfl⟩ h0 d_x_runAll_210 ?_
  refine y_goto cx (pc := 211) (tgt := 348) d_x_runAll_211 (by decide) ?_
  exact b_x_runAll_348 cx hK2 v5 (up σ 11 (s1.toNatClampNeg) s0) h
def w_x_runAll_2 (Q : Sg → Prop) (E : Nat → Sg → Prop) : Nat → Int32 → Sg → Prop
  | 0, _, _ => False
  | n + 1, v1, σ => ((σ 0 12) ≤ v1 → (Q σ)) ∧ (¬ (σ 0 12) ≤ v1 → (vp_in v1 3000 ∧ (∀ x1 : Int32, x1 = σ 14 (v1.toNatClampNeg) → (vp_in v1 3000 ∧ (∀ x2 : Int32, x2 = σ 15 (v1.toNatClampNeg) → (vp_in v1 3000 ∧ (∀ x3 : Int32, x3 = σ 16 (v1.toNatClampNeg) → (∀ x4 : Int32, x4 = v1 + 1 → (vp_in v1 3000 ∧ (((σ 6 (v1.toNatClampNeg)) = 0 → (vp_in x1 3016 ∧ (w_x_runAll_348 (w_x_runAll_2 Q E n) Q E x4 (up (up σ 0 25 ((σ 0 25) + 1)) 11 (x1.toNatClampNeg) x2)))) ∧ (¬ (σ 6 (v1.toNatClampNeg)) = 0 → (((σ 6 (v1.toNatClampNeg)) = 1 → (vp_in x2 3016 ∧ (vp_in x1 3016 ∧ (w_x_runAll_348 (w_x_runAll_2 Q E n) Q E x4 (up (up σ 0 25 ((σ 0 25) + 1)) 11 (x1.toNatClampNeg) (σ 11 (x2.toNatClampNeg))))))) ∧ (¬ (σ 6 (v1.toNatClampNeg)) = 1 → (((σ 6 (v1.toNatClampNeg)) = 13 → (vp_in x2 3016 ∧ (((σ 11 (x2.toNatClampNeg)) = 0 → (vp_in v1 3000 ∧ (vp_in (σ 17 (v1.toNatClampNeg)) 3016 ∧ (w_x_runAll_210 (w_x_runAll_2 Q E n) Q E x4 (σ 11 ((σ 17 (v1.toNatClampNeg)).toNatClampNeg)) x1 (up σ 0 25 ((σ 0 25) + 1)))))) ∧ (¬ (σ 11 (x2.toNatClampNeg)) = 0 → (vp_in x3 3016 ∧ (w_x_runAll_210 (w_x_runAll_2 Q E n) Q E x4 (σ 11 (x3.toNatClampNeg)) x1 (up σ 0 25 ((σ 0 25) + 1)))))))) ∧ (¬ (σ 6 (v1.toNatClampNeg)) = 13 → (((σ 6 (v1.toNatClampNeg)) = 14 → (vp_in x2 3016 ∧ (vp_in v1 3000 ∧ (w_x_place (σ 11 (x2.toNatClampNeg)) (σ 7 (v1.toNatClampNeg)) (up σ 0 25 ((σ 0 25) + 1)) (fun x5 σ6 => vp_in x5 32 ∧ (vp_in x1 3016 ∧ (w_x_runAll_348 (w_x_runAll_2 Q E n) Q E x4 (up σ6 11 (x1.toNatClampNeg) (σ6 12 (x5.toNatClampNeg)))))) E)))) ∧ (¬ (σ 6 (v1.toNatClampNeg)) = 14 → (((σ 6 (v1.toNatClampNeg)) = 15 → (vp_in x1 3016 ∧ (vp_in v1 3000 ∧ (w_x_place (σ 11 (x1.toNatClampNeg)) (σ 7 (v1.toNatClampNeg)) (up σ 0 25 ((σ 0 25) + 1)) (fun x7 σ8 => vp_in x2 3016 ∧ (vp_in x7 32 ∧ (w_x_runAll_348 (w_x_runAll_2 Q E n) Q E x4 (up σ8 12 (x7.toNatClampNeg) (σ8 11 (x2.toNatClampNeg)))))) E)))) ∧ (¬ (σ 6 (v1.toNatClampNeg)) = 15 → (((σ 6 (v1.toNatClampNeg)) = 16 → (w_x_runAll_348 (w_x_runAll_2 Q E n) Q E x1 (up σ 0 25 ((σ 0 25) + 1)))) ∧ (¬ (σ 6 (v1.toNatClampNeg)) = 16 → (((σ 6 (v1.toNatClampNeg)) = 17 → (vp_in x1 3016 ∧ ((¬ (σ 11 (x1.toNatClampNeg)) = 0 → (w_x_runAll_295 (w_x_runAll_2 Q E n) Q E x4 (up σ 0 25 ((σ 0 25) + 1)))) ∧ ((σ 11 (x1.toNatClampNeg)) = 0 → (w_x_runAll_295 (w_x_runAll_2 Q E n) Q E x2 (up σ 0 25 ((σ 0 25) + 1))))))) ∧ (¬ (σ 6 (v1.toNatClampNeg)) = 17 → (((σ 6 (v1.toNatClampNeg)) = 18 → (vp_in x1 3016 ∧ (w_x_tell_I (σ 11 (x1.toNatClampNeg)) (up σ 0 25 ((σ 0 25) + 1)) (fun σ9 => w_x_runAll_348 (w_x_runAll_2 Q E n) Q E x4 σ9)))) ∧ (¬ (σ 6 (v1.toNatClampNeg)) = 18 → (vp_in v1 3000 ∧ (vp_in x2 3016 ∧ (vp_in x3 3016 ∧ (vp_in v1 3000 ∧ (w_x_reckon (σ 6 (v1.toNatClampNeg)) (σ 11 (x2.toNatClampNeg)) (σ 11 (x3.toNatClampNeg)) (σ 7 (v1.toNatClampNeg)) (up σ 0 25 ((σ 0 25) + 1)) (fun x10 σ11 => vp_in x1 3016 ∧ (w_x_runAll_348 (w_x_runAll_2 Q E n) Q E x4 (up σ11 11 (x1.toNatClampNeg) x10))) E))))))))))))))))))))))))))))))
theorem b_x_runAll_2 {Δ : Ly} {G : Gm} {Q : Sg → Prop} {E : Nat → Sg → Prop} (cx : Cx Δ G mi_x_runAll) : ∀ (n : Nat) (v1 : Int32) (σ : Sg), w_x_runAll_2 Q E n v1 σ → Y Δ G mi_x_runAll (qV Q) E 0 0 σ 2 [(0, .ref (Δ.1 0)), (1, .int v1)] [] := by
  intro n
  induction n with
  | zero => intro v1 σ h; exact h.elim
  | succ n ih =>
    intro v1 σ h
    unfold w_x_runAll_2 at h
    refine y_iload_n cx (pc := 2) d_x_runAll_2 rfl 1 rfl ?_
    refine y_aload_n cx (pc := 3) d_x_runAll_3 rfl 0 rfl ?_
    refine y_get cx (pc := 4) (j := 12) (v := .int (σ 0 12)) (le_b rfl) ck_GM kw_409 (le_b rfl) (gf_0_12 Δ _) d_x_runAll_4 ?_
    refine y_icmp_ge cx (pc := 7) (tgt := 354) d_x_runAll_7 (by decide) (fun hc => ?_) (fun hc => ?_)
    · replace h := h.1 hc
      exact y_vret cx (pc := 354) rfl d_x_runAll_354 (le_b rfl) (le_b rfl) h
    · replace h := h.2 hc
      refine y_aload_n cx (pc := 10) d_x_runAll_10 rfl 0 rfl ?_
      refine y_dup cx (pc := 11) rfl d_x_runAll_11 ?_
      refine y_get cx (pc := 12) (j := 25) (v := .int (σ 0 25)) (le_b rfl) ck_GM kw_422 (le_b rfl) (gf_0_25 Δ _) d_x_runAll_12 ?_
      refine y_iconst cx (pc := 15) ic_1 d_x_runAll_15 ?_
      refine y_iadd cx (pc := 16) d_x_runAll_16 ?_
      refine y_put cx (pc := 17) (j := 25) (ty := .int) (le_b rfl) ck_GM kw_422 (le_b rfl) rfl (t_GM_ok 25 (le_b rfl)) rfl rfl (pf_0_25 Δ) d_x_runAll_17 ?_
      refine y_aload_n cx (pc := 20) d_x_runAll_20 rfl 0 rfl ?_
      refine y_get cx (pc := 21) (j := 10) (v := .ref (Δ.1 34)) (le_b rfl) ck_GM kw_407 (le_b rfl) (gf_0_10 Δ _) d_x_runAll_21 ?_
      refine y_iconst cx (pc := 24) ic_0 d_x_runAll_24 ?_
      refine y_aaldK cx (pc := 25) 0 (base := 14) ⟨(le_b rfl), fun _ => rfl⟩ (vp_dec _ _ (by decide)) (by decide) d_x_runAll_25 ?_
      refine y_iload_n cx (pc := 26) d_x_runAll_26 rfl 1 rfl ?_
      obtain ⟨h0, h⟩ := h
      refine y_iald cx (pc := 27) ⟨(le_b rfl), fun _ => rfl⟩ h0 d_x_runAll_27 ?_
      refine y_topi (fun x1 ex1 => ?_)
      replace h := h x1 ex1
      refine y_istore_n (lv' := [(2, .int x1), (0, .ref (Δ.1 0)), (1, .int v1)]) cx (pc := 28) d_x_runAll_28 rfl (le_b rfl) rfl ?_
      refine y_aload_n cx (pc := 29) d_x_runAll_29 rfl 1 rfl ?_
      refine y_get cx (pc := 30) (j := 10) (v := .ref (Δ.1 34)) (le_b rfl) ck_GM kw_407 (le_b rfl) (gf_0_10 Δ _) d_x_runAll_30 ?_
      refine y_iconst cx (pc := 33) ic_1 d_x_runAll_33 ?_
      refine y_aaldK cx (pc := 34) 1 (base := 14) ⟨(le_b rfl), fun _ => rfl⟩ (vp_dec _ _ (by decide)) (by decide) d_x_runAll_34 ?_
      refine y_iload_n cx (pc := 35) d_x_runAll_35 rfl 2 rfl ?_
      obtain ⟨h0, h⟩ := h
      refine y_iald cx (pc := 36) ⟨(le_b rfl), fun _ => rfl⟩ h0 d_x_runAll_36 ?_
      refine y_topi (fun x2 ex2 => ?_)
      replace h := h x2 ex2
      refine y_istore_n (lv' := [(3, .int x2), (2, .int x1), (0, .ref (Δ.1 0)), (1, .int v1)]) cx (pc := 37) d_x_runAll_37 rfl (le_b rfl) rfl ?_
      refine y_aload_n cx (pc := 38) d_x_runAll_38 rfl 2 rfl ?_
      refine y_get cx (pc := 39) (j := 10) (v := .ref (Δ.1 34)) (le_b rfl) ck_GM kw_407 (le_b rfl) (gf_0_10 Δ _) d_x_runAll_39 ?_
      refine y_iconst cx (pc := 42) ic_2 d_x_runAll_42 ?_
      refine y_aaldK cx (pc := 43) 2 (base := 14) ⟨(le_b rfl), fun _ => rfl⟩ (vp_dec _ _ (by decide)) (by decide) d_x_runAll_43 ?_
      refine y_iload_n cx (pc := 44) d_x_runAll_44 rfl 3 rfl ?_
      obtain ⟨h0, h⟩ := h
      refine y_iald cx (pc := 45) ⟨(le_b rfl), fun _ => rfl⟩ h0 d_x_runAll_45 ?_
      refine y_topi (fun x3 ex3 => ?_)
      replace h := h x3 ex3
      refine y_istore (lv' := [(4, .int x3), (3, .int x2), (2, .int x1), (0, .ref (Δ.1 0)), (1, .int v1)]) cx (pc := 46) d_x_runAll_46 (le_b rfl) rfl ?_
      refine y_iload_n cx (pc := 48) d_x_runAll_48 rfl 4 rfl ?_
      refine y_iconst cx (pc := 49) ic_1 d_x_runAll_49 ?_
      refine y_iadd cx (pc := 50) d_x_runAll_50 ?_
      refine y_topi (fun x4 ex4 => ?_)
      replace h := h x4 ex4
      refine y_istore (lv' := [(5, .int x4), (4, .int x3), (3, .int x2), (2, .int x1), (0, .ref (Δ.1 0)), (1, .int v1)]) cx (pc := 51) d_x_runAll_51 (le_b rfl) rfl ?_
      refine y_aload_n cx (pc := 53) d_x_runAll_53 rfl 4 rfl ?_
      refine y_get cx (pc := 54) (j := 9) (v := .ref (Δ.1 6)) (le_b rfl) ck_GM kw_406 (le_b rfl) (gf_0_9 Δ _) d_x_runAll_54 ?_
      refine y_iload_n cx (pc := 57) d_x_runAll_57 rfl 5 rfl ?_
      obtain ⟨h0, h⟩ := h
      refine y_iald cx (pc := 58) ⟨(le_b rfl), fun _ => rfl⟩ h0 d_x_runAll_58 ?_
      by_cases hc0 : (σ 6 (v1.toNatClampNeg)) = 0
      · replace h := h.1 hc0
        refine y_tIn cx (pc := 59) (tgt := 148) (c := 0) d_x_runAll_59 hc0 (by decide) (by decide) rfl (by decide) ?_
        refine y_aload_n cx (pc := 148) d_x_runAll_148 rfl 4 rfl ?_
        refine y_get cx (pc := 149) (j := 20) (v := .ref (Δ.1 11)) (le_b rfl) ck_GM kw_417 (le_b rfl) (gf_0_20 Δ _) d_x_runAll_149 ?_
        refine y_iload_n cx (pc := 152) d_x_runAll_152 rfl 3 rfl ?_
        refine y_iload_n cx (pc := 153) d_x_runAll_153 rfl 2 rfl ?_
        obtain ⟨h0, h⟩ := h
        refine y_iast cx (pc := 154) ⟨(le_b rfl), fun _ => rfl⟩ h0 d_x_runAll_154 ?_
        refine y_goto cx (pc := 155) (tgt := 348) d_x_runAll_155 (by decide) ?_
        refine y_sub [4, 0] rfl ?_
        exact b_x_runAll_348 cx ih x4 (up (up σ 0 25 ((σ 0 25) + 1)) 11 (x1.toNatClampNeg) x2) h
      replace h := h.2 hc0
      by_cases hc1 : (σ 6 (v1.toNatClampNeg)) = 1
      · replace h := h.1 hc1
        refine y_tIn cx (pc := 59) (tgt := 158) (c := 1) d_x_runAll_59 hc1 (by decide) (by decide) rfl (by decide) ?_
        refine y_aload_n cx (pc := 158) d_x_runAll_158 rfl 4 rfl ?_
        refine y_get cx (pc := 159) (j := 20) (v := .ref (Δ.1 11)) (le_b rfl) ck_GM kw_417 (le_b rfl) (gf_0_20 Δ _) d_x_runAll_159 ?_
        refine y_iload_n cx (pc := 162) d_x_runAll_162 rfl 3 rfl ?_
        refine y_aload_n cx (pc := 163) d_x_runAll_163 rfl 4 rfl ?_
        refine y_get cx (pc := 164) (j := 20) (v := .ref (Δ.1 11)) (le_b rfl) ck_GM kw_417 (le_b rfl) (gf_0_20 Δ _) d_x_runAll_164 ?_
        refine y_iload_n cx (pc := 167) d_x_runAll_167 rfl 2 rfl ?_
        obtain ⟨h0, h⟩ := h
        refine y_iald cx (pc := 168) ⟨(le_b rfl), fun _ => rfl⟩ h0 d_x_runAll_168 ?_
        obtain ⟨h0, h⟩ := h
        refine y_iast cx (pc := 169) ⟨(le_b rfl), fun _ => rfl⟩ h0 d_x_runAll_169 ?_
        refine y_goto cx (pc := 170) (tgt := 348) d_x_runAll_170 (by decide) ?_
        refine y_sub [4, 0] rfl ?_
        exact b_x_runAll_348 cx ih x4 (up (up σ 0 25 ((σ 0 25) + 1)) 11 (x1.toNatClampNeg) (σ 11 (x2.toNatClampNeg))) h
      replace h := h.2 hc1
      by_cases hc13 : (σ 6 (v1.toNatClampNeg)) = 13
      · replace h := h.1 hc13
        refine y_tIn cx (pc := 59) (tgt := 173) (c := 13) d_x_runAll_59 hc13 (by decide) (by decide) rfl (by decide) ?_
        refine y_aload_n cx (pc := 173) d_x_runAll_173 rfl 4 rfl ?_
        refine y_get cx (pc := 174) (j := 20) (v := .ref (Δ.1 11)) (le_b rfl) ck_GM kw_417 (le_b rfl) (gf_0_20 Δ _) d_x_runAll_174 ?_
        refine y_iload_n cx (pc := 177) d_x_runAll_177 rfl 3 rfl ?_
        refine y_aload_n cx (pc := 178) d_x_runAll_178 rfl 4 rfl ?_
        refine y_get cx (pc := 179) (j := 20) (v := .ref (Δ.1 11)) (le_b rfl) ck_GM kw_417 (le_b rfl) (gf_0_20 Δ _) d_x_runAll_179 ?_
        refine y_iload_n cx (pc := 182) d_x_runAll_182 rfl 2 rfl ?_
        obtain ⟨h0, h⟩ := h
        refine y_iald cx (pc := 183) ⟨(le_b rfl), fun _ => rfl⟩ h0 d_x_runAll_183 ?_
        refine y_if_eq cx (pc := 184) (tgt := 197) d_x_runAll_184 (by decide) (fun hc => ?_) (fun hc => ?_)
        · replace h := h.1 hc
          refine y_aload_n cx (pc := 197) d_x_runAll_197 rfl 4 rfl ?_
          refine y_get cx (pc := 198) (j := 20) (v := .ref (Δ.1 11)) (le_b rfl) ck_GM kw_417 (le_b rfl) (gf_0_20 Δ _) d_x_runAll_198 ?_
          refine y_aload_n cx (pc := 201) d_x_runAll_201 rfl 4 rfl ?_
          refine y_get cx (pc := 202) (j := 10) (v := .ref (Δ.1 34)) (le_b rfl) ck_GM kw_407 (le_b rfl) (gf_0_10 Δ _) d_x_runAll_202 ?_
          refine y_iconst cx (pc := 205) ic_3 d_x_runAll_205 ?_
          refine y_aaldK cx (pc := 206) 3 (base := 14) ⟨(le_b rfl), fun _ => rfl⟩ (vp_dec _ _ (by decide)) (by decide) d_x_runAll_206 ?_
          refine y_iload_n cx (pc := 207) d_x_runAll_207 rfl 5 rfl ?_
          obtain ⟨h0, h⟩ := h
          refine y_iald cx (pc := 208) ⟨(le_b rfl), fun _ => rfl⟩ h0 d_x_runAll_208 ?_
          obtain ⟨h0, h⟩ := h
          refine y_iald cx (pc := 209) ⟨(le_b rfl), fun _ => rfl⟩ h0 d_x_runAll_209 ?_
          refine y_sub [4, 0] rfl ?_
          exact b_x_runAll_210 cx ih x4 (σ 11 ((σ 17 (v1.toNatClampNeg)).toNatClampNeg)) x1 (up σ 0 25 ((σ 0 25) + 1)) h
        · replace h := h.2 hc
          refine y_aload_n cx (pc := 187) d_x_runAll_187 rfl 4 rfl ?_
          refine y_get cx (pc := 188) (j := 20) (v := .ref (Δ.1 11)) (le_b rfl) ck_GM kw_417 (le_b rfl) (gf_0_20 Δ _) d_x_runAll_188 ?_
          refine y_iload cx (pc := 191) d_x_runAll_191 1 rfl ?_
          obtain ⟨h0, h⟩ := h
          refine y_iald cx (pc := 193) ⟨(le_b rfl), fun _ => rfl⟩ h0 d_x_runAll_193 ?_
          refine y_goto cx (pc := 194) (tgt := 210) d_x_runAll_194 (by decide) ?_
          refine y_sub [4, 0] rfl ?_
          exact b_x_runAll_210 cx ih x4 (σ 11 (x3.toNatClampNeg)) x1 (up σ 0 25 ((σ 0 25) + 1)) h
      replace h := h.2 hc13
      by_cases hc14 : (σ 6 (v1.toNatClampNeg)) = 14
      · replace h := h.1 hc14
        refine y_tIn cx (pc := 59) (tgt := 214) (c := 14) d_x_runAll_59 hc14 (by decide) (by decide) rfl (by decide) ?_
        refine y_aload_n cx (pc := 214) d_x_runAll_214 rfl 4 rfl ?_
        refine y_get cx (pc := 215) (j := 20) (v := .ref (Δ.1 11)) (le_b rfl) ck_GM kw_417 (le_b rfl) (gf_0_20 Δ _) d_x_runAll_215 ?_
        refine y_iload_n cx (pc := 218) d_x_runAll_218 rfl 3 rfl ?_
        refine y_aload_n cx (pc := 219) d_x_runAll_219 rfl 4 rfl ?_
        refine y_get cx (pc := 220) (j := 21) (v := .ref (Δ.1 12)) (le_b rfl) ck_GM kw_418 (le_b rfl) (gf_0_21 Δ _) d_x_runAll_220 ?_
        refine y_aload_n cx (pc := 223) d_x_runAll_223 rfl 4 rfl ?_
        refine y_aload_n cx (pc := 224) d_x_runAll_224 rfl 4 rfl ?_
        refine y_get cx (pc := 225) (j := 20) (v := .ref (Δ.1 11)) (le_b rfl) ck_GM kw_417 (le_b rfl) (gf_0_20 Δ _) d_x_runAll_225 ?_
        refine y_iload_n cx (pc := 228) d_x_runAll_228 rfl 2 rfl ?_
        obtain ⟨h0, h⟩ := h
        refine y_iald cx (pc := 229) ⟨(le_b rfl), fun _ => rfl⟩ h0 d_x_runAll_229 ?_
        refine y_aload_n cx (pc := 230) d_x_runAll_230 rfl 4 rfl ?_
        refine y_get cx (pc := 231) (j := 11) (v := .ref (Δ.1 7)) (le_b rfl) ck_GM kw_408 (le_b rfl) (gf_0_11 Δ _) d_x_runAll_231 ?_
        refine y_iload_n cx (pc := 234) d_x_runAll_234 rfl 5 rfl ?_
        obtain ⟨h0, h⟩ := h
        refine y_iald cx (pc := 235) ⟨(le_b rfl), fun _ => rfl⟩ h0 d_x_runAll_235 ?_
        refine y_vI cx (pc := 236) (st := [.ref (Δ.1 12), .int x1, .ref (Δ.1 11)]) [.int (σ 11 (x2.toNatClampNeg)), .int (σ 7 (v1.toNatClampNeg))] (c_x_place cx.fl Δ (σ 11 (x2.toNatClampNeg)) (σ 7 (v1.toNatClampNeg)) _ _ _ h) mv_x_place kw_229 (oc_0 Δ) ck_GM rfl (le_b rfl) (le_b rfl) (le_b rfl) (le_b rfl) (le_b rfl) d_x_runAll_236 (fun x5 σ6 h => ?_) (fun x σ6 h => ?_)
        ·
          obtain ⟨h0, h⟩ := h
          refine y_iald cx (pc := 239) ⟨(le_b rfl), fun _ => rfl⟩ h0 d_x_runAll_239 ?_
          obtain ⟨h0, h⟩ := h
          refine y_iast cx (pc := 240) ⟨(le_b rfl), fun _ => rfl⟩ h0 d_x_runAll_240 ?_
          refine y_goto cx (pc := 241) (tgt := 348) d_x_runAll_241 (by decide) ?_
          refine y_sub [4, 0] rfl ?_
          exact b_x_runAll_348 cx ih x4 (up σ6 11 (x1.toNatClampNeg) (σ6 12 (x5.toNatClampNeg))) h
        ·
          exact t_out cx rfl (le_b rfl) (le_b rfl) h
      replace h := h.2 hc14
      by_cases hc15 : (σ 6 (v1.toNatClampNeg)) = 15
      · replace h := h.1 hc15
        refine y_tIn cx (pc := 59) (tgt := 244) (c := 15) d_x_runAll_59 hc15 (by decide) (by decide) rfl (by decide) ?_
        refine y_aload_n cx (pc := 244) d_x_runAll_244 rfl 4 rfl ?_
        refine y_get cx (pc := 245) (j := 21) (v := .ref (Δ.1 12)) (le_b rfl) ck_GM kw_418 (le_b rfl) (gf_0_21 Δ _) d_x_runAll_245 ?_
        refine y_aload_n cx (pc := 248) d_x_runAll_248 rfl 4 rfl ?_
        refine y_aload_n cx (pc := 249) d_x_runAll_249 rfl 4 rfl ?_
        refine y_get cx (pc := 250) (j := 20) (v := .ref (Δ.1 11)) (le_b rfl) ck_GM kw_417 (le_b rfl) (gf_0_20 Δ _) d_x_runAll_250 ?_
        refine y_iload_n cx (pc := 253) d_x_runAll_253 rfl 3 rfl ?_
        obtain ⟨h0, h⟩ := h
        refine y_iald cx (pc := 254) ⟨(le_b rfl), fun _ => rfl⟩ h0 d_x_runAll_254 ?_
        refine y_aload_n cx (pc := 255) d_x_runAll_255 rfl 4 rfl ?_
        refine y_get cx (pc := 256) (j := 11) (v := .ref (Δ.1 7)) (le_b rfl) ck_GM kw_408 (le_b rfl) (gf_0_11 Δ _) d_x_runAll_256 ?_
        refine y_iload_n cx (pc := 259) d_x_runAll_259 rfl 5 rfl ?_
        obtain ⟨h0, h⟩ := h
        refine y_iald cx (pc := 260) ⟨(le_b rfl), fun _ => rfl⟩ h0 d_x_runAll_260 ?_
        refine y_vI cx (pc := 261) (st := [.ref (Δ.1 12)]) [.int (σ 11 (x1.toNatClampNeg)), .int (σ 7 (v1.toNatClampNeg))] (c_x_place cx.fl Δ (σ 11 (x1.toNatClampNeg)) (σ 7 (v1.toNatClampNeg)) _ _ _ h) mv_x_place kw_229 (oc_0 Δ) ck_GM rfl (le_b rfl) (le_b rfl) (le_b rfl) (le_b rfl) (le_b rfl) d_x_runAll_261 (fun x7 σ8 h => ?_) (fun x σ8 h => ?_)
        ·
          refine y_aload_n cx (pc := 264) d_x_runAll_264 rfl 4 rfl ?_
          refine y_get cx (pc := 265) (j := 20) (v := .ref (Δ.1 11)) (le_b rfl) ck_GM kw_417 (le_b rfl) (gf_0_20 Δ _) d_x_runAll_265 ?_
          refine y_iload_n cx (pc := 268) d_x_runAll_268 rfl 2 rfl ?_
          obtain ⟨h0, h⟩ := h
          refine y_iald cx (pc := 269) ⟨(le_b rfl), fun _ => rfl⟩ h0 d_x_runAll_269 ?_
          obtain ⟨h0, h⟩ := h
          refine y_iast cx (pc := 270) ⟨(le_b rfl), fun _ => rfl⟩ h0 d_x_runAll_270 ?_
          refine y_goto cx (pc := 271) (tgt := 348) d_x_runAll_271 (by decide) ?_
          refine y_sub [4, 0] rfl ?_
          exact b_x_runAll_348 cx ih x4 (up σ8 12 (x7.toNatClampNeg) (σ8 11 (x2.toNatClampNeg))) h
        ·
          exact t_out cx rfl (le_b rfl) (le_b rfl) h
      replace h := h.2 hc15
      by_cases hc16 : (σ 6 (v1.toNatClampNeg)) = 16
      · replace h := h.1 hc16
        refine y_tIn cx (pc := 59) (tgt := 274) (c := 16) d_x_runAll_59 hc16 (by decide) (by decide) rfl (by decide) ?_
        refine y_iload_n cx (pc := 274) d_x_runAll_274 rfl 3 rfl ?_
        refine y_istore (lv' := [(5, .int x1), (4, .int x3), (3, .int x2), (2, .int x1), (0, .ref (Δ.1 0)), (1, .int v1)]) cx (pc := 275) d_x_runAll_275 (le_b rfl) rfl ?_
        refine y_goto cx (pc := 277) (tgt := 348) d_x_runAll_277 (by decide) ?_
        refine y_sub [4, 0] rfl ?_
        exact b_x_runAll_348 cx ih x1 (up σ 0 25 ((σ 0 25) + 1)) h
      replace h := h.2 hc16
      by_cases hc17 : (σ 6 (v1.toNatClampNeg)) = 17
      · replace h := h.1 hc17
        refine y_tIn cx (pc := 59) (tgt := 280) (c := 17) d_x_runAll_59 hc17 (by decide) (by decide) rfl (by decide) ?_
        refine y_aload_n cx (pc := 280) d_x_runAll_280 rfl 4 rfl ?_
        refine y_get cx (pc := 281) (j := 20) (v := .ref (Δ.1 11)) (le_b rfl) ck_GM kw_417 (le_b rfl) (gf_0_20 Δ _) d_x_runAll_281 ?_
        refine y_iload_n cx (pc := 284) d_x_runAll_284 rfl 3 rfl ?_
        obtain ⟨h0, h⟩ := h
        refine y_iald cx (pc := 285) ⟨(le_b rfl), fun _ => rfl⟩ h0 d_x_runAll_285 ?_
        refine y_if_ne cx (pc := 286) (tgt := 293) d_x_runAll_286 (by decide) (fun hc => ?_) (fun hc => ?_)
        · replace h := h.1 hc
          refine y_iload cx (pc := 293) d_x_runAll_293 0 rfl ?_
          refine y_sub [4] rfl ?_
          exact b_x_runAll_295 cx ih x4 (up σ 0 25 ((σ 0 25) + 1)) h
        · replace h := h.2 hc
          refine y_iload_n cx (pc := 289) d_x_runAll_289 rfl 2 rfl ?_
          refine y_goto cx (pc := 290) (tgt := 295) d_x_runAll_290 (by decide) ?_
          refine y_sub [4] rfl ?_
          exact b_x_runAll_295 cx ih x2 (up σ 0 25 ((σ 0 25) + 1)) h
      replace h := h.2 hc17
      by_cases hc18 : (σ 6 (v1.toNatClampNeg)) = 18
      · replace h := h.1 hc18
        refine y_tIn cx (pc := 59) (tgt := 300) (c := 18) d_x_runAll_59 hc18 (by decide) (by decide) rfl (by decide) ?_
        refine y_aload_n cx (pc := 300) d_x_runAll_300 rfl 4 rfl ?_
        refine y_aload_n cx (pc := 301) d_x_runAll_301 rfl 4 rfl ?_
        refine y_get cx (pc := 302) (j := 20) (v := .ref (Δ.1 11)) (le_b rfl) ck_GM kw_417 (le_b rfl) (gf_0_20 Δ _) d_x_runAll_302 ?_
        refine y_iload_n cx (pc := 305) d_x_runAll_305 rfl 3 rfl ?_
        obtain ⟨h0, h⟩ := h
        refine y_iald cx (pc := 306) ⟨(le_b rfl), fun _ => rfl⟩ h0 d_x_runAll_306 ?_
        refine y_vV cx (pc := 307) (st := []) [.int (σ 11 (x1.toNatClampNeg))] (c_x_tell_I cx.fl Δ (σ 11 (x1.toNatClampNeg)) _ _ h) mv_x_tell_I kw_234 (oc_0 Δ) ck_GM rfl (le_b rfl) (le_b rfl) (le_b rfl) (le_b rfl) (le_b rfl) d_x_runAll_307 (fun σ9 h => ?_) (fun x σ9 h => yt_no h)
        refine y_goto cx (pc := 310) (tgt := 348) d_x_runAll_310 (by decide) ?_
        refine y_sub [4, 0] rfl ?_
        exact b_x_runAll_348 cx ih x4 σ9 h
      replace h := h.2 hc18
      have hdf : (σ 6 (v1.toNatClampNeg)).toInt < 0 ∨ 18 < (σ 6 (v1.toNatClampNeg)).toInt ∨ (¬ (σ 6 (v1.toNatClampNeg)).toInt < 0 ∧ ¬ 18 < (σ 6 (v1.toNatClampNeg)).toInt ∧ (#[89, 99, 254, 254, 254, 254, 254, 254, 254, 254, 254, 254, 254, 114, 155, 185, 215, 221, 241] : Array Int)[((σ 6 (v1.toNatClampNeg)).toInt - 0).toNat]? = some (254 : Int)) := by
        have z0 := lv_neT hc0 (show (0 : Int32).toInt = 0 from rfl); have z1 := lv_neT hc1 (show (1 : Int32).toInt = 1 from rfl); have z13 := lv_neT hc13 (show (13 : Int32).toInt = 13 from rfl); have z14 := lv_neT hc14 (show (14 : Int32).toInt = 14 from rfl); have z15 := lv_neT hc15 (show (15 : Int32).toInt = 15 from rfl); have z16 := lv_neT hc16 (show (16 : Int32).toInt = 16 from rfl); have z17 := lv_neT hc17 (show (17 : Int32).toInt = 17 from rfl); have z18 := lv_neT hc18 (show (18 : Int32).toInt = 18 from rfl)
        rcases (show (σ 6 (v1.toNatClampNeg)).toInt < 0 ∨ 18 < (σ 6 (v1.toNatClampNeg)).toInt ∨ (σ 6 (v1.toNatClampNeg)).toInt = 2 ∨ (σ 6 (v1.toNatClampNeg)).toInt = 3 ∨ (σ 6 (v1.toNatClampNeg)).toInt = 4 ∨ (σ 6 (v1.toNatClampNeg)).toInt = 5 ∨ (σ 6 (v1.toNatClampNeg)).toInt = 6 ∨ (σ 6 (v1.toNatClampNeg)).toInt = 7 ∨ (σ 6 (v1.toNatClampNeg)).toInt = 8 ∨ (σ 6 (v1.toNatClampNeg)).toInt = 9 ∨ (σ 6 (v1.toNatClampNeg)).toInt = 10 ∨ (σ 6 (v1.toNatClampNeg)).toInt = 11 ∨ (σ 6 (v1.toNatClampNeg)).toInt = 12 by omega) with e | e | e | e | e | e | e | e | e | e | e | e | e
        · exact Or.inl e
        · exact Or.inr (Or.inl e)
        all_goals exact Or.inr (Or.inr ⟨by rw [e]; decide, by rw [e]; decide, by rw [e]; rfl⟩)
      refine y_tDf cx (pc := 59) (tgt := 313) d_x_runAll_59 hdf (by decide) ?_
      refine y_aload_n cx (pc := 313) d_x_runAll_313 rfl 4 rfl ?_
      refine y_get cx (pc := 314) (j := 20) (v := .ref (Δ.1 11)) (le_b rfl) ck_GM kw_417 (le_b rfl) (gf_0_20 Δ _) d_x_runAll_314 ?_
      refine y_iload_n cx (pc := 317) d_x_runAll_317 rfl 3 rfl ?_
      refine y_aload_n cx (pc := 318) d_x_runAll_318 rfl 4 rfl ?_
      refine y_aload_n cx (pc := 319) d_x_runAll_319 rfl 4 rfl ?_
      refine y_get cx (pc := 320) (j := 9) (v := .ref (Δ.1 6)) (le_b rfl) ck_GM kw_406 (le_b rfl) (gf_0_9 Δ _) d_x_runAll_320 ?_
      refine y_iload_n cx (pc := 323) d_x_runAll_323 rfl 5 rfl ?_
      obtain ⟨h0, h⟩ := h
      refine y_iald cx (pc := 324) ⟨(le_b rfl), fun _ => rfl⟩ h0 d_x_runAll_324 ?_
      refine y_aload_n cx (pc := 325) d_x_runAll_325 rfl 4 rfl ?_
      refine y_get cx (pc := 326) (j := 20) (v := .ref (Δ.1 11)) (le_b rfl) ck_GM kw_417 (le_b rfl) (gf_0_20 Δ _) d_x_runAll_326 ?_
      refine y_iload_n cx (pc := 329) d_x_runAll_329 rfl 2 rfl ?_
      obtain ⟨h0, h⟩ := h
      refine y_iald cx (pc := 330) ⟨(le_b rfl), fun _ => rfl⟩ h0 d_x_runAll_330 ?_
      refine y_aload_n cx (pc := 331) d_x_runAll_331 rfl 4 rfl ?_
      refine y_get cx (pc := 332) (j := 20) (v := .ref (Δ.1 11)) (le_b rfl) ck_GM kw_417 (le_b rfl) (gf_0_20 Δ _) d_x_runAll_332 ?_
      refine y_iload cx (pc := 335) d_x_runAll_335 1 rfl ?_
      obtain ⟨h0, h⟩ := h
      refine y_iald cx (pc := 337) ⟨(le_b rfl), fun _ => rfl⟩ h0 d_x_runAll_337 ?_
      refine y_aload_n cx (pc := 338) d_x_runAll_338 rfl 4 rfl ?_
      refine y_get cx (pc := 339) (j := 11) (v := .ref (Δ.1 7)) (le_b rfl) ck_GM kw_408 (le_b rfl) (gf_0_11 Δ _) d_x_runAll_339 ?_
      refine y_iload_n cx (pc := 342) d_x_runAll_342 rfl 5 rfl ?_
      obtain ⟨h0, h⟩ := h
      refine y_iald cx (pc := 343) ⟨(le_b rfl), fun _ => rfl⟩ h0 d_x_runAll_343 ?_
      refine y_vI cx (pc := 344) (st := [.int x1, .ref (Δ.1 11)]) [.int (σ 6 (v1.toNatClampNeg)), .int (σ 11 (x2.toNatClampNeg)), .int (σ 11 (x3.toNatClampNeg)), .int (σ 7 (v1.toNatClampNeg))] (c_x_reckon cx.fl Δ (σ 6 (v1.toNatClampNeg)) (σ 11 (x2.toNatClampNeg)) (σ 11 (x3.toNatClampNeg)) (σ 7 (v1.toNatClampNeg)) _ _ _ h) mv_x_reckon kw_221 (oc_0 Δ) ck_GM rfl (le_b rfl) (le_b rfl) (le_b rfl) (le_b rfl) (le_b rfl) d_x_runAll_344 (fun x10 σ11 h => ?_) (fun x σ11 h => ?_)
      ·
        obtain ⟨h0, h⟩ := h
        refine y_iast cx (pc := 347) ⟨(le_b rfl), fun _ => rfl⟩ h0 d_x_runAll_347 ?_
        refine y_sub [4, 0] rfl ?_
        exact b_x_runAll_348 cx ih x4 (up σ11 11 (x1.toNatClampNeg) x10) h
      ·
        exact t_out cx rfl (le_b rfl) (le_b rfl) h
def w_x_runAll (σ : Sg) (Q : Sg → Prop) (E : Nat → Sg → Prop) : Prop := ∃ q2, w_x_runAll_2 Q E q2 0 σ
theorem b_x_runAll {Δ : Ly} {G : Gm} {Q : Sg → Prop} {E : Nat → Sg → Prop} (cx : Cx Δ G mi_x_runAll) (σ : Sg) (h : w_x_runAll σ Q E) : Y Δ G mi_x_runAll (qV Q) E 0 0 σ 0 [(0, .ref (Δ.1 0))] [] := by
  unfold w_x_runAll at h
  refine y_iconst cx (pc := 0) ic_0 d_x_runAll_0 ?_
  refine y_istore_n (lv' := [(1, .int 0), (0, .ref (Δ.1 0))]) cx (pc := 1) d_x_runAll_1 rfl (le_b rfl) rfl ?_
  refine y_sub [1, 0] rfl ?_
  obtain ⟨n, h⟩ := h
  exact b_x_runAll_2 cx n 0 σ h
theorem c_x_runAll {l : Launch} (hfl : l.flags = flags0) (Δ : Ly) (σ : Sg) (Q : Sg → Prop) (E : Nat → Sg → Prop) (h : w_x_runAll σ Q E) : Ct l Δ mi_x_runAll [.ref (Δ.1 0)] σ (qV Q) E :=
  Ct.of hfl (by show plainFor ⟨"GuardedMoves", "runAll", "()V"⟩ = true; decide +kernel) rfl (le_b rfl) (fun G hl cx => b_x_runAll cx σ h)
def mi_x_run : Mi := ("GuardedMoves", prog_1_method_59_code, 2, [(11, 16, 17, 307)], (some .int), 9, 224, 1, 6, ⟨"GuardedMoves", "run", "()I"⟩)
theorem d_x_run_0 : decode prog_1_method_59_code 0 = .ok (.aload_n 0, 1) := by decide +kernel
theorem d_x_run_1 : decode prog_1_method_59_code 1 = .ok (.getfield 179, 3) := by decide +kernel
theorem d_x_run_4 : decode prog_1_method_59_code 4 = .ok (.invokestatic 166, 3) := by decide +kernel
theorem d_x_run_7 : decode prog_1_method_59_code 7 = .ok (.aload_n 0, 1) := by decide +kernel
theorem d_x_run_8 : decode prog_1_method_59_code 8 = .ok (.invokevirtual 354, 3) := by decide +kernel
theorem d_x_run_11 : decode prog_1_method_59_code 11 = .ok (.aload_n 0, 1) := by decide +kernel
theorem d_x_run_12 : decode prog_1_method_59_code 12 = .ok (.invokevirtual 357, 3) := by decide +kernel
theorem d_x_run_15 : decode prog_1_method_59_code 15 = .ok (.iconst 0, 1) := by decide +kernel
theorem d_x_run_16 : decode prog_1_method_59_code 16 = .ok (.ireturn, 1) := by decide +kernel
theorem d_x_run_17 : decode prog_1_method_59_code 17 = .ok (.astore_n 1, 1) := by decide +kernel
theorem d_x_run_18 : decode prog_1_method_59_code 18 = .ok (.aload_n 0, 1) := by decide +kernel
theorem d_x_run_19 : decode prog_1_method_59_code 19 = .ok (.aload_n 1, 1) := by decide +kernel
theorem d_x_run_20 : decode prog_1_method_59_code 20 = .ok (.getfield 311, 3) := by decide +kernel
theorem d_x_run_23 : decode prog_1_method_59_code 23 = .ok (.putfield 323, 3) := by decide +kernel
theorem d_x_run_26 : decode prog_1_method_59_code 26 = .ok (.aload_n 1, 1) := by decide +kernel
theorem d_x_run_27 : decode prog_1_method_59_code 27 = .ok (.getfield 306, 3) := by decide +kernel
theorem d_x_run_30 : decode prog_1_method_59_code 30 = .ok (.ireturn, 1) := by decide +kernel
theorem kc_x_run : Kw (m_w (mi_x_run )) := ⟨(in_t3 (List.mem_of_getElem? (i := 221) rfl)), rfl⟩
theorem mv_x_run : MV (mi_x_run ) "GuardedMoves" 0 := ⟨kw_699, kw_700, kc_x_run , kw_1, ⟨⟨(by show ("GuardedMoves" : String) ≠ "java/lang/invoke/MethodHandle"; decide), (by show ("GuardedMoves" : String) ≠ "java/lang/invoke/VarHandle"; decide)⟩, (by show (parseMethodDescriptor "()I").map (fun d => d.parameters.length) = some 0; decide +kernel)⟩⟩
def w_x_run_17 (Q : Int32 → Sg → Prop) (E : Nat → Sg → Prop) (σ : Sg) : Prop := Q (σ 4 5) (up σ 0 24 (σ 4 6))
theorem b_x_run_17 {Δ : Ly} {G : Gm} {Q : Int32 → Sg → Prop} {E : Nat → Sg → Prop} (cx : Cx Δ G mi_x_run) : ∀ (σ : Sg), w_x_run_17 Q E σ → Y Δ G mi_x_run (qI Q) E 1 6 σ 17 [(0, .ref (Δ.1 0))] [.ref (Δ.1 4)] := by
  intro σ h
  unfold w_x_run_17 at h
  refine y_astore_n (lv' := [(1, .ref (Δ.1 4)), (0, .ref (Δ.1 0))]) cx (pc := 17) d_x_run_17 rfl (le_b rfl) rfl ?_
  refine y_aload_n cx (pc := 18) d_x_run_18 rfl 1 rfl ?_
  refine y_aload_n cx (pc := 19) d_x_run_19 rfl 0 rfl ?_
  refine y_getN cx (pc := 20) (j := 6) (v := .int (σ 4 6)) (le_b rfl) ck_En kw_390 (le_b rfl) (gf_4_6 Δ _) d_x_run_20 ?_
  refine y_put cx (pc := 23) (j := 24) (ty := .int) (le_b rfl) ck_GM kw_421 (le_b rfl) rfl (t_GM_ok 24 (le_b rfl)) rfl rfl (pf_0_24 Δ) d_x_run_23 ?_
  refine y_aload_n cx (pc := 26) d_x_run_26 rfl 0 rfl ?_
  refine y_getN cx (pc := 27) (j := 5) (v := .int (σ 4 5)) (le_b rfl) ck_En kw_389 (le_b rfl) (gf_4_5 Δ _) d_x_run_27 ?_
  exact y_iret cx (pc := 30) rfl d_x_run_30 (le_b rfl) (le_b rfl) h
def w_x_run (σ : Sg) (Q : Int32 → Sg → Prop) (E : Nat → Sg → Prop) : Prop := w_x_wantState (σ 0 14) σ (fun σ1 => w_x_beginRun σ1 (fun σ2 => w_x_runAll σ2 (fun σ3 => Q 0 σ3) (fun x σ3 => (x = 1 ∧ (w_x_run_17 Q E σ3))))) E
theorem b_x_run {Δ : Ly} {G : Gm} {Q : Int32 → Sg → Prop} {E : Nat → Sg → Prop} (cx : Cx Δ G mi_x_run) (σ : Sg) (h : w_x_run σ Q E) : Y Δ G mi_x_run (qI Q) E 0 0 σ 0 [(0, .ref (Δ.1 0))] [] := by
  unfold w_x_run at h
  refine y_aload_n cx (pc := 0) d_x_run_0 rfl 0 rfl ?_
  refine y_get cx (pc := 1) (j := 14) (v := .int (σ 0 14)) (le_b rfl) ck_GM kw_411 (le_b rfl) (gf_0_14 Δ _) d_x_run_1 ?_
  refine y_sV cx (pc := 4) (st := []) [.int (σ 0 14)] (c_x_wantState cx.fl Δ (σ 0 14) _ _ _ h) mv_x_wantState kw_577 rfl (le_b rfl) (le_b rfl) (le_b rfl) (le_b rfl) (le_b rfl) d_x_run_4 (fun σ1 h => ?_) (fun x σ1 h => ?_)
  ·
    refine y_aload_n cx (pc := 7) d_x_run_7 rfl 0 rfl ?_
    refine y_vV cx (pc := 8) (st := []) [] (c_x_beginRun cx.fl Δ _ _ h) mv_x_beginRun kw_201 (oc_0 Δ) ck_GM rfl (le_b rfl) (le_b rfl) (le_b rfl) (le_b rfl) (le_b rfl) d_x_run_8 (fun σ2 h => ?_) (fun x σ2 h => yt_no h)
    refine y_aload_n cx (pc := 11) d_x_run_11 rfl 0 rfl ?_
    refine y_vV cx (pc := 12) (st := []) [] (c_x_runAll cx.fl Δ _ _ _ h) mv_x_runAll kw_702 (oc_0 Δ) ck_GM rfl (le_b rfl) (le_b rfl) (le_b rfl) (le_b rfl) (le_b rfl) d_x_run_12 (fun σ3 h => ?_) (fun x σ3 h => ?_)
    ·
      refine y_iconst cx (pc := 15) ic_0 d_x_run_15 ?_
      exact y_iret cx (pc := 16) rfl d_x_run_16 (le_b rfl) (le_b rfl) h
    ·
      obtain ⟨rfl, h⟩ := h
      refine t_catch1 cx rfl (le_b rfl) (le_b rfl) (by decide) kw_200 (fun a ha hb => ?_)
      obtain rfl := hb rfl
      exact b_x_run_17 cx σ3 h
  ·
    exact t_out cx rfl (le_b rfl) (le_b rfl) h
theorem c_x_run {l : Launch} (hfl : l.flags = flags0) (Δ : Ly) (σ : Sg) (Q : Int32 → Sg → Prop) (E : Nat → Sg → Prop) (h : w_x_run σ Q E) : Ct l Δ mi_x_run [.ref (Δ.1 0)] σ (qI Q) E :=
  Ct.of hfl (by show plainFor ⟨"GuardedMoves", "run", "()I"⟩ = true; decide +kernel) rfl (le_b rfl) (fun G hl cx => b_x_run cx σ h)
def mi_x_left : Mi := ("GuardedMoves", prog_1_method_60_code, 2, [], (some .int), 9, 224, 1, 6, ⟨"GuardedMoves", "left", "(I)I"⟩)
theorem d_x_left_0 : decode prog_1_method_60_code 0 = .ok (.iload_n 1, 1) := by decide +kernel
theorem d_x_left_1 : decode prog_1_method_60_code 1 = .ok (.i2l, 1) := by decide +kernel
theorem d_x_left_2 : decode prog_1_method_60_code 2 = .ok (.lconst 0, 1) := by decide +kernel
theorem d_x_left_3 : decode prog_1_method_60_code 3 = .ok (.ldc2_w 296, 3) := by decide +kernel
theorem d_x_left_6 : decode prog_1_method_60_code 6 = .ok (.invokestatic 42, 3) := by decide +kernel
theorem d_x_left_9 : decode prog_1_method_60_code 9 = .ok (.invokestatic 286, 3) := by decide +kernel
theorem d_x_left_12 : decode prog_1_method_60_code 12 = .ok (.aload_n 0, 1) := by decide +kernel
theorem d_x_left_13 : decode prog_1_method_60_code 13 = .ok (.getfield 314, 3) := by decide +kernel
theorem d_x_left_16 : decode prog_1_method_60_code 16 = .ok (.iload_n 1, 1) := by decide +kernel
theorem d_x_left_17 : decode prog_1_method_60_code 17 = .ok (.iaload, 1) := by decide +kernel
theorem d_x_left_18 : decode prog_1_method_60_code 18 = .ok (.ireturn, 1) := by decide +kernel
theorem kc_x_left : Kw (m_w (mi_x_left )) := ⟨(in_t3 (List.mem_of_getElem? (i := 232) rfl)), rfl⟩
theorem mv_x_left : MV (mi_x_left ) "GuardedMoves" 1 := ⟨kw_710, kw_711, kc_x_left , kw_1, ⟨⟨(by show ("GuardedMoves" : String) ≠ "java/lang/invoke/MethodHandle"; decide), (by show ("GuardedMoves" : String) ≠ "java/lang/invoke/VarHandle"; decide)⟩, (by show (parseMethodDescriptor "(I)I").map (fun d => d.parameters.length) = some 1; decide +kernel)⟩⟩
def w_x_left (p1 : Int32) (σ : Sg) (Q : Int32 → Sg → Prop) (E : Nat → Sg → Prop) : Prop := w_x_within (p1.toInt64) 0 15 σ (fun x1 σ2 => w_x_wantIndex x1 σ2 (fun σ3 => vp_in p1 3016 ∧ (Q (σ3 11 (p1.toNatClampNeg)) σ3)) E)
theorem b_x_left {Δ : Ly} {G : Gm} {Q : Int32 → Sg → Prop} {E : Nat → Sg → Prop} (cx : Cx Δ G mi_x_left) (p1 : Int32) (σ : Sg) (h : w_x_left p1 σ Q E) : Y Δ G mi_x_left (qI Q) E 0 0 σ 0 [(0, .ref (Δ.1 0)), (1, .int p1)] [] := by
  unfold w_x_left at h
  refine y_iload_n cx (pc := 0) d_x_left_0 rfl 1 rfl ?_
  refine y_i2l cx (pc := 1) d_x_left_1 ?_
  refine y_lconst cx (pc := 2) (v := 0) lc_0 d_x_left_2 ?_
  refine y_ldc2 cx (pc := 3) kw_517 d_x_left_3 ?_
  refine y_sI cx (pc := 6) (st := []) [.long (p1.toInt64), .long 0, .long 15] (c_x_within cx.fl Δ (p1.toInt64) 0 15 _ _ h) mv_x_within kw_41 rfl (le_b rfl) (le_b rfl) (le_b rfl) (le_b rfl) (le_b rfl) d_x_left_6 (fun x1 σ2 h => ?_) (fun x σ2 h => yt_no h)
  refine y_sV cx (pc := 9) (st := []) [.int x1] (c_x_wantIndex cx.fl Δ x1 _ _ _ h) mv_x_wantIndex kw_518 rfl (le_b rfl) (le_b rfl) (le_b rfl) (le_b rfl) (le_b rfl) d_x_left_9 (fun σ3 h => ?_) (fun x σ3 h => ?_)
  ·
    refine y_aload_n cx (pc := 12) d_x_left_12 rfl 0 rfl ?_
    refine y_get cx (pc := 13) (j := 20) (v := .ref (Δ.1 11)) (le_b rfl) ck_GM kw_417 (le_b rfl) (gf_0_20 Δ _) d_x_left_13 ?_
    refine y_iload_n cx (pc := 16) d_x_left_16 rfl 1 rfl ?_
    obtain ⟨h0, h⟩ := h
    refine y_iald cx (pc := 17) ⟨(le_b rfl), fun _ => rfl⟩ h0 d_x_left_17 ?_
    exact y_iret cx (pc := 18) rfl d_x_left_18 (le_b rfl) (le_b rfl) h
  ·
    exact t_out cx rfl (le_b rfl) (le_b rfl) h
theorem c_x_left {l : Launch} (hfl : l.flags = flags0) (Δ : Ly) (p1 : Int32) (σ : Sg) (Q : Int32 → Sg → Prop) (E : Nat → Sg → Prop) (h : w_x_left p1 σ Q E) : Ct l Δ mi_x_left [.ref (Δ.1 0), .int p1] σ (qI Q) E :=
  Ct.of hfl (by show plainFor ⟨"GuardedMoves", "left", "(I)I"⟩ = true; decide +kernel) rfl (le_b rfl) (fun G hl cx => b_x_left cx p1 σ h)
def mi_x_kept : Mi := ("GuardedMoves", prog_1_method_61_code, 2, [], (some .int), 9, 224, 1, 6, ⟨"GuardedMoves", "kept", "(I)I"⟩)
theorem d_x_kept_0 : decode prog_1_method_61_code 0 = .ok (.iload_n 1, 1) := by decide +kernel
theorem d_x_kept_1 : decode prog_1_method_61_code 1 = .ok (.i2l, 1) := by decide +kernel
theorem d_x_kept_2 : decode prog_1_method_61_code 2 = .ok (.lconst 0, 1) := by decide +kernel
theorem d_x_kept_3 : decode prog_1_method_61_code 3 = .ok (.ldc2_w 256, 3) := by decide +kernel
theorem d_x_kept_6 : decode prog_1_method_61_code 6 = .ok (.invokestatic 42, 3) := by decide +kernel
theorem d_x_kept_9 : decode prog_1_method_61_code 9 = .ok (.invokestatic 286, 3) := by decide +kernel
theorem d_x_kept_12 : decode prog_1_method_61_code 12 = .ok (.aload_n 0, 1) := by decide +kernel
theorem d_x_kept_13 : decode prog_1_method_61_code 13 = .ok (.getfield 317, 3) := by decide +kernel
theorem d_x_kept_16 : decode prog_1_method_61_code 16 = .ok (.iload_n 1, 1) := by decide +kernel
theorem d_x_kept_17 : decode prog_1_method_61_code 17 = .ok (.iaload, 1) := by decide +kernel
theorem d_x_kept_18 : decode prog_1_method_61_code 18 = .ok (.ireturn, 1) := by decide +kernel
theorem kc_x_kept : Kw (m_w (mi_x_kept )) := ⟨(in_t3 (List.mem_of_getElem? (i := 239) rfl)), rfl⟩
theorem mv_x_kept : MV (mi_x_kept ) "GuardedMoves" 1 := ⟨kw_717, kw_718, kc_x_kept , kw_1, ⟨⟨(by show ("GuardedMoves" : String) ≠ "java/lang/invoke/MethodHandle"; decide), (by show ("GuardedMoves" : String) ≠ "java/lang/invoke/VarHandle"; decide)⟩, (by show (parseMethodDescriptor "(I)I").map (fun d => d.parameters.length) = some 1; decide +kernel)⟩⟩
def w_x_kept (p1 : Int32) (σ : Sg) (Q : Int32 → Sg → Prop) (E : Nat → Sg → Prop) : Prop := w_x_within (p1.toInt64) 0 31 σ (fun x1 σ2 => w_x_wantIndex x1 σ2 (fun σ3 => vp_in p1 32 ∧ (Q (σ3 12 (p1.toNatClampNeg)) σ3)) E)
theorem b_x_kept {Δ : Ly} {G : Gm} {Q : Int32 → Sg → Prop} {E : Nat → Sg → Prop} (cx : Cx Δ G mi_x_kept) (p1 : Int32) (σ : Sg) (h : w_x_kept p1 σ Q E) : Y Δ G mi_x_kept (qI Q) E 0 0 σ 0 [(0, .ref (Δ.1 0)), (1, .int p1)] [] := by
  unfold w_x_kept at h
  refine y_iload_n cx (pc := 0) d_x_kept_0 rfl 1 rfl ?_
  refine y_i2l cx (pc := 1) d_x_kept_1 ?_
  refine y_lconst cx (pc := 2) (v := 0) lc_0 d_x_kept_2 ?_
  refine y_ldc2 cx (pc := 3) kw_233 d_x_kept_3 ?_
  refine y_sI cx (pc := 6) (st := []) [.long (p1.toInt64), .long 0, .long 31] (c_x_within cx.fl Δ (p1.toInt64) 0 31 _ _ h) mv_x_within kw_41 rfl (le_b rfl) (le_b rfl) (le_b rfl) (le_b rfl) (le_b rfl) d_x_kept_6 (fun x1 σ2 h => ?_) (fun x σ2 h => yt_no h)
  refine y_sV cx (pc := 9) (st := []) [.int x1] (c_x_wantIndex cx.fl Δ x1 _ _ _ h) mv_x_wantIndex kw_518 rfl (le_b rfl) (le_b rfl) (le_b rfl) (le_b rfl) (le_b rfl) d_x_kept_9 (fun σ3 h => ?_) (fun x σ3 h => ?_)
  ·
    refine y_aload_n cx (pc := 12) d_x_kept_12 rfl 0 rfl ?_
    refine y_get cx (pc := 13) (j := 21) (v := .ref (Δ.1 12)) (le_b rfl) ck_GM kw_418 (le_b rfl) (gf_0_21 Δ _) d_x_kept_13 ?_
    refine y_iload_n cx (pc := 16) d_x_kept_16 rfl 1 rfl ?_
    obtain ⟨h0, h⟩ := h
    refine y_iald cx (pc := 17) ⟨(le_b rfl), fun _ => rfl⟩ h0 d_x_kept_17 ?_
    exact y_iret cx (pc := 18) rfl d_x_kept_18 (le_b rfl) (le_b rfl) h
  ·
    exact t_out cx rfl (le_b rfl) (le_b rfl) h
theorem c_x_kept {l : Launch} (hfl : l.flags = flags0) (Δ : Ly) (p1 : Int32) (σ : Sg) (Q : Int32 → Sg → Prop) (E : Nat → Sg → Prop) (h : w_x_kept p1 σ Q E) : Ct l Δ mi_x_kept [.ref (Δ.1 0), .int p1] σ (qI Q) E :=
  Ct.of hfl (by show plainFor ⟨"GuardedMoves", "kept", "(I)I"⟩ = true; decide +kernel) rfl (le_b rfl) (fun G hl cx => b_x_kept cx p1 σ h)
def mi_x_output : Mi := ("GuardedMoves", prog_1_method_62_code, 2, [], (some .int), 9, 224, 1, 6, ⟨"GuardedMoves", "output", "(I)I"⟩)
theorem d_x_output_0 : decode prog_1_method_62_code 0 = .ok (.iload_n 1, 1) := by decide +kernel
theorem d_x_output_1 : decode prog_1_method_62_code 1 = .ok (.i2l, 1) := by decide +kernel
theorem d_x_output_2 : decode prog_1_method_62_code 2 = .ok (.lconst 0, 1) := by decide +kernel
theorem d_x_output_3 : decode prog_1_method_62_code 3 = .ok (.aload_n 0, 1) := by decide +kernel
theorem d_x_output_4 : decode prog_1_method_62_code 4 = .ok (.getfield 320, 3) := by decide +kernel
theorem d_x_output_7 : decode prog_1_method_62_code 7 = .ok (.iconst 1, 1) := by decide +kernel
theorem d_x_output_8 : decode prog_1_method_62_code 8 = .ok (.isub, 1) := by decide +kernel
theorem d_x_output_9 : decode prog_1_method_62_code 9 = .ok (.i2l, 1) := by decide +kernel
theorem d_x_output_10 : decode prog_1_method_62_code 10 = .ok (.invokestatic 42, 3) := by decide +kernel
theorem d_x_output_13 : decode prog_1_method_62_code 13 = .ok (.invokestatic 286, 3) := by decide +kernel
theorem d_x_output_16 : decode prog_1_method_62_code 16 = .ok (.aload_n 0, 1) := by decide +kernel
theorem d_x_output_17 : decode prog_1_method_62_code 17 = .ok (.getfield 333, 3) := by decide +kernel
theorem d_x_output_20 : decode prog_1_method_62_code 20 = .ok (.iload_n 1, 1) := by decide +kernel
theorem d_x_output_21 : decode prog_1_method_62_code 21 = .ok (.iaload, 1) := by decide +kernel
theorem d_x_output_22 : decode prog_1_method_62_code 22 = .ok (.ireturn, 1) := by decide +kernel
theorem kc_x_output : Kw (m_w (mi_x_output )) := ⟨(in_t4 (List.mem_of_getElem? (i := 6) rfl)), rfl⟩
theorem mv_x_output : MV (mi_x_output ) "GuardedMoves" 1 := ⟨kw_724, kw_725, kc_x_output , kw_1, ⟨⟨(by show ("GuardedMoves" : String) ≠ "java/lang/invoke/MethodHandle"; decide), (by show ("GuardedMoves" : String) ≠ "java/lang/invoke/VarHandle"; decide)⟩, (by show (parseMethodDescriptor "(I)I").map (fun d => d.parameters.length) = some 1; decide +kernel)⟩⟩
def w_x_output (p1 : Int32) (σ : Sg) (Q : Int32 → Sg → Prop) (E : Nat → Sg → Prop) : Prop := w_x_within (p1.toInt64) 0 (((σ 0 23) - 1).toInt64) σ (fun x1 σ2 => w_x_wantIndex x1 σ2 (fun σ3 => vp_in p1 60 ∧ (Q (σ3 13 (p1.toNatClampNeg)) σ3)) E)
theorem b_x_output {Δ : Ly} {G : Gm} {Q : Int32 → Sg → Prop} {E : Nat → Sg → Prop} (cx : Cx Δ G mi_x_output) (p1 : Int32) (σ : Sg) (h : w_x_output p1 σ Q E) : Y Δ G mi_x_output (qI Q) E 0 0 σ 0 [(0, .ref (Δ.1 0)), (1, .int p1)] [] := by
  unfold w_x_output at h
  refine y_iload_n cx (pc := 0) d_x_output_0 rfl 1 rfl ?_
  refine y_i2l cx (pc := 1) d_x_output_1 ?_
  refine y_lconst cx (pc := 2) (v := 0) lc_0 d_x_output_2 ?_
  refine y_aload_n cx (pc := 3) d_x_output_3 rfl 0 rfl ?_
  refine y_get cx (pc := 4) (j := 23) (v := .int (σ 0 23)) (le_b rfl) ck_GM kw_420 (le_b rfl) (gf_0_23 Δ _) d_x_output_4 ?_
  refine y_iconst cx (pc := 7) ic_1 d_x_output_7 ?_
  refine y_isub cx (pc := 8) d_x_output_8 ?_
  refine y_i2l cx (pc := 9) d_x_output_9 ?_
  refine y_sI cx (pc := 10) (st := []) [.long (p1.toInt64), .long 0, .long (((σ 0 23) - 1).toInt64)] (c_x_within cx.fl Δ (p1.toInt64) 0 (((σ 0 23) - 1).toInt64) _ _ h) mv_x_within kw_41 rfl (le_b rfl) (le_b rfl) (le_b rfl) (le_b rfl) (le_b rfl) d_x_output_10 (fun x1 σ2 h => ?_) (fun x σ2 h => yt_no h)
  refine y_sV cx (pc := 13) (st := []) [.int x1] (c_x_wantIndex cx.fl Δ x1 _ _ _ h) mv_x_wantIndex kw_518 rfl (le_b rfl) (le_b rfl) (le_b rfl) (le_b rfl) (le_b rfl) d_x_output_13 (fun σ3 h => ?_) (fun x σ3 h => ?_)
  ·
    refine y_aload_n cx (pc := 16) d_x_output_16 rfl 0 rfl ?_
    refine y_get cx (pc := 17) (j := 22) (v := .ref (Δ.1 13)) (le_b rfl) ck_GM kw_419 (le_b rfl) (gf_0_22 Δ _) d_x_output_17 ?_
    refine y_iload_n cx (pc := 20) d_x_output_20 rfl 1 rfl ?_
    obtain ⟨h0, h⟩ := h
    refine y_iald cx (pc := 21) ⟨(le_b rfl), fun _ => rfl⟩ h0 d_x_output_21 ?_
    exact y_iret cx (pc := 22) rfl d_x_output_22 (le_b rfl) (le_b rfl) h
  ·
    exact t_out cx rfl (le_b rfl) (le_b rfl) h
theorem c_x_output {l : Launch} (hfl : l.flags = flags0) (Δ : Ly) (p1 : Int32) (σ : Sg) (Q : Int32 → Sg → Prop) (E : Nat → Sg → Prop) (h : w_x_output p1 σ Q E) : Ct l Δ mi_x_output [.ref (Δ.1 0), .int p1] σ (qI Q) E :=
  Ct.of hfl (by show plainFor ⟨"GuardedMoves", "output", "(I)I"⟩ = true; decide +kernel) rfl (le_b rfl) (fun G hl cx => b_x_output cx p1 σ h)

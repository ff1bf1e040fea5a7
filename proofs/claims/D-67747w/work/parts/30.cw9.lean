def mi_x_converted : Mi := ("GuardedMoves", prog_1_method_64_code, 3, [], (some .int), 0, 0, 0, 0, ⟨"GuardedMoves", "converted", "()I"⟩)
theorem d_x_converted_0 : decode prog_1_method_64_code 0 = .ok (.iconst 0, 1) := by decide +kernel
theorem d_x_converted_1 : decode prog_1_method_64_code 1 = .ok (.istore_n 1, 1) := by decide +kernel
theorem d_x_converted_2 : decode prog_1_method_64_code 2 = .ok (.iconst 0, 1) := by decide +kernel
theorem d_x_converted_3 : decode prog_1_method_64_code 3 = .ok (.istore_n 2, 1) := by decide +kernel
theorem d_x_converted_4 : decode prog_1_method_64_code 4 = .ok (.iload_n 2, 1) := by decide +kernel
theorem d_x_converted_5 : decode prog_1_method_64_code 5 = .ok (.aload_n 0, 1) := by decide +kernel
theorem d_x_converted_6 : decode prog_1_method_64_code 6 = .ok (.getfield 172, 3) := by decide +kernel
theorem d_x_converted_9 : decode prog_1_method_64_code 9 = .ok (.getfield 106, 3) := by decide +kernel
theorem d_x_converted_12 : decode prog_1_method_64_code 12 = .ok (.if_icmp .ge 46, 3) := by decide +kernel
theorem d_x_converted_15 : decode prog_1_method_64_code 15 = .ok (.iload_n 1, 1) := by decide +kernel
theorem d_x_converted_16 : decode prog_1_method_64_code 16 = .ok (.aload_n 0, 1) := by decide +kernel
theorem d_x_converted_17 : decode prog_1_method_64_code 17 = .ok (.getfield 179, 3) := by decide +kernel
theorem d_x_converted_20 : decode prog_1_method_64_code 20 = .ok (.ifCond .eq 29, 3) := by decide +kernel
theorem d_x_converted_23 : decode prog_1_method_64_code 23 = .ok (.aload_n 0, 1) := by decide +kernel
theorem d_x_converted_24 : decode prog_1_method_64_code 24 = .ok (.getfield 172, 3) := by decide +kernel
theorem d_x_converted_27 : decode prog_1_method_64_code 27 = .ok (.getfield 116, 3) := by decide +kernel
theorem d_x_converted_30 : decode prog_1_method_64_code 30 = .ok (.iload_n 2, 1) := by decide +kernel
theorem d_x_converted_31 : decode prog_1_method_64_code 31 = .ok (.iaload, 1) := by decide +kernel
theorem d_x_converted_32 : decode prog_1_method_64_code 32 = .ok (.iconst 5, 1) := by decide +kernel
theorem d_x_converted_33 : decode prog_1_method_64_code 33 = .ok (.if_icmp .ne 16, 3) := by decide +kernel
theorem d_x_converted_36 : decode prog_1_method_64_code 36 = .ok (.aload_n 0, 1) := by decide +kernel
theorem d_x_converted_37 : decode prog_1_method_64_code 37 = .ok (.getfield 230, 3) := by decide +kernel
theorem d_x_converted_40 : decode prog_1_method_64_code 40 = .ok (.iload_n 2, 1) := by decide +kernel
theorem d_x_converted_41 : decode prog_1_method_64_code 41 = .ok (.baload, 1) := by decide +kernel
theorem d_x_converted_42 : decode prog_1_method_64_code 42 = .ok (.ifCond .eq 7, 3) := by decide +kernel
theorem d_x_converted_45 : decode prog_1_method_64_code 45 = .ok (.iconst 1, 1) := by decide +kernel
theorem d_x_converted_46 : decode prog_1_method_64_code 46 = .ok (.goto 4, 3) := by decide +kernel
theorem d_x_converted_49 : decode prog_1_method_64_code 49 = .ok (.iconst 0, 1) := by decide +kernel
theorem d_x_converted_50 : decode prog_1_method_64_code 50 = .ok (.iadd, 1) := by decide +kernel
theorem d_x_converted_51 : decode prog_1_method_64_code 51 = .ok (.istore_n 1, 1) := by decide +kernel
theorem d_x_converted_52 : decode prog_1_method_64_code 52 = .ok (.iinc 2 1, 3) := by decide +kernel
theorem d_x_converted_55 : decode prog_1_method_64_code 55 = .ok (.goto (-51), 3) := by decide +kernel
theorem d_x_converted_58 : decode prog_1_method_64_code 58 = .ok (.iload_n 1, 1) := by decide +kernel
theorem d_x_converted_59 : decode prog_1_method_64_code 59 = .ok (.ireturn, 1) := by decide +kernel
theorem kc_x_converted : Kw (m_w (mi_x_converted )) := ⟨(in_t4 (List.mem_of_getElem? (i := 21) rfl)), rfl⟩
theorem mv_x_converted : MV (mi_x_converted ) "GuardedMoves" 0 := ⟨kw_740, ks_43, kc_x_converted , kw_1, ⟨⟨(by show ("GuardedMoves" : String) ≠ "java/lang/invoke/MethodHandle"; decide), (by show ("GuardedMoves" : String) ≠ "java/lang/invoke/VarHandle"; decide)⟩, (by show (parseMethodDescriptor "()I").map (fun d => d.parameters.length) = some 0; decide +kernel)⟩⟩
def w_x_converted_50 (K4 : Int32 → Int32 → Sg → Prop) (Q : Int32 → Sg → Prop) (v2 : Int32) (s0 : Int32) (s1 : Int32) (σ : Sg) : Prop := ∀ x1 : Int32, x1 = s1 + s0 → (∀ x2 : Int32, x2 = v2 + 1 → (K4 x1 x2 σ))
theorem b_x_converted_50 {Δ : Ly} {G : Gm} {K4 : Int32 → Int32 → Sg → Prop} {Q : Int32 → Sg → Prop} (cx : Cx Δ G mi_x_converted) (hK4 : ∀ (v1 : Int32) (v2 : Int32) (σ : Sg), K4 v1 v2 σ → Y Δ G mi_x_converted (qI Q) noE 0 0 σ 4 [(0, .ref (Δ.1 0)), (1, .int v1), (2, .int v2)] []) : ∀ (v2 : Int32) (s0 : Int32) (s1 : Int32) (σ : Sg), w_x_converted_50 K4 Q v2 s0 s1 σ → Y Δ G mi_x_converted (qI Q) noE 0 0 σ 50 [(0, .ref (Δ.1 0)), (2, .int v2)] [.int s0, .int s1] := by
  intro v2 s0 s1 σ h
  unfold w_x_converted_50 at h
  refine y_iadd cx (pc := 50) d_x_converted_50 ?_
  refine y_topi (fun x1 ex1 => ?_)
  replace h := h x1 ex1
  refine y_istore_n (lv' := [(1, .int x1), (0, .ref (Δ.1 0)), (2, .int v2)]) cx (pc := 51) d_x_converted_51 rfl (le_b rfl) rfl ?_
  obtain ⟨x2, ex2⟩ : ∃ y : Int32, y = v2 + 1 := ⟨_, rfl⟩
  replace h := h x2 ex2
  refine y_iinc (v := x2) (lv' := [(2, .int x2), (1, .int x1), (0, .ref (Δ.1 0))]) cx (pc := 52) d_x_converted_52 (j := 2) rfl (by rw [ex2]; rfl) (le_b rfl) rfl ?_
  refine y_goto cx (pc := 55) (tgt := 4) d_x_converted_55 (by decide) ?_
  refine y_sub [2, 1, 0] rfl ?_
  exact hK4 x1 x2 σ h
def w_x_converted_49 (K4 : Int32 → Int32 → Sg → Prop) (Q : Int32 → Sg → Prop) (v2 : Int32) (s0 : Int32) (σ : Sg) : Prop := w_x_converted_50 K4 Q v2 0 s0 σ
theorem b_x_converted_49 {Δ : Ly} {G : Gm} {K4 : Int32 → Int32 → Sg → Prop} {Q : Int32 → Sg → Prop} (cx : Cx Δ G mi_x_converted) (hK4 : ∀ (v1 : Int32) (v2 : Int32) (σ : Sg), K4 v1 v2 σ → Y Δ G mi_x_converted (qI Q) noE 0 0 σ 4 [(0, .ref (Δ.1 0)), (1, .int v1), (2, .int v2)] []) : ∀ (v2 : Int32) (s0 : Int32) (σ : Sg), w_x_converted_49 K4 Q v2 s0 σ → Y Δ G mi_x_converted (qI Q) noE 0 0 σ 49 [(0, .ref (Δ.1 0)), (2, .int v2)] [.int s0] := by
  intro v2 s0 σ h
  unfold w_x_converted_49 at h
  refine y_iconst cx (pc := 49) ic_0 d_x_converted_49 ?_
  exact b_x_converted_50 cx hK4 v2 0 s0 σ h
def w_x_converted_4 (Q : Int32 → Sg → Prop) : Nat → Int32 → Int32 → Sg → Prop
  | 0, _, _, _ => False
  | n + 1, v1, v2, σ => ((σ 1 0) ≤ v2 → (Q v1 σ)) ∧ (¬ (σ 1 0) ≤ v2 → (((σ 0 14) = 0 → (w_x_converted_49 (w_x_converted_4 Q n) Q v2 v1 σ)) ∧ (¬ (σ 0 14) = 0 → (vp_in v2 60 ∧ ((¬ (σ 36 (v2.toNatClampNeg)) = 5 → (w_x_converted_49 (w_x_converted_4 Q n) Q v2 v1 σ)) ∧ ((σ 36 (v2.toNatClampNeg)) = 5 → (vp_in v2 60 ∧ (((σ 8 (v2.toNatClampNeg)) = 0 → (w_x_converted_49 (w_x_converted_4 Q n) Q v2 v1 σ)) ∧ (¬ (σ 8 (v2.toNatClampNeg)) = 0 → (w_x_converted_50 (w_x_converted_4 Q n) Q v2 1 v1 σ))))))))))
theorem b_x_converted_4 {Δ : Ly} {G : Gm} {Q : Int32 → Sg → Prop} (cx : Cx Δ G mi_x_converted) : ∀ (n : Nat) (v1 : Int32) (v2 : Int32) (σ : Sg), w_x_converted_4 Q n v1 v2 σ → Y Δ G mi_x_converted (qI Q) noE 0 0 σ 4 [(0, .ref (Δ.1 0)), (1, .int v1), (2, .int v2)] [] := by
  intro n
  induction n with
  | zero => intro v1 v2 σ h; exact h.elim
  | succ n ih =>
    intro v1 v2 σ h
    unfold w_x_converted_4 at h
    refine y_iload_n cx (pc := 4) d_x_converted_4 rfl 2 rfl ?_
    refine y_aload_n cx (pc := 5) d_x_converted_5 rfl 0 rfl ?_
    refine y_get cx (pc := 6) (j := 0) (v := .ref (Δ.1 1)) (le_b rfl) ck_GM kw_397 (le_b rfl) (gf_0_0 Δ _) d_x_converted_6 ?_
    refine y_getN cx (pc := 9) (j := 0) (v := .int (σ 1 0)) (le_b rfl) ck_Tx kw_256 (le_b rfl) (gf_1_0 Δ _) d_x_converted_9 ?_
    refine y_icmp_ge cx (pc := 12) (tgt := 58) d_x_converted_12 (by decide) (fun hc => ?_) (fun hc => ?_)
    · replace h := h.1 hc
      refine y_iload_n cx (pc := 58) d_x_converted_58 rfl 1 rfl ?_
      exact y_iret cx (pc := 59) rfl d_x_converted_59 (le_b rfl) (le_b rfl) h
    · replace h := h.2 hc
      refine y_iload_n cx (pc := 15) d_x_converted_15 rfl 1 rfl ?_
      refine y_aload_n cx (pc := 16) d_x_converted_16 rfl 0 rfl ?_
      refine y_get cx (pc := 17) (j := 14) (v := .int (σ 0 14)) (le_b rfl) ck_GM kw_411 (le_b rfl) (gf_0_14 Δ _) d_x_converted_17 ?_
      refine y_if_eq cx (pc := 20) (tgt := 49) d_x_converted_20 (by decide) (fun hc => ?_) (fun hc => ?_)
      · replace h := h.1 hc
        refine y_sub [0, 2] rfl ?_
        exact b_x_converted_49 cx ih v2 v1 σ h
      · replace h := h.2 hc
        refine y_aload_n cx (pc := 23) d_x_converted_23 rfl 0 rfl ?_
        refine y_get cx (pc := 24) (j := 0) (v := .ref (Δ.1 1)) (le_b rfl) ck_GM kw_397 (le_b rfl) (gf_0_0 Δ _) d_x_converted_24 ?_
        refine y_getN cx (pc := 27) (j := 1) (v := .ref (Δ.1 36)) (le_b rfl) ck_Tx kw_258 (le_b rfl) (gf_1_1 Δ _) d_x_converted_27 ?_
        refine y_iload_n cx (pc := 30) d_x_converted_30 rfl 2 rfl ?_
        obtain ⟨h0, h⟩ := h
        refine y_iald cx (pc := 31) ⟨(le_b rfl), fun _ => rfl⟩ h0 d_x_converted_31 ?_
        refine y_iconst cx (pc := 32) ic_5 d_x_converted_32 ?_
        refine y_icmp_ne cx (pc := 33) (tgt := 49) d_x_converted_33 (by decide) (fun hc => ?_) (fun hc => ?_)
        · replace h := h.1 hc
          refine y_sub [0, 2] rfl ?_
          exact b_x_converted_49 cx ih v2 v1 σ h
        · replace h := h.2 hc
          refine y_aload_n cx (pc := 36) d_x_converted_36 rfl 0 rfl ?_
          refine y_get cx (pc := 37) (j := 15) (v := .ref (Δ.1 8)) (le_b rfl) ck_GM kw_412 (le_b rfl) (gf_0_15 Δ _) d_x_converted_37 ?_
          refine y_iload_n cx (pc := 40) d_x_converted_40 rfl 2 rfl ?_
          obtain ⟨h0, h⟩ := h
          refine y_zald cx (pc := 41) ⟨(le_b rfl), fun _ => rfl⟩ h0 d_x_converted_41 ?_
          refine y_if_eq cx (pc := 42) (tgt := 49) d_x_converted_42 (by decide) (fun hc => ?_) (fun hc => ?_)
          · replace h := h.1 hc
            refine y_sub [0, 2] rfl ?_
            exact b_x_converted_49 cx ih v2 v1 σ h
          · replace h := h.2 hc
            refine y_iconst cx (pc := 45) ic_1 d_x_converted_45 ?_
            refine y_goto cx (pc := 46) (tgt := 50) d_x_converted_46 (by decide) ?_
            refine y_sub [0, 2] rfl ?_
            exact b_x_converted_50 cx ih v2 1 v1 σ h
def w_x_converted (σ : Sg) (Q : Int32 → Sg → Prop) : Prop := ∃ q4, w_x_converted_4 Q q4 0 0 σ
theorem b_x_converted {Δ : Ly} {G : Gm} {Q : Int32 → Sg → Prop} (cx : Cx Δ G mi_x_converted) (σ : Sg) (h : w_x_converted σ Q) : Y Δ G mi_x_converted (qI Q) noE 0 0 σ 0 [(0, .ref (Δ.1 0))] [] := by
  unfold w_x_converted at h
  refine y_iconst cx (pc := 0) ic_0 d_x_converted_0 ?_
  refine y_istore_n (lv' := [(1, .int 0), (0, .ref (Δ.1 0))]) cx (pc := 1) d_x_converted_1 rfl (le_b rfl) rfl ?_
  refine y_iconst cx (pc := 2) ic_0 d_x_converted_2 ?_
  refine y_istore_n (lv' := [(2, .int 0), (1, .int 0), (0, .ref (Δ.1 0))]) cx (pc := 3) d_x_converted_3 rfl (le_b rfl) rfl ?_
  refine y_sub [2, 1, 0] rfl ?_
  obtain ⟨n, h⟩ := h
  exact b_x_converted_4 cx n 0 0 σ h
theorem c_x_converted {l : Launch} (hfl : l.flags = flags0) (Δ : Ly) (σ : Sg) (Q : Int32 → Sg → Prop) (h : w_x_converted σ Q) : Ct l Δ mi_x_converted [.ref (Δ.1 0)] σ (qI Q) noE :=
  Ct.of hfl (by show plainFor ⟨"GuardedMoves", "converted", "()I"⟩ = true; decide +kernel) rfl (le_b rfl) (fun G hl cx => b_x_converted cx σ h)
def mi_x_jumps : Mi := ("GuardedMoves", prog_1_method_63_code, 3, [], (some .int), 0, 0, 0, 0, ⟨"GuardedMoves", "jumps", "()I"⟩)
theorem d_x_jumps_0 : decode prog_1_method_63_code 0 = .ok (.iconst 0, 1) := by decide +kernel
theorem d_x_jumps_1 : decode prog_1_method_63_code 1 = .ok (.istore_n 1, 1) := by decide +kernel
theorem d_x_jumps_2 : decode prog_1_method_63_code 2 = .ok (.iconst 0, 1) := by decide +kernel
theorem d_x_jumps_3 : decode prog_1_method_63_code 3 = .ok (.istore_n 2, 1) := by decide +kernel
theorem d_x_jumps_4 : decode prog_1_method_63_code 4 = .ok (.iload_n 2, 1) := by decide +kernel
theorem d_x_jumps_5 : decode prog_1_method_63_code 5 = .ok (.aload_n 0, 1) := by decide +kernel
theorem d_x_jumps_6 : decode prog_1_method_63_code 6 = .ok (.getfield 183, 3) := by decide +kernel
theorem d_x_jumps_9 : decode prog_1_method_63_code 9 = .ok (.if_icmp .ge 39, 3) := by decide +kernel
theorem d_x_jumps_12 : decode prog_1_method_63_code 12 = .ok (.iload_n 1, 1) := by decide +kernel
theorem d_x_jumps_13 : decode prog_1_method_63_code 13 = .ok (.aload_n 0, 1) := by decide +kernel
theorem d_x_jumps_14 : decode prog_1_method_63_code 14 = .ok (.getfield 186, 3) := by decide +kernel
theorem d_x_jumps_17 : decode prog_1_method_63_code 17 = .ok (.iload_n 2, 1) := by decide +kernel
theorem d_x_jumps_18 : decode prog_1_method_63_code 18 = .ok (.iaload, 1) := by decide +kernel
theorem d_x_jumps_19 : decode prog_1_method_63_code 19 = .ok (.bipush 16, 2) := by decide +kernel
theorem d_x_jumps_21 : decode prog_1_method_63_code 21 = .ok (.if_icmp .eq 14, 3) := by decide +kernel
theorem d_x_jumps_24 : decode prog_1_method_63_code 24 = .ok (.aload_n 0, 1) := by decide +kernel
theorem d_x_jumps_25 : decode prog_1_method_63_code 25 = .ok (.getfield 186, 3) := by decide +kernel
theorem d_x_jumps_28 : decode prog_1_method_63_code 28 = .ok (.iload_n 2, 1) := by decide +kernel
theorem d_x_jumps_29 : decode prog_1_method_63_code 29 = .ok (.iaload, 1) := by decide +kernel
theorem d_x_jumps_30 : decode prog_1_method_63_code 30 = .ok (.bipush 17, 2) := by decide +kernel
theorem d_x_jumps_32 : decode prog_1_method_63_code 32 = .ok (.if_icmp .ne 7, 3) := by decide +kernel
theorem d_x_jumps_35 : decode prog_1_method_63_code 35 = .ok (.iconst 1, 1) := by decide +kernel
theorem d_x_jumps_36 : decode prog_1_method_63_code 36 = .ok (.goto 4, 3) := by decide +kernel
theorem d_x_jumps_39 : decode prog_1_method_63_code 39 = .ok (.iconst 0, 1) := by decide +kernel
theorem d_x_jumps_40 : decode prog_1_method_63_code 40 = .ok (.iadd, 1) := by decide +kernel
theorem d_x_jumps_41 : decode prog_1_method_63_code 41 = .ok (.istore_n 1, 1) := by decide +kernel
theorem d_x_jumps_42 : decode prog_1_method_63_code 42 = .ok (.iinc 2 1, 3) := by decide +kernel
theorem d_x_jumps_45 : decode prog_1_method_63_code 45 = .ok (.goto (-41), 3) := by decide +kernel
theorem d_x_jumps_48 : decode prog_1_method_63_code 48 = .ok (.iload_n 1, 1) := by decide +kernel
theorem d_x_jumps_49 : decode prog_1_method_63_code 49 = .ok (.ireturn, 1) := by decide +kernel
theorem kc_x_jumps : Kw (m_w (mi_x_jumps )) := ⟨(in_t4 (List.mem_of_getElem? (i := 17) rfl)), rfl⟩
theorem mv_x_jumps : MV (mi_x_jumps ) "GuardedMoves" 0 := ⟨kw_736, ks_42, kc_x_jumps , kw_1, ⟨⟨(by show ("GuardedMoves" : String) ≠ "java/lang/invoke/MethodHandle"; decide), (by show ("GuardedMoves" : String) ≠ "java/lang/invoke/VarHandle"; decide)⟩, (by show (parseMethodDescriptor "()I").map (fun d => d.parameters.length) = some 0; decide +kernel)⟩⟩
def w_x_jumps_40 (K4 : Int32 → Int32 → Sg → Prop) (Q : Int32 → Sg → Prop) (v2 : Int32) (s0 : Int32) (s1 : Int32) (σ : Sg) : Prop := ∀ x1 : Int32, x1 = s1 + s0 → (∀ x2 : Int32, x2 = v2 + 1 → (K4 x1 x2 σ))
theorem b_x_jumps_40 {Δ : Ly} {G : Gm} {K4 : Int32 → Int32 → Sg → Prop} {Q : Int32 → Sg → Prop} (cx : Cx Δ G mi_x_jumps) (hK4 : ∀ (v1 : Int32) (v2 : Int32) (σ : Sg), K4 v1 v2 σ → Y Δ G mi_x_jumps (qI Q) noE 0 0 σ 4 [(0, .ref (Δ.1 0)), (1, .int v1), (2, .int v2)] []) : ∀ (v2 : Int32) (s0 : Int32) (s1 : Int32) (σ : Sg), w_x_jumps_40 K4 Q v2 s0 s1 σ → Y Δ G mi_x_jumps (qI Q) noE 0 0 σ 40 [(0, .ref (Δ.1 0)), (2, .int v2)] [.int s0, .int s1] := by
  intro v2 s0 s1 σ h
  unfold w_x_jumps_40 at h
  refine y_iadd cx (pc := 40) d_x_jumps_40 ?_
  refine y_topi (fun x1 ex1 => ?_)
  replace h := h x1 ex1
  refine y_istore_n (lv' := [(1, .int x1), (0, .ref (Δ.1 0)), (2, .int v2)]) cx (pc := 41) d_x_jumps_41 rfl (le_b rfl) rfl ?_
  obtain ⟨x2, ex2⟩ : ∃ y : Int32, y = v2 + 1 := ⟨_, rfl⟩
  replace h := h x2 ex2
  refine y_iinc (v := x2) (lv' := [(2, .int x2), (1, .int x1), (0, .ref (Δ.1 0))]) cx (pc := 42) d_x_jumps_42 (j := 2) rfl (by rw [ex2]; rfl) (le_b rfl) rfl ?_
  refine y_goto cx (pc := 45) (tgt := 4) d_x_jumps_45 (by decide) ?_
  refine y_sub [2, 1, 0] rfl ?_
  exact hK4 x1 x2 σ h
def w_x_jumps_35 (K4 : Int32 → Int32 → Sg → Prop) (Q : Int32 → Sg → Prop) (v2 : Int32) (s0 : Int32) (σ : Sg) : Prop := w_x_jumps_40 K4 Q v2 1 s0 σ
theorem b_x_jumps_35 {Δ : Ly} {G : Gm} {K4 : Int32 → Int32 → Sg → Prop} {Q : Int32 → Sg → Prop} (cx : Cx Δ G mi_x_jumps) (hK4 : ∀ (v1 : Int32) (v2 : Int32) (σ : Sg), K4 v1 v2 σ → Y Δ G mi_x_jumps (qI Q) noE 0 0 σ 4 [(0, .ref (Δ.1 0)), (1, .int v1), (2, .int v2)] []) : ∀ (v2 : Int32) (s0 : Int32) (σ : Sg), w_x_jumps_35 K4 Q v2 s0 σ → Y Δ G mi_x_jumps (qI Q) noE 0 0 σ 35 [(0, .ref (Δ.1 0)), (2, .int v2)] [.int s0] := by
  intro v2 s0 σ h
  unfold w_x_jumps_35 at h
  refine y_iconst cx (pc := 35) ic_1 d_x_jumps_35 ?_
  refine y_goto cx (pc := 36) (tgt := 40) d_x_jumps_36 (by decide) ?_
  exact b_x_jumps_40 cx hK4 v2 1 s0 σ h
def w_x_jumps_4 (Q : Int32 → Sg → Prop) : Nat → Int32 → Int32 → Sg → Prop
  | 0, _, _, _ => False
  | n + 1, v1, v2, σ => ((σ 0 12) ≤ v2 → (Q v1 σ)) ∧ (¬ (σ 0 12) ≤ v2 → (vp_in v2 3000 ∧ (((σ 6 (v2.toNatClampNeg)) = 16 → (w_x_jumps_35 (w_x_jumps_4 Q n) Q v2 v1 σ)) ∧ (¬ (σ 6 (v2.toNatClampNeg)) = 16 → (vp_in v2 3000 ∧ ((¬ (σ 6 (v2.toNatClampNeg)) = 17 → (w_x_jumps_40 (w_x_jumps_4 Q n) Q v2 0 v1 σ)) ∧ ((σ 6 (v2.toNatClampNeg)) = 17 → (w_x_jumps_35 (w_x_jumps_4 Q n) Q v2 v1 σ))))))))
theorem b_x_jumps_4 {Δ : Ly} {G : Gm} {Q : Int32 → Sg → Prop} (cx : Cx Δ G mi_x_jumps) : ∀ (n : Nat) (v1 : Int32) (v2 : Int32) (σ : Sg), w_x_jumps_4 Q n v1 v2 σ → Y Δ G mi_x_jumps (qI Q) noE 0 0 σ 4 [(0, .ref (Δ.1 0)), (1, .int v1), (2, .int v2)] [] := by
  intro n
  induction n with
  | zero => intro v1 v2 σ h; exact h.elim
  | succ n ih =>
    intro v1 v2 σ h
    unfold w_x_jumps_4 at h
    refine y_iload_n cx (pc := 4) d_x_jumps_4 rfl 2 rfl ?_
    refine y_aload_n cx (pc := 5) d_x_jumps_5 rfl 0 rfl ?_
    refine y_get cx (pc := 6) (j := 12) (v := .int (σ 0 12)) (le_b rfl) ck_GM kw_409 (le_b rfl) (gf_0_12 Δ _) d_x_jumps_6 ?_
    refine y_icmp_ge cx (pc := 9) (tgt := 48) d_x_jumps_9 (by decide) (fun hc => ?_) (fun hc => ?_)
    · replace h := h.1 hc
      refine y_iload_n cx (pc := 48) d_x_jumps_48 rfl 1 rfl ?_
      exact y_iret cx (pc := 49) rfl d_x_jumps_49 (le_b rfl) (le_b rfl) h
    · replace h := h.2 hc
      refine y_iload_n cx (pc := 12) d_x_jumps_12 rfl 1 rfl ?_
      refine y_aload_n cx (pc := 13) d_x_jumps_13 rfl 0 rfl ?_
      refine y_get cx (pc := 14) (j := 9) (v := .ref (Δ.1 6)) (le_b rfl) ck_GM kw_406 (le_b rfl) (gf_0_9 Δ _) d_x_jumps_14 ?_
      refine y_iload_n cx (pc := 17) d_x_jumps_17 rfl 2 rfl ?_
      obtain ⟨h0, h⟩ := h
      refine y_iald cx (pc := 18) ⟨(le_b rfl), fun _ => rfl⟩ h0 d_x_jumps_18 ?_
      refine y_bipush cx (pc := 19) bp_16 d_x_jumps_19 ?_
      refine y_icmp_eq cx (pc := 21) (tgt := 35) d_x_jumps_21 (by decide) (fun hc => ?_) (fun hc => ?_)
      · replace h := h.1 hc
        refine y_sub [0, 2] rfl ?_
        exact b_x_jumps_35 cx ih v2 v1 σ h
      · replace h := h.2 hc
        refine y_aload_n cx (pc := 24) d_x_jumps_24 rfl 0 rfl ?_
        refine y_get cx (pc := 25) (j := 9) (v := .ref (Δ.1 6)) (le_b rfl) ck_GM kw_406 (le_b rfl) (gf_0_9 Δ _) d_x_jumps_25 ?_
        refine y_iload_n cx (pc := 28) d_x_jumps_28 rfl 2 rfl ?_
        obtain ⟨h0, h⟩ := h
        refine y_iald cx (pc := 29) ⟨(le_b rfl), fun _ => rfl⟩ h0 d_x_jumps_29 ?_
        refine y_bipush cx (pc := 30) bp_17 d_x_jumps_30 ?_
        refine y_icmp_ne cx (pc := 32) (tgt := 39) d_x_jumps_32 (by decide) (fun hc => ?_) (fun hc => ?_)
        · replace h := h.1 hc
          refine y_iconst cx (pc := 39) ic_0 d_x_jumps_39 ?_
          refine y_sub [0, 2] rfl ?_
          exact b_x_jumps_40 cx ih v2 0 v1 σ h
        · replace h := h.2 hc
          refine y_sub [0, 2] rfl ?_
          exact b_x_jumps_35 cx ih v2 v1 σ h
def w_x_jumps (σ : Sg) (Q : Int32 → Sg → Prop) : Prop := ∃ q4, w_x_jumps_4 Q q4 0 0 σ
theorem b_x_jumps {Δ : Ly} {G : Gm} {Q : Int32 → Sg → Prop} (cx : Cx Δ G mi_x_jumps) (σ : Sg) (h : w_x_jumps σ Q) : Y Δ G mi_x_jumps (qI Q) noE 0 0 σ 0 [(0, .ref (Δ.1 0))] [] := by
  unfold w_x_jumps at h
  refine y_iconst cx (pc := 0) ic_0 d_x_jumps_0 ?_
  refine y_istore_n (lv' := [(1, .int 0), (0, .ref (Δ.1 0))]) cx (pc := 1) d_x_jumps_1 rfl (le_b rfl) rfl ?_
  refine y_iconst cx (pc := 2) ic_0 d_x_jumps_2 ?_
  refine y_istore_n (lv' := [(2, .int 0), (1, .int 0), (0, .ref (Δ.1 0))]) cx (pc := 3) d_x_jumps_3 rfl (le_b rfl) rfl ?_
  refine y_sub [2, 1, 0] rfl ?_
  obtain ⟨n, h⟩ := h
  exact b_x_jumps_4 cx n 0 0 σ h
theorem c_x_jumps {l : Launch} (hfl : l.flags = flags0) (Δ : Ly) (σ : Sg) (Q : Int32 → Sg → Prop) (h : w_x_jumps σ Q) : Ct l Δ mi_x_jumps [.ref (Δ.1 0)] σ (qI Q) noE :=
  Ct.of hfl (by show plainFor ⟨"GuardedMoves", "jumps", "()I"⟩ = true; decide +kernel) rfl (le_b rfl) (fun G hl cx => b_x_jumps cx σ h)
def mi_x_count : Mi := ("GuardedMoves", prog_1_method_65_code, 2, [], (some .int), 9, 224, 1, 6, ⟨"GuardedMoves", "count", "(I)I"⟩)
theorem d_x_count_0 : decode prog_1_method_65_code 0 = .ok (.iload_n 1, 1) := by decide +kernel
theorem d_x_count_1 : decode prog_1_method_65_code 1 = .ok (.i2l, 1) := by decide +kernel
theorem d_x_count_2 : decode prog_1_method_65_code 2 = .ok (.lconst 0, 1) := by decide +kernel
theorem d_x_count_3 : decode prog_1_method_65_code 3 = .ok (.ldc2_w 161, 3) := by decide +kernel
theorem d_x_count_6 : decode prog_1_method_65_code 6 = .ok (.invokestatic 42, 3) := by decide +kernel
theorem d_x_count_9 : decode prog_1_method_65_code 9 = .ok (.invokestatic 163, 3) := by decide +kernel
theorem d_x_count_12 : decode prog_1_method_65_code 12 = .ok (.iload_n 1, 1) := by decide +kernel
theorem d_x_count_13 : decode prog_1_method_65_code 13 = .ok (.tableswitch 118 0 7 #[47, 57, 64, 83, 90, 97, 104, 111], 47) := by decide +kernel
theorem d_x_count_60 : decode prog_1_method_65_code 60 = .ok (.aload_n 0, 1) := by decide +kernel
theorem d_x_count_61 : decode prog_1_method_65_code 61 = .ok (.getfield 172, 3) := by decide +kernel
theorem d_x_count_64 : decode prog_1_method_65_code 64 = .ok (.getfield 106, 3) := by decide +kernel
theorem d_x_count_67 : decode prog_1_method_65_code 67 = .ok (.goto 68, 3) := by decide +kernel
theorem d_x_count_70 : decode prog_1_method_65_code 70 = .ok (.aload_n 0, 1) := by decide +kernel
theorem d_x_count_71 : decode prog_1_method_65_code 71 = .ok (.getfield 183, 3) := by decide +kernel
theorem d_x_count_74 : decode prog_1_method_65_code 74 = .ok (.goto 61, 3) := by decide +kernel
theorem d_x_count_77 : decode prog_1_method_65_code 77 = .ok (.aload_n 0, 1) := by decide +kernel
theorem d_x_count_78 : decode prog_1_method_65_code 78 = .ok (.getfield 179, 3) := by decide +kernel
theorem d_x_count_81 : decode prog_1_method_65_code 81 = .ok (.ifCond .eq 10, 3) := by decide +kernel
theorem d_x_count_84 : decode prog_1_method_65_code 84 = .ok (.aload_n 0, 1) := by decide +kernel
theorem d_x_count_85 : decode prog_1_method_65_code 85 = .ok (.getfield 196, 3) := by decide +kernel
theorem d_x_count_88 : decode prog_1_method_65_code 88 = .ok (.goto 47, 3) := by decide +kernel
theorem d_x_count_91 : decode prog_1_method_65_code 91 = .ok (.bipush 16, 2) := by decide +kernel
theorem d_x_count_93 : decode prog_1_method_65_code 93 = .ok (.goto 42, 3) := by decide +kernel
theorem d_x_count_96 : decode prog_1_method_65_code 96 = .ok (.aload_n 0, 1) := by decide +kernel
theorem d_x_count_97 : decode prog_1_method_65_code 97 = .ok (.invokevirtual 360, 3) := by decide +kernel
theorem d_x_count_100 : decode prog_1_method_65_code 100 = .ok (.goto 35, 3) := by decide +kernel
theorem d_x_count_103 : decode prog_1_method_65_code 103 = .ok (.aload_n 0, 1) := by decide +kernel
theorem d_x_count_104 : decode prog_1_method_65_code 104 = .ok (.invokevirtual 363, 3) := by decide +kernel
theorem d_x_count_107 : decode prog_1_method_65_code 107 = .ok (.goto 28, 3) := by decide +kernel
theorem d_x_count_110 : decode prog_1_method_65_code 110 = .ok (.aload_n 0, 1) := by decide +kernel
theorem d_x_count_111 : decode prog_1_method_65_code 111 = .ok (.getfield 320, 3) := by decide +kernel
theorem d_x_count_114 : decode prog_1_method_65_code 114 = .ok (.goto 21, 3) := by decide +kernel
theorem d_x_count_117 : decode prog_1_method_65_code 117 = .ok (.aload_n 0, 1) := by decide +kernel
theorem d_x_count_118 : decode prog_1_method_65_code 118 = .ok (.getfield 31, 3) := by decide +kernel
theorem d_x_count_121 : decode prog_1_method_65_code 121 = .ok (.goto 14, 3) := by decide +kernel
theorem d_x_count_124 : decode prog_1_method_65_code 124 = .ok (.aload_n 0, 1) := by decide +kernel
theorem d_x_count_125 : decode prog_1_method_65_code 125 = .ok (.getfield 323, 3) := by decide +kernel
theorem d_x_count_128 : decode prog_1_method_65_code 128 = .ok (.goto 7, 3) := by decide +kernel
theorem d_x_count_131 : decode prog_1_method_65_code 131 = .ok (.aload_n 0, 1) := by decide +kernel
theorem d_x_count_132 : decode prog_1_method_65_code 132 = .ok (.getfield 326, 3) := by decide +kernel
theorem d_x_count_135 : decode prog_1_method_65_code 135 = .ok (.ireturn, 1) := by decide +kernel
theorem kc_x_count : Kw (m_w (mi_x_count )) := ⟨(in_t4 (List.mem_of_getElem? (i := 13) rfl)), rfl⟩
theorem mv_x_count : MV (mi_x_count ) "GuardedMoves" 1 := ⟨kw_731, kw_732, kc_x_count , kw_1, ⟨⟨(by show ("GuardedMoves" : String) ≠ "java/lang/invoke/MethodHandle"; decide), (by show ("GuardedMoves" : String) ≠ "java/lang/invoke/VarHandle"; decide)⟩, (by show (parseMethodDescriptor "(I)I").map (fun d => d.parameters.length) = some 1; decide +kernel)⟩⟩
def w_x_count_135 (Q : Int32 → Sg → Prop) (E : Nat → Sg → Prop) (s0 : Int32) (σ : Sg) : Prop := Q s0 σ
theorem b_x_count_135 {Δ : Ly} {G : Gm} {Q : Int32 → Sg → Prop} {E : Nat → Sg → Prop} (cx : Cx Δ G mi_x_count) : ∀ (s0 : Int32) (σ : Sg), w_x_count_135 Q E s0 σ → Y Δ G mi_x_count (qI Q) E 1 6 σ 135 [] [.int s0] := by
  intro s0 σ h
  unfold w_x_count_135 at h
  exact y_iret cx (pc := 135) rfl d_x_count_135 (le_b rfl) (le_b rfl) h
def w_x_count (p1 : Int32) (σ : Sg) (Q : Int32 → Sg → Prop) (E : Nat → Sg → Prop) : Prop := w_x_within (p1.toInt64) 0 8 σ (fun x1 σ2 => w_x_want_Z x1 σ2 (fun σ3 => (p1 = 0 → (w_x_count_135 Q E (σ3 1 0) σ3)) ∧ (¬ p1 = 0 → ((p1 = 1 → (w_x_count_135 Q E (σ3 0 12) σ3)) ∧ (¬ p1 = 1 → ((p1 = 2 → (((σ3 0 14) = 0 → (w_x_count_135 Q E 16 σ3)) ∧ (¬ (σ3 0 14) = 0 → (w_x_count_135 Q E (σ3 0 13) σ3)))) ∧ (¬ p1 = 2 → ((p1 = 3 → (w_x_jumps σ3 (fun x4 σ5 => w_x_count_135 Q E x4 σ5))) ∧ (¬ p1 = 3 → ((p1 = 4 → (w_x_converted σ3 (fun x6 σ7 => w_x_count_135 Q E x6 σ7))) ∧ (¬ p1 = 4 → ((p1 = 5 → (w_x_count_135 Q E (σ3 0 23) σ3)) ∧ (¬ p1 = 5 → ((p1 = 6 → (w_x_count_135 Q E (σ3 0 4) σ3)) ∧ (¬ p1 = 6 → ((p1 = 7 → (w_x_count_135 Q E (σ3 0 24) σ3)) ∧ (¬ p1 = 7 → (w_x_count_135 Q E (σ3 0 25) σ3))))))))))))))))) E)
theorem b_x_count {Δ : Ly} {G : Gm} {Q : Int32 → Sg → Prop} {E : Nat → Sg → Prop} (cx : Cx Δ G mi_x_count) (p1 : Int32) (σ : Sg) (h : w_x_count p1 σ Q E) : Y Δ G mi_x_count (qI Q) E 0 0 σ 0 [(0, .ref (Δ.1 0)), (1, .int p1)] [] := by
  unfold w_x_count at h
  refine y_iload_n cx (pc := 0) d_x_count_0 rfl 1 rfl ?_
  refine y_i2l cx (pc := 1) d_x_count_1 ?_
  refine y_lconst cx (pc := 2) (v := 0) lc_0 d_x_count_2 ?_
  refine y_ldc2 cx (pc := 3) kw_558 d_x_count_3 ?_
  refine y_sI cx (pc := 6) (st := []) [.long (p1.toInt64), .long 0, .long 8] (c_x_within cx.fl Δ (p1.toInt64) 0 8 _ _ h) mv_x_within kw_41 rfl (le_b rfl) (le_b rfl) (le_b rfl) (le_b rfl) (le_b rfl) d_x_count_6 (fun x1 σ2 h => ?_) (fun x σ2 h => yt_no h)
  refine y_sV cx (pc := 9) (st := []) [.int x1] (c_x_want_Z cx.fl Δ x1 _ _ _ h) mv_x_want_Z kw_559 rfl (le_b rfl) (le_b rfl) (le_b rfl) (le_b rfl) (le_b rfl) d_x_count_9 (fun σ3 h => ?_) (fun x σ3 h => ?_)
  ·
    refine y_iload_n cx (pc := 12) d_x_count_12 rfl 1 rfl ?_
    by_cases hc0 : p1 = 0
    · replace h := h.1 hc0
      refine y_tIn cx (pc := 13) (tgt := 60) (c := 0) d_x_count_13 hc0 (by decide) (by decide) rfl (by decide) ?_
      refine y_aload_n cx (pc := 60) d_x_count_60 rfl 0 rfl ?_
      refine y_get cx (pc := 61) (j := 0) (v := .ref (Δ.1 1)) (le_b rfl) ck_GM kw_397 (le_b rfl) (gf_0_0 Δ _) d_x_count_61 ?_
      refine y_getN cx (pc := 64) (j := 0) (v := .int (σ3 1 0)) (le_b rfl) ck_Tx kw_256 (le_b rfl) (gf_1_0 Δ _) d_x_count_64 ?_
      refine y_goto cx (pc := 67) (tgt := 135) d_x_count_67 (by decide) ?_
      refine y_sub [] rfl ?_
      exact b_x_count_135 cx (σ3 1 0) σ3 h
    replace h := h.2 hc0
    by_cases hc1 : p1 = 1
    · replace h := h.1 hc1
      refine y_tIn cx (pc := 13) (tgt := 70) (c := 1) d_x_count_13 hc1 (by decide) (by decide) rfl (by decide) ?_
      refine y_aload_n cx (pc := 70) d_x_count_70 rfl 0 rfl ?_
      refine y_get cx (pc := 71) (j := 12) (v := .int (σ3 0 12)) (le_b rfl) ck_GM kw_409 (le_b rfl) (gf_0_12 Δ _) d_x_count_71 ?_
      refine y_goto cx (pc := 74) (tgt := 135) d_x_count_74 (by decide) ?_
      refine y_sub [] rfl ?_
      exact b_x_count_135 cx (σ3 0 12) σ3 h
    replace h := h.2 hc1
    by_cases hc2 : p1 = 2
    · replace h := h.1 hc2
      refine y_tIn cx (pc := 13) (tgt := 77) (c := 2) d_x_count_13 hc2 (by decide) (by decide) rfl (by decide) ?_
      refine y_aload_n cx (pc := 77) d_x_count_77 rfl 0 rfl ?_
      refine y_get cx (pc := 78) (j := 14) (v := .int (σ3 0 14)) (le_b rfl) ck_GM kw_411 (le_b rfl) (gf_0_14 Δ _) d_x_count_78 ?_
      refine y_if_eq cx (pc := 81) (tgt := 91) d_x_count_81 (by decide) (fun hc => ?_) (fun hc => ?_)
      · replace h := h.1 hc
        refine y_bipush cx (pc := 91) bp_16 d_x_count_91 ?_
        refine y_goto cx (pc := 93) (tgt := 135) d_x_count_93 (by decide) ?_
        refine y_sub [] rfl ?_
        exact b_x_count_135 cx 16 σ3 h
      · replace h := h.2 hc
        refine y_aload_n cx (pc := 84) d_x_count_84 rfl 0 rfl ?_
        refine y_get cx (pc := 85) (j := 13) (v := .int (σ3 0 13)) (le_b rfl) ck_GM kw_410 (le_b rfl) (gf_0_13 Δ _) d_x_count_85 ?_
        refine y_goto cx (pc := 88) (tgt := 135) d_x_count_88 (by decide) ?_
        refine y_sub [] rfl ?_
        exact b_x_count_135 cx (σ3 0 13) σ3 h
    replace h := h.2 hc2
    by_cases hc3 : p1 = 3
    · replace h := h.1 hc3
      refine y_tIn cx (pc := 13) (tgt := 96) (c := 3) d_x_count_13 hc3 (by decide) (by decide) rfl (by decide) ?_
      refine y_aload_n cx (pc := 96) d_x_count_96 rfl 0 rfl ?_
      refine y_vI cx (pc := 97) (st := []) [] (c_x_jumps cx.fl Δ _ _ h) mv_x_jumps kw_734 (oc_0 Δ) ck_GM rfl (le_b rfl) (le_b rfl) (le_b rfl) (le_b rfl) (le_b rfl) d_x_count_97 (fun x4 σ5 h => ?_) (fun x σ5 h => yt_no h)
      refine y_goto cx (pc := 100) (tgt := 135) d_x_count_100 (by decide) ?_
      refine y_sub [] rfl ?_
      exact b_x_count_135 cx x4 σ5 h
    replace h := h.2 hc3
    by_cases hc4 : p1 = 4
    · replace h := h.1 hc4
      refine y_tIn cx (pc := 13) (tgt := 103) (c := 4) d_x_count_13 hc4 (by decide) (by decide) rfl (by decide) ?_
      refine y_aload_n cx (pc := 103) d_x_count_103 rfl 0 rfl ?_
      refine y_vI cx (pc := 104) (st := []) [] (c_x_converted cx.fl Δ _ _ h) mv_x_converted kw_738 (oc_0 Δ) ck_GM rfl (le_b rfl) (le_b rfl) (le_b rfl) (le_b rfl) (le_b rfl) d_x_count_104 (fun x6 σ7 h => ?_) (fun x σ7 h => yt_no h)
      refine y_goto cx (pc := 107) (tgt := 135) d_x_count_107 (by decide) ?_
      refine y_sub [] rfl ?_
      exact b_x_count_135 cx x6 σ7 h
    replace h := h.2 hc4
    by_cases hc5 : p1 = 5
    · replace h := h.1 hc5
      refine y_tIn cx (pc := 13) (tgt := 110) (c := 5) d_x_count_13 hc5 (by decide) (by decide) rfl (by decide) ?_
      refine y_aload_n cx (pc := 110) d_x_count_110 rfl 0 rfl ?_
      refine y_get cx (pc := 111) (j := 23) (v := .int (σ3 0 23)) (le_b rfl) ck_GM kw_420 (le_b rfl) (gf_0_23 Δ _) d_x_count_111 ?_
      refine y_goto cx (pc := 114) (tgt := 135) d_x_count_114 (by decide) ?_
      refine y_sub [] rfl ?_
      exact b_x_count_135 cx (σ3 0 23) σ3 h
    replace h := h.2 hc5
    by_cases hc6 : p1 = 6
    · replace h := h.1 hc6
      refine y_tIn cx (pc := 13) (tgt := 117) (c := 6) d_x_count_13 hc6 (by decide) (by decide) rfl (by decide) ?_
      refine y_aload_n cx (pc := 117) d_x_count_117 rfl 0 rfl ?_
      refine y_get cx (pc := 118) (j := 4) (v := .int (σ3 0 4)) (le_b rfl) ck_GM kw_401 (le_b rfl) (gf_0_4 Δ _) d_x_count_118 ?_
      refine y_goto cx (pc := 121) (tgt := 135) d_x_count_121 (by decide) ?_
      refine y_sub [] rfl ?_
      exact b_x_count_135 cx (σ3 0 4) σ3 h
    replace h := h.2 hc6
    by_cases hc7 : p1 = 7
    · replace h := h.1 hc7
      refine y_tIn cx (pc := 13) (tgt := 124) (c := 7) d_x_count_13 hc7 (by decide) (by decide) rfl (by decide) ?_
      refine y_aload_n cx (pc := 124) d_x_count_124 rfl 0 rfl ?_
      refine y_get cx (pc := 125) (j := 24) (v := .int (σ3 0 24)) (le_b rfl) ck_GM kw_421 (le_b rfl) (gf_0_24 Δ _) d_x_count_125 ?_
      refine y_goto cx (pc := 128) (tgt := 135) d_x_count_128 (by decide) ?_
      refine y_sub [] rfl ?_
      exact b_x_count_135 cx (σ3 0 24) σ3 h
    replace h := h.2 hc7
    refine y_tOut cx (pc := 13) (tgt := 131) d_x_count_13 (by have z0 := lv_neT hc0 (show (0 : Int32).toInt = 0 from rfl); have z1 := lv_neT hc1 (show (1 : Int32).toInt = 1 from rfl); have z2 := lv_neT hc2 (show (2 : Int32).toInt = 2 from rfl); have z3 := lv_neT hc3 (show (3 : Int32).toInt = 3 from rfl); have z4 := lv_neT hc4 (show (4 : Int32).toInt = 4 from rfl); have z5 := lv_neT hc5 (show (5 : Int32).toInt = 5 from rfl); have z6 := lv_neT hc6 (show (6 : Int32).toInt = 6 from rfl); have z7 := lv_neT hc7 (show (7 : Int32).toInt = 7 from rfl); omega) (by decide) ?_
    refine y_aload_n cx (pc := 131) d_x_count_131 rfl 0 rfl ?_
    refine y_get cx (pc := 132) (j := 25) (v := .int (σ3 0 25)) (le_b rfl) ck_GM kw_422 (le_b rfl) (gf_0_25 Δ _) d_x_count_132 ?_
    refine y_sub [] rfl ?_
    exact b_x_count_135 cx (σ3 0 25) σ3 h
  ·
    exact t_out cx rfl (le_b rfl) (le_b rfl) h
theorem c_x_count {l : Launch} (hfl : l.flags = flags0) (Δ : Ly) (p1 : Int32) (σ : Sg) (Q : Int32 → Sg → Prop) (E : Nat → Sg → Prop) (h : w_x_count p1 σ Q E) : Ct l Δ mi_x_count [.ref (Δ.1 0), .int p1] σ (qI Q) E :=
  Ct.of hfl (by show plainFor ⟨"GuardedMoves", "count", "(I)I"⟩ = true; decide +kernel) rfl (le_b rfl) (fun G hl cx => b_x_count cx p1 σ h)

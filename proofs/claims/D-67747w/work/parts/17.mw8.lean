def mi_m_behind : Mi := ("GuardedMovesModel", prog_6_method_56_code, 5, [], (some .int), 1, 26, 0, 0, ⟨"GuardedMovesModel", "behind", "(I)I"⟩)
theorem d_m_behind_0 : decode prog_6_method_56_code 0 = .ok (.iload_n 1, 1) := by decide +kernel
theorem d_m_behind_1 : decode prog_6_method_56_code 1 = .ok (.istore_n 2, 1) := by decide +kernel
theorem d_m_behind_2 : decode prog_6_method_56_code 2 = .ok (.iconst 1, 1) := by decide +kernel
theorem d_m_behind_3 : decode prog_6_method_56_code 3 = .ok (.istore_n 3, 1) := by decide +kernel
theorem d_m_behind_4 : decode prog_6_method_56_code 4 = .ok (.iload_n 3, 1) := by decide +kernel
theorem d_m_behind_5 : decode prog_6_method_56_code 5 = .ok (.ifCond .eq 83, 3) := by decide +kernel
theorem d_m_behind_8 : decode prog_6_method_56_code 8 = .ok (.iconst 0, 1) := by decide +kernel
theorem d_m_behind_9 : decode prog_6_method_56_code 9 = .ok (.istore_n 3, 1) := by decide +kernel
theorem d_m_behind_10 : decode prog_6_method_56_code 10 = .ok (.iconst 0, 1) := by decide +kernel
theorem d_m_behind_11 : decode prog_6_method_56_code 11 = .ok (.istore 4, 2) := by decide +kernel
theorem d_m_behind_13 : decode prog_6_method_56_code 13 = .ok (.iload 4, 2) := by decide +kernel
theorem d_m_behind_15 : decode prog_6_method_56_code 15 = .ok (.aload_n 0, 1) := by decide +kernel
theorem d_m_behind_16 : decode prog_6_method_56_code 16 = .ok (.getfield 192, 3) := by decide +kernel
theorem d_m_behind_19 : decode prog_6_method_56_code 19 = .ok (.if_icmp .ge 66, 3) := by decide +kernel
theorem d_m_behind_22 : decode prog_6_method_56_code 22 = .ok (.iload_n 3, 1) := by decide +kernel
theorem d_m_behind_23 : decode prog_6_method_56_code 23 = .ok (.ifCond .ne 62, 3) := by decide +kernel
theorem d_m_behind_26 : decode prog_6_method_56_code 26 = .ok (.aload_n 0, 1) := by decide +kernel
theorem d_m_behind_27 : decode prog_6_method_56_code 27 = .ok (.iload 4, 2) := by decide +kernel
theorem d_m_behind_29 : decode prog_6_method_56_code 29 = .ok (.iconst 0, 1) := by decide +kernel
theorem d_m_behind_30 : decode prog_6_method_56_code 30 = .ok (.invokevirtual 212, 3) := by decide +kernel
theorem d_m_behind_33 : decode prog_6_method_56_code 33 = .ok (.iconst 5, 1) := by decide +kernel
theorem d_m_behind_34 : decode prog_6_method_56_code 34 = .ok (.if_icmp .ne 45, 3) := by decide +kernel
theorem d_m_behind_37 : decode prog_6_method_56_code 37 = .ok (.aload_n 0, 1) := by decide +kernel
theorem d_m_behind_38 : decode prog_6_method_56_code 38 = .ok (.getfield 31, 3) := by decide +kernel
theorem d_m_behind_41 : decode prog_6_method_56_code 41 = .ok (.iload 4, 2) := by decide +kernel
theorem d_m_behind_43 : decode prog_6_method_56_code 43 = .ok (.iaload, 1) := by decide +kernel
theorem d_m_behind_44 : decode prog_6_method_56_code 44 = .ok (.iload_n 2, 1) := by decide +kernel
theorem d_m_behind_45 : decode prog_6_method_56_code 45 = .ok (.if_icmp .ne 34, 3) := by decide +kernel
theorem d_m_behind_48 : decode prog_6_method_56_code 48 = .ok (.aload_n 0, 1) := by decide +kernel
theorem d_m_behind_49 : decode prog_6_method_56_code 49 = .ok (.getfield 34, 3) := by decide +kernel
theorem d_m_behind_52 : decode prog_6_method_56_code 52 = .ok (.iload 4, 2) := by decide +kernel
theorem d_m_behind_54 : decode prog_6_method_56_code 54 = .ok (.iaload, 1) := by decide +kernel
theorem d_m_behind_55 : decode prog_6_method_56_code 55 = .ok (.iload_n 2, 1) := by decide +kernel
theorem d_m_behind_56 : decode prog_6_method_56_code 56 = .ok (.if_icmp .le 23, 3) := by decide +kernel
theorem d_m_behind_59 : decode prog_6_method_56_code 59 = .ok (.aload_n 0, 1) := by decide +kernel
theorem d_m_behind_60 : decode prog_6_method_56_code 60 = .ok (.getfield 99, 3) := by decide +kernel
theorem d_m_behind_63 : decode prog_6_method_56_code 63 = .ok (.iload 4, 2) := by decide +kernel
theorem d_m_behind_65 : decode prog_6_method_56_code 65 = .ok (.baload, 1) := by decide +kernel
theorem d_m_behind_66 : decode prog_6_method_56_code 66 = .ok (.ifCond .eq 13, 3) := by decide +kernel
theorem d_m_behind_69 : decode prog_6_method_56_code 69 = .ok (.aload_n 0, 1) := by decide +kernel
theorem d_m_behind_70 : decode prog_6_method_56_code 70 = .ok (.getfield 34, 3) := by decide +kernel
theorem d_m_behind_73 : decode prog_6_method_56_code 73 = .ok (.iload 4, 2) := by decide +kernel
theorem d_m_behind_75 : decode prog_6_method_56_code 75 = .ok (.iaload, 1) := by decide +kernel
theorem d_m_behind_76 : decode prog_6_method_56_code 76 = .ok (.istore_n 2, 1) := by decide +kernel
theorem d_m_behind_77 : decode prog_6_method_56_code 77 = .ok (.iconst 1, 1) := by decide +kernel
theorem d_m_behind_78 : decode prog_6_method_56_code 78 = .ok (.istore_n 3, 1) := by decide +kernel
theorem d_m_behind_79 : decode prog_6_method_56_code 79 = .ok (.iinc 4 1, 3) := by decide +kernel
theorem d_m_behind_82 : decode prog_6_method_56_code 82 = .ok (.goto (-69), 3) := by decide +kernel
theorem d_m_behind_85 : decode prog_6_method_56_code 85 = .ok (.goto (-81), 3) := by decide +kernel
theorem d_m_behind_88 : decode prog_6_method_56_code 88 = .ok (.iload_n 2, 1) := by decide +kernel
theorem d_m_behind_89 : decode prog_6_method_56_code 89 = .ok (.ireturn, 1) := by decide +kernel
theorem kc_m_behind : Kw (m_w (mi_m_behind )) := ⟨(in_t5 (List.mem_of_getElem? (i := 145) rfl)), rfl⟩
theorem mv_m_behind : MV (mi_m_behind ) "GuardedMovesModel" 1 := ⟨kw_1104, ks_81, kc_m_behind , kw_7, ⟨⟨(by show ("GuardedMovesModel" : String) ≠ "java/lang/invoke/MethodHandle"; decide), (by show ("GuardedMovesModel" : String) ≠ "java/lang/invoke/VarHandle"; decide)⟩, (by show (parseMethodDescriptor "(I)I").map (fun d => d.parameters.length) = some 1; decide +kernel)⟩⟩
def w_m_behind_85 (K4 : Int32 → Int32 → Sg → Prop) (Q : Int32 → Sg → Prop) (v2 : Int32) (v3 : Int32) (σ : Sg) : Prop := K4 v2 v3 σ
theorem b_m_behind_85 {Δ : Ly} {G : Gm} {K4 : Int32 → Int32 → Sg → Prop} {Q : Int32 → Sg → Prop} (cx : Cx Δ G mi_m_behind) (hK4 : ∀ (v2 : Int32) (v3 : Int32) (σ : Sg), K4 v2 v3 σ → Y Δ G mi_m_behind (qI Q) noE 0 0 σ 4 [(0, .ref (Δ.1 58)), (2, .int v2), (3, .int v3)] []) : ∀ (v2 : Int32) (v3 : Int32) (σ : Sg), w_m_behind_85 K4 Q v2 v3 σ → Y Δ G mi_m_behind (qI Q) noE 0 0 σ 85 [(0, .ref (Δ.1 58)), (2, .int v2), (3, .int v3)] [] := by
  intro v2 v3 σ h
  unfold w_m_behind_85 at h
  refine y_goto cx (pc := 85) (tgt := 4) d_m_behind_85 (by decide) ?_
  exact hK4 v2 v3 σ h
def w_m_behind_79 (K4 : Int32 → Int32 → Sg → Prop) (K13 : Int32 → Int32 → Int32 → Sg → Prop) (Q : Int32 → Sg → Prop) (v2 : Int32) (v3 : Int32) (v4 : Int32) (σ : Sg) : Prop := ∀ x1 : Int32, x1 = v4 + 1 → (K13 v2 v3 x1 σ)
theorem b_m_behind_79 {Δ : Ly} {G : Gm} {K4 : Int32 → Int32 → Sg → Prop} {K13 : Int32 → Int32 → Int32 → Sg → Prop} {Q : Int32 → Sg → Prop} (cx : Cx Δ G mi_m_behind) (hK4 : ∀ (v2 : Int32) (v3 : Int32) (σ : Sg), K4 v2 v3 σ → Y Δ G mi_m_behind (qI Q) noE 0 0 σ 4 [(0, .ref (Δ.1 58)), (2, .int v2), (3, .int v3)] []) (hK13 : ∀ (v2 : Int32) (v3 : Int32) (v4 : Int32) (σ : Sg), K13 v2 v3 v4 σ → Y Δ G mi_m_behind (qI Q) noE 0 0 σ 13 [(0, .ref (Δ.1 58)), (2, .int v2), (3, .int v3), (4, .int v4)] []) : ∀ (v2 : Int32) (v3 : Int32) (v4 : Int32) (σ : Sg), w_m_behind_79 K4 K13 Q v2 v3 v4 σ → Y Δ G mi_m_behind (qI Q) noE 0 0 σ 79 [(0, .ref (Δ.1 58)), (2, .int v2), (3, .int v3), (4, .int v4)] [] := by
  intro v2 v3 v4 σ h
  unfold w_m_behind_79 at h
  obtain ⟨x1, ex1⟩ : ∃ y : Int32, y = v4 + 1 := ⟨_, rfl⟩
  replace h := h x1 ex1
  refine y_iinc (v := x1) (lv' := [(4, .int x1), (0, .ref (Δ.1 58)), (2, .int v2), (3, .int v3)]) cx (pc := 79) d_m_behind_79 (j := 3) rfl (by rw [ex1]; rfl) (le_b rfl) rfl ?_
  refine y_goto cx (pc := 82) (tgt := 13) d_m_behind_82 (by decide) ?_
  refine y_sub [1, 2, 3, 0] rfl ?_
  exact hK13 v2 v3 x1 σ h
def w_m_behind_13 (K4 : Int32 → Int32 → Sg → Prop) (Q : Int32 → Sg → Prop) : Nat → Int32 → Int32 → Int32 → Sg → Prop
  | 0, _, _, _, _ => False
  | n + 1, v2, v3, v4, σ => ((σ 58 9) ≤ v4 → (w_m_behind_85 K4 Q v2 v3 σ)) ∧ (¬ (σ 58 9) ≤ v4 → ((¬ v3 = 0 → (w_m_behind_85 K4 Q v2 v3 σ)) ∧ (v3 = 0 → (w_m_of v4 0 σ (fun x1 σ2 => (¬ x1 = 5 → (w_m_behind_79 K4 (w_m_behind_13 K4 Q n) Q v2 v3 v4 σ2)) ∧ (x1 = 5 → (vp_in v4 60 ∧ ((¬ (σ2 66 (v4.toNatClampNeg)) = v2 → (w_m_behind_79 K4 (w_m_behind_13 K4 Q n) Q v2 v3 v4 σ2)) ∧ ((σ2 66 (v4.toNatClampNeg)) = v2 → (vp_in v4 60 ∧ (((σ2 67 (v4.toNatClampNeg)) ≤ v2 → (w_m_behind_79 K4 (w_m_behind_13 K4 Q n) Q v2 v3 v4 σ2)) ∧ (¬ (σ2 67 (v4.toNatClampNeg)) ≤ v2 → (vp_in v4 60 ∧ (((σ2 86 (v4.toNatClampNeg)) = 0 → (w_m_behind_79 K4 (w_m_behind_13 K4 Q n) Q v2 v3 v4 σ2)) ∧ (¬ (σ2 86 (v4.toNatClampNeg)) = 0 → (vp_in v4 60 ∧ (∀ x3 : Int32, x3 = σ2 67 (v4.toNatClampNeg) → (w_m_behind_79 K4 (w_m_behind_13 K4 Q n) Q x3 1 v4 σ2))))))))))))))))))
theorem b_m_behind_13 {Δ : Ly} {G : Gm} {K4 : Int32 → Int32 → Sg → Prop} {Q : Int32 → Sg → Prop} (cx : Cx Δ G mi_m_behind) (hK4 : ∀ (v2 : Int32) (v3 : Int32) (σ : Sg), K4 v2 v3 σ → Y Δ G mi_m_behind (qI Q) noE 0 0 σ 4 [(0, .ref (Δ.1 58)), (2, .int v2), (3, .int v3)] []) : ∀ (n : Nat) (v2 : Int32) (v3 : Int32) (v4 : Int32) (σ : Sg), w_m_behind_13 K4 Q n v2 v3 v4 σ → Y Δ G mi_m_behind (qI Q) noE 0 0 σ 13 [(0, .ref (Δ.1 58)), (2, .int v2), (3, .int v3), (4, .int v4)] [] := by
  intro n
  induction n with
  | zero => intro v2 v3 v4 σ h; exact h.elim
  | succ n ih =>
    intro v2 v3 v4 σ h
    unfold w_m_behind_13 at h
    refine y_iload cx (pc := 13) d_m_behind_13 3 rfl ?_
    refine y_aload_n cx (pc := 15) d_m_behind_15 rfl 0 rfl ?_
    refine y_get cx (pc := 16) (j := 9) (v := .int (σ 58 9)) (le_b rfl) ck_Md kw_757 (le_b rfl) (gf_58_9 Δ _) d_m_behind_16 ?_
    refine y_icmp_ge cx (pc := 19) (tgt := 85) d_m_behind_19 (by decide) (fun hc => ?_) (fun hc => ?_)
    · replace h := h.1 hc
      refine y_sub [0, 1, 2] rfl ?_
      exact b_m_behind_85 cx hK4 v2 v3 σ h
    · replace h := h.2 hc
      refine y_iload_n cx (pc := 22) d_m_behind_22 rfl 2 rfl ?_
      refine y_if_ne cx (pc := 23) (tgt := 85) d_m_behind_23 (by decide) (fun hc => ?_) (fun hc => ?_)
      · replace h := h.1 hc
        refine y_sub [0, 1, 2] rfl ?_
        exact b_m_behind_85 cx hK4 v2 v3 σ h
      · replace h := h.2 hc
        refine y_aload_n cx (pc := 26) d_m_behind_26 rfl 0 rfl ?_
        refine y_iload cx (pc := 27) d_m_behind_27 3 rfl ?_
        refine y_iconst cx (pc := 29) ic_0 d_m_behind_29 ?_
        refine y_vI cx (pc := 30) (st := []) [.int v4, .int 0] (c_m_of cx.fl Δ v4 0 _ _ h) mv_m_of kw_976 (oc_58 Δ) ck_Md rfl (le_b rfl) (le_b rfl) (le_b rfl) (le_b rfl) (le_b rfl) d_m_behind_30 (fun x1 σ2 h => ?_) (fun x σ2 h => yt_no h)
        refine y_iconst cx (pc := 33) ic_5 d_m_behind_33 ?_
        refine y_icmp_ne cx (pc := 34) (tgt := 79) d_m_behind_34 (by decide) (fun hc => ?_) (fun hc => ?_)
        · replace h := h.1 hc
          exact b_m_behind_79 cx hK4 ih v2 v3 v4 σ2 h
        · replace h := h.2 hc
          refine y_aload_n cx (pc := 37) d_m_behind_37 rfl 0 rfl ?_
          refine y_get cx (pc := 38) (j := 14) (v := .ref (Δ.1 66)) (le_b rfl) ck_Md kw_762 (le_b rfl) (gf_58_14 Δ _) d_m_behind_38 ?_
          refine y_iload cx (pc := 41) d_m_behind_41 3 rfl ?_
          obtain ⟨h0, h⟩ := h
          refine y_iald cx (pc := 43) ⟨(le_b rfl), fun _ => rfl⟩ h0 d_m_behind_43 ?_
          refine y_iload_n cx (pc := 44) d_m_behind_44 rfl 1 rfl ?_
          refine y_icmp_ne cx (pc := 45) (tgt := 79) d_m_behind_45 (by decide) (fun hc => ?_) (fun hc => ?_)
          · replace h := h.1 hc
            exact b_m_behind_79 cx hK4 ih v2 v3 v4 σ2 h
          · replace h := h.2 hc
            refine y_aload_n cx (pc := 48) d_m_behind_48 rfl 0 rfl ?_
            refine y_get cx (pc := 49) (j := 15) (v := .ref (Δ.1 67)) (le_b rfl) ck_Md kw_763 (le_b rfl) (gf_58_15 Δ _) d_m_behind_49 ?_
            refine y_iload cx (pc := 52) d_m_behind_52 3 rfl ?_
            obtain ⟨h0, h⟩ := h
            refine y_iald cx (pc := 54) ⟨(le_b rfl), fun _ => rfl⟩ h0 d_m_behind_54 ?_
            refine y_iload_n cx (pc := 55) d_m_behind_55 rfl 1 rfl ?_
            refine y_icmp_le cx (pc := 56) (tgt := 79) d_m_behind_56 (by decide) (fun hc => ?_) (fun hc => ?_)
            · replace h := h.1 hc
              exact b_m_behind_79 cx hK4 ih v2 v3 v4 σ2 h
            · replace h := h.2 hc
              refine y_aload_n cx (pc := 59) d_m_behind_59 rfl 0 rfl ?_
              refine y_get cx (pc := 60) (j := 44) (v := .ref (Δ.1 86)) (le_b rfl) ck_Md kw_792 (le_b rfl) (gf_58_44 Δ _) d_m_behind_60 ?_
              refine y_iload cx (pc := 63) d_m_behind_63 3 rfl ?_
              obtain ⟨h0, h⟩ := h
              refine y_zald cx (pc := 65) ⟨(le_b rfl), fun _ => rfl⟩ h0 d_m_behind_65 ?_
              refine y_if_eq cx (pc := 66) (tgt := 79) d_m_behind_66 (by decide) (fun hc => ?_) (fun hc => ?_)
              · replace h := h.1 hc
                exact b_m_behind_79 cx hK4 ih v2 v3 v4 σ2 h
              · replace h := h.2 hc
                refine y_aload_n cx (pc := 69) d_m_behind_69 rfl 0 rfl ?_
                refine y_get cx (pc := 70) (j := 15) (v := .ref (Δ.1 67)) (le_b rfl) ck_Md kw_763 (le_b rfl) (gf_58_15 Δ _) d_m_behind_70 ?_
                refine y_iload cx (pc := 73) d_m_behind_73 3 rfl ?_
                obtain ⟨h0, h⟩ := h
                refine y_iald cx (pc := 75) ⟨(le_b rfl), fun _ => rfl⟩ h0 d_m_behind_75 ?_
                refine y_topi (fun x3 ex3 => ?_)
                replace h := h x3 ex3
                refine y_istore_n (lv' := [(2, .int x3), (0, .ref (Δ.1 58)), (3, .int v3), (4, .int v4)]) cx (pc := 76) d_m_behind_76 rfl (le_b rfl) rfl ?_
                refine y_iconst cx (pc := 77) ic_1 d_m_behind_77 ?_
                refine y_istore_n (lv' := [(3, .int 1), (2, .int x3), (0, .ref (Δ.1 58)), (4, .int v4)]) cx (pc := 78) d_m_behind_78 rfl (le_b rfl) rfl ?_
                refine y_sub [2, 1, 0, 3] rfl ?_
                exact b_m_behind_79 cx hK4 ih x3 1 v4 σ2 h
def w_m_behind_4 (Q : Int32 → Sg → Prop) : Nat → Int32 → Int32 → Sg → Prop
  | 0, _, _, _ => False
  | n + 1, v2, v3, σ => (v3 = 0 → (Q v2 σ)) ∧ (¬ v3 = 0 → (∃ q13, w_m_behind_13 (w_m_behind_4 Q n) Q q13 v2 0 0 σ))
theorem b_m_behind_4 {Δ : Ly} {G : Gm} {Q : Int32 → Sg → Prop} (cx : Cx Δ G mi_m_behind) : ∀ (n : Nat) (v2 : Int32) (v3 : Int32) (σ : Sg), w_m_behind_4 Q n v2 v3 σ → Y Δ G mi_m_behind (qI Q) noE 0 0 σ 4 [(0, .ref (Δ.1 58)), (2, .int v2), (3, .int v3)] [] := by
  intro n
  induction n with
  | zero => intro v2 v3 σ h; exact h.elim
  | succ n ih =>
    intro v2 v3 σ h
    unfold w_m_behind_4 at h
    refine y_iload_n cx (pc := 4) d_m_behind_4 rfl 2 rfl ?_
    refine y_if_eq cx (pc := 5) (tgt := 88) d_m_behind_5 (by decide) (fun hc => ?_) (fun hc => ?_)
    · replace h := h.1 hc
      refine y_iload_n cx (pc := 88) d_m_behind_88 rfl 1 rfl ?_
      exact y_iret cx (pc := 89) rfl d_m_behind_89 (le_b rfl) (le_b rfl) h
    · replace h := h.2 hc
      refine y_iconst cx (pc := 8) ic_0 d_m_behind_8 ?_
      refine y_istore_n (lv' := [(3, .int 0), (0, .ref (Δ.1 58)), (2, .int v2)]) cx (pc := 9) d_m_behind_9 rfl (le_b rfl) rfl ?_
      refine y_iconst cx (pc := 10) ic_0 d_m_behind_10 ?_
      refine y_istore (lv' := [(4, .int 0), (3, .int 0), (0, .ref (Δ.1 58)), (2, .int v2)]) cx (pc := 11) d_m_behind_11 (le_b rfl) rfl ?_
      refine y_sub [2, 3, 1, 0] rfl ?_
      obtain ⟨n, h⟩ := h
      exact b_m_behind_13 cx ih n v2 0 0 σ h
def w_m_behind (p1 : Int32) (σ : Sg) (Q : Int32 → Sg → Prop) : Prop := ∃ q4, w_m_behind_4 Q q4 p1 1 σ
theorem b_m_behind {Δ : Ly} {G : Gm} {Q : Int32 → Sg → Prop} (cx : Cx Δ G mi_m_behind) (p1 : Int32) (σ : Sg) (h : w_m_behind p1 σ Q) : Y Δ G mi_m_behind (qI Q) noE 0 0 σ 0 [(0, .ref (Δ.1 58)), (1, .int p1)] [] := by
  unfold w_m_behind at h
  refine y_iload_n cx (pc := 0) d_m_behind_0 rfl 1 rfl ?_
  refine y_istore_n (lv' := [(2, .int p1), (0, .ref (Δ.1 58)), (1, .int p1)]) cx (pc := 1) d_m_behind_1 rfl (le_b rfl) rfl ?_
  refine y_iconst cx (pc := 2) ic_1 d_m_behind_2 ?_
  refine y_istore_n (lv' := [(3, .int 1), (2, .int p1), (0, .ref (Δ.1 58)), (1, .int p1)]) cx (pc := 3) d_m_behind_3 rfl (le_b rfl) rfl ?_
  refine y_sub [2, 1, 0] rfl ?_
  obtain ⟨n, h⟩ := h
  exact b_m_behind_4 cx n p1 1 σ h
theorem c_m_behind {l : Launch} (hfl : l.flags = flags0) (Δ : Ly) (p1 : Int32) (σ : Sg) (Q : Int32 → Sg → Prop) (h : w_m_behind p1 σ Q) : Ct l Δ mi_m_behind [.ref (Δ.1 58), .int p1] σ (qI Q) noE :=
  Ct.of hfl (by show plainFor ⟨"GuardedMovesModel", "behind", "(I)I"⟩ = true; decide +kernel) rfl (le_b rfl) (fun G hl cx => b_m_behind cx p1 σ h)
def mi_m_stop : Mi := ("GuardedMovesModel", prog_6_method_50_code, 3, [], none, 0, 0, 0, 0, ⟨"GuardedMovesModel", "stop", "(II)V"⟩)
theorem d_m_stop_0 : decode prog_6_method_50_code 0 = .ok (.aload_n 0, 1) := by decide +kernel
theorem d_m_stop_1 : decode prog_6_method_50_code 1 = .ok (.iload_n 1, 1) := by decide +kernel
theorem d_m_stop_2 : decode prog_6_method_50_code 2 = .ok (.putfield 288, 3) := by decide +kernel
theorem d_m_stop_5 : decode prog_6_method_50_code 5 = .ok (.aload_n 0, 1) := by decide +kernel
theorem d_m_stop_6 : decode prog_6_method_50_code 6 = .ok (.iload_n 2, 1) := by decide +kernel
theorem d_m_stop_7 : decode prog_6_method_50_code 7 = .ok (.putfield 93, 3) := by decide +kernel
theorem d_m_stop_10 : decode prog_6_method_50_code 10 = .ok (.return_, 1) := by decide +kernel
theorem kc_m_stop : Kw (m_w (mi_m_stop )) := ⟨(in_t5 (List.mem_of_getElem? (i := 137) rfl)), rfl⟩
theorem mv_m_stop : MV (mi_m_stop ) "GuardedMovesModel" 2 := ⟨kw_1096, ks_79, kc_m_stop , kw_7, ⟨⟨(by show ("GuardedMovesModel" : String) ≠ "java/lang/invoke/MethodHandle"; decide), (by show ("GuardedMovesModel" : String) ≠ "java/lang/invoke/VarHandle"; decide)⟩, (by show (parseMethodDescriptor "(II)V").map (fun d => d.parameters.length) = some 2; decide +kernel)⟩⟩
def w_m_stop (p1 : Int32) (p2 : Int32) (σ : Sg) (Q : Sg → Prop) : Prop := Q (up (up σ 58 42 p1) 58 40 p2)
theorem b_m_stop {Δ : Ly} {G : Gm} {Q : Sg → Prop} (cx : Cx Δ G mi_m_stop) (p1 : Int32) (p2 : Int32) (σ : Sg) (h : w_m_stop p1 p2 σ Q) : Y Δ G mi_m_stop (qV Q) noE 0 0 σ 0 [(0, .ref (Δ.1 58)), (1, .int p1), (2, .int p2)] [] := by
  unfold w_m_stop at h
  refine y_aload_n cx (pc := 0) d_m_stop_0 rfl 0 rfl ?_
  refine y_iload_n cx (pc := 1) d_m_stop_1 rfl 1 rfl ?_
  refine y_put cx (pc := 2) (j := 42) (ty := .int) (le_b rfl) ck_Md kw_790 (le_b rfl) rfl (t_Md_ok 42 (le_b rfl)) rfl rfl (pf_58_42 Δ) d_m_stop_2 ?_
  refine y_aload_n cx (pc := 5) d_m_stop_5 rfl 0 rfl ?_
  refine y_iload_n cx (pc := 6) d_m_stop_6 rfl 2 rfl ?_
  refine y_put cx (pc := 7) (j := 40) (ty := .int) (le_b rfl) ck_Md kw_788 (le_b rfl) rfl (t_Md_ok 40 (le_b rfl)) rfl rfl (pf_58_40 Δ) d_m_stop_7 ?_
  exact y_vret cx (pc := 10) rfl d_m_stop_10 (le_b rfl) (le_b rfl) h
theorem c_m_stop {l : Launch} (hfl : l.flags = flags0) (Δ : Ly) (p1 : Int32) (p2 : Int32) (σ : Sg) (Q : Sg → Prop) (h : w_m_stop p1 p2 σ Q) : Ct l Δ mi_m_stop [.ref (Δ.1 58), .int p1, .int p2] σ (qV Q) noE :=
  Ct.of hfl (by show plainFor ⟨"GuardedMovesModel", "stop", "(II)V"⟩ = true; decide +kernel) rfl (le_b rfl) (fun G hl cx => b_m_stop cx p1 p2 σ h)
def mi_m_isWord : Mi := ("GuardedMovesModel", prog_6_method_52_code, 4, [], (some .boolean), 1, 29, 0, 0, ⟨"GuardedMovesModel", "isWord", "(II)Z"⟩)
theorem d_m_isWord_0 : decode prog_6_method_52_code 0 = .ok (.iload_n 1, 1) := by decide +kernel
theorem d_m_isWord_1 : decode prog_6_method_52_code 1 = .ok (.i2l, 1) := by decide +kernel
theorem d_m_isWord_2 : decode prog_6_method_52_code 2 = .ok (.lconst 0, 1) := by decide +kernel
theorem d_m_isWord_3 : decode prog_6_method_52_code 3 = .ok (.ldc2_w 115, 3) := by decide +kernel
theorem d_m_isWord_6 : decode prog_6_method_52_code 6 = .ok (.invokestatic 107, 3) := by decide +kernel
theorem d_m_isWord_9 : decode prog_6_method_52_code 9 = .ok (.istore_n 3, 1) := by decide +kernel
theorem d_m_isWord_10 : decode prog_6_method_52_code 10 = .ok (.iload_n 3, 1) := by decide +kernel
theorem d_m_isWord_11 : decode prog_6_method_52_code 11 = .ok (.ifCond .ne 9, 3) := by decide +kernel
theorem d_m_isWord_14 : decode prog_6_method_52_code 14 = .ok (.aload_n 0, 1) := by decide +kernel
theorem d_m_isWord_15 : decode prog_6_method_52_code 15 = .ok (.iconst 2, 1) := by decide +kernel
theorem d_m_isWord_16 : decode prog_6_method_52_code 16 = .ok (.iload_n 2, 1) := by decide +kernel
theorem d_m_isWord_17 : decode prog_6_method_52_code 17 = .ok (.invokevirtual 291, 3) := by decide +kernel
theorem d_m_isWord_20 : decode prog_6_method_52_code 20 = .ok (.iload_n 3, 1) := by decide +kernel
theorem d_m_isWord_21 : decode prog_6_method_52_code 21 = .ok (.ireturn, 1) := by decide +kernel
theorem kc_m_isWord : Kw (m_w (mi_m_isWord )) := ⟨(in_t5 (List.mem_of_getElem? (i := 141) rfl)), rfl⟩
theorem mv_m_isWord : MV (mi_m_isWord ) "GuardedMovesModel" 2 := ⟨kw_1100, ks_80, kc_m_isWord , kw_7, ⟨⟨(by show ("GuardedMovesModel" : String) ≠ "java/lang/invoke/MethodHandle"; decide), (by show ("GuardedMovesModel" : String) ≠ "java/lang/invoke/VarHandle"; decide)⟩, (by show (parseMethodDescriptor "(II)Z").map (fun d => d.parameters.length) = some 2; decide +kernel)⟩⟩
def w_m_isWord_20 (Q : Int32 → Sg → Prop) (v3 : Int32) (σ : Sg) : Prop := bz v3 ∧ (Q v3 σ)
theorem b_m_isWord_20 {Δ : Ly} {G : Gm} {Q : Int32 → Sg → Prop} (cx : Cx Δ G mi_m_isWord) : ∀ (v3 : Int32) (σ : Sg), w_m_isWord_20 Q v3 σ → Y Δ G mi_m_isWord (qI Q) noE 0 0 σ 20 [(3, .int v3)] [] := by
  intro v3 σ h
  unfold w_m_isWord_20 at h
  refine y_iload_n cx (pc := 20) d_m_isWord_20 rfl 0 rfl ?_
  obtain ⟨hb, h⟩ := h
  exact y_zret cx (pc := 21) rfl hb d_m_isWord_21 (le_b rfl) (le_b rfl) h
def w_m_isWord (p1 : Int32) (p2 : Int32) (σ : Sg) (Q : Int32 → Sg → Prop) : Prop := w_m_isIn (p1.toInt64) 0 31 σ (fun x1 σ2 => (¬ x1 = 0 → (w_m_isWord_20 Q x1 σ2)) ∧ (x1 = 0 → (w_m_stop 2 p2 σ2 (fun σ3 => w_m_isWord_20 Q x1 σ3))))
theorem b_m_isWord {Δ : Ly} {G : Gm} {Q : Int32 → Sg → Prop} (cx : Cx Δ G mi_m_isWord) (p1 : Int32) (p2 : Int32) (σ : Sg) (h : w_m_isWord p1 p2 σ Q) : Y Δ G mi_m_isWord (qI Q) noE 0 0 σ 0 [(0, .ref (Δ.1 58)), (1, .int p1), (2, .int p2)] [] := by
  unfold w_m_isWord at h
  refine y_iload_n cx (pc := 0) d_m_isWord_0 rfl 1 rfl ?_
  refine y_i2l cx (pc := 1) d_m_isWord_1 ?_
  refine y_lconst cx (pc := 2) (v := 0) lc_0 d_m_isWord_2 ?_
  refine y_ldc2 cx (pc := 3) kw_904 d_m_isWord_3 ?_
  refine y_sI cx (pc := 6) (st := []) [.long (p1.toInt64), .long 0, .long 31] (c_m_isIn cx.fl Δ (p1.toInt64) 0 31 _ _ h) mv_m_isIn kw_893 rfl (le_b rfl) (le_b rfl) (le_b rfl) (le_b rfl) (le_b rfl) d_m_isWord_6 (fun x1 σ2 h => ?_) (fun x σ2 h => yt_no h)
  refine y_istore_n (lv' := [(3, .int x1), (0, .ref (Δ.1 58)), (1, .int p1), (2, .int p2)]) cx (pc := 9) d_m_isWord_9 rfl (le_b rfl) rfl ?_
  refine y_iload_n cx (pc := 10) d_m_isWord_10 rfl 0 rfl ?_
  refine y_if_ne cx (pc := 11) (tgt := 20) d_m_isWord_11 (by decide) (fun hc => ?_) (fun hc => ?_)
  · replace h := h.1 hc
    refine y_sub [0] rfl ?_
    exact b_m_isWord_20 cx x1 σ2 h
  · replace h := h.2 hc
    refine y_aload_n cx (pc := 14) d_m_isWord_14 rfl 1 rfl ?_
    refine y_iconst cx (pc := 15) ic_2 d_m_isWord_15 ?_
    refine y_iload_n cx (pc := 16) d_m_isWord_16 rfl 3 rfl ?_
    refine y_vV cx (pc := 17) (st := []) [.int 2, .int p2] (c_m_stop cx.fl Δ 2 p2 _ _ h) mv_m_stop kw_1094 (oc_58 Δ) ck_Md rfl (le_b rfl) (le_b rfl) (le_b rfl) (le_b rfl) (le_b rfl) d_m_isWord_17 (fun σ3 h => ?_) (fun x σ3 h => yt_no h)
    refine y_sub [0] rfl ?_
    exact b_m_isWord_20 cx x1 σ3 h
theorem c_m_isWord {l : Launch} (hfl : l.flags = flags0) (Δ : Ly) (p1 : Int32) (p2 : Int32) (σ : Sg) (Q : Int32 → Sg → Prop) (h : w_m_isWord p1 p2 σ Q) : Ct l Δ mi_m_isWord [.ref (Δ.1 58), .int p1, .int p2] σ (qI Q) noE :=
  Ct.of hfl (by show plainFor ⟨"GuardedMovesModel", "isWord", "(II)Z"⟩ = true; decide +kernel) rfl (le_b rfl) (fun G hl cx => b_m_isWord cx p1 p2 σ h)
def mi_m_reach : Mi := ("GuardedMovesModel", prog_6_method_51_code, 7, [], (some .int), 1, 26, 0, 0, ⟨"GuardedMovesModel", "reach", "(IIII)I"⟩)
theorem d_m_reach_0 : decode prog_6_method_51_code 0 = .ok (.iload_n 1, 1) := by decide +kernel
theorem d_m_reach_1 : decode prog_6_method_51_code 1 = .ok (.tableswitch 141 2 11 #[55, 59, 63, 67, 67, 107, 111, 115, 119, 130], 55) := by decide +kernel
theorem d_m_reach_56 : decode prog_6_method_51_code 56 = .ok (.iload_n 2, 1) := by decide +kernel
theorem d_m_reach_57 : decode prog_6_method_51_code 57 = .ok (.iload_n 3, 1) := by decide +kernel
theorem d_m_reach_58 : decode prog_6_method_51_code 58 = .ok (.iadd, 1) := by decide +kernel
theorem d_m_reach_59 : decode prog_6_method_51_code 59 = .ok (.ireturn, 1) := by decide +kernel
theorem d_m_reach_60 : decode prog_6_method_51_code 60 = .ok (.iload_n 2, 1) := by decide +kernel
theorem d_m_reach_61 : decode prog_6_method_51_code 61 = .ok (.iload_n 3, 1) := by decide +kernel
theorem d_m_reach_62 : decode prog_6_method_51_code 62 = .ok (.isub, 1) := by decide +kernel
theorem d_m_reach_63 : decode prog_6_method_51_code 63 = .ok (.ireturn, 1) := by decide +kernel
theorem d_m_reach_64 : decode prog_6_method_51_code 64 = .ok (.iload_n 2, 1) := by decide +kernel
theorem d_m_reach_65 : decode prog_6_method_51_code 65 = .ok (.iload_n 3, 1) := by decide +kernel
theorem d_m_reach_66 : decode prog_6_method_51_code 66 = .ok (.imul, 1) := by decide +kernel
theorem d_m_reach_67 : decode prog_6_method_51_code 67 = .ok (.ireturn, 1) := by decide +kernel
theorem d_m_reach_68 : decode prog_6_method_51_code 68 = .ok (.iload_n 3, 1) := by decide +kernel
theorem d_m_reach_69 : decode prog_6_method_51_code 69 = .ok (.ifCond .ne 12, 3) := by decide +kernel
theorem d_m_reach_72 : decode prog_6_method_51_code 72 = .ok (.aload_n 0, 1) := by decide +kernel
theorem d_m_reach_73 : decode prog_6_method_51_code 73 = .ok (.iconst 1, 1) := by decide +kernel
theorem d_m_reach_74 : decode prog_6_method_51_code 74 = .ok (.iload 4, 2) := by decide +kernel
theorem d_m_reach_76 : decode prog_6_method_51_code 76 = .ok (.invokevirtual 291, 3) := by decide +kernel
theorem d_m_reach_79 : decode prog_6_method_51_code 79 = .ok (.iconst 0, 1) := by decide +kernel
theorem d_m_reach_80 : decode prog_6_method_51_code 80 = .ok (.ireturn, 1) := by decide +kernel
theorem d_m_reach_81 : decode prog_6_method_51_code 81 = .ok (.iload_n 2, 1) := by decide +kernel
theorem d_m_reach_82 : decode prog_6_method_51_code 82 = .ok (.i2l, 1) := by decide +kernel
theorem d_m_reach_83 : decode prog_6_method_51_code 83 = .ok (.iload_n 3, 1) := by decide +kernel
theorem d_m_reach_84 : decode prog_6_method_51_code 84 = .ok (.i2l, 1) := by decide +kernel
theorem d_m_reach_85 : decode prog_6_method_51_code 85 = .ok (.ldiv, 1) := by decide +kernel
theorem d_m_reach_86 : decode prog_6_method_51_code 86 = .ok (.lstore 5, 2) := by decide +kernel
theorem d_m_reach_88 : decode prog_6_method_51_code 88 = .ok (.iload_n 1, 1) := by decide +kernel
theorem d_m_reach_89 : decode prog_6_method_51_code 89 = .ok (.iconst 5, 1) := by decide +kernel
theorem d_m_reach_90 : decode prog_6_method_51_code 90 = .ok (.if_icmp .ne 8, 3) := by decide +kernel
theorem d_m_reach_93 : decode prog_6_method_51_code 93 = .ok (.lload 5, 2) := by decide +kernel
theorem d_m_reach_95 : decode prog_6_method_51_code 95 = .ok (.goto 11, 3) := by decide +kernel
theorem d_m_reach_98 : decode prog_6_method_51_code 98 = .ok (.iload_n 2, 1) := by decide +kernel
theorem d_m_reach_99 : decode prog_6_method_51_code 99 = .ok (.i2l, 1) := by decide +kernel
theorem d_m_reach_100 : decode prog_6_method_51_code 100 = .ok (.lload 5, 2) := by decide +kernel
theorem d_m_reach_102 : decode prog_6_method_51_code 102 = .ok (.iload_n 3, 1) := by decide +kernel
theorem d_m_reach_103 : decode prog_6_method_51_code 103 = .ok (.i2l, 1) := by decide +kernel
theorem d_m_reach_104 : decode prog_6_method_51_code 104 = .ok (.lmul, 1) := by decide +kernel
theorem d_m_reach_105 : decode prog_6_method_51_code 105 = .ok (.lsub, 1) := by decide +kernel
theorem d_m_reach_106 : decode prog_6_method_51_code 106 = .ok (.l2i, 1) := by decide +kernel
theorem d_m_reach_107 : decode prog_6_method_51_code 107 = .ok (.ireturn, 1) := by decide +kernel
theorem d_m_reach_108 : decode prog_6_method_51_code 108 = .ok (.iload_n 2, 1) := by decide +kernel
theorem d_m_reach_109 : decode prog_6_method_51_code 109 = .ok (.iload_n 3, 1) := by decide +kernel
theorem d_m_reach_110 : decode prog_6_method_51_code 110 = .ok (.iand, 1) := by decide +kernel
theorem d_m_reach_111 : decode prog_6_method_51_code 111 = .ok (.ireturn, 1) := by decide +kernel
theorem d_m_reach_112 : decode prog_6_method_51_code 112 = .ok (.iload_n 2, 1) := by decide +kernel
theorem d_m_reach_113 : decode prog_6_method_51_code 113 = .ok (.iload_n 3, 1) := by decide +kernel
theorem d_m_reach_114 : decode prog_6_method_51_code 114 = .ok (.ior, 1) := by decide +kernel
theorem d_m_reach_115 : decode prog_6_method_51_code 115 = .ok (.ireturn, 1) := by decide +kernel
theorem d_m_reach_116 : decode prog_6_method_51_code 116 = .ok (.iload_n 2, 1) := by decide +kernel
theorem d_m_reach_117 : decode prog_6_method_51_code 117 = .ok (.iload_n 3, 1) := by decide +kernel
theorem d_m_reach_118 : decode prog_6_method_51_code 118 = .ok (.ixor, 1) := by decide +kernel
theorem d_m_reach_119 : decode prog_6_method_51_code 119 = .ok (.ireturn, 1) := by decide +kernel
theorem d_m_reach_120 : decode prog_6_method_51_code 120 = .ok (.iload_n 2, 1) := by decide +kernel
theorem d_m_reach_121 : decode prog_6_method_51_code 121 = .ok (.iload_n 3, 1) := by decide +kernel
theorem d_m_reach_122 : decode prog_6_method_51_code 122 = .ok (.if_icmp .ne 7, 3) := by decide +kernel
theorem d_m_reach_125 : decode prog_6_method_51_code 125 = .ok (.iconst 1, 1) := by decide +kernel
theorem d_m_reach_126 : decode prog_6_method_51_code 126 = .ok (.goto 4, 3) := by decide +kernel
theorem d_m_reach_129 : decode prog_6_method_51_code 129 = .ok (.iconst 0, 1) := by decide +kernel
theorem d_m_reach_130 : decode prog_6_method_51_code 130 = .ok (.ireturn, 1) := by decide +kernel
theorem d_m_reach_131 : decode prog_6_method_51_code 131 = .ok (.iload_n 2, 1) := by decide +kernel
theorem d_m_reach_132 : decode prog_6_method_51_code 132 = .ok (.iload_n 3, 1) := by decide +kernel
theorem d_m_reach_133 : decode prog_6_method_51_code 133 = .ok (.if_icmp .eq 7, 3) := by decide +kernel
theorem d_m_reach_136 : decode prog_6_method_51_code 136 = .ok (.iconst 1, 1) := by decide +kernel
theorem d_m_reach_137 : decode prog_6_method_51_code 137 = .ok (.goto 4, 3) := by decide +kernel
theorem d_m_reach_140 : decode prog_6_method_51_code 140 = .ok (.iconst 0, 1) := by decide +kernel
theorem d_m_reach_141 : decode prog_6_method_51_code 141 = .ok (.ireturn, 1) := by decide +kernel
theorem d_m_reach_142 : decode prog_6_method_51_code 142 = .ok (.iload_n 2, 1) := by decide +kernel
theorem d_m_reach_143 : decode prog_6_method_51_code 143 = .ok (.iload_n 3, 1) := by decide +kernel
theorem d_m_reach_144 : decode prog_6_method_51_code 144 = .ok (.if_icmp .ge 7, 3) := by decide +kernel
theorem d_m_reach_147 : decode prog_6_method_51_code 147 = .ok (.iconst 1, 1) := by decide +kernel
theorem d_m_reach_148 : decode prog_6_method_51_code 148 = .ok (.goto 4, 3) := by decide +kernel
theorem d_m_reach_151 : decode prog_6_method_51_code 151 = .ok (.iconst 0, 1) := by decide +kernel
theorem d_m_reach_152 : decode prog_6_method_51_code 152 = .ok (.ireturn, 1) := by decide +kernel
theorem kc_m_reach : Kw (m_w (mi_m_reach )) := ⟨(in_t5 (List.mem_of_getElem? (i := 133) rfl)), rfl⟩
theorem mv_m_reach : MV (mi_m_reach ) "GuardedMovesModel" 4 := ⟨kw_1092, ks_78, kc_m_reach , kw_7, ⟨⟨(by show ("GuardedMovesModel" : String) ≠ "java/lang/invoke/MethodHandle"; decide), (by show ("GuardedMovesModel" : String) ≠ "java/lang/invoke/VarHandle"; decide)⟩, (by show (parseMethodDescriptor "(IIII)I").map (fun d => d.parameters.length) = some 4; decide +kernel)⟩⟩
def w_m_reach_106 (Q : Int32 → Sg → Prop) (s0 : Int64) (σ : Sg) : Prop := Q (s0.toInt32) σ
theorem b_m_reach_106 {Δ : Ly} {G : Gm} {Q : Int32 → Sg → Prop} (cx : Cx Δ G mi_m_reach) : ∀ (s0 : Int64) (σ : Sg), w_m_reach_106 Q s0 σ → Y Δ G mi_m_reach (qI Q) noE 0 0 σ 106 [] [.long s0] := by
  intro s0 σ h
  unfold w_m_reach_106 at h
  refine y_l2i cx (pc := 106) d_m_reach_106 ?_
  exact y_iret cx (pc := 107) rfl d_m_reach_107 (le_b rfl) (le_b rfl) h
def w_m_reach_130 (Q : Int32 → Sg → Prop) (s0 : Int32) (σ : Sg) : Prop := Q s0 σ
theorem b_m_reach_130 {Δ : Ly} {G : Gm} {Q : Int32 → Sg → Prop} (cx : Cx Δ G mi_m_reach) : ∀ (s0 : Int32) (σ : Sg), w_m_reach_130 Q s0 σ → Y Δ G mi_m_reach (qI Q) noE 0 0 σ 130 [] [.int s0] := by
  intro s0 σ h
  unfold w_m_reach_130 at h
  exact y_iret cx (pc := 130) rfl d_m_reach_130 (le_b rfl) (le_b rfl) h
def w_m_reach_141 (Q : Int32 → Sg → Prop) (s0 : Int32) (σ : Sg) : Prop := Q s0 σ
theorem b_m_reach_141 {Δ : Ly} {G : Gm} {Q : Int32 → Sg → Prop} (cx : Cx Δ G mi_m_reach) : ∀ (s0 : Int32) (σ : Sg), w_m_reach_141 Q s0 σ → Y Δ G mi_m_reach (qI Q) noE 0 0 σ 141 [] [.int s0] := by
  intro s0 σ h
  unfold w_m_reach_141 at h
  exact y_iret cx (pc := 141) rfl d_m_reach_141 (le_b rfl) (le_b rfl) h
def w_m_reach_152 (Q : Int32 → Sg → Prop) (s0 : Int32) (σ : Sg) : Prop := Q s0 σ
theorem b_m_reach_152 {Δ : Ly} {G : Gm} {Q : Int32 → Sg → Prop} (cx : Cx Δ G mi_m_reach) : ∀ (s0 : Int32) (σ : Sg), w_m_reach_152 Q s0 σ → Y Δ G mi_m_reach (qI Q) noE 0 0 σ 152 [] [.int s0] := by
  intro s0 σ h
  unfold w_m_reach_152 at h
  exact y_iret cx (pc := 152) rfl d_m_reach_152 (le_b rfl) (le_b rfl) h
def w_m_reach (p1 : Int32) (p2 : Int32) (p3 : Int32) (p4 : Int32) (σ : Sg) (Q : Int32 → Sg → Prop) : Prop := (p1 = 2 → (Q (p2 + p3) σ)) ∧ (¬ p1 = 2 → ((p1 = 3 → (Q (p2 - p3) σ)) ∧ (¬ p1 = 3 → ((p1 = 4 → (Q (p2 * p3) σ)) ∧ (¬ p1 = 4 → ((p1 = 5 → ((¬ p3 = 0 → (¬ (p3.toInt64) = 0 ∧ (∀ x1 : Int64, x1 = (p2.toInt64) / (p3.toInt64) → ((¬ p1 = 5 → (w_m_reach_106 Q ((p2.toInt64) - (x1 * (p3.toInt64))) σ)) ∧ (p1 = 5 → (w_m_reach_106 Q x1 σ)))))) ∧ (p3 = 0 → (w_m_stop 1 p4 σ (fun σ2 => Q 0 σ2))))) ∧ (¬ p1 = 5 → ((p1 = 6 → ((¬ p3 = 0 → (¬ (p3.toInt64) = 0 ∧ (∀ x3 : Int64, x3 = (p2.toInt64) / (p3.toInt64) → ((¬ p1 = 5 → (w_m_reach_106 Q ((p2.toInt64) - (x3 * (p3.toInt64))) σ)) ∧ (p1 = 5 → (w_m_reach_106 Q x3 σ)))))) ∧ (p3 = 0 → (w_m_stop 1 p4 σ (fun σ4 => Q 0 σ4))))) ∧ (¬ p1 = 6 → ((p1 = 7 → (Q (p2 &&& p3) σ)) ∧ (¬ p1 = 7 → ((p1 = 8 → (Q (p2 ||| p3) σ)) ∧ (¬ p1 = 8 → ((p1 = 9 → (Q (p2 ^^^ p3) σ)) ∧ (¬ p1 = 9 → ((p1 = 10 → ((¬ p2 = p3 → (w_m_reach_130 Q 0 σ)) ∧ (p2 = p3 → (w_m_reach_130 Q 1 σ)))) ∧ (¬ p1 = 10 → ((p1 = 11 → ((p2 = p3 → (w_m_reach_141 Q 0 σ)) ∧ (¬ p2 = p3 → (w_m_reach_141 Q 1 σ)))) ∧ (¬ p1 = 11 → ((p3 ≤ p2 → (w_m_reach_152 Q 0 σ)) ∧ (¬ p3 ≤ p2 → (w_m_reach_152 Q 1 σ))))))))))))))))))))))
theorem b_m_reach {Δ : Ly} {G : Gm} {Q : Int32 → Sg → Prop} (cx : Cx Δ G mi_m_reach) (p1 : Int32) (p2 : Int32) (p3 : Int32) (p4 : Int32) (σ : Sg) (h : w_m_reach p1 p2 p3 p4 σ Q) : Y Δ G mi_m_reach (qI Q) noE 0 0 σ 0 [(0, .ref (Δ.1 58)), (1, .int p1), (2, .int p2), (3, .int p3), (4, .int p4)] [] := by
  unfold w_m_reach at h
  refine y_iload_n cx (pc := 0) d_m_reach_0 rfl 1 rfl ?_
  by_cases hc0 : p1 = 2
  · replace h := h.1 hc0
    refine y_tIn cx (pc := 1) (tgt := 56) (c := 2) d_m_reach_1 hc0 (by decide) (by decide) rfl (by decide) ?_
    refine y_iload_n cx (pc := 56) d_m_reach_56 rfl 2 rfl ?_
    refine y_iload_n cx (pc := 57) d_m_reach_57 rfl 3 rfl ?_
    refine y_iadd cx (pc := 58) d_m_reach_58 ?_
    exact y_iret cx (pc := 59) rfl d_m_reach_59 (le_b rfl) (le_b rfl) h
  replace h := h.2 hc0
  by_cases hc1 : p1 = 3
  · replace h := h.1 hc1
    refine y_tIn cx (pc := 1) (tgt := 60) (c := 3) d_m_reach_1 hc1 (by decide) (by decide) rfl (by decide) ?_
    refine y_iload_n cx (pc := 60) d_m_reach_60 rfl 2 rfl ?_
    refine y_iload_n cx (pc := 61) d_m_reach_61 rfl 3 rfl ?_
    refine y_isub cx (pc := 62) d_m_reach_62 ?_
    exact y_iret cx (pc := 63) rfl d_m_reach_63 (le_b rfl) (le_b rfl) h
  replace h := h.2 hc1
  by_cases hc2 : p1 = 4
  · replace h := h.1 hc2
    refine y_tIn cx (pc := 1) (tgt := 64) (c := 4) d_m_reach_1 hc2 (by decide) (by decide) rfl (by decide) ?_
    refine y_iload_n cx (pc := 64) d_m_reach_64 rfl 2 rfl ?_
    refine y_iload_n cx (pc := 65) d_m_reach_65 rfl 3 rfl ?_
    refine y_imul cx (pc := 66) d_m_reach_66 ?_
    exact y_iret cx (pc := 67) rfl d_m_reach_67 (le_b rfl) (le_b rfl) h
  replace h := h.2 hc2
  by_cases hc3 : p1 = 5
  · replace h := h.1 hc3
    refine y_tIn cx (pc := 1) (tgt := 68) (c := 5) d_m_reach_1 hc3 (by decide) (by decide) rfl (by decide) ?_
    refine y_iload_n cx (pc := 68) d_m_reach_68 rfl 3 rfl ?_
    refine y_if_ne cx (pc := 69) (tgt := 81) d_m_reach_69 (by decide) (fun hc => ?_) (fun hc => ?_)
    · replace h := h.1 hc
      refine y_iload_n cx (pc := 81) d_m_reach_81 rfl 2 rfl ?_
      refine y_i2l cx (pc := 82) d_m_reach_82 ?_
      refine y_iload_n cx (pc := 83) d_m_reach_83 rfl 3 rfl ?_
      refine y_i2l cx (pc := 84) d_m_reach_84 ?_
      obtain ⟨h0, h⟩ := h
      refine y_ldiv cx (pc := 85) h0 d_m_reach_85 ?_
      refine y_topl (fun x1 ex1 => ?_)
      replace h := h x1 ex1
      refine y_lstore (lv' := [(5, .long x1), (0, .ref (Δ.1 58)), (1, .int p1), (2, .int p2), (3, .int p3), (4, .int p4)]) cx (pc := 86) d_m_reach_86 (le_b rfl) rfl ?_
      refine y_iload_n cx (pc := 88) d_m_reach_88 rfl 2 rfl ?_
      refine y_iconst cx (pc := 89) ic_5 d_m_reach_89 ?_
      refine y_icmp_ne cx (pc := 90) (tgt := 98) d_m_reach_90 (by decide) (fun hc => ?_) (fun hc => ?_)
      · replace h := h.1 hc
        refine y_iload_n cx (pc := 98) d_m_reach_98 rfl 3 rfl ?_
        refine y_i2l cx (pc := 99) d_m_reach_99 ?_
        refine y_lload cx (pc := 100) d_m_reach_100 0 rfl ?_
        refine y_iload_n cx (pc := 102) d_m_reach_102 rfl 4 rfl ?_
        refine y_i2l cx (pc := 103) d_m_reach_103 ?_
        refine y_lmul cx (pc := 104) d_m_reach_104 ?_
        refine y_lsub cx (pc := 105) d_m_reach_105 ?_
        refine y_sub [] rfl ?_
        exact b_m_reach_106 cx ((p2.toInt64) - (x1 * (p3.toInt64))) σ h
      · replace h := h.2 hc
        refine y_lload cx (pc := 93) d_m_reach_93 0 rfl ?_
        refine y_goto cx (pc := 95) (tgt := 106) d_m_reach_95 (by decide) ?_
        refine y_sub [] rfl ?_
        exact b_m_reach_106 cx x1 σ h
    · replace h := h.2 hc
      refine y_aload_n cx (pc := 72) d_m_reach_72 rfl 0 rfl ?_
      refine y_iconst cx (pc := 73) ic_1 d_m_reach_73 ?_
      refine y_iload cx (pc := 74) d_m_reach_74 4 rfl ?_
      refine y_vV cx (pc := 76) (st := []) [.int 1, .int p4] (c_m_stop cx.fl Δ 1 p4 _ _ h) mv_m_stop kw_1094 (oc_58 Δ) ck_Md rfl (le_b rfl) (le_b rfl) (le_b rfl) (le_b rfl) (le_b rfl) d_m_reach_76 (fun σ2 h => ?_) (fun x σ2 h => yt_no h)
      refine y_iconst cx (pc := 79) ic_0 d_m_reach_79 ?_
      exact y_iret cx (pc := 80) rfl d_m_reach_80 (le_b rfl) (le_b rfl) h
  replace h := h.2 hc3
  by_cases hc4 : p1 = 6
  · replace h := h.1 hc4
    refine y_tIn cx (pc := 1) (tgt := 68) (c := 6) d_m_reach_1 hc4 (by decide) (by decide) rfl (by decide) ?_
    refine y_iload_n cx (pc := 68) d_m_reach_68 rfl 3 rfl ?_
    refine y_if_ne cx (pc := 69) (tgt := 81) d_m_reach_69 (by decide) (fun hc => ?_) (fun hc => ?_)
    · replace h := h.1 hc
      refine y_iload_n cx (pc := 81) d_m_reach_81 rfl 2 rfl ?_
      refine y_i2l cx (pc := 82) d_m_reach_82 ?_
      refine y_iload_n cx (pc := 83) d_m_reach_83 rfl 3 rfl ?_
      refine y_i2l cx (pc := 84) d_m_reach_84 ?_
      obtain ⟨h0, h⟩ := h
      refine y_ldiv cx (pc := 85) h0 d_m_reach_85 ?_
      refine y_topl (fun x3 ex3 => ?_)
      replace h := h x3 ex3
      refine y_lstore (lv' := [(5, .long x3), (0, .ref (Δ.1 58)), (1, .int p1), (2, .int p2), (3, .int p3), (4, .int p4)]) cx (pc := 86) d_m_reach_86 (le_b rfl) rfl ?_
      refine y_iload_n cx (pc := 88) d_m_reach_88 rfl 2 rfl ?_
      refine y_iconst cx (pc := 89) ic_5 d_m_reach_89 ?_
      refine y_icmp_ne cx (pc := 90) (tgt := 98) d_m_reach_90 (by decide) (fun hc => ?_) (fun hc => ?_)
      · replace h := h.1 hc
        refine y_iload_n cx (pc := 98) d_m_reach_98 rfl 3 rfl ?_
        refine y_i2l cx (pc := 99) d_m_reach_99 ?_
        refine y_lload cx (pc := 100) d_m_reach_100 0 rfl ?_
        refine y_iload_n cx (pc := 102) d_m_reach_102 rfl 4 rfl ?_
        refine y_i2l cx (pc := 103) d_m_reach_103 ?_
        refine y_lmul cx (pc := 104) d_m_reach_104 ?_
        refine y_lsub cx (pc := 105) d_m_reach_105 ?_
        refine y_sub [] rfl ?_
        exact b_m_reach_106 cx ((p2.toInt64) - (x3 * (p3.toInt64))) σ h
      · replace h := h.2 hc
        refine y_lload cx (pc := 93) d_m_reach_93 0 rfl ?_
        refine y_goto cx (pc := 95) (tgt := 106) d_m_reach_95 (by decide) ?_
        refine y_sub [] rfl ?_
        exact b_m_reach_106 cx x3 σ h
    · replace h := h.2 hc
      refine y_aload_n cx (pc := 72) d_m_reach_72 rfl 0 rfl ?_
      refine y_iconst cx (pc := 73) ic_1 d_m_reach_73 ?_
      refine y_iload cx (pc := 74) d_m_reach_74 4 rfl ?_
      refine y_vV cx (pc := 76) (st := []) [.int 1, .int p4] (c_m_stop cx.fl Δ 1 p4 _ _ h) mv_m_stop kw_1094 (oc_58 Δ) ck_Md rfl (le_b rfl) (le_b rfl) (le_b rfl) (le_b rfl) (le_b rfl) d_m_reach_76 (fun σ4 h => ?_) (fun x σ4 h => yt_no h)
      refine y_iconst cx (pc := 79) ic_0 d_m_reach_79 ?_
      exact y_iret cx (pc := 80) rfl d_m_reach_80 (le_b rfl) (le_b rfl) h
  replace h := h.2 hc4
  by_cases hc5 : p1 = 7
  · replace h := h.1 hc5
    refine y_tIn cx (pc := 1) (tgt := 108) (c := 7) d_m_reach_1 hc5 (by decide) (by decide) rfl (by decide) ?_
    refine y_iload_n cx (pc := 108) d_m_reach_108 rfl 2 rfl ?_
    refine y_iload_n cx (pc := 109) d_m_reach_109 rfl 3 rfl ?_
    refine y_iand cx (pc := 110) d_m_reach_110 ?_
    exact y_iret cx (pc := 111) rfl d_m_reach_111 (le_b rfl) (le_b rfl) h
  replace h := h.2 hc5
  by_cases hc6 : p1 = 8
  · replace h := h.1 hc6
    refine y_tIn cx (pc := 1) (tgt := 112) (c := 8) d_m_reach_1 hc6 (by decide) (by decide) rfl (by decide) ?_
    refine y_iload_n cx (pc := 112) d_m_reach_112 rfl 2 rfl ?_
    refine y_iload_n cx (pc := 113) d_m_reach_113 rfl 3 rfl ?_
    refine y_ior cx (pc := 114) d_m_reach_114 ?_
    exact y_iret cx (pc := 115) rfl d_m_reach_115 (le_b rfl) (le_b rfl) h
  replace h := h.2 hc6
  by_cases hc7 : p1 = 9
  · replace h := h.1 hc7
    refine y_tIn cx (pc := 1) (tgt := 116) (c := 9) d_m_reach_1 hc7 (by decide) (by decide) rfl (by decide) ?_
    refine y_iload_n cx (pc := 116) d_m_reach_116 rfl 2 rfl ?_
    refine y_iload_n cx (pc := 117) d_m_reach_117 rfl 3 rfl ?_
    refine y_ixor cx (pc := 118) d_m_reach_118 ?_
    exact y_iret cx (pc := 119) rfl d_m_reach_119 (le_b rfl) (le_b rfl) h
  replace h := h.2 hc7
  by_cases hc8 : p1 = 10
  · replace h := h.1 hc8
    refine y_tIn cx (pc := 1) (tgt := 120) (c := 10) d_m_reach_1 hc8 (by decide) (by decide) rfl (by decide) ?_
    refine y_iload_n cx (pc := 120) d_m_reach_120 rfl 2 rfl ?_
    refine y_iload_n cx (pc := 121) d_m_reach_121 rfl 3 rfl ?_
    refine y_icmp_ne cx (pc := 122) (tgt := 129) d_m_reach_122 (by decide) (fun hc => ?_) (fun hc => ?_)
    · replace h := h.1 hc
      refine y_iconst cx (pc := 129) ic_0 d_m_reach_129 ?_
      refine y_sub [] rfl ?_
      exact b_m_reach_130 cx 0 σ h
    · replace h := h.2 hc
      refine y_iconst cx (pc := 125) ic_1 d_m_reach_125 ?_
      refine y_goto cx (pc := 126) (tgt := 130) d_m_reach_126 (by decide) ?_
      refine y_sub [] rfl ?_
      exact b_m_reach_130 cx 1 σ h
  replace h := h.2 hc8
  by_cases hc9 : p1 = 11
  · replace h := h.1 hc9
    refine y_tIn cx (pc := 1) (tgt := 131) (c := 11) d_m_reach_1 hc9 (by decide) (by decide) rfl (by decide) ?_
    refine y_iload_n cx (pc := 131) d_m_reach_131 rfl 2 rfl ?_
    refine y_iload_n cx (pc := 132) d_m_reach_132 rfl 3 rfl ?_
    refine y_icmp_eq cx (pc := 133) (tgt := 140) d_m_reach_133 (by decide) (fun hc => ?_) (fun hc => ?_)
    · replace h := h.1 hc
      refine y_iconst cx (pc := 140) ic_0 d_m_reach_140 ?_
      refine y_sub [] rfl ?_
      exact b_m_reach_141 cx 0 σ h
    · replace h := h.2 hc
      refine y_iconst cx (pc := 136) ic_1 d_m_reach_136 ?_
      refine y_goto cx (pc := 137) (tgt := 141) d_m_reach_137 (by decide) ?_
      refine y_sub [] rfl ?_
      exact b_m_reach_141 cx 1 σ h
  replace h := h.2 hc9
  refine y_tOut cx (pc := 1) (tgt := 142) d_m_reach_1 (by have z0 := lv_neT hc0 (show (2 : Int32).toInt = 2 from rfl); have z1 := lv_neT hc1 (show (3 : Int32).toInt = 3 from rfl); have z2 := lv_neT hc2 (show (4 : Int32).toInt = 4 from rfl); have z3 := lv_neT hc3 (show (5 : Int32).toInt = 5 from rfl); have z4 := lv_neT hc4 (show (6 : Int32).toInt = 6 from rfl); have z5 := lv_neT hc5 (show (7 : Int32).toInt = 7 from rfl); have z6 := lv_neT hc6 (show (8 : Int32).toInt = 8 from rfl); have z7 := lv_neT hc7 (show (9 : Int32).toInt = 9 from rfl); have z8 := lv_neT hc8 (show (10 : Int32).toInt = 10 from rfl); have z9 := lv_neT hc9 (show (11 : Int32).toInt = 11 from rfl); omega) (by decide) ?_
  refine y_iload_n cx (pc := 142) d_m_reach_142 rfl 2 rfl ?_
  refine y_iload_n cx (pc := 143) d_m_reach_143 rfl 3 rfl ?_
  refine y_icmp_ge cx (pc := 144) (tgt := 151) d_m_reach_144 (by decide) (fun hc => ?_) (fun hc => ?_)
  · replace h := h.1 hc
    refine y_iconst cx (pc := 151) ic_0 d_m_reach_151 ?_
    refine y_sub [] rfl ?_
    exact b_m_reach_152 cx 0 σ h
  · replace h := h.2 hc
    refine y_iconst cx (pc := 147) ic_1 d_m_reach_147 ?_
    refine y_goto cx (pc := 148) (tgt := 152) d_m_reach_148 (by decide) ?_
    refine y_sub [] rfl ?_
    exact b_m_reach_152 cx 1 σ h
theorem c_m_reach {l : Launch} (hfl : l.flags = flags0) (Δ : Ly) (p1 : Int32) (p2 : Int32) (p3 : Int32) (p4 : Int32) (σ : Sg) (Q : Int32 → Sg → Prop) (h : w_m_reach p1 p2 p3 p4 σ Q) : Ct l Δ mi_m_reach [.ref (Δ.1 58), .int p1, .int p2, .int p3, .int p4] σ (qI Q) noE :=
  Ct.of hfl (by show plainFor ⟨"GuardedMovesModel", "reach", "(IIII)I"⟩ = true; decide +kernel) rfl (le_b rfl) (fun G hl cx => b_m_reach cx p1 p2 p3 p4 σ h)
def mi_m_toldValue : Mi := ("GuardedMovesModel", prog_6_method_53_code, 3, [], (some .int), 1, 26, 0, 0, ⟨"GuardedMovesModel", "toldValue", "(II)I"⟩)
theorem d_m_toldValue_0 : decode prog_6_method_53_code 0 = .ok (.aload_n 0, 1) := by decide +kernel
theorem d_m_toldValue_1 : decode prog_6_method_53_code 1 = .ok (.iload_n 1, 1) := by decide +kernel
theorem d_m_toldValue_2 : decode prog_6_method_53_code 2 = .ok (.iload_n 2, 1) := by decide +kernel
theorem d_m_toldValue_3 : decode prog_6_method_53_code 3 = .ok (.invokevirtual 212, 3) := by decide +kernel
theorem d_m_toldValue_6 : decode prog_6_method_53_code 6 = .ok (.iconst 1, 1) := by decide +kernel
theorem d_m_toldValue_7 : decode prog_6_method_53_code 7 = .ok (.if_icmp .ne 19, 3) := by decide +kernel
theorem d_m_toldValue_10 : decode prog_6_method_53_code 10 = .ok (.aload_n 0, 1) := by decide +kernel
theorem d_m_toldValue_11 : decode prog_6_method_53_code 11 = .ok (.getfield 96, 3) := by decide +kernel
theorem d_m_toldValue_14 : decode prog_6_method_53_code 14 = .ok (.aload_n 0, 1) := by decide +kernel
theorem d_m_toldValue_15 : decode prog_6_method_53_code 15 = .ok (.iload_n 1, 1) := by decide +kernel
theorem d_m_toldValue_16 : decode prog_6_method_53_code 16 = .ok (.iload_n 2, 1) := by decide +kernel
theorem d_m_toldValue_17 : decode prog_6_method_53_code 17 = .ok (.iconst 1, 1) := by decide +kernel
theorem d_m_toldValue_18 : decode prog_6_method_53_code 18 = .ok (.iadd, 1) := by decide +kernel
theorem d_m_toldValue_19 : decode prog_6_method_53_code 19 = .ok (.invokevirtual 212, 3) := by decide +kernel
theorem d_m_toldValue_22 : decode prog_6_method_53_code 22 = .ok (.iaload, 1) := by decide +kernel
theorem d_m_toldValue_23 : decode prog_6_method_53_code 23 = .ok (.goto 11, 3) := by decide +kernel
theorem d_m_toldValue_26 : decode prog_6_method_53_code 26 = .ok (.aload_n 0, 1) := by decide +kernel
theorem d_m_toldValue_27 : decode prog_6_method_53_code 27 = .ok (.iload_n 1, 1) := by decide +kernel
theorem d_m_toldValue_28 : decode prog_6_method_53_code 28 = .ok (.iload_n 2, 1) := by decide +kernel
theorem d_m_toldValue_29 : decode prog_6_method_53_code 29 = .ok (.iconst 1, 1) := by decide +kernel
theorem d_m_toldValue_30 : decode prog_6_method_53_code 30 = .ok (.iadd, 1) := by decide +kernel
theorem d_m_toldValue_31 : decode prog_6_method_53_code 31 = .ok (.invokevirtual 212, 3) := by decide +kernel
theorem d_m_toldValue_34 : decode prog_6_method_53_code 34 = .ok (.ireturn, 1) := by decide +kernel
theorem kc_m_toldValue : Kw (m_w (mi_m_toldValue )) := ⟨(in_t5 (List.mem_of_getElem? (i := 129) rfl)), rfl⟩
theorem mv_m_toldValue : MV (mi_m_toldValue ) "GuardedMovesModel" 2 := ⟨kw_1088, ks_77, kc_m_toldValue , kw_7, ⟨⟨(by show ("GuardedMovesModel" : String) ≠ "java/lang/invoke/MethodHandle"; decide), (by show ("GuardedMovesModel" : String) ≠ "java/lang/invoke/VarHandle"; decide)⟩, (by show (parseMethodDescriptor "(II)I").map (fun d => d.parameters.length) = some 2; decide +kernel)⟩⟩
def w_m_toldValue_34 (Q : Int32 → Sg → Prop) (s0 : Int32) (σ : Sg) : Prop := Q s0 σ
theorem b_m_toldValue_34 {Δ : Ly} {G : Gm} {Q : Int32 → Sg → Prop} (cx : Cx Δ G mi_m_toldValue) : ∀ (s0 : Int32) (σ : Sg), w_m_toldValue_34 Q s0 σ → Y Δ G mi_m_toldValue (qI Q) noE 0 0 σ 34 [] [.int s0] := by
  intro s0 σ h
  unfold w_m_toldValue_34 at h
  exact y_iret cx (pc := 34) rfl d_m_toldValue_34 (le_b rfl) (le_b rfl) h
def w_m_toldValue (p1 : Int32) (p2 : Int32) (σ : Sg) (Q : Int32 → Sg → Prop) : Prop := w_m_of p1 p2 σ (fun x1 σ2 => (¬ x1 = 1 → (w_m_of p1 (p2 + 1) σ2 (fun x3 σ4 => w_m_toldValue_34 Q x3 σ4))) ∧ (x1 = 1 → (w_m_of p1 (p2 + 1) σ2 (fun x5 σ6 => vp_in x5 4100 ∧ (w_m_toldValue_34 Q (σ6 85 (x5.toNatClampNeg)) σ6)))))
theorem b_m_toldValue {Δ : Ly} {G : Gm} {Q : Int32 → Sg → Prop} (cx : Cx Δ G mi_m_toldValue) (p1 : Int32) (p2 : Int32) (σ : Sg) (h : w_m_toldValue p1 p2 σ Q) : Y Δ G mi_m_toldValue (qI Q) noE 0 0 σ 0 [(0, .ref (Δ.1 58)), (1, .int p1), (2, .int p2)] [] := by
  unfold w_m_toldValue at h
  refine y_aload_n cx (pc := 0) d_m_toldValue_0 rfl 0 rfl ?_
  refine y_iload_n cx (pc := 1) d_m_toldValue_1 rfl 1 rfl ?_
  refine y_iload_n cx (pc := 2) d_m_toldValue_2 rfl 2 rfl ?_
  refine y_vI cx (pc := 3) (st := []) [.int p1, .int p2] (c_m_of cx.fl Δ p1 p2 _ _ h) mv_m_of kw_976 (oc_58 Δ) ck_Md rfl (le_b rfl) (le_b rfl) (le_b rfl) (le_b rfl) (le_b rfl) d_m_toldValue_3 (fun x1 σ2 h => ?_) (fun x σ2 h => yt_no h)
  refine y_iconst cx (pc := 6) ic_1 d_m_toldValue_6 ?_
  refine y_icmp_ne cx (pc := 7) (tgt := 26) d_m_toldValue_7 (by decide) (fun hc => ?_) (fun hc => ?_)
  · replace h := h.1 hc
    refine y_aload_n cx (pc := 26) d_m_toldValue_26 rfl 0 rfl ?_
    refine y_iload_n cx (pc := 27) d_m_toldValue_27 rfl 1 rfl ?_
    refine y_iload_n cx (pc := 28) d_m_toldValue_28 rfl 2 rfl ?_
    refine y_iconst cx (pc := 29) ic_1 d_m_toldValue_29 ?_
    refine y_iadd cx (pc := 30) d_m_toldValue_30 ?_
    refine y_vI cx (pc := 31) (st := []) [.int p1, .int (p2 + 1)] (c_m_of cx.fl Δ p1 (p2 + 1) _ _ h) mv_m_of kw_976 (oc_58 Δ) ck_Md rfl (le_b rfl) (le_b rfl) (le_b rfl) (le_b rfl) (le_b rfl) d_m_toldValue_31 (fun x3 σ4 h => ?_) (fun x σ4 h => yt_no h)
    refine y_sub [] rfl ?_
    exact b_m_toldValue_34 cx x3 σ4 h
  · replace h := h.2 hc
    refine y_aload_n cx (pc := 10) d_m_toldValue_10 rfl 0 rfl ?_
    refine y_get cx (pc := 11) (j := 43) (v := .ref (Δ.1 85)) (le_b rfl) ck_Md kw_791 (le_b rfl) (gf_58_43 Δ _) d_m_toldValue_11 ?_
    refine y_aload_n cx (pc := 14) d_m_toldValue_14 rfl 0 rfl ?_
    refine y_iload_n cx (pc := 15) d_m_toldValue_15 rfl 1 rfl ?_
    refine y_iload_n cx (pc := 16) d_m_toldValue_16 rfl 2 rfl ?_
    refine y_iconst cx (pc := 17) ic_1 d_m_toldValue_17 ?_
    refine y_iadd cx (pc := 18) d_m_toldValue_18 ?_
    refine y_vI cx (pc := 19) (st := [.ref (Δ.1 85)]) [.int p1, .int (p2 + 1)] (c_m_of cx.fl Δ p1 (p2 + 1) _ _ h) mv_m_of kw_976 (oc_58 Δ) ck_Md rfl (le_b rfl) (le_b rfl) (le_b rfl) (le_b rfl) (le_b rfl) d_m_toldValue_19 (fun x5 σ6 h => ?_) (fun x σ6 h => yt_no h)
    obtain ⟨h0, h⟩ := h
    refine y_iald cx (pc := 22) ⟨(le_b rfl), fun _ => rfl⟩ h0 d_m_toldValue_22 ?_
    refine y_goto cx (pc := 23) (tgt := 34) d_m_toldValue_23 (by decide) ?_
    refine y_sub [] rfl ?_
    exact b_m_toldValue_34 cx (σ6 85 (x5.toNatClampNeg)) σ6 h
theorem c_m_toldValue {l : Launch} (hfl : l.flags = flags0) (Δ : Ly) (p1 : Int32) (p2 : Int32) (σ : Sg) (Q : Int32 → Sg → Prop) (h : w_m_toldValue p1 p2 σ Q) : Ct l Δ mi_m_toldValue [.ref (Δ.1 58), .int p1, .int p2] σ (qI Q) noE :=
  Ct.of hfl (by show plainFor ⟨"GuardedMovesModel", "toldValue", "(II)I"⟩ = true; decide +kernel) rfl (le_b rfl) (fun G hl cx => b_m_toldValue cx p1 p2 σ h)
def mi_m_doStatement : Mi := ("GuardedMovesModel", prog_6_method_54_code, 6, [], (some .int), 2, 56, 0, 0, ⟨"GuardedMovesModel", "doStatement", "(I)I"⟩)
theorem d_m_doStatement_0 : decode prog_6_method_54_code 0 = .ok (.aload_n 0, 1) := by decide +kernel
theorem d_m_doStatement_1 : decode prog_6_method_54_code 1 = .ok (.iload_n 1, 1) := by decide +kernel
theorem d_m_doStatement_2 : decode prog_6_method_54_code 2 = .ok (.iconst 3, 1) := by decide +kernel
theorem d_m_doStatement_3 : decode prog_6_method_54_code 3 = .ok (.invokevirtual 294, 3) := by decide +kernel
theorem d_m_doStatement_6 : decode prog_6_method_54_code 6 = .ok (.istore_n 2, 1) := by decide +kernel
theorem d_m_doStatement_7 : decode prog_6_method_54_code 7 = .ok (.aload_n 0, 1) := by decide +kernel
theorem d_m_doStatement_8 : decode prog_6_method_54_code 8 = .ok (.iload_n 1, 1) := by decide +kernel
theorem d_m_doStatement_9 : decode prog_6_method_54_code 9 = .ok (.iconst 5, 1) := by decide +kernel
theorem d_m_doStatement_10 : decode prog_6_method_54_code 10 = .ok (.invokevirtual 294, 3) := by decide +kernel
theorem d_m_doStatement_13 : decode prog_6_method_54_code 13 = .ok (.istore_n 3, 1) := by decide +kernel
theorem d_m_doStatement_14 : decode prog_6_method_54_code 14 = .ok (.aload_n 0, 1) := by decide +kernel
theorem d_m_doStatement_15 : decode prog_6_method_54_code 15 = .ok (.iload_n 1, 1) := by decide +kernel
theorem d_m_doStatement_16 : decode prog_6_method_54_code 16 = .ok (.iconst 1, 1) := by decide +kernel
theorem d_m_doStatement_17 : decode prog_6_method_54_code 17 = .ok (.invokevirtual 212, 3) := by decide +kernel
theorem d_m_doStatement_20 : decode prog_6_method_54_code 20 = .ok (.istore 4, 2) := by decide +kernel
theorem d_m_doStatement_22 : decode prog_6_method_54_code 22 = .ok (.aload_n 0, 1) := by decide +kernel
theorem d_m_doStatement_23 : decode prog_6_method_54_code 23 = .ok (.iload_n 1, 1) := by decide +kernel
theorem d_m_doStatement_24 : decode prog_6_method_54_code 24 = .ok (.iconst 0, 1) := by decide +kernel
theorem d_m_doStatement_25 : decode prog_6_method_54_code 25 = .ok (.invokevirtual 212, 3) := by decide +kernel
theorem d_m_doStatement_28 : decode prog_6_method_54_code 28 = .ok (.tableswitch 158 0 4 #[36, 47, 91, 116, 135], 36) := by decide +kernel
theorem d_m_doStatement_64 : decode prog_6_method_54_code 64 = .ok (.aload_n 0, 1) := by decide +kernel
theorem d_m_doStatement_65 : decode prog_6_method_54_code 65 = .ok (.getfield 96, 3) := by decide +kernel
theorem d_m_doStatement_68 : decode prog_6_method_54_code 68 = .ok (.iload 4, 2) := by decide +kernel
theorem d_m_doStatement_70 : decode prog_6_method_54_code 70 = .ok (.iload_n 2, 1) := by decide +kernel
theorem d_m_doStatement_71 : decode prog_6_method_54_code 71 = .ok (.iastore, 1) := by decide +kernel
theorem d_m_doStatement_72 : decode prog_6_method_54_code 72 = .ok (.goto 164, 3) := by decide +kernel
theorem d_m_doStatement_75 : decode prog_6_method_54_code 75 = .ok (.aload_n 0, 1) := by decide +kernel
theorem d_m_doStatement_76 : decode prog_6_method_54_code 76 = .ok (.aload_n 0, 1) := by decide +kernel
theorem d_m_doStatement_77 : decode prog_6_method_54_code 77 = .ok (.iload_n 1, 1) := by decide +kernel
theorem d_m_doStatement_78 : decode prog_6_method_54_code 78 = .ok (.iconst 2, 1) := by decide +kernel
theorem d_m_doStatement_79 : decode prog_6_method_54_code 79 = .ok (.invokevirtual 212, 3) := by decide +kernel
theorem d_m_doStatement_82 : decode prog_6_method_54_code 82 = .ok (.iload_n 2, 1) := by decide +kernel
theorem d_m_doStatement_83 : decode prog_6_method_54_code 83 = .ok (.iload_n 3, 1) := by decide +kernel
theorem d_m_doStatement_84 : decode prog_6_method_54_code 84 = .ok (.iload_n 1, 1) := by decide +kernel
theorem d_m_doStatement_85 : decode prog_6_method_54_code 85 = .ok (.invokevirtual 297, 3) := by decide +kernel
theorem d_m_doStatement_88 : decode prog_6_method_54_code 88 = .ok (.istore 5, 2) := by decide +kernel
theorem d_m_doStatement_90 : decode prog_6_method_54_code 90 = .ok (.aload_n 0, 1) := by decide +kernel
theorem d_m_doStatement_91 : decode prog_6_method_54_code 91 = .ok (.getfield 96, 3) := by decide +kernel
theorem d_m_doStatement_94 : decode prog_6_method_54_code 94 = .ok (.iload 4, 2) := by decide +kernel
theorem d_m_doStatement_96 : decode prog_6_method_54_code 96 = .ok (.aload_n 0, 1) := by decide +kernel
theorem d_m_doStatement_97 : decode prog_6_method_54_code 97 = .ok (.getfield 288, 3) := by decide +kernel
theorem d_m_doStatement_100 : decode prog_6_method_54_code 100 = .ok (.ifCond .ne 8, 3) := by decide +kernel
theorem d_m_doStatement_103 : decode prog_6_method_54_code 103 = .ok (.iload 5, 2) := by decide +kernel
theorem d_m_doStatement_105 : decode prog_6_method_54_code 105 = .ok (.goto 10, 3) := by decide +kernel
theorem d_m_doStatement_108 : decode prog_6_method_54_code 108 = .ok (.aload_n 0, 1) := by decide +kernel
theorem d_m_doStatement_109 : decode prog_6_method_54_code 109 = .ok (.getfield 96, 3) := by decide +kernel
theorem d_m_doStatement_112 : decode prog_6_method_54_code 112 = .ok (.iload 4, 2) := by decide +kernel
theorem d_m_doStatement_114 : decode prog_6_method_54_code 114 = .ok (.iaload, 1) := by decide +kernel
theorem d_m_doStatement_115 : decode prog_6_method_54_code 115 = .ok (.iastore, 1) := by decide +kernel
theorem d_m_doStatement_116 : decode prog_6_method_54_code 116 = .ok (.goto 120, 3) := by decide +kernel
theorem d_m_doStatement_119 : decode prog_6_method_54_code 119 = .ok (.aload_n 0, 1) := by decide +kernel
theorem d_m_doStatement_120 : decode prog_6_method_54_code 120 = .ok (.iload_n 2, 1) := by decide +kernel
theorem d_m_doStatement_121 : decode prog_6_method_54_code 121 = .ok (.iload_n 1, 1) := by decide +kernel
theorem d_m_doStatement_122 : decode prog_6_method_54_code 122 = .ok (.invokevirtual 301, 3) := by decide +kernel
theorem d_m_doStatement_125 : decode prog_6_method_54_code 125 = .ok (.ifCond .eq 111, 3) := by decide +kernel
theorem d_m_doStatement_128 : decode prog_6_method_54_code 128 = .ok (.aload_n 0, 1) := by decide +kernel
theorem d_m_doStatement_129 : decode prog_6_method_54_code 129 = .ok (.getfield 96, 3) := by decide +kernel
theorem d_m_doStatement_132 : decode prog_6_method_54_code 132 = .ok (.iload 4, 2) := by decide +kernel
theorem d_m_doStatement_134 : decode prog_6_method_54_code 134 = .ok (.aload_n 0, 1) := by decide +kernel
theorem d_m_doStatement_135 : decode prog_6_method_54_code 135 = .ok (.getfield 87, 3) := by decide +kernel
theorem d_m_doStatement_138 : decode prog_6_method_54_code 138 = .ok (.iload_n 2, 1) := by decide +kernel
theorem d_m_doStatement_139 : decode prog_6_method_54_code 139 = .ok (.iaload, 1) := by decide +kernel
theorem d_m_doStatement_140 : decode prog_6_method_54_code 140 = .ok (.iastore, 1) := by decide +kernel
theorem d_m_doStatement_141 : decode prog_6_method_54_code 141 = .ok (.goto 95, 3) := by decide +kernel
theorem d_m_doStatement_144 : decode prog_6_method_54_code 144 = .ok (.aload_n 0, 1) := by decide +kernel
theorem d_m_doStatement_145 : decode prog_6_method_54_code 145 = .ok (.iload_n 2, 1) := by decide +kernel
theorem d_m_doStatement_146 : decode prog_6_method_54_code 146 = .ok (.iload_n 1, 1) := by decide +kernel
theorem d_m_doStatement_147 : decode prog_6_method_54_code 147 = .ok (.invokevirtual 301, 3) := by decide +kernel
theorem d_m_doStatement_150 : decode prog_6_method_54_code 150 = .ok (.ifCond .eq 86, 3) := by decide +kernel
theorem d_m_doStatement_153 : decode prog_6_method_54_code 153 = .ok (.aload_n 0, 1) := by decide +kernel
theorem d_m_doStatement_154 : decode prog_6_method_54_code 154 = .ok (.getfield 87, 3) := by decide +kernel
theorem d_m_doStatement_157 : decode prog_6_method_54_code 157 = .ok (.iload_n 2, 1) := by decide +kernel
theorem d_m_doStatement_158 : decode prog_6_method_54_code 158 = .ok (.iload_n 3, 1) := by decide +kernel
theorem d_m_doStatement_159 : decode prog_6_method_54_code 159 = .ok (.iastore, 1) := by decide +kernel
theorem d_m_doStatement_160 : decode prog_6_method_54_code 160 = .ok (.goto 76, 3) := by decide +kernel
theorem d_m_doStatement_163 : decode prog_6_method_54_code 163 = .ok (.aload_n 0, 1) := by decide +kernel
theorem d_m_doStatement_164 : decode prog_6_method_54_code 164 = .ok (.getfield 90, 3) := by decide +kernel
theorem d_m_doStatement_167 : decode prog_6_method_54_code 167 = .ok (.aload_n 0, 1) := by decide +kernel
theorem d_m_doStatement_168 : decode prog_6_method_54_code 168 = .ok (.getfield 282, 3) := by decide +kernel
theorem d_m_doStatement_171 : decode prog_6_method_54_code 171 = .ok (.iload_n 2, 1) := by decide +kernel
theorem d_m_doStatement_172 : decode prog_6_method_54_code 172 = .ok (.iastore, 1) := by decide +kernel
theorem d_m_doStatement_173 : decode prog_6_method_54_code 173 = .ok (.aload_n 0, 1) := by decide +kernel
theorem d_m_doStatement_174 : decode prog_6_method_54_code 174 = .ok (.dup, 1) := by decide +kernel
theorem d_m_doStatement_175 : decode prog_6_method_54_code 175 = .ok (.getfield 282, 3) := by decide +kernel
theorem d_m_doStatement_178 : decode prog_6_method_54_code 178 = .ok (.iconst 1, 1) := by decide +kernel
theorem d_m_doStatement_179 : decode prog_6_method_54_code 179 = .ok (.iadd, 1) := by decide +kernel
theorem d_m_doStatement_180 : decode prog_6_method_54_code 180 = .ok (.putfield 282, 3) := by decide +kernel
theorem d_m_doStatement_183 : decode prog_6_method_54_code 183 = .ok (.goto 53, 3) := by decide +kernel
theorem d_m_doStatement_186 : decode prog_6_method_54_code 186 = .ok (.aload_n 0, 1) := by decide +kernel
theorem d_m_doStatement_187 : decode prog_6_method_54_code 187 = .ok (.getfield 99, 3) := by decide +kernel
theorem d_m_doStatement_190 : decode prog_6_method_54_code 190 = .ok (.iload_n 1, 1) := by decide +kernel
theorem d_m_doStatement_191 : decode prog_6_method_54_code 191 = .ok (.aload_n 0, 1) := by decide +kernel
theorem d_m_doStatement_192 : decode prog_6_method_54_code 192 = .ok (.aload_n 0, 1) := by decide +kernel
theorem d_m_doStatement_193 : decode prog_6_method_54_code 193 = .ok (.iload_n 1, 1) := by decide +kernel
theorem d_m_doStatement_194 : decode prog_6_method_54_code 194 = .ok (.iconst 2, 1) := by decide +kernel
theorem d_m_doStatement_195 : decode prog_6_method_54_code 195 = .ok (.invokevirtual 212, 3) := by decide +kernel
theorem d_m_doStatement_198 : decode prog_6_method_54_code 198 = .ok (.iload_n 2, 1) := by decide +kernel
theorem d_m_doStatement_199 : decode prog_6_method_54_code 199 = .ok (.iload_n 3, 1) := by decide +kernel
theorem d_m_doStatement_200 : decode prog_6_method_54_code 200 = .ok (.iload_n 1, 1) := by decide +kernel
theorem d_m_doStatement_201 : decode prog_6_method_54_code 201 = .ok (.invokevirtual 297, 3) := by decide +kernel
theorem d_m_doStatement_204 : decode prog_6_method_54_code 204 = .ok (.iconst 1, 1) := by decide +kernel
theorem d_m_doStatement_205 : decode prog_6_method_54_code 205 = .ok (.if_icmp .ne 7, 3) := by decide +kernel
theorem d_m_doStatement_208 : decode prog_6_method_54_code 208 = .ok (.iconst 1, 1) := by decide +kernel
theorem d_m_doStatement_209 : decode prog_6_method_54_code 209 = .ok (.goto 4, 3) := by decide +kernel
theorem d_m_doStatement_212 : decode prog_6_method_54_code 212 = .ok (.iconst 0, 1) := by decide +kernel
theorem d_m_doStatement_213 : decode prog_6_method_54_code 213 = .ok (.bastore, 1) := by decide +kernel
theorem d_m_doStatement_214 : decode prog_6_method_54_code 214 = .ok (.aload_n 0, 1) := by decide +kernel
theorem d_m_doStatement_215 : decode prog_6_method_54_code 215 = .ok (.getfield 99, 3) := by decide +kernel
theorem d_m_doStatement_218 : decode prog_6_method_54_code 218 = .ok (.iload_n 1, 1) := by decide +kernel
theorem d_m_doStatement_219 : decode prog_6_method_54_code 219 = .ok (.baload, 1) := by decide +kernel
theorem d_m_doStatement_220 : decode prog_6_method_54_code 220 = .ok (.ifCond .eq 9, 3) := by decide +kernel
theorem d_m_doStatement_223 : decode prog_6_method_54_code 223 = .ok (.iload_n 1, 1) := by decide +kernel
theorem d_m_doStatement_224 : decode prog_6_method_54_code 224 = .ok (.iconst 1, 1) := by decide +kernel
theorem d_m_doStatement_225 : decode prog_6_method_54_code 225 = .ok (.iadd, 1) := by decide +kernel
theorem d_m_doStatement_226 : decode prog_6_method_54_code 226 = .ok (.goto 9, 3) := by decide +kernel
theorem d_m_doStatement_229 : decode prog_6_method_54_code 229 = .ok (.aload_n 0, 1) := by decide +kernel
theorem d_m_doStatement_230 : decode prog_6_method_54_code 230 = .ok (.getfield 31, 3) := by decide +kernel
theorem d_m_doStatement_233 : decode prog_6_method_54_code 233 = .ok (.iload_n 1, 1) := by decide +kernel
theorem d_m_doStatement_234 : decode prog_6_method_54_code 234 = .ok (.iaload, 1) := by decide +kernel
theorem d_m_doStatement_235 : decode prog_6_method_54_code 235 = .ok (.ireturn, 1) := by decide +kernel
theorem d_m_doStatement_236 : decode prog_6_method_54_code 236 = .ok (.iload_n 1, 1) := by decide +kernel
theorem d_m_doStatement_237 : decode prog_6_method_54_code 237 = .ok (.iconst 1, 1) := by decide +kernel
theorem d_m_doStatement_238 : decode prog_6_method_54_code 238 = .ok (.iadd, 1) := by decide +kernel
theorem d_m_doStatement_239 : decode prog_6_method_54_code 239 = .ok (.ireturn, 1) := by decide +kernel
theorem kc_m_doStatement : Kw (m_w (mi_m_doStatement )) := ⟨(in_t5 (List.mem_of_getElem? (i := 125) rfl)), rfl⟩
theorem mv_m_doStatement : MV (mi_m_doStatement ) "GuardedMovesModel" 1 := ⟨kw_1084, ks_76, kc_m_doStatement , kw_7, ⟨⟨(by show ("GuardedMovesModel" : String) ≠ "java/lang/invoke/MethodHandle"; decide), (by show ("GuardedMovesModel" : String) ≠ "java/lang/invoke/VarHandle"; decide)⟩, (by show (parseMethodDescriptor "(I)I").map (fun d => d.parameters.length) = some 1; decide +kernel)⟩⟩
def w_m_doStatement_236 (Q : Int32 → Sg → Prop) (v1 : Int32) (σ : Sg) : Prop := Q (v1 + 1) σ
theorem b_m_doStatement_236 {Δ : Ly} {G : Gm} {Q : Int32 → Sg → Prop} (cx : Cx Δ G mi_m_doStatement) : ∀ (v1 : Int32) (σ : Sg), w_m_doStatement_236 Q v1 σ → Y Δ G mi_m_doStatement (qI Q) noE 0 0 σ 236 [(1, .int v1)] [] := by
  intro v1 σ h
  unfold w_m_doStatement_236 at h
  refine y_iload_n cx (pc := 236) d_m_doStatement_236 rfl 0 rfl ?_
  refine y_iconst cx (pc := 237) ic_1 d_m_doStatement_237 ?_
  refine y_iadd cx (pc := 238) d_m_doStatement_238 ?_
  exact y_iret cx (pc := 239) rfl d_m_doStatement_239 (le_b rfl) (le_b rfl) h
def w_m_doStatement_115 (Q : Int32 → Sg → Prop) (v1 : Int32) (s0 : Int32) (s1 : Int32) (σ : Sg) : Prop := vp_in s1 4100 ∧ (w_m_doStatement_236 Q v1 (up σ 85 (s1.toNatClampNeg) s0))
theorem b_m_doStatement_115 {Δ : Ly} {G : Gm} {Q : Int32 → Sg → Prop} (cx : Cx Δ G mi_m_doStatement) : ∀ (v1 : Int32) (s0 : Int32) (s1 : Int32) (σ : Sg), w_m_doStatement_115 Q v1 s0 s1 σ → Y Δ G mi_m_doStatement (qI Q) noE 0 0 σ 115 [(1, .int v1)] [.int s0, .int s1, .ref (Δ.1 85)] := by
  intro v1 s0 s1 σ h
  unfold w_m_doStatement_115 at h
  obtain ⟨h0, h⟩ := h
  refine y_iast cx (pc := 115) ⟨(le_b rfl), fun _ => rfl⟩ h0 d_m_doStatement_115 ?_
  refine y_goto cx (pc := 116) (tgt := 236) d_m_doStatement_116 (by decide) ?_
  exact b_m_doStatement_236 cx v1 (up σ 85 (s1.toNatClampNeg) s0) h
def w_m_doStatement_235 (Q : Int32 → Sg → Prop) (s0 : Int32) (σ : Sg) : Prop := Q s0 σ
theorem b_m_doStatement_235 {Δ : Ly} {G : Gm} {Q : Int32 → Sg → Prop} (cx : Cx Δ G mi_m_doStatement) : ∀ (s0 : Int32) (σ : Sg), w_m_doStatement_235 Q s0 σ → Y Δ G mi_m_doStatement (qI Q) noE 0 0 σ 235 [] [.int s0] := by
  intro s0 σ h
  unfold w_m_doStatement_235 at h
  exact y_iret cx (pc := 235) rfl d_m_doStatement_235 (le_b rfl) (le_b rfl) h
def w_m_doStatement_213 (Q : Int32 → Sg → Prop) (v1 : Int32) (s0 : Int32) (s1 : Int32) (σ : Sg) : Prop := vp_in s1 60 ∧ (bz s0 ∧ (vp_in v1 60 ∧ ((((up σ 86 (s1.toNatClampNeg) s0) 86 (v1.toNatClampNeg)) = 0 → (vp_in v1 60 ∧ (w_m_doStatement_235 Q (σ 66 (v1.toNatClampNeg)) (up σ 86 (s1.toNatClampNeg) s0)))) ∧ (¬ ((up σ 86 (s1.toNatClampNeg) s0) 86 (v1.toNatClampNeg)) = 0 → (w_m_doStatement_235 Q (v1 + 1) (up σ 86 (s1.toNatClampNeg) s0))))))
theorem b_m_doStatement_213 {Δ : Ly} {G : Gm} {Q : Int32 → Sg → Prop} (cx : Cx Δ G mi_m_doStatement) : ∀ (v1 : Int32) (s0 : Int32) (s1 : Int32) (σ : Sg), w_m_doStatement_213 Q v1 s0 s1 σ → Y Δ G mi_m_doStatement (qI Q) noE 0 0 σ 213 [(0, .ref (Δ.1 58)), (1, .int v1)] [.int s0, .int s1, .ref (Δ.1 86)] := by
  intro v1 s0 s1 σ h
  unfold w_m_doStatement_213 at h
  obtain ⟨h0, h⟩ := h
  obtain ⟨hb, h⟩ := h
  refine y_zastB cx (pc := 213) ⟨(le_b rfl), fun _ => rfl⟩ h0 hb d_m_doStatement_213 ?_
  refine y_aload_n cx (pc := 214) d_m_doStatement_214 rfl 0 rfl ?_
  refine y_get cx (pc := 215) (j := 44) (v := .ref (Δ.1 86)) (le_b rfl) ck_Md kw_792 (le_b rfl) (gf_58_44 Δ _) d_m_doStatement_215 ?_
  refine y_iload_n cx (pc := 218) d_m_doStatement_218 rfl 1 rfl ?_
  obtain ⟨h0, h⟩ := h
  refine y_zald cx (pc := 219) ⟨(le_b rfl), fun _ => rfl⟩ h0 d_m_doStatement_219 ?_
  refine y_if_eq cx (pc := 220) (tgt := 229) d_m_doStatement_220 (by decide) (fun hc => ?_) (fun hc => ?_)
  · replace h := h.1 hc
    refine y_aload_n cx (pc := 229) d_m_doStatement_229 rfl 0 rfl ?_
    refine y_get cx (pc := 230) (j := 14) (v := .ref (Δ.1 66)) (le_b rfl) ck_Md kw_762 (le_b rfl) (gf_58_14 Δ _) d_m_doStatement_230 ?_
    refine y_iload_n cx (pc := 233) d_m_doStatement_233 rfl 1 rfl ?_
    obtain ⟨h0, h⟩ := h
    refine y_iald cx (pc := 234) ⟨(le_b rfl), fun _ => rfl⟩ h0 d_m_doStatement_234 ?_
    refine y_sub [] rfl ?_
    exact b_m_doStatement_235 cx (σ 66 (v1.toNatClampNeg)) (up σ 86 (s1.toNatClampNeg) s0) h
  · replace h := h.2 hc
    refine y_iload_n cx (pc := 223) d_m_doStatement_223 rfl 1 rfl ?_
    refine y_iconst cx (pc := 224) ic_1 d_m_doStatement_224 ?_
    refine y_iadd cx (pc := 225) d_m_doStatement_225 ?_
    refine y_goto cx (pc := 226) (tgt := 235) d_m_doStatement_226 (by decide) ?_
    refine y_sub [] rfl ?_
    exact b_m_doStatement_235 cx (v1 + 1) (up σ 86 (s1.toNatClampNeg) s0) h
def w_m_doStatement (p1 : Int32) (σ : Sg) (Q : Int32 → Sg → Prop) : Prop := w_m_toldValue p1 3 σ (fun x1 σ2 => w_m_toldValue p1 5 σ2 (fun x3 σ4 => w_m_of p1 1 σ4 (fun x5 σ6 => w_m_of p1 0 σ6 (fun x7 σ8 => (x7 = 0 → (vp_in x5 4100 ∧ (w_m_doStatement_236 Q p1 (up σ8 85 (x5.toNatClampNeg) x1)))) ∧ (¬ x7 = 0 → ((x7 = 1 → (w_m_of p1 2 σ8 (fun x9 σ10 => w_m_reach x9 x1 x3 p1 σ10 (fun x11 σ12 => (¬ (σ12 58 42) = 0 → (vp_in x5 4100 ∧ (w_m_doStatement_115 Q p1 (σ12 85 (x5.toNatClampNeg)) x5 σ12))) ∧ ((σ12 58 42) = 0 → (w_m_doStatement_115 Q p1 x11 x5 σ12)))))) ∧ (¬ x7 = 1 → ((x7 = 2 → (w_m_isWord x1 p1 σ8 (fun x13 σ14 => (x13 = 0 → (w_m_doStatement_236 Q p1 σ14)) ∧ (¬ x13 = 0 → (vp_in x1 32 ∧ (vp_in x5 4100 ∧ (w_m_doStatement_236 Q p1 (up σ14 85 (x5.toNatClampNeg) (σ14 83 (x1.toNatClampNeg)))))))))) ∧ (¬ x7 = 2 → ((x7 = 3 → (w_m_isWord x1 p1 σ8 (fun x15 σ16 => (x15 = 0 → (w_m_doStatement_236 Q p1 σ16)) ∧ (¬ x15 = 0 → (vp_in x1 32 ∧ (w_m_doStatement_236 Q p1 (up σ16 83 (x1.toNatClampNeg) x3))))))) ∧ (¬ x7 = 3 → ((x7 = 4 → (vp_in (σ8 58 39) 60 ∧ (w_m_doStatement_236 Q p1 (up (up σ8 84 ((σ8 58 39).toNatClampNeg) x1) 58 39 ((σ8 58 39) + 1))))) ∧ (¬ x7 = 4 → (w_m_of p1 2 σ8 (fun x17 σ18 => w_m_reach x17 x1 x3 p1 σ18 (fun x19 σ20 => (¬ x19 = 1 → (w_m_doStatement_213 Q p1 0 p1 σ20)) ∧ (x19 = 1 → (w_m_doStatement_213 Q p1 1 p1 σ20))))))))))))))))))
theorem b_m_doStatement {Δ : Ly} {G : Gm} {Q : Int32 → Sg → Prop} (cx : Cx Δ G mi_m_doStatement) (p1 : Int32) (σ : Sg) (h : w_m_doStatement p1 σ Q) : Y Δ G mi_m_doStatement (qI Q) noE 0 0 σ 0 [(0, .ref (Δ.1 58)), (1, .int p1)] [] := by
  unfold w_m_doStatement at h
  refine y_aload_n cx (pc := 0) d_m_doStatement_0 rfl 0 rfl ?_
  refine y_iload_n cx (pc := 1) d_m_doStatement_1 rfl 1 rfl ?_
  refine y_iconst cx (pc := 2) ic_3 d_m_doStatement_2 ?_
  refine y_vI cx (pc := 3) (st := []) [.int p1, .int 3] (c_m_toldValue cx.fl Δ p1 3 _ _ h) mv_m_toldValue kw_1086 (oc_58 Δ) ck_Md rfl (le_b rfl) (le_b rfl) (le_b rfl) (le_b rfl) (le_b rfl) d_m_doStatement_3 (fun x1 σ2 h => ?_) (fun x σ2 h => yt_no h)
  refine y_istore_n (lv' := [(2, .int x1), (0, .ref (Δ.1 58)), (1, .int p1)]) cx (pc := 6) d_m_doStatement_6 rfl (le_b rfl) rfl ?_
  refine y_aload_n cx (pc := 7) d_m_doStatement_7 rfl 1 rfl ?_
  refine y_iload_n cx (pc := 8) d_m_doStatement_8 rfl 2 rfl ?_
  refine y_iconst cx (pc := 9) ic_5 d_m_doStatement_9 ?_
  refine y_vI cx (pc := 10) (st := []) [.int p1, .int 5] (c_m_toldValue cx.fl Δ p1 5 _ _ h) mv_m_toldValue kw_1086 (oc_58 Δ) ck_Md rfl (le_b rfl) (le_b rfl) (le_b rfl) (le_b rfl) (le_b rfl) d_m_doStatement_10 (fun x3 σ4 h => ?_) (fun x σ4 h => yt_no h)
  refine y_istore_n (lv' := [(3, .int x3), (2, .int x1), (0, .ref (Δ.1 58)), (1, .int p1)]) cx (pc := 13) d_m_doStatement_13 rfl (le_b rfl) rfl ?_
  refine y_aload_n cx (pc := 14) d_m_doStatement_14 rfl 2 rfl ?_
  refine y_iload_n cx (pc := 15) d_m_doStatement_15 rfl 3 rfl ?_
  refine y_iconst cx (pc := 16) ic_1 d_m_doStatement_16 ?_
  refine y_vI cx (pc := 17) (st := []) [.int p1, .int 1] (c_m_of cx.fl Δ p1 1 _ _ h) mv_m_of kw_976 (oc_58 Δ) ck_Md rfl (le_b rfl) (le_b rfl) (le_b rfl) (le_b rfl) (le_b rfl) d_m_doStatement_17 (fun x5 σ6 h => ?_) (fun x σ6 h => yt_no h)
  refine y_istore (lv' := [(4, .int x5), (3, .int x3), (2, .int x1), (0, .ref (Δ.1 58)), (1, .int p1)]) cx (pc := 20) d_m_doStatement_20 (le_b rfl) rfl ?_
  refine y_aload_n cx (pc := 22) d_m_doStatement_22 rfl 3 rfl ?_
  refine y_iload_n cx (pc := 23) d_m_doStatement_23 rfl 4 rfl ?_
  refine y_iconst cx (pc := 24) ic_0 d_m_doStatement_24 ?_
  refine y_vI cx (pc := 25) (st := []) [.int p1, .int 0] (c_m_of cx.fl Δ p1 0 _ _ h) mv_m_of kw_976 (oc_58 Δ) ck_Md rfl (le_b rfl) (le_b rfl) (le_b rfl) (le_b rfl) (le_b rfl) d_m_doStatement_25 (fun x7 σ8 h => ?_) (fun x σ8 h => yt_no h)
  by_cases hc0 : x7 = 0
  · replace h := h.1 hc0
    refine y_tIn cx (pc := 28) (tgt := 64) (c := 0) d_m_doStatement_28 hc0 (by decide) (by decide) rfl (by decide) ?_
    refine y_aload_n cx (pc := 64) d_m_doStatement_64 rfl 3 rfl ?_
    refine y_get cx (pc := 65) (j := 43) (v := .ref (Δ.1 85)) (le_b rfl) ck_Md kw_791 (le_b rfl) (gf_58_43 Δ _) d_m_doStatement_65 ?_
    refine y_iload cx (pc := 68) d_m_doStatement_68 0 rfl ?_
    refine y_iload_n cx (pc := 70) d_m_doStatement_70 rfl 2 rfl ?_
    obtain ⟨h0, h⟩ := h
    refine y_iast cx (pc := 71) ⟨(le_b rfl), fun _ => rfl⟩ h0 d_m_doStatement_71 ?_
    refine y_goto cx (pc := 72) (tgt := 236) d_m_doStatement_72 (by decide) ?_
    refine y_sub [4] rfl ?_
    exact b_m_doStatement_236 cx p1 (up σ8 85 (x5.toNatClampNeg) x1) h
  replace h := h.2 hc0
  by_cases hc1 : x7 = 1
  · replace h := h.1 hc1
    refine y_tIn cx (pc := 28) (tgt := 75) (c := 1) d_m_doStatement_28 hc1 (by decide) (by decide) rfl (by decide) ?_
    refine y_aload_n cx (pc := 75) d_m_doStatement_75 rfl 3 rfl ?_
    refine y_aload_n cx (pc := 76) d_m_doStatement_76 rfl 3 rfl ?_
    refine y_iload_n cx (pc := 77) d_m_doStatement_77 rfl 4 rfl ?_
    refine y_iconst cx (pc := 78) ic_2 d_m_doStatement_78 ?_
    refine y_vI cx (pc := 79) (st := [.ref (Δ.1 58)]) [.int p1, .int 2] (c_m_of cx.fl Δ p1 2 _ _ h) mv_m_of kw_976 (oc_58 Δ) ck_Md rfl (le_b rfl) (le_b rfl) (le_b rfl) (le_b rfl) (le_b rfl) d_m_doStatement_79 (fun x9 σ10 h => ?_) (fun x σ10 h => yt_no h)
    refine y_iload_n cx (pc := 82) d_m_doStatement_82 rfl 2 rfl ?_
    refine y_iload_n cx (pc := 83) d_m_doStatement_83 rfl 1 rfl ?_
    refine y_iload_n cx (pc := 84) d_m_doStatement_84 rfl 4 rfl ?_
    refine y_vI cx (pc := 85) (st := []) [.int x9, .int x1, .int x3, .int p1] (c_m_reach cx.fl Δ x9 x1 x3 p1 _ _ h) mv_m_reach kw_1090 (oc_58 Δ) ck_Md rfl (le_b rfl) (le_b rfl) (le_b rfl) (le_b rfl) (le_b rfl) d_m_doStatement_85 (fun x11 σ12 h => ?_) (fun x σ12 h => yt_no h)
    refine y_istore (lv' := [(5, .int x11), (4, .int x5), (3, .int x3), (2, .int x1), (0, .ref (Δ.1 58)), (1, .int p1)]) cx (pc := 88) d_m_doStatement_88 (le_b rfl) rfl ?_
    refine y_aload_n cx (pc := 90) d_m_doStatement_90 rfl 4 rfl ?_
    refine y_get cx (pc := 91) (j := 43) (v := .ref (Δ.1 85)) (le_b rfl) ck_Md kw_791 (le_b rfl) (gf_58_43 Δ _) d_m_doStatement_91 ?_
    refine y_iload cx (pc := 94) d_m_doStatement_94 1 rfl ?_
    refine y_aload_n cx (pc := 96) d_m_doStatement_96 rfl 4 rfl ?_
    refine y_get cx (pc := 97) (j := 42) (v := .int (σ12 58 42)) (le_b rfl) ck_Md kw_790 (le_b rfl) (gf_58_42 Δ _) d_m_doStatement_97 ?_
    refine y_if_ne cx (pc := 100) (tgt := 108) d_m_doStatement_100 (by decide) (fun hc => ?_) (fun hc => ?_)
    · replace h := h.1 hc
      refine y_aload_n cx (pc := 108) d_m_doStatement_108 rfl 4 rfl ?_
      refine y_get cx (pc := 109) (j := 43) (v := .ref (Δ.1 85)) (le_b rfl) ck_Md kw_791 (le_b rfl) (gf_58_43 Δ _) d_m_doStatement_109 ?_
      refine y_iload cx (pc := 112) d_m_doStatement_112 1 rfl ?_
      obtain ⟨h0, h⟩ := h
      refine y_iald cx (pc := 114) ⟨(le_b rfl), fun _ => rfl⟩ h0 d_m_doStatement_114 ?_
      refine y_sub [5] rfl ?_
      exact b_m_doStatement_115 cx p1 (σ12 85 (x5.toNatClampNeg)) x5 σ12 h
    · replace h := h.2 hc
      refine y_iload cx (pc := 103) d_m_doStatement_103 0 rfl ?_
      refine y_goto cx (pc := 105) (tgt := 115) d_m_doStatement_105 (by decide) ?_
      refine y_sub [5] rfl ?_
      exact b_m_doStatement_115 cx p1 x11 x5 σ12 h
  replace h := h.2 hc1
  by_cases hc2 : x7 = 2
  · replace h := h.1 hc2
    refine y_tIn cx (pc := 28) (tgt := 119) (c := 2) d_m_doStatement_28 hc2 (by decide) (by decide) rfl (by decide) ?_
    refine y_aload_n cx (pc := 119) d_m_doStatement_119 rfl 3 rfl ?_
    refine y_iload_n cx (pc := 120) d_m_doStatement_120 rfl 2 rfl ?_
    refine y_iload_n cx (pc := 121) d_m_doStatement_121 rfl 4 rfl ?_
    refine y_vI cx (pc := 122) (st := []) [.int x1, .int p1] (c_m_isWord cx.fl Δ x1 p1 _ _ h) mv_m_isWord kw_1098 (oc_58 Δ) ck_Md rfl (le_b rfl) (le_b rfl) (le_b rfl) (le_b rfl) (le_b rfl) d_m_doStatement_122 (fun x13 σ14 h => ?_) (fun x σ14 h => yt_no h)
    refine y_if_eq cx (pc := 125) (tgt := 236) d_m_doStatement_125 (by decide) (fun hc => ?_) (fun hc => ?_)
    · replace h := h.1 hc
      refine y_sub [4] rfl ?_
      exact b_m_doStatement_236 cx p1 σ14 h
    · replace h := h.2 hc
      refine y_aload_n cx (pc := 128) d_m_doStatement_128 rfl 3 rfl ?_
      refine y_get cx (pc := 129) (j := 43) (v := .ref (Δ.1 85)) (le_b rfl) ck_Md kw_791 (le_b rfl) (gf_58_43 Δ _) d_m_doStatement_129 ?_
      refine y_iload cx (pc := 132) d_m_doStatement_132 0 rfl ?_
      refine y_aload_n cx (pc := 134) d_m_doStatement_134 rfl 3 rfl ?_
      refine y_get cx (pc := 135) (j := 37) (v := .ref (Δ.1 83)) (le_b rfl) ck_Md kw_785 (le_b rfl) (gf_58_37 Δ _) d_m_doStatement_135 ?_
      refine y_iload_n cx (pc := 138) d_m_doStatement_138 rfl 2 rfl ?_
      obtain ⟨h0, h⟩ := h
      refine y_iald cx (pc := 139) ⟨(le_b rfl), fun _ => rfl⟩ h0 d_m_doStatement_139 ?_
      obtain ⟨h0, h⟩ := h
      refine y_iast cx (pc := 140) ⟨(le_b rfl), fun _ => rfl⟩ h0 d_m_doStatement_140 ?_
      refine y_goto cx (pc := 141) (tgt := 236) d_m_doStatement_141 (by decide) ?_
      refine y_sub [4] rfl ?_
      exact b_m_doStatement_236 cx p1 (up σ14 85 (x5.toNatClampNeg) (σ14 83 (x1.toNatClampNeg))) h
  replace h := h.2 hc2
  by_cases hc3 : x7 = 3
  · replace h := h.1 hc3
    refine y_tIn cx (pc := 28) (tgt := 144) (c := 3) d_m_doStatement_28 hc3 (by decide) (by decide) rfl (by decide) ?_
    refine y_aload_n cx (pc := 144) d_m_doStatement_144 rfl 3 rfl ?_
    refine y_iload_n cx (pc := 145) d_m_doStatement_145 rfl 2 rfl ?_
    refine y_iload_n cx (pc := 146) d_m_doStatement_146 rfl 4 rfl ?_
    refine y_vI cx (pc := 147) (st := []) [.int x1, .int p1] (c_m_isWord cx.fl Δ x1 p1 _ _ h) mv_m_isWord kw_1098 (oc_58 Δ) ck_Md rfl (le_b rfl) (le_b rfl) (le_b rfl) (le_b rfl) (le_b rfl) d_m_doStatement_147 (fun x15 σ16 h => ?_) (fun x σ16 h => yt_no h)
    refine y_if_eq cx (pc := 150) (tgt := 236) d_m_doStatement_150 (by decide) (fun hc => ?_) (fun hc => ?_)
    · replace h := h.1 hc
      refine y_sub [4] rfl ?_
      exact b_m_doStatement_236 cx p1 σ16 h
    · replace h := h.2 hc
      refine y_aload_n cx (pc := 153) d_m_doStatement_153 rfl 3 rfl ?_
      refine y_get cx (pc := 154) (j := 37) (v := .ref (Δ.1 83)) (le_b rfl) ck_Md kw_785 (le_b rfl) (gf_58_37 Δ _) d_m_doStatement_154 ?_
      refine y_iload_n cx (pc := 157) d_m_doStatement_157 rfl 2 rfl ?_
      refine y_iload_n cx (pc := 158) d_m_doStatement_158 rfl 1 rfl ?_
      obtain ⟨h0, h⟩ := h
      refine y_iast cx (pc := 159) ⟨(le_b rfl), fun _ => rfl⟩ h0 d_m_doStatement_159 ?_
      refine y_goto cx (pc := 160) (tgt := 236) d_m_doStatement_160 (by decide) ?_
      refine y_sub [4] rfl ?_
      exact b_m_doStatement_236 cx p1 (up σ16 83 (x1.toNatClampNeg) x3) h
  replace h := h.2 hc3
  by_cases hc4 : x7 = 4
  · replace h := h.1 hc4
    refine y_tIn cx (pc := 28) (tgt := 163) (c := 4) d_m_doStatement_28 hc4 (by decide) (by decide) rfl (by decide) ?_
    refine y_aload_n cx (pc := 163) d_m_doStatement_163 rfl 3 rfl ?_
    refine y_get cx (pc := 164) (j := 38) (v := .ref (Δ.1 84)) (le_b rfl) ck_Md kw_786 (le_b rfl) (gf_58_38 Δ _) d_m_doStatement_164 ?_
    refine y_aload_n cx (pc := 167) d_m_doStatement_167 rfl 3 rfl ?_
    refine y_get cx (pc := 168) (j := 39) (v := .int (σ8 58 39)) (le_b rfl) ck_Md kw_787 (le_b rfl) (gf_58_39 Δ _) d_m_doStatement_168 ?_
    refine y_iload_n cx (pc := 171) d_m_doStatement_171 rfl 2 rfl ?_
    obtain ⟨h0, h⟩ := h
    refine y_iast cx (pc := 172) ⟨(le_b rfl), fun _ => rfl⟩ h0 d_m_doStatement_172 ?_
    refine y_aload_n cx (pc := 173) d_m_doStatement_173 rfl 3 rfl ?_
    refine y_dup cx (pc := 174) rfl d_m_doStatement_174 ?_
    refine y_get cx (pc := 175) (j := 39) (v := .int (σ8 58 39)) (le_b rfl) ck_Md kw_787 (le_b rfl) (gf_58_39 Δ _) d_m_doStatement_175 ?_
    refine y_iconst cx (pc := 178) ic_1 d_m_doStatement_178 ?_
    refine y_iadd cx (pc := 179) d_m_doStatement_179 ?_
    refine y_put cx (pc := 180) (j := 39) (ty := .int) (le_b rfl) ck_Md kw_787 (le_b rfl) rfl (t_Md_ok 39 (le_b rfl)) rfl rfl (pf_58_39 Δ) d_m_doStatement_180 ?_
    refine y_goto cx (pc := 183) (tgt := 236) d_m_doStatement_183 (by decide) ?_
    refine y_sub [4] rfl ?_
    exact b_m_doStatement_236 cx p1 (up (up σ8 84 ((σ8 58 39).toNatClampNeg) x1) 58 39 ((σ8 58 39) + 1)) h
  replace h := h.2 hc4
  refine y_tOut cx (pc := 28) (tgt := 186) d_m_doStatement_28 (by have z0 := lv_neT hc0 (show (0 : Int32).toInt = 0 from rfl); have z1 := lv_neT hc1 (show (1 : Int32).toInt = 1 from rfl); have z2 := lv_neT hc2 (show (2 : Int32).toInt = 2 from rfl); have z3 := lv_neT hc3 (show (3 : Int32).toInt = 3 from rfl); have z4 := lv_neT hc4 (show (4 : Int32).toInt = 4 from rfl); omega) (by decide) ?_
  refine y_aload_n cx (pc := 186) d_m_doStatement_186 rfl 3 rfl ?_
  refine y_get cx (pc := 187) (j := 44) (v := .ref (Δ.1 86)) (le_b rfl) ck_Md kw_792 (le_b rfl) (gf_58_44 Δ _) d_m_doStatement_187 ?_
  refine y_iload_n cx (pc := 190) d_m_doStatement_190 rfl 4 rfl ?_
  refine y_aload_n cx (pc := 191) d_m_doStatement_191 rfl 3 rfl ?_
  refine y_aload_n cx (pc := 192) d_m_doStatement_192 rfl 3 rfl ?_
  refine y_iload_n cx (pc := 193) d_m_doStatement_193 rfl 4 rfl ?_
  refine y_iconst cx (pc := 194) ic_2 d_m_doStatement_194 ?_
  refine y_vI cx (pc := 195) (st := [.ref (Δ.1 58), .int p1, .ref (Δ.1 86)]) [.int p1, .int 2] (c_m_of cx.fl Δ p1 2 _ _ h) mv_m_of kw_976 (oc_58 Δ) ck_Md rfl (le_b rfl) (le_b rfl) (le_b rfl) (le_b rfl) (le_b rfl) d_m_doStatement_195 (fun x17 σ18 h => ?_) (fun x σ18 h => yt_no h)
  refine y_iload_n cx (pc := 198) d_m_doStatement_198 rfl 2 rfl ?_
  refine y_iload_n cx (pc := 199) d_m_doStatement_199 rfl 1 rfl ?_
  refine y_iload_n cx (pc := 200) d_m_doStatement_200 rfl 4 rfl ?_
  refine y_vI cx (pc := 201) (st := [.int p1, .ref (Δ.1 86)]) [.int x17, .int x1, .int x3, .int p1] (c_m_reach cx.fl Δ x17 x1 x3 p1 _ _ h) mv_m_reach kw_1090 (oc_58 Δ) ck_Md rfl (le_b rfl) (le_b rfl) (le_b rfl) (le_b rfl) (le_b rfl) d_m_doStatement_201 (fun x19 σ20 h => ?_) (fun x σ20 h => yt_no h)
  refine y_iconst cx (pc := 204) ic_1 d_m_doStatement_204 ?_
  refine y_icmp_ne cx (pc := 205) (tgt := 212) d_m_doStatement_205 (by decide) (fun hc => ?_) (fun hc => ?_)
  · replace h := h.1 hc
    refine y_iconst cx (pc := 212) ic_0 d_m_doStatement_212 ?_
    refine y_sub [3, 4] rfl ?_
    exact b_m_doStatement_213 cx p1 0 p1 σ20 h
  · replace h := h.2 hc
    refine y_iconst cx (pc := 208) ic_1 d_m_doStatement_208 ?_
    refine y_goto cx (pc := 209) (tgt := 213) d_m_doStatement_209 (by decide) ?_
    refine y_sub [3, 4] rfl ?_
    exact b_m_doStatement_213 cx p1 1 p1 σ20 h
theorem c_m_doStatement {l : Launch} (hfl : l.flags = flags0) (Δ : Ly) (p1 : Int32) (σ : Sg) (Q : Int32 → Sg → Prop) (h : w_m_doStatement p1 σ Q) : Ct l Δ mi_m_doStatement [.ref (Δ.1 58), .int p1] σ (qI Q) noE :=
  Ct.of hfl (by show plainFor ⟨"GuardedMovesModel", "doStatement", "(I)I"⟩ = true; decide +kernel) rfl (le_b rfl) (fun G hl cx => b_m_doStatement cx p1 σ h)
def mi_m_leave : Mi := ("GuardedMovesModel", prog_6_method_49_code, 2, [], none, 0, 0, 0, 0, ⟨"GuardedMovesModel", "leave", "()V"⟩)
theorem d_m_leave_0 : decode prog_6_method_49_code 0 = .ok (.iconst 0, 1) := by decide +kernel
theorem d_m_leave_1 : decode prog_6_method_49_code 1 = .ok (.istore_n 1, 1) := by decide +kernel
theorem d_m_leave_2 : decode prog_6_method_49_code 2 = .ok (.iload_n 1, 1) := by decide +kernel
theorem d_m_leave_3 : decode prog_6_method_49_code 3 = .ok (.bipush 16, 2) := by decide +kernel
theorem d_m_leave_5 : decode prog_6_method_49_code 5 = .ok (.if_icmp .ge 21, 3) := by decide +kernel
theorem d_m_leave_8 : decode prog_6_method_49_code 8 = .ok (.aload_n 0, 1) := by decide +kernel
theorem d_m_leave_9 : decode prog_6_method_49_code 9 = .ok (.getfield 84, 3) := by decide +kernel
theorem d_m_leave_12 : decode prog_6_method_49_code 12 = .ok (.iload_n 1, 1) := by decide +kernel
theorem d_m_leave_13 : decode prog_6_method_49_code 13 = .ok (.aload_n 0, 1) := by decide +kernel
theorem d_m_leave_14 : decode prog_6_method_49_code 14 = .ok (.getfield 96, 3) := by decide +kernel
theorem d_m_leave_17 : decode prog_6_method_49_code 17 = .ok (.iload_n 1, 1) := by decide +kernel
theorem d_m_leave_18 : decode prog_6_method_49_code 18 = .ok (.iaload, 1) := by decide +kernel
theorem d_m_leave_19 : decode prog_6_method_49_code 19 = .ok (.iastore, 1) := by decide +kernel
theorem d_m_leave_20 : decode prog_6_method_49_code 20 = .ok (.iinc 1 1, 3) := by decide +kernel
theorem d_m_leave_23 : decode prog_6_method_49_code 23 = .ok (.goto (-21), 3) := by decide +kernel
theorem d_m_leave_26 : decode prog_6_method_49_code 26 = .ok (.return_, 1) := by decide +kernel
theorem kc_m_leave : Kw (m_w (mi_m_leave )) := ⟨(in_t5 (List.mem_of_getElem? (i := 149) rfl)), rfl⟩
theorem mv_m_leave : MV (mi_m_leave ) "GuardedMovesModel" 0 := ⟨kw_1108, ks_82, kc_m_leave , kw_7, ⟨⟨(by show ("GuardedMovesModel" : String) ≠ "java/lang/invoke/MethodHandle"; decide), (by show ("GuardedMovesModel" : String) ≠ "java/lang/invoke/VarHandle"; decide)⟩, (by show (parseMethodDescriptor "()V").map (fun d => d.parameters.length) = some 0; decide +kernel)⟩⟩
def w_m_leave_2 (Q : Sg → Prop) : Nat → Int32 → Sg → Prop
  | 0, _, _ => False
  | n + 1, v1, σ => (16 ≤ v1 → (Q σ)) ∧ (¬ 16 ≤ v1 → (vp_in v1 4100 ∧ (vp_in v1 16 ∧ (∀ x1 : Int32, x1 = v1 + 1 → ((w_m_leave_2 Q n) x1 (up σ 82 (v1.toNatClampNeg) (σ 85 (v1.toNatClampNeg))))))))
theorem b_m_leave_2 {Δ : Ly} {G : Gm} {Q : Sg → Prop} (cx : Cx Δ G mi_m_leave) : ∀ (n : Nat) (v1 : Int32) (σ : Sg), w_m_leave_2 Q n v1 σ → Y Δ G mi_m_leave (qV Q) noE 0 0 σ 2 [(0, .ref (Δ.1 58)), (1, .int v1)] [] := by
  intro n
  induction n with
  | zero => intro v1 σ h; exact h.elim
  | succ n ih =>
    intro v1 σ h
    unfold w_m_leave_2 at h
    refine y_iload_n cx (pc := 2) d_m_leave_2 rfl 1 rfl ?_
    refine y_bipush cx (pc := 3) bp_16 d_m_leave_3 ?_
    refine y_icmp_ge cx (pc := 5) (tgt := 26) d_m_leave_5 (by decide) (fun hc => ?_) (fun hc => ?_)
    · replace h := h.1 hc
      exact y_vret cx (pc := 26) rfl d_m_leave_26 (le_b rfl) (le_b rfl) h
    · replace h := h.2 hc
      refine y_aload_n cx (pc := 8) d_m_leave_8 rfl 0 rfl ?_
      refine y_get cx (pc := 9) (j := 36) (v := .ref (Δ.1 82)) (le_b rfl) ck_Md kw_784 (le_b rfl) (gf_58_36 Δ _) d_m_leave_9 ?_
      refine y_iload_n cx (pc := 12) d_m_leave_12 rfl 1 rfl ?_
      refine y_aload_n cx (pc := 13) d_m_leave_13 rfl 0 rfl ?_
      refine y_get cx (pc := 14) (j := 43) (v := .ref (Δ.1 85)) (le_b rfl) ck_Md kw_791 (le_b rfl) (gf_58_43 Δ _) d_m_leave_14 ?_
      refine y_iload_n cx (pc := 17) d_m_leave_17 rfl 1 rfl ?_
      obtain ⟨h0, h⟩ := h
      refine y_iald cx (pc := 18) ⟨(le_b rfl), fun _ => rfl⟩ h0 d_m_leave_18 ?_
      obtain ⟨h0, h⟩ := h
      refine y_iast cx (pc := 19) ⟨(le_b rfl), fun _ => rfl⟩ h0 d_m_leave_19 ?_
      obtain ⟨x1, ex1⟩ : ∃ y : Int32, y = v1 + 1 := ⟨_, rfl⟩
      replace h := h x1 ex1
      refine y_iinc (v := x1) (lv' := [(1, .int x1), (0, .ref (Δ.1 58))]) cx (pc := 20) d_m_leave_20 (j := 1) rfl (by rw [ex1]; rfl) (le_b rfl) rfl ?_
      refine y_goto cx (pc := 23) (tgt := 2) d_m_leave_23 (by decide) ?_
      refine y_sub [1, 0] rfl ?_
      exact ih x1 (up σ 82 (v1.toNatClampNeg) (σ 85 (v1.toNatClampNeg))) h
def w_m_leave (σ : Sg) (Q : Sg → Prop) : Prop := ∃ q2, w_m_leave_2 Q q2 0 σ
theorem b_m_leave {Δ : Ly} {G : Gm} {Q : Sg → Prop} (cx : Cx Δ G mi_m_leave) (σ : Sg) (h : w_m_leave σ Q) : Y Δ G mi_m_leave (qV Q) noE 0 0 σ 0 [(0, .ref (Δ.1 58))] [] := by
  unfold w_m_leave at h
  refine y_iconst cx (pc := 0) ic_0 d_m_leave_0 ?_
  refine y_istore_n (lv' := [(1, .int 0), (0, .ref (Δ.1 58))]) cx (pc := 1) d_m_leave_1 rfl (le_b rfl) rfl ?_
  refine y_sub [1, 0] rfl ?_
  obtain ⟨n, h⟩ := h
  exact b_m_leave_2 cx n 0 σ h
theorem c_m_leave {l : Launch} (hfl : l.flags = flags0) (Δ : Ly) (σ : Sg) (Q : Sg → Prop) (h : w_m_leave σ Q) : Ct l Δ mi_m_leave [.ref (Δ.1 58)] σ (qV Q) noE :=
  Ct.of hfl (by show plainFor ⟨"GuardedMovesModel", "leave", "()V"⟩ = true; decide +kernel) rfl (le_b rfl) (fun G hl cx => b_m_leave cx σ h)
def mi_m_tell : Mi := ("GuardedMovesModel", prog_6_method_55_code, 2, [], (some .int), 3, 85, 0, 0, ⟨"GuardedMovesModel", "tell", "()I"⟩)
theorem d_m_tell_0 : decode prog_6_method_55_code 0 = .ok (.aload_n 0, 1) := by decide +kernel
theorem d_m_tell_1 : decode prog_6_method_55_code 1 = .ok (.iconst 0, 1) := by decide +kernel
theorem d_m_tell_2 : decode prog_6_method_55_code 2 = .ok (.putfield 102, 3) := by decide +kernel
theorem d_m_tell_5 : decode prog_6_method_55_code 5 = .ok (.aload_n 0, 1) := by decide +kernel
theorem d_m_tell_6 : decode prog_6_method_55_code 6 = .ok (.invokevirtual 304, 3) := by decide +kernel
theorem d_m_tell_9 : decode prog_6_method_55_code 9 = .ok (.iconst 0, 1) := by decide +kernel
theorem d_m_tell_10 : decode prog_6_method_55_code 10 = .ok (.istore_n 1, 1) := by decide +kernel
theorem d_m_tell_11 : decode prog_6_method_55_code 11 = .ok (.iload_n 1, 1) := by decide +kernel
theorem d_m_tell_12 : decode prog_6_method_55_code 12 = .ok (.aload_n 0, 1) := by decide +kernel
theorem d_m_tell_13 : decode prog_6_method_55_code 13 = .ok (.getfield 192, 3) := by decide +kernel
theorem d_m_tell_16 : decode prog_6_method_55_code 16 = .ok (.if_icmp .ge 33, 3) := by decide +kernel
theorem d_m_tell_19 : decode prog_6_method_55_code 19 = .ok (.aload_n 0, 1) := by decide +kernel
theorem d_m_tell_20 : decode prog_6_method_55_code 20 = .ok (.getfield 288, 3) := by decide +kernel
theorem d_m_tell_23 : decode prog_6_method_55_code 23 = .ok (.ifCond .ne 26, 3) := by decide +kernel
theorem d_m_tell_26 : decode prog_6_method_55_code 26 = .ok (.aload_n 0, 1) := by decide +kernel
theorem d_m_tell_27 : decode prog_6_method_55_code 27 = .ok (.dup, 1) := by decide +kernel
theorem d_m_tell_28 : decode prog_6_method_55_code 28 = .ok (.getfield 285, 3) := by decide +kernel
theorem d_m_tell_31 : decode prog_6_method_55_code 31 = .ok (.iconst 1, 1) := by decide +kernel
theorem d_m_tell_32 : decode prog_6_method_55_code 32 = .ok (.iadd, 1) := by decide +kernel
theorem d_m_tell_33 : decode prog_6_method_55_code 33 = .ok (.putfield 285, 3) := by decide +kernel
theorem d_m_tell_36 : decode prog_6_method_55_code 36 = .ok (.aload_n 0, 1) := by decide +kernel
theorem d_m_tell_37 : decode prog_6_method_55_code 37 = .ok (.aload_n 0, 1) := by decide +kernel
theorem d_m_tell_38 : decode prog_6_method_55_code 38 = .ok (.iload_n 1, 1) := by decide +kernel
theorem d_m_tell_39 : decode prog_6_method_55_code 39 = .ok (.invokevirtual 307, 3) := by decide +kernel
theorem d_m_tell_42 : decode prog_6_method_55_code 42 = .ok (.invokevirtual 310, 3) := by decide +kernel
theorem d_m_tell_45 : decode prog_6_method_55_code 45 = .ok (.istore_n 1, 1) := by decide +kernel
theorem d_m_tell_46 : decode prog_6_method_55_code 46 = .ok (.goto (-35), 3) := by decide +kernel
theorem d_m_tell_49 : decode prog_6_method_55_code 49 = .ok (.aload_n 0, 1) := by decide +kernel
theorem d_m_tell_50 : decode prog_6_method_55_code 50 = .ok (.invokevirtual 313, 3) := by decide +kernel
theorem d_m_tell_53 : decode prog_6_method_55_code 53 = .ok (.aload_n 0, 1) := by decide +kernel
theorem d_m_tell_54 : decode prog_6_method_55_code 54 = .ok (.getfield 288, 3) := by decide +kernel
theorem d_m_tell_57 : decode prog_6_method_55_code 57 = .ok (.ireturn, 1) := by decide +kernel
theorem kc_m_tell : Kw (m_w (mi_m_tell )) := ⟨(in_t5 (List.mem_of_getElem? (i := 117) rfl)), rfl⟩
theorem mv_m_tell : MV (mi_m_tell ) "GuardedMovesModel" 0 := ⟨kw_1075, kw_1076, kc_m_tell , kw_7, ⟨⟨(by show ("GuardedMovesModel" : String) ≠ "java/lang/invoke/MethodHandle"; decide), (by show ("GuardedMovesModel" : String) ≠ "java/lang/invoke/VarHandle"; decide)⟩, (by show (parseMethodDescriptor "()I").map (fun d => d.parameters.length) = some 0; decide +kernel)⟩⟩
def w_m_tell_49 (Q : Int32 → Sg → Prop) (σ : Sg) : Prop := w_m_leave σ (fun σ1 => Q (σ1 58 42) σ1)
theorem b_m_tell_49 {Δ : Ly} {G : Gm} {Q : Int32 → Sg → Prop} (cx : Cx Δ G mi_m_tell) : ∀ (σ : Sg), w_m_tell_49 Q σ → Y Δ G mi_m_tell (qI Q) noE 0 0 σ 49 [(0, .ref (Δ.1 58))] [] := by
  intro σ h
  unfold w_m_tell_49 at h
  refine y_aload_n cx (pc := 49) d_m_tell_49 rfl 0 rfl ?_
  refine y_vV cx (pc := 50) (st := []) [] (c_m_leave cx.fl Δ _ _ h) mv_m_leave kw_1106 (oc_58 Δ) ck_Md rfl (le_b rfl) (le_b rfl) (le_b rfl) (le_b rfl) (le_b rfl) d_m_tell_50 (fun σ1 h => ?_) (fun x σ1 h => yt_no h)
  refine y_aload_n cx (pc := 53) d_m_tell_53 rfl 0 rfl ?_
  refine y_get cx (pc := 54) (j := 42) (v := .int (σ1 58 42)) (le_b rfl) ck_Md kw_790 (le_b rfl) (gf_58_42 Δ _) d_m_tell_54 ?_
  exact y_iret cx (pc := 57) rfl d_m_tell_57 (le_b rfl) (le_b rfl) h
def w_m_tell_11 (Q : Int32 → Sg → Prop) : Nat → Int32 → Sg → Prop
  | 0, _, _ => False
  | n + 1, v1, σ => ((σ 58 9) ≤ v1 → (w_m_tell_49 Q σ)) ∧ (¬ (σ 58 9) ≤ v1 → ((¬ (σ 58 42) = 0 → (w_m_tell_49 Q σ)) ∧ ((σ 58 42) = 0 → (w_m_doStatement v1 (up σ 58 41 ((σ 58 41) + 1)) (fun x1 σ2 => w_m_behind x1 σ2 (fun x3 σ4 => (w_m_tell_11 Q n) x3 σ4))))))
theorem b_m_tell_11 {Δ : Ly} {G : Gm} {Q : Int32 → Sg → Prop} (cx : Cx Δ G mi_m_tell) : ∀ (n : Nat) (v1 : Int32) (σ : Sg), w_m_tell_11 Q n v1 σ → Y Δ G mi_m_tell (qI Q) noE 0 0 σ 11 [(0, .ref (Δ.1 58)), (1, .int v1)] [] := by
  intro n
  induction n with
  | zero => intro v1 σ h; exact h.elim
  | succ n ih =>
    intro v1 σ h
    unfold w_m_tell_11 at h
    refine y_iload_n cx (pc := 11) d_m_tell_11 rfl 1 rfl ?_
    refine y_aload_n cx (pc := 12) d_m_tell_12 rfl 0 rfl ?_
    refine y_get cx (pc := 13) (j := 9) (v := .int (σ 58 9)) (le_b rfl) ck_Md kw_757 (le_b rfl) (gf_58_9 Δ _) d_m_tell_13 ?_
    refine y_icmp_ge cx (pc := 16) (tgt := 49) d_m_tell_16 (by decide) (fun hc => ?_) (fun hc => ?_)
    · replace h := h.1 hc
      refine y_sub [0] rfl ?_
      exact b_m_tell_49 cx σ h
    · replace h := h.2 hc
      refine y_aload_n cx (pc := 19) d_m_tell_19 rfl 0 rfl ?_
      refine y_get cx (pc := 20) (j := 42) (v := .int (σ 58 42)) (le_b rfl) ck_Md kw_790 (le_b rfl) (gf_58_42 Δ _) d_m_tell_20 ?_
      refine y_if_ne cx (pc := 23) (tgt := 49) d_m_tell_23 (by decide) (fun hc => ?_) (fun hc => ?_)
      · replace h := h.1 hc
        refine y_sub [0] rfl ?_
        exact b_m_tell_49 cx σ h
      · replace h := h.2 hc
        refine y_aload_n cx (pc := 26) d_m_tell_26 rfl 0 rfl ?_
        refine y_dup cx (pc := 27) rfl d_m_tell_27 ?_
        refine y_get cx (pc := 28) (j := 41) (v := .int (σ 58 41)) (le_b rfl) ck_Md kw_789 (le_b rfl) (gf_58_41 Δ _) d_m_tell_28 ?_
        refine y_iconst cx (pc := 31) ic_1 d_m_tell_31 ?_
        refine y_iadd cx (pc := 32) d_m_tell_32 ?_
        refine y_put cx (pc := 33) (j := 41) (ty := .int) (le_b rfl) ck_Md kw_789 (le_b rfl) rfl (t_Md_ok 41 (le_b rfl)) rfl rfl (pf_58_41 Δ) d_m_tell_33 ?_
        refine y_aload_n cx (pc := 36) d_m_tell_36 rfl 0 rfl ?_
        refine y_aload_n cx (pc := 37) d_m_tell_37 rfl 0 rfl ?_
        refine y_iload_n cx (pc := 38) d_m_tell_38 rfl 1 rfl ?_
        refine y_vI cx (pc := 39) (st := [.ref (Δ.1 58)]) [.int v1] (c_m_doStatement cx.fl Δ v1 _ _ h) mv_m_doStatement kw_1082 (oc_58 Δ) ck_Md rfl (le_b rfl) (le_b rfl) (le_b rfl) (le_b rfl) (le_b rfl) d_m_tell_39 (fun x1 σ2 h => ?_) (fun x σ2 h => yt_no h)
        refine y_vI cx (pc := 42) (st := []) [.int x1] (c_m_behind cx.fl Δ x1 _ _ h) mv_m_behind kw_1102 (oc_58 Δ) ck_Md rfl (le_b rfl) (le_b rfl) (le_b rfl) (le_b rfl) (le_b rfl) d_m_tell_42 (fun x3 σ4 h => ?_) (fun x σ4 h => yt_no h)
        refine y_istore_n (lv' := [(1, .int x3), (0, .ref (Δ.1 58))]) cx (pc := 45) d_m_tell_45 rfl (le_b rfl) rfl ?_
        refine y_goto cx (pc := 46) (tgt := 11) d_m_tell_46 (by decide) ?_
        refine y_sub [1, 0] rfl ?_
        exact ih x3 σ4 h
def w_m_tell (σ : Sg) (Q : Int32 → Sg → Prop) : Prop := w_m_begin (up σ 58 0 0) (fun σ1 => ∃ q11, w_m_tell_11 Q q11 0 σ1)
theorem b_m_tell {Δ : Ly} {G : Gm} {Q : Int32 → Sg → Prop} (cx : Cx Δ G mi_m_tell) (σ : Sg) (h : w_m_tell σ Q) : Y Δ G mi_m_tell (qI Q) noE 0 0 σ 0 [(0, .ref (Δ.1 58))] [] := by
  unfold w_m_tell at h
  refine y_aload_n cx (pc := 0) d_m_tell_0 rfl 0 rfl ?_
  refine y_iconst cx (pc := 1) ic_0 d_m_tell_1 ?_
  refine y_put cx (pc := 2) (j := 0) (ty := .int) (le_b rfl) ck_Md kw_748 (le_b rfl) rfl (t_Md_ok 0 (le_b rfl)) rfl rfl (pf_58_0 Δ) d_m_tell_2 ?_
  refine y_aload_n cx (pc := 5) d_m_tell_5 rfl 0 rfl ?_
  refine y_vV cx (pc := 6) (st := []) [] (c_m_begin cx.fl Δ _ _ h) mv_m_begin kw_1078 (oc_58 Δ) ck_Md rfl (le_b rfl) (le_b rfl) (le_b rfl) (le_b rfl) (le_b rfl) d_m_tell_6 (fun σ1 h => ?_) (fun x σ1 h => yt_no h)
  refine y_iconst cx (pc := 9) ic_0 d_m_tell_9 ?_
  refine y_istore_n (lv' := [(1, .int 0), (0, .ref (Δ.1 58))]) cx (pc := 10) d_m_tell_10 rfl (le_b rfl) rfl ?_
  refine y_sub [1, 0] rfl ?_
  obtain ⟨n, h⟩ := h
  exact b_m_tell_11 cx n 0 σ1 h
theorem c_m_tell {l : Launch} (hfl : l.flags = flags0) (Δ : Ly) (σ : Sg) (Q : Int32 → Sg → Prop) (h : w_m_tell σ Q) : Ct l Δ mi_m_tell [.ref (Δ.1 58)] σ (qI Q) noE :=
  Ct.of hfl (by show plainFor ⟨"GuardedMovesModel", "tell", "()I"⟩ = true; decide +kernel) rfl (le_b rfl) (fun G hl cx => b_m_tell cx σ h)

def mi_l_variable : Mi := ("GuardedMovesLaw", method_3_code, 4, [(0, 6, 9, 13)], (some .int), 10, 250, 1, 6, ⟨"GuardedMovesLaw", "variable", "(LGuardedMoves;II)I"⟩)
theorem d_l_variable_0 : decode method_3_code 0 = .ok (.aload_n 0, 1) := by decide +kernel
theorem d_l_variable_1 : decode method_3_code 1 = .ok (.iload_n 1, 1) := by decide +kernel
theorem d_l_variable_2 : decode method_3_code 2 = .ok (.iload_n 2, 1) := by decide +kernel
theorem d_l_variable_3 : decode method_3_code 3 = .ok (.invokevirtual 7, 3) := by decide +kernel
theorem d_l_variable_6 : decode method_3_code 6 = .ok (.goto 6, 3) := by decide +kernel
theorem d_l_variable_9 : decode method_3_code 9 = .ok (.astore_n 3, 1) := by decide +kernel
theorem d_l_variable_10 : decode method_3_code 10 = .ok (.iconst 1, 1) := by decide +kernel
theorem d_l_variable_11 : decode method_3_code 11 = .ok (.ireturn, 1) := by decide +kernel
theorem d_l_variable_12 : decode method_3_code 12 = .ok (.iconst 0, 1) := by decide +kernel
theorem d_l_variable_13 : decode method_3_code 13 = .ok (.ireturn, 1) := by decide +kernel
theorem kc_l_variable : Kw (m_w (mi_l_variable )) := ⟨(in_t2 (List.mem_of_getElem? (i := 238) rfl)), rfl⟩
theorem mv_l_variable : MS mi_l_variable 3 := ⟨kw_477, kc_l_variable, kw_0, ⟨⟨(by show ("GuardedMovesLaw" : String) ≠ "java/lang/invoke/MethodHandle"; decide), (by show ("GuardedMovesLaw" : String) ≠ "java/lang/invoke/VarHandle"; decide)⟩, (by show (parseMethodDescriptor "(LGuardedMoves;II)I").map (fun d => d.parameters.length) = some 3; decide +kernel)⟩⟩
def w_l_variable_9 (Q : Int32 → Sg → Prop) (a : Nat) (σ : Sg) : Prop := Q 1 σ
theorem b_l_variable_9 {Δ : Ly} {G : Gm} {Q : Int32 → Sg → Prop} (cx : Cx Δ G mi_l_variable) : ∀ (a : Nat) (σ : Sg), w_l_variable_9 Q a σ → Y Δ G mi_l_variable (qI Q) noE 1 6 σ 9 [] [.ref a] := by
  intro a σ h
  unfold w_l_variable_9 at h
  refine y_astore_n (lv' := [(3, .ref a)]) cx (pc := 9) d_l_variable_9 rfl (le_b rfl) rfl ?_
  refine y_iconst cx (pc := 10) ic_1 d_l_variable_10 ?_
  exact y_iret cx (pc := 11) rfl d_l_variable_11 (le_b rfl) (le_b rfl) h
def w_l_variable (p2 : Int32) (p3 : Int32) (σ : Sg) (Q : Int32 → Sg → Prop) : Prop := w_x_variable p2 p3 σ (fun σ1 => Q 0 σ1) (fun x σ1 => (x = 2 ∧ (∀ a : Nat, (w_l_variable_9 Q a σ1))))
theorem b_l_variable {Δ : Ly} {G : Gm} {Q : Int32 → Sg → Prop} (cx : Cx Δ G mi_l_variable) (p2 : Int32) (p3 : Int32) (σ : Sg) (h : w_l_variable p2 p3 σ Q) : Y Δ G mi_l_variable (qI Q) noE 0 0 σ 0 [(0, .ref (Δ.1 0)), (1, .int p2), (2, .int p3)] [] := by
  unfold w_l_variable at h
  refine y_aload_n cx (pc := 0) d_l_variable_0 rfl 0 rfl ?_
  refine y_iload_n cx (pc := 1) d_l_variable_1 rfl 1 rfl ?_
  refine y_iload_n cx (pc := 2) d_l_variable_2 rfl 2 rfl ?_
  refine y_vV cx (pc := 3) (st := []) [.int p2, .int p3] (c_x_variable cx.fl Δ p2 p3 _ _ _ h) mv_x_variable kw_513 (oc_0 Δ) ck_GM rfl (le_b rfl) (le_b rfl) (le_b rfl) (le_b rfl) (le_b rfl) d_l_variable_3 (fun σ1 h => ?_) (fun x σ1 h => ?_)
  ·
    refine y_goto cx (pc := 6) (tgt := 12) d_l_variable_6 (by decide) ?_
    refine y_iconst cx (pc := 12) ic_0 d_l_variable_12 ?_
    exact y_iret cx (pc := 13) rfl d_l_variable_13 (le_b rfl) (le_b rfl) h
  ·
    obtain ⟨rfl, h⟩ := h
    refine t_catch1 cx rfl (le_b rfl) (le_b rfl) (by decide) kw_479 (fun a ha hb => ?_)
    replace h := h a
    refine y_sub [] rfl ?_
    exact b_l_variable_9 cx a σ1 h
theorem c_l_variable {l : Launch} (hfl : l.flags = flags0) (Δ : Ly) (p2 : Int32) (p3 : Int32) (σ : Sg) (Q : Int32 → Sg → Prop) (h : w_l_variable p2 p3 σ Q) : Ct l Δ mi_l_variable [.ref (Δ.1 0), .int p2, .int p3] σ (qI Q) noE :=
  Ct.of hfl (by show plainFor ⟨"GuardedMovesLaw", "variable", "(LGuardedMoves;II)I"⟩ = true; decide +kernel) rfl (le_b rfl) (fun G hl cx => b_l_variable cx p2 p3 σ h)
def mi_l_word : Mi := ("GuardedMovesLaw", method_4_code, 4, [(0, 6, 9, 13)], (some .int), 10, 250, 1, 6, ⟨"GuardedMovesLaw", "word", "(LGuardedMoves;II)I"⟩)
theorem d_l_word_0 : decode method_4_code 0 = .ok (.aload_n 0, 1) := by decide +kernel
theorem d_l_word_1 : decode method_4_code 1 = .ok (.iload_n 1, 1) := by decide +kernel
theorem d_l_word_2 : decode method_4_code 2 = .ok (.iload_n 2, 1) := by decide +kernel
theorem d_l_word_3 : decode method_4_code 3 = .ok (.invokevirtual 15, 3) := by decide +kernel
theorem d_l_word_6 : decode method_4_code 6 = .ok (.goto 6, 3) := by decide +kernel
theorem d_l_word_9 : decode method_4_code 9 = .ok (.astore_n 3, 1) := by decide +kernel
theorem d_l_word_10 : decode method_4_code 10 = .ok (.iconst 1, 1) := by decide +kernel
theorem d_l_word_11 : decode method_4_code 11 = .ok (.ireturn, 1) := by decide +kernel
theorem d_l_word_12 : decode method_4_code 12 = .ok (.iconst 0, 1) := by decide +kernel
theorem d_l_word_13 : decode method_4_code 13 = .ok (.ireturn, 1) := by decide +kernel
theorem kc_l_word : Kw (m_w (mi_l_word )) := ⟨(in_t3 (List.mem_of_getElem? (i := 64) rfl)), rfl⟩
theorem mv_l_word : MS mi_l_word 3 := ⟨kw_543, kc_l_word, kw_0, ⟨⟨(by show ("GuardedMovesLaw" : String) ≠ "java/lang/invoke/MethodHandle"; decide), (by show ("GuardedMovesLaw" : String) ≠ "java/lang/invoke/VarHandle"; decide)⟩, (by show (parseMethodDescriptor "(LGuardedMoves;II)I").map (fun d => d.parameters.length) = some 3; decide +kernel)⟩⟩
def w_l_word_9 (Q : Int32 → Sg → Prop) (a : Nat) (σ : Sg) : Prop := Q 1 σ
theorem b_l_word_9 {Δ : Ly} {G : Gm} {Q : Int32 → Sg → Prop} (cx : Cx Δ G mi_l_word) : ∀ (a : Nat) (σ : Sg), w_l_word_9 Q a σ → Y Δ G mi_l_word (qI Q) noE 1 6 σ 9 [] [.ref a] := by
  intro a σ h
  unfold w_l_word_9 at h
  refine y_astore_n (lv' := [(3, .ref a)]) cx (pc := 9) d_l_word_9 rfl (le_b rfl) rfl ?_
  refine y_iconst cx (pc := 10) ic_1 d_l_word_10 ?_
  exact y_iret cx (pc := 11) rfl d_l_word_11 (le_b rfl) (le_b rfl) h
def w_l_word (p2 : Int32) (p3 : Int32) (σ : Sg) (Q : Int32 → Sg → Prop) : Prop := w_x_word p2 p3 σ (fun σ1 => Q 0 σ1) (fun x σ1 => (x = 2 ∧ (∀ a : Nat, (w_l_word_9 Q a σ1))))
theorem b_l_word {Δ : Ly} {G : Gm} {Q : Int32 → Sg → Prop} (cx : Cx Δ G mi_l_word) (p2 : Int32) (p3 : Int32) (σ : Sg) (h : w_l_word p2 p3 σ Q) : Y Δ G mi_l_word (qI Q) noE 0 0 σ 0 [(0, .ref (Δ.1 0)), (1, .int p2), (2, .int p3)] [] := by
  unfold w_l_word at h
  refine y_aload_n cx (pc := 0) d_l_word_0 rfl 0 rfl ?_
  refine y_iload_n cx (pc := 1) d_l_word_1 rfl 1 rfl ?_
  refine y_iload_n cx (pc := 2) d_l_word_2 rfl 2 rfl ?_
  refine y_vV cx (pc := 3) (st := []) [.int p2, .int p3] (c_x_word cx.fl Δ p2 p3 _ _ _ h) mv_x_word kw_545 (oc_0 Δ) ck_GM rfl (le_b rfl) (le_b rfl) (le_b rfl) (le_b rfl) (le_b rfl) d_l_word_3 (fun σ1 h => ?_) (fun x σ1 h => ?_)
  ·
    refine y_goto cx (pc := 6) (tgt := 12) d_l_word_6 (by decide) ?_
    refine y_iconst cx (pc := 12) ic_0 d_l_word_12 ?_
    exact y_iret cx (pc := 13) rfl d_l_word_13 (le_b rfl) (le_b rfl) h
  ·
    obtain ⟨rfl, h⟩ := h
    refine t_catch1 cx rfl (le_b rfl) (le_b rfl) (by decide) kw_479 (fun a ha hb => ?_)
    replace h := h a
    refine y_sub [] rfl ?_
    exact b_l_word_9 cx a σ1 h
theorem c_l_word {l : Launch} (hfl : l.flags = flags0) (Δ : Ly) (p2 : Int32) (p3 : Int32) (σ : Sg) (Q : Int32 → Sg → Prop) (h : w_l_word p2 p3 σ Q) : Ct l Δ mi_l_word [.ref (Δ.1 0), .int p2, .int p3] σ (qI Q) noE :=
  Ct.of hfl (by show plainFor ⟨"GuardedMovesLaw", "word", "(LGuardedMoves;II)I"⟩ = true; decide +kernel) rfl (le_b rfl) (fun G hl cx => b_l_word cx p2 p3 σ h)
def mi_l_feed : Mi := ("GuardedMovesLaw", method_5_code, 6, [(0, 11, 14, 22), (0, 11, 18, 24)], (some .int), 10, 252, 2, 12, ⟨"GuardedMovesLaw", "feed", "(LGuardedMoves;JI[J)I"⟩)
theorem d_l_feed_0 : decode method_5_code 0 = .ok (.aload 4, 2) := by decide +kernel
theorem d_l_feed_2 : decode method_5_code 2 = .ok (.iconst 0, 1) := by decide +kernel
theorem d_l_feed_3 : decode method_5_code 3 = .ok (.aload_n 0, 1) := by decide +kernel
theorem d_l_feed_4 : decode method_5_code 4 = .ok (.lload_n 1, 1) := by decide +kernel
theorem d_l_feed_5 : decode method_5_code 5 = .ok (.iload_n 3, 1) := by decide +kernel
theorem d_l_feed_6 : decode method_5_code 6 = .ok (.invokevirtual 18, 3) := by decide +kernel
theorem d_l_feed_9 : decode method_5_code 9 = .ok (.i2l, 1) := by decide +kernel
theorem d_l_feed_10 : decode method_5_code 10 = .ok (.lastore, 1) := by decide +kernel
theorem d_l_feed_11 : decode method_5_code 11 = .ok (.goto 11, 3) := by decide +kernel
theorem d_l_feed_14 : decode method_5_code 14 = .ok (.astore 5, 2) := by decide +kernel
theorem d_l_feed_16 : decode method_5_code 16 = .ok (.iconst 1, 1) := by decide +kernel
theorem d_l_feed_17 : decode method_5_code 17 = .ok (.ireturn, 1) := by decide +kernel
theorem d_l_feed_18 : decode method_5_code 18 = .ok (.astore 5, 2) := by decide +kernel
theorem d_l_feed_20 : decode method_5_code 20 = .ok (.iconst 2, 1) := by decide +kernel
theorem d_l_feed_21 : decode method_5_code 21 = .ok (.ireturn, 1) := by decide +kernel
theorem d_l_feed_22 : decode method_5_code 22 = .ok (.iconst 0, 1) := by decide +kernel
theorem d_l_feed_23 : decode method_5_code 23 = .ok (.ireturn, 1) := by decide +kernel
theorem kc_l_feed : Kw (m_w (mi_l_feed )) := ⟨(in_t3 (List.mem_of_getElem? (i := 71) rfl)), rfl⟩
theorem mv_l_feed : MS mi_l_feed 4 := ⟨kw_550, kc_l_feed, kw_0, ⟨⟨(by show ("GuardedMovesLaw" : String) ≠ "java/lang/invoke/MethodHandle"; decide), (by show ("GuardedMovesLaw" : String) ≠ "java/lang/invoke/VarHandle"; decide)⟩, (by show (parseMethodDescriptor "(LGuardedMoves;JI[J)I").map (fun d => d.parameters.length) = some 4; decide +kernel)⟩⟩
def w_l_feed_14 (Q : Int32 → Sg → Prop) (a : Nat) (σ : Sg) : Prop := Q 1 σ
theorem b_l_feed_14 {Δ : Ly} {G : Gm} {Q : Int32 → Sg → Prop} (cx : Cx Δ G mi_l_feed) : ∀ (a : Nat) (σ : Sg), w_l_feed_14 Q a σ → Y Δ G mi_l_feed (qI Q) noE 2 12 σ 14 [] [.ref a] := by
  intro a σ h
  unfold w_l_feed_14 at h
  refine y_astore (lv' := [(5, .ref a)]) cx (pc := 14) d_l_feed_14 (le_b rfl) rfl ?_
  refine y_iconst cx (pc := 16) ic_1 d_l_feed_16 ?_
  exact y_iret cx (pc := 17) rfl d_l_feed_17 (le_b rfl) (le_b rfl) h
def w_l_feed_18 (Q : Int32 → Sg → Prop) (a : Nat) (σ : Sg) : Prop := Q 2 σ
theorem b_l_feed_18 {Δ : Ly} {G : Gm} {Q : Int32 → Sg → Prop} (cx : Cx Δ G mi_l_feed) : ∀ (a : Nat) (σ : Sg), w_l_feed_18 Q a σ → Y Δ G mi_l_feed (qI Q) noE 2 12 σ 18 [] [.ref a] := by
  intro a σ h
  unfold w_l_feed_18 at h
  refine y_astore (lv' := [(5, .ref a)]) cx (pc := 18) d_l_feed_18 (le_b rfl) rfl ?_
  refine y_iconst cx (pc := 20) ic_2 d_l_feed_20 ?_
  exact y_iret cx (pc := 21) rfl d_l_feed_21 (le_b rfl) (le_b rfl) h
def w_l_feed (p2 : Int64) (p3 : Int32) (σ : Sg) (Q : Int32 → Sg → Prop) : Prop := w_x_feed p2 p3 σ (fun x1 σ2 => Q 0 (up σ2 87 0 x1)) (fun x σ2 => (x = 3 ∧ (∀ a : Nat, (w_l_feed_14 Q a σ2))) ∨ (x = 4 ∧ (∀ a : Nat, (w_l_feed_18 Q a σ2))))
theorem b_l_feed {Δ : Ly} {G : Gm} {Q : Int32 → Sg → Prop} (cx : Cx Δ G mi_l_feed) (p2 : Int64) (p3 : Int32) (σ : Sg) (h : w_l_feed p2 p3 σ Q) : Y Δ G mi_l_feed (qI Q) noE 0 0 σ 0 [(0, .ref (Δ.1 0)), (1, .long p2), (3, .int p3), (4, .ref (Δ.1 87))] [] := by
  unfold w_l_feed at h
  refine y_aload cx (pc := 0) d_l_feed_0 3 rfl ?_
  refine y_iconst cx (pc := 2) ic_0 d_l_feed_2 ?_
  refine y_aload_n cx (pc := 3) d_l_feed_3 rfl 0 rfl ?_
  refine y_lload_n cx (pc := 4) d_l_feed_4 rfl 1 rfl ?_
  refine y_iload_n cx (pc := 5) d_l_feed_5 rfl 2 rfl ?_
  refine y_vI cx (pc := 6) (st := [.int 0, .ref (Δ.1 87)]) [.long p2, .int p3] (c_x_feed cx.fl Δ p2 p3 _ _ _ h) mv_x_feed kw_554 (oc_0 Δ) ck_GM rfl (le_b rfl) (le_b rfl) (le_b rfl) (le_b rfl) (le_b rfl) d_l_feed_6 (fun x1 σ2 h => ?_) (fun x σ2 h => ?_)
  ·
    refine y_i2l cx (pc := 9) d_l_feed_9 ?_
    refine y_outst cx (pc := 10) (x := x1) d_l_feed_10 ?_
    refine y_goto cx (pc := 11) (tgt := 22) d_l_feed_11 (by decide) ?_
    refine y_iconst cx (pc := 22) ic_0 d_l_feed_22 ?_
    exact y_iret cx (pc := 23) rfl d_l_feed_23 (le_b rfl) (le_b rfl) h
  ·
    rcases h with ⟨rfl, h⟩ | h
    ·
      refine t_catch1 cx rfl (le_b rfl) (le_b rfl) (by decide) kw_552 (fun a ha hb => ?_)
      replace h := h a
      refine y_sub [] rfl ?_
      exact b_l_feed_14 cx a σ2 h
    ·
      obtain ⟨rfl, h⟩ := h
      refine t_catch2 cx rfl (le_b rfl) (le_b rfl) (by decide) kw_552 cx.2.2.2.2.2.2.1.2.2.2.2.2.2.2.1 (le_b rfl) (le_b rfl) (by decide) kw_553 (fun a ha hb => ?_)
      replace h := h a
      refine y_sub [] rfl ?_
      exact b_l_feed_18 cx a σ2 h
theorem c_l_feed {l : Launch} (hfl : l.flags = flags0) (Δ : Ly) (p2 : Int64) (p3 : Int32) (σ : Sg) (Q : Int32 → Sg → Prop) (h : w_l_feed p2 p3 σ Q) : Ct l Δ mi_l_feed [.ref (Δ.1 0), .long p2, .int p3, .ref (Δ.1 87)] σ (qI Q) noE :=
  Ct.of hfl (by show plainFor ⟨"GuardedMovesLaw", "feed", "(LGuardedMoves;JI[J)I"⟩ = true; decide +kernel) rfl (le_b rfl) (fun G hl cx => b_l_feed cx p2 p3 σ h)
def mi_l_statement : Mi := ("GuardedMovesLaw", method_6_code, 5, [(0, 10, 13, 13), (0, 10, 17, 22)], (some .int), 10, 250, 2, 12, ⟨"GuardedMovesLaw", "statement", "(LGuardedMoves;II[J)I"⟩)
theorem d_l_statement_0 : decode method_6_code 0 = .ok (.aload_n 3, 1) := by decide +kernel
theorem d_l_statement_1 : decode method_6_code 1 = .ok (.iconst 0, 1) := by decide +kernel
theorem d_l_statement_2 : decode method_6_code 2 = .ok (.aload_n 0, 1) := by decide +kernel
theorem d_l_statement_3 : decode method_6_code 3 = .ok (.iload_n 1, 1) := by decide +kernel
theorem d_l_statement_4 : decode method_6_code 4 = .ok (.iload_n 2, 1) := by decide +kernel
theorem d_l_statement_5 : decode method_6_code 5 = .ok (.invokevirtual 26, 3) := by decide +kernel
theorem d_l_statement_8 : decode method_6_code 8 = .ok (.i2l, 1) := by decide +kernel
theorem d_l_statement_9 : decode method_6_code 9 = .ok (.lastore, 1) := by decide +kernel
theorem d_l_statement_10 : decode method_6_code 10 = .ok (.goto 11, 3) := by decide +kernel
theorem d_l_statement_13 : decode method_6_code 13 = .ok (.astore 4, 2) := by decide +kernel
theorem d_l_statement_15 : decode method_6_code 15 = .ok (.iconst 1, 1) := by decide +kernel
theorem d_l_statement_16 : decode method_6_code 16 = .ok (.ireturn, 1) := by decide +kernel
theorem d_l_statement_17 : decode method_6_code 17 = .ok (.astore 4, 2) := by decide +kernel
theorem d_l_statement_19 : decode method_6_code 19 = .ok (.iconst 2, 1) := by decide +kernel
theorem d_l_statement_20 : decode method_6_code 20 = .ok (.ireturn, 1) := by decide +kernel
theorem d_l_statement_21 : decode method_6_code 21 = .ok (.iconst 0, 1) := by decide +kernel
theorem d_l_statement_22 : decode method_6_code 22 = .ok (.ireturn, 1) := by decide +kernel
theorem kc_l_statement : Kw (m_w (mi_l_statement )) := ⟨(in_t3 (List.mem_of_getElem? (i := 117) rfl)), rfl⟩
theorem mv_l_statement : MS mi_l_statement 4 := ⟨kw_596, kc_l_statement, kw_0, ⟨⟨(by show ("GuardedMovesLaw" : String) ≠ "java/lang/invoke/MethodHandle"; decide), (by show ("GuardedMovesLaw" : String) ≠ "java/lang/invoke/VarHandle"; decide)⟩, (by show (parseMethodDescriptor "(LGuardedMoves;II[J)I").map (fun d => d.parameters.length) = some 4; decide +kernel)⟩⟩
def w_l_statement_13 (Q : Int32 → Sg → Prop) (a : Nat) (σ : Sg) : Prop := Q 1 σ
theorem b_l_statement_13 {Δ : Ly} {G : Gm} {Q : Int32 → Sg → Prop} (cx : Cx Δ G mi_l_statement) : ∀ (a : Nat) (σ : Sg), w_l_statement_13 Q a σ → Y Δ G mi_l_statement (qI Q) noE 2 12 σ 13 [] [.ref a] := by
  intro a σ h
  unfold w_l_statement_13 at h
  refine y_astore (lv' := [(4, .ref a)]) cx (pc := 13) d_l_statement_13 (le_b rfl) rfl ?_
  refine y_iconst cx (pc := 15) ic_1 d_l_statement_15 ?_
  exact y_iret cx (pc := 16) rfl d_l_statement_16 (le_b rfl) (le_b rfl) h
def w_l_statement_17 (Q : Int32 → Sg → Prop) (a : Nat) (σ : Sg) : Prop := Q 2 σ
theorem b_l_statement_17 {Δ : Ly} {G : Gm} {Q : Int32 → Sg → Prop} (cx : Cx Δ G mi_l_statement) : ∀ (a : Nat) (σ : Sg), w_l_statement_17 Q a σ → Y Δ G mi_l_statement (qI Q) noE 2 12 σ 17 [] [.ref a] := by
  intro a σ h
  unfold w_l_statement_17 at h
  refine y_astore (lv' := [(4, .ref a)]) cx (pc := 17) d_l_statement_17 (le_b rfl) rfl ?_
  refine y_iconst cx (pc := 19) ic_2 d_l_statement_19 ?_
  exact y_iret cx (pc := 20) rfl d_l_statement_20 (le_b rfl) (le_b rfl) h
def w_l_statement (p2 : Int32) (p3 : Int32) (σ : Sg) (Q : Int32 → Sg → Prop) : Prop := w_x_statement p2 p3 σ (fun x1 σ2 => Q 0 (up σ2 87 0 x1)) (fun x σ2 => (x = 2 ∧ (∀ a : Nat, (w_l_statement_13 Q a σ2))) ∨ (x = 3 ∧ (∀ a : Nat, (w_l_statement_17 Q a σ2))))
theorem b_l_statement {Δ : Ly} {G : Gm} {Q : Int32 → Sg → Prop} (cx : Cx Δ G mi_l_statement) (p2 : Int32) (p3 : Int32) (σ : Sg) (h : w_l_statement p2 p3 σ Q) : Y Δ G mi_l_statement (qI Q) noE 0 0 σ 0 [(0, .ref (Δ.1 0)), (1, .int p2), (2, .int p3), (3, .ref (Δ.1 87))] [] := by
  unfold w_l_statement at h
  refine y_aload_n cx (pc := 0) d_l_statement_0 rfl 3 rfl ?_
  refine y_iconst cx (pc := 1) ic_0 d_l_statement_1 ?_
  refine y_aload_n cx (pc := 2) d_l_statement_2 rfl 0 rfl ?_
  refine y_iload_n cx (pc := 3) d_l_statement_3 rfl 1 rfl ?_
  refine y_iload_n cx (pc := 4) d_l_statement_4 rfl 2 rfl ?_
  refine y_vI cx (pc := 5) (st := [.int 0, .ref (Δ.1 87)]) [.int p2, .int p3] (c_x_statement cx.fl Δ p2 p3 _ _ _ h) mv_x_statement kw_598 (oc_0 Δ) ck_GM rfl (le_b rfl) (le_b rfl) (le_b rfl) (le_b rfl) (le_b rfl) d_l_statement_5 (fun x1 σ2 h => ?_) (fun x σ2 h => ?_)
  ·
    refine y_i2l cx (pc := 8) d_l_statement_8 ?_
    refine y_outst cx (pc := 9) (x := x1) d_l_statement_9 ?_
    refine y_goto cx (pc := 10) (tgt := 21) d_l_statement_10 (by decide) ?_
    refine y_iconst cx (pc := 21) ic_0 d_l_statement_21 ?_
    exact y_iret cx (pc := 22) rfl d_l_statement_22 (le_b rfl) (le_b rfl) h
  ·
    rcases h with ⟨rfl, h⟩ | h
    ·
      refine t_catch1 cx rfl (le_b rfl) (le_b rfl) (by decide) kw_479 (fun a ha hb => ?_)
      replace h := h a
      refine y_sub [] rfl ?_
      exact b_l_statement_13 cx a σ2 h
    ·
      obtain ⟨rfl, h⟩ := h
      refine t_catch2 cx rfl (le_b rfl) (le_b rfl) (by decide) kw_479 cx.2.2.2.2.2.2.1.2.2.2.2.2.2.2.2.1 (le_b rfl) (le_b rfl) (by decide) kw_552 (fun a ha hb => ?_)
      replace h := h a
      refine y_sub [] rfl ?_
      exact b_l_statement_17 cx a σ2 h
theorem c_l_statement {l : Launch} (hfl : l.flags = flags0) (Δ : Ly) (p2 : Int32) (p3 : Int32) (σ : Sg) (Q : Int32 → Sg → Prop) (h : w_l_statement p2 p3 σ Q) : Ct l Δ mi_l_statement [.ref (Δ.1 0), .int p2, .int p3, .ref (Δ.1 87)] σ (qI Q) noE :=
  Ct.of hfl (by show plainFor ⟨"GuardedMovesLaw", "statement", "(LGuardedMoves;II[J)I"⟩ = true; decide +kernel) rfl (le_b rfl) (fun G hl cx => b_l_statement cx p2 p3 σ h)
def mi_l_lower : Mi := ("GuardedMovesLaw", method_7_code, 4, [(0, 9, 12, 22)], (some .int), 218, 6208, 1, 6, ⟨"GuardedMovesLaw", "lower", "(LGuardedMoves;I[J)I"⟩)
theorem d_l_lower_0 : decode method_7_code 0 = .ok (.aload_n 2, 1) := by decide +kernel
theorem d_l_lower_1 : decode method_7_code 1 = .ok (.iconst 0, 1) := by decide +kernel
theorem d_l_lower_2 : decode method_7_code 2 = .ok (.aload_n 0, 1) := by decide +kernel
theorem d_l_lower_3 : decode method_7_code 3 = .ok (.iload_n 1, 1) := by decide +kernel
theorem d_l_lower_4 : decode method_7_code 4 = .ok (.invokevirtual 30, 3) := by decide +kernel
theorem d_l_lower_7 : decode method_7_code 7 = .ok (.i2l, 1) := by decide +kernel
theorem d_l_lower_8 : decode method_7_code 8 = .ok (.lastore, 1) := by decide +kernel
theorem d_l_lower_9 : decode method_7_code 9 = .ok (.goto 6, 3) := by decide +kernel
theorem d_l_lower_12 : decode method_7_code 12 = .ok (.astore_n 3, 1) := by decide +kernel
theorem d_l_lower_13 : decode method_7_code 13 = .ok (.iconst 1, 1) := by decide +kernel
theorem d_l_lower_14 : decode method_7_code 14 = .ok (.ireturn, 1) := by decide +kernel
theorem d_l_lower_15 : decode method_7_code 15 = .ok (.iconst 0, 1) := by decide +kernel
theorem d_l_lower_16 : decode method_7_code 16 = .ok (.ireturn, 1) := by decide +kernel
theorem kc_l_lower : Kw (m_w (mi_l_lower )) := ⟨(in_t3 (List.mem_of_getElem? (i := 129) rfl)), rfl⟩
theorem mv_l_lower : MS mi_l_lower 3 := ⟨kw_608, kc_l_lower, kw_0, ⟨⟨(by show ("GuardedMovesLaw" : String) ≠ "java/lang/invoke/MethodHandle"; decide), (by show ("GuardedMovesLaw" : String) ≠ "java/lang/invoke/VarHandle"; decide)⟩, (by show (parseMethodDescriptor "(LGuardedMoves;I[J)I").map (fun d => d.parameters.length) = some 3; decide +kernel)⟩⟩
def w_l_lower_12 (Q : Int32 → Sg → Prop) (a : Nat) (σ : Sg) : Prop := Q 1 σ
theorem b_l_lower_12 {Δ : Ly} {G : Gm} {Q : Int32 → Sg → Prop} (cx : Cx Δ G mi_l_lower) : ∀ (a : Nat) (σ : Sg), w_l_lower_12 Q a σ → Y Δ G mi_l_lower (qI Q) noE 1 6 σ 12 [] [.ref a] := by
  intro a σ h
  unfold w_l_lower_12 at h
  refine y_astore_n (lv' := [(3, .ref a)]) cx (pc := 12) d_l_lower_12 rfl (le_b rfl) rfl ?_
  refine y_iconst cx (pc := 13) ic_1 d_l_lower_13 ?_
  exact y_iret cx (pc := 14) rfl d_l_lower_14 (le_b rfl) (le_b rfl) h
def w_l_lower (p2 : Int32) (σ : Sg) (Q : Int32 → Sg → Prop) : Prop := w_x_lower p2 σ (fun x1 σ2 => Q 0 (up σ2 87 0 x1)) (fun x σ2 => (x = 3 ∧ (∀ a : Nat, (w_l_lower_12 Q a σ2))))
theorem b_l_lower {Δ : Ly} {G : Gm} {Q : Int32 → Sg → Prop} (cx : Cx Δ G mi_l_lower) (p2 : Int32) (σ : Sg) (h : w_l_lower p2 σ Q) : Y Δ G mi_l_lower (qI Q) noE 0 0 σ 0 [(0, .ref (Δ.1 0)), (1, .int p2), (2, .ref (Δ.1 87))] [] := by
  unfold w_l_lower at h
  refine y_aload_n cx (pc := 0) d_l_lower_0 rfl 2 rfl ?_
  refine y_iconst cx (pc := 1) ic_0 d_l_lower_1 ?_
  refine y_aload_n cx (pc := 2) d_l_lower_2 rfl 0 rfl ?_
  refine y_iload_n cx (pc := 3) d_l_lower_3 rfl 1 rfl ?_
  refine y_vI cx (pc := 4) (st := [.int 0, .ref (Δ.1 87)]) [.int p2] (c_x_lower cx.fl Δ p2 _ _ _ h) mv_x_lower kw_610 (oc_0 Δ) ck_GM rfl (le_b rfl) (le_b rfl) (le_b rfl) (le_b rfl) (le_b rfl) d_l_lower_4 (fun x1 σ2 h => ?_) (fun x σ2 h => ?_)
  ·
    refine y_i2l cx (pc := 7) d_l_lower_7 ?_
    refine y_outst cx (pc := 8) (x := x1) d_l_lower_8 ?_
    refine y_goto cx (pc := 9) (tgt := 15) d_l_lower_9 (by decide) ?_
    refine y_iconst cx (pc := 15) ic_0 d_l_lower_15 ?_
    exact y_iret cx (pc := 16) rfl d_l_lower_16 (le_b rfl) (le_b rfl) h
  ·
    obtain ⟨rfl, h⟩ := h
    refine t_catch1 cx rfl (le_b rfl) (le_b rfl) (by decide) kw_552 (fun a ha hb => ?_)
    replace h := h a
    refine y_sub [] rfl ?_
    exact b_l_lower_12 cx a σ2 h
theorem c_l_lower {l : Launch} (hfl : l.flags = flags0) (Δ : Ly) (p2 : Int32) (σ : Sg) (Q : Int32 → Sg → Prop) (h : w_l_lower p2 σ Q) : Ct l Δ mi_l_lower [.ref (Δ.1 0), .int p2, .ref (Δ.1 87)] σ (qI Q) noE :=
  Ct.of hfl (by show plainFor ⟨"GuardedMovesLaw", "lower", "(LGuardedMoves;I[J)I"⟩ = true; decide +kernel) rfl (le_b rfl) (fun G hl cx => b_l_lower cx p2 σ h)
def mi_l_step : Mi := ("GuardedMovesLaw", method_8_code, 5, [(0, 10, 13, 13), (0, 10, 17, 22)], (some .int), 10, 250, 2, 12, ⟨"GuardedMovesLaw", "step", "(LGuardedMoves;II[J)I"⟩)
theorem d_l_step_0 : decode method_8_code 0 = .ok (.aload_n 3, 1) := by decide +kernel
theorem d_l_step_1 : decode method_8_code 1 = .ok (.iconst 0, 1) := by decide +kernel
theorem d_l_step_2 : decode method_8_code 2 = .ok (.aload_n 0, 1) := by decide +kernel
theorem d_l_step_3 : decode method_8_code 3 = .ok (.iload_n 1, 1) := by decide +kernel
theorem d_l_step_4 : decode method_8_code 4 = .ok (.iload_n 2, 1) := by decide +kernel
theorem d_l_step_5 : decode method_8_code 5 = .ok (.invokevirtual 34, 3) := by decide +kernel
theorem d_l_step_8 : decode method_8_code 8 = .ok (.i2l, 1) := by decide +kernel
theorem d_l_step_9 : decode method_8_code 9 = .ok (.lastore, 1) := by decide +kernel
theorem d_l_step_10 : decode method_8_code 10 = .ok (.goto 11, 3) := by decide +kernel
theorem d_l_step_13 : decode method_8_code 13 = .ok (.astore 4, 2) := by decide +kernel
theorem d_l_step_15 : decode method_8_code 15 = .ok (.iconst 1, 1) := by decide +kernel
theorem d_l_step_16 : decode method_8_code 16 = .ok (.ireturn, 1) := by decide +kernel
theorem d_l_step_17 : decode method_8_code 17 = .ok (.astore 4, 2) := by decide +kernel
theorem d_l_step_19 : decode method_8_code 19 = .ok (.iconst 2, 1) := by decide +kernel
theorem d_l_step_20 : decode method_8_code 20 = .ok (.ireturn, 1) := by decide +kernel
theorem d_l_step_21 : decode method_8_code 21 = .ok (.iconst 0, 1) := by decide +kernel
theorem d_l_step_22 : decode method_8_code 22 = .ok (.ireturn, 1) := by decide +kernel
theorem kc_l_step : Kw (m_w (mi_l_step )) := ⟨(in_t3 (List.mem_of_getElem? (i := 209) rfl)), rfl⟩
theorem mv_l_step : MS mi_l_step 4 := ⟨kw_688, kc_l_step, kw_0, ⟨⟨(by show ("GuardedMovesLaw" : String) ≠ "java/lang/invoke/MethodHandle"; decide), (by show ("GuardedMovesLaw" : String) ≠ "java/lang/invoke/VarHandle"; decide)⟩, (by show (parseMethodDescriptor "(LGuardedMoves;II[J)I").map (fun d => d.parameters.length) = some 4; decide +kernel)⟩⟩
def w_l_step_13 (Q : Int32 → Sg → Prop) (a : Nat) (σ : Sg) : Prop := Q 1 σ
theorem b_l_step_13 {Δ : Ly} {G : Gm} {Q : Int32 → Sg → Prop} (cx : Cx Δ G mi_l_step) : ∀ (a : Nat) (σ : Sg), w_l_step_13 Q a σ → Y Δ G mi_l_step (qI Q) noE 2 12 σ 13 [] [.ref a] := by
  intro a σ h
  unfold w_l_step_13 at h
  refine y_astore (lv' := [(4, .ref a)]) cx (pc := 13) d_l_step_13 (le_b rfl) rfl ?_
  refine y_iconst cx (pc := 15) ic_1 d_l_step_15 ?_
  exact y_iret cx (pc := 16) rfl d_l_step_16 (le_b rfl) (le_b rfl) h
def w_l_step_17 (Q : Int32 → Sg → Prop) (a : Nat) (σ : Sg) : Prop := Q 2 σ
theorem b_l_step_17 {Δ : Ly} {G : Gm} {Q : Int32 → Sg → Prop} (cx : Cx Δ G mi_l_step) : ∀ (a : Nat) (σ : Sg), w_l_step_17 Q a σ → Y Δ G mi_l_step (qI Q) noE 2 12 σ 17 [] [.ref a] := by
  intro a σ h
  unfold w_l_step_17 at h
  refine y_astore (lv' := [(4, .ref a)]) cx (pc := 17) d_l_step_17 (le_b rfl) rfl ?_
  refine y_iconst cx (pc := 19) ic_2 d_l_step_19 ?_
  exact y_iret cx (pc := 20) rfl d_l_step_20 (le_b rfl) (le_b rfl) h
def w_l_step (p2 : Int32) (p3 : Int32) (σ : Sg) (Q : Int32 → Sg → Prop) : Prop := w_x_step p2 p3 σ (fun x1 σ2 => Q 0 (up σ2 87 0 x1)) (fun x σ2 => (x = 2 ∧ (∀ a : Nat, (w_l_step_13 Q a σ2))) ∨ (x = 3 ∧ (∀ a : Nat, (w_l_step_17 Q a σ2))))
theorem b_l_step {Δ : Ly} {G : Gm} {Q : Int32 → Sg → Prop} (cx : Cx Δ G mi_l_step) (p2 : Int32) (p3 : Int32) (σ : Sg) (h : w_l_step p2 p3 σ Q) : Y Δ G mi_l_step (qI Q) noE 0 0 σ 0 [(0, .ref (Δ.1 0)), (1, .int p2), (2, .int p3), (3, .ref (Δ.1 87))] [] := by
  unfold w_l_step at h
  refine y_aload_n cx (pc := 0) d_l_step_0 rfl 3 rfl ?_
  refine y_iconst cx (pc := 1) ic_0 d_l_step_1 ?_
  refine y_aload_n cx (pc := 2) d_l_step_2 rfl 0 rfl ?_
  refine y_iload_n cx (pc := 3) d_l_step_3 rfl 1 rfl ?_
  refine y_iload_n cx (pc := 4) d_l_step_4 rfl 2 rfl ?_
  refine y_vI cx (pc := 5) (st := [.int 0, .ref (Δ.1 87)]) [.int p2, .int p3] (c_x_step cx.fl Δ p2 p3 _ _ _ h) mv_x_step kw_690 (oc_0 Δ) ck_GM rfl (le_b rfl) (le_b rfl) (le_b rfl) (le_b rfl) (le_b rfl) d_l_step_5 (fun x1 σ2 h => ?_) (fun x σ2 h => ?_)
  ·
    refine y_i2l cx (pc := 8) d_l_step_8 ?_
    refine y_outst cx (pc := 9) (x := x1) d_l_step_9 ?_
    refine y_goto cx (pc := 10) (tgt := 21) d_l_step_10 (by decide) ?_
    refine y_iconst cx (pc := 21) ic_0 d_l_step_21 ?_
    exact y_iret cx (pc := 22) rfl d_l_step_22 (le_b rfl) (le_b rfl) h
  ·
    rcases h with ⟨rfl, h⟩ | h
    ·
      refine t_catch1 cx rfl (le_b rfl) (le_b rfl) (by decide) kw_479 (fun a ha hb => ?_)
      replace h := h a
      refine y_sub [] rfl ?_
      exact b_l_step_13 cx a σ2 h
    ·
      obtain ⟨rfl, h⟩ := h
      refine t_catch2 cx rfl (le_b rfl) (le_b rfl) (by decide) kw_479 cx.2.2.2.2.2.2.1.2.2.2.2.2.2.2.2.1 (le_b rfl) (le_b rfl) (by decide) kw_552 (fun a ha hb => ?_)
      replace h := h a
      refine y_sub [] rfl ?_
      exact b_l_step_17 cx a σ2 h
theorem c_l_step {l : Launch} (hfl : l.flags = flags0) (Δ : Ly) (p2 : Int32) (p3 : Int32) (σ : Sg) (Q : Int32 → Sg → Prop) (h : w_l_step p2 p3 σ Q) : Ct l Δ mi_l_step [.ref (Δ.1 0), .int p2, .int p3, .ref (Δ.1 87)] σ (qI Q) noE :=
  Ct.of hfl (by show plainFor ⟨"GuardedMovesLaw", "step", "(LGuardedMoves;II[J)I"⟩ = true; decide +kernel) rfl (le_b rfl) (fun G hl cx => b_l_step cx p2 p3 σ h)
def mi_l_run : Mi := ("GuardedMovesLaw", method_9_code, 3, [(0, 8, 11, 24)], (some .int), 10, 249, 1, 6, ⟨"GuardedMovesLaw", "run", "(LGuardedMoves;[J)I"⟩)
theorem d_l_run_0 : decode method_9_code 0 = .ok (.aload_n 1, 1) := by decide +kernel
theorem d_l_run_1 : decode method_9_code 1 = .ok (.iconst 0, 1) := by decide +kernel
theorem d_l_run_2 : decode method_9_code 2 = .ok (.aload_n 0, 1) := by decide +kernel
theorem d_l_run_3 : decode method_9_code 3 = .ok (.invokevirtual 37, 3) := by decide +kernel
theorem d_l_run_6 : decode method_9_code 6 = .ok (.i2l, 1) := by decide +kernel
theorem d_l_run_7 : decode method_9_code 7 = .ok (.lastore, 1) := by decide +kernel
theorem d_l_run_8 : decode method_9_code 8 = .ok (.goto 6, 3) := by decide +kernel
theorem d_l_run_11 : decode method_9_code 11 = .ok (.astore_n 2, 1) := by decide +kernel
theorem d_l_run_12 : decode method_9_code 12 = .ok (.iconst 1, 1) := by decide +kernel
theorem d_l_run_13 : decode method_9_code 13 = .ok (.ireturn, 1) := by decide +kernel
theorem d_l_run_14 : decode method_9_code 14 = .ok (.iconst 0, 1) := by decide +kernel
theorem d_l_run_15 : decode method_9_code 15 = .ok (.ireturn, 1) := by decide +kernel
theorem kc_l_run : Kw (m_w (mi_l_run )) := ⟨(in_t3 (List.mem_of_getElem? (i := 217) rfl)), rfl⟩
theorem mv_l_run : MS mi_l_run 2 := ⟨kw_696, kc_l_run, kw_0, ⟨⟨(by show ("GuardedMovesLaw" : String) ≠ "java/lang/invoke/MethodHandle"; decide), (by show ("GuardedMovesLaw" : String) ≠ "java/lang/invoke/VarHandle"; decide)⟩, (by show (parseMethodDescriptor "(LGuardedMoves;[J)I").map (fun d => d.parameters.length) = some 2; decide +kernel)⟩⟩
def w_l_run_11 (Q : Int32 → Sg → Prop) (a : Nat) (σ : Sg) : Prop := Q 1 σ
theorem b_l_run_11 {Δ : Ly} {G : Gm} {Q : Int32 → Sg → Prop} (cx : Cx Δ G mi_l_run) : ∀ (a : Nat) (σ : Sg), w_l_run_11 Q a σ → Y Δ G mi_l_run (qI Q) noE 1 6 σ 11 [] [.ref a] := by
  intro a σ h
  unfold w_l_run_11 at h
  refine y_astore_n (lv' := [(2, .ref a)]) cx (pc := 11) d_l_run_11 rfl (le_b rfl) rfl ?_
  refine y_iconst cx (pc := 12) ic_1 d_l_run_12 ?_
  exact y_iret cx (pc := 13) rfl d_l_run_13 (le_b rfl) (le_b rfl) h
def w_l_run (σ : Sg) (Q : Int32 → Sg → Prop) : Prop := w_x_run σ (fun x1 σ2 => Q 0 (up σ2 87 0 x1)) (fun x σ2 => (x = 4 ∧ (∀ a : Nat, (w_l_run_11 Q a σ2))))
theorem b_l_run {Δ : Ly} {G : Gm} {Q : Int32 → Sg → Prop} (cx : Cx Δ G mi_l_run) (σ : Sg) (h : w_l_run σ Q) : Y Δ G mi_l_run (qI Q) noE 0 0 σ 0 [(0, .ref (Δ.1 0)), (1, .ref (Δ.1 87))] [] := by
  unfold w_l_run at h
  refine y_aload_n cx (pc := 0) d_l_run_0 rfl 1 rfl ?_
  refine y_iconst cx (pc := 1) ic_0 d_l_run_1 ?_
  refine y_aload_n cx (pc := 2) d_l_run_2 rfl 0 rfl ?_
  refine y_vI cx (pc := 3) (st := [.int 0, .ref (Δ.1 87)]) [] (c_x_run cx.fl Δ _ _ _ h) mv_x_run kw_698 (oc_0 Δ) ck_GM rfl (le_b rfl) (le_b rfl) (le_b rfl) (le_b rfl) (le_b rfl) d_l_run_3 (fun x1 σ2 h => ?_) (fun x σ2 h => ?_)
  ·
    refine y_i2l cx (pc := 6) d_l_run_6 ?_
    refine y_outst cx (pc := 7) (x := x1) d_l_run_7 ?_
    refine y_goto cx (pc := 8) (tgt := 14) d_l_run_8 (by decide) ?_
    refine y_iconst cx (pc := 14) ic_0 d_l_run_14 ?_
    exact y_iret cx (pc := 15) rfl d_l_run_15 (le_b rfl) (le_b rfl) h
  ·
    obtain ⟨rfl, h⟩ := h
    refine t_catch1 cx rfl (le_b rfl) (le_b rfl) (by decide) kw_553 (fun a ha hb => ?_)
    replace h := h a
    refine y_sub [] rfl ?_
    exact b_l_run_11 cx a σ2 h
theorem c_l_run {l : Launch} (hfl : l.flags = flags0) (Δ : Ly) (σ : Sg) (Q : Int32 → Sg → Prop) (h : w_l_run σ Q) : Ct l Δ mi_l_run [.ref (Δ.1 0), .ref (Δ.1 87)] σ (qI Q) noE :=
  Ct.of hfl (by show plainFor ⟨"GuardedMovesLaw", "run", "(LGuardedMoves;[J)I"⟩ = true; decide +kernel) rfl (le_b rfl) (fun G hl cx => b_l_run cx σ h)
def mi_l_left : Mi := ("GuardedMovesLaw", method_10_code, 4, [(0, 9, 12, 13)], (some .int), 10, 249, 1, 6, ⟨"GuardedMovesLaw", "left", "(LGuardedMoves;I[J)I"⟩)
theorem d_l_left_0 : decode method_10_code 0 = .ok (.aload_n 2, 1) := by decide +kernel
theorem d_l_left_1 : decode method_10_code 1 = .ok (.iconst 0, 1) := by decide +kernel
theorem d_l_left_2 : decode method_10_code 2 = .ok (.aload_n 0, 1) := by decide +kernel
theorem d_l_left_3 : decode method_10_code 3 = .ok (.iload_n 1, 1) := by decide +kernel
theorem d_l_left_4 : decode method_10_code 4 = .ok (.invokevirtual 41, 3) := by decide +kernel
theorem d_l_left_7 : decode method_10_code 7 = .ok (.i2l, 1) := by decide +kernel
theorem d_l_left_8 : decode method_10_code 8 = .ok (.lastore, 1) := by decide +kernel
theorem d_l_left_9 : decode method_10_code 9 = .ok (.goto 6, 3) := by decide +kernel
theorem d_l_left_12 : decode method_10_code 12 = .ok (.astore_n 3, 1) := by decide +kernel
theorem d_l_left_13 : decode method_10_code 13 = .ok (.iconst 1, 1) := by decide +kernel
theorem d_l_left_14 : decode method_10_code 14 = .ok (.ireturn, 1) := by decide +kernel
theorem d_l_left_15 : decode method_10_code 15 = .ok (.iconst 0, 1) := by decide +kernel
theorem d_l_left_16 : decode method_10_code 16 = .ok (.ireturn, 1) := by decide +kernel
theorem kc_l_left : Kw (m_w (mi_l_left )) := ⟨(in_t3 (List.mem_of_getElem? (i := 228) rfl)), rfl⟩
theorem mv_l_left : MS mi_l_left 3 := ⟨kw_707, kc_l_left, kw_0, ⟨⟨(by show ("GuardedMovesLaw" : String) ≠ "java/lang/invoke/MethodHandle"; decide), (by show ("GuardedMovesLaw" : String) ≠ "java/lang/invoke/VarHandle"; decide)⟩, (by show (parseMethodDescriptor "(LGuardedMoves;I[J)I").map (fun d => d.parameters.length) = some 3; decide +kernel)⟩⟩
def w_l_left_12 (Q : Int32 → Sg → Prop) (a : Nat) (σ : Sg) : Prop := Q 1 σ
theorem b_l_left_12 {Δ : Ly} {G : Gm} {Q : Int32 → Sg → Prop} (cx : Cx Δ G mi_l_left) : ∀ (a : Nat) (σ : Sg), w_l_left_12 Q a σ → Y Δ G mi_l_left (qI Q) noE 1 6 σ 12 [] [.ref a] := by
  intro a σ h
  unfold w_l_left_12 at h
  refine y_astore_n (lv' := [(3, .ref a)]) cx (pc := 12) d_l_left_12 rfl (le_b rfl) rfl ?_
  refine y_iconst cx (pc := 13) ic_1 d_l_left_13 ?_
  exact y_iret cx (pc := 14) rfl d_l_left_14 (le_b rfl) (le_b rfl) h
def w_l_left (p2 : Int32) (σ : Sg) (Q : Int32 → Sg → Prop) : Prop := w_x_left p2 σ (fun x1 σ2 => Q 0 (up σ2 87 0 x1)) (fun x σ2 => (x = 2 ∧ (∀ a : Nat, (w_l_left_12 Q a σ2))))
theorem b_l_left {Δ : Ly} {G : Gm} {Q : Int32 → Sg → Prop} (cx : Cx Δ G mi_l_left) (p2 : Int32) (σ : Sg) (h : w_l_left p2 σ Q) : Y Δ G mi_l_left (qI Q) noE 0 0 σ 0 [(0, .ref (Δ.1 0)), (1, .int p2), (2, .ref (Δ.1 87))] [] := by
  unfold w_l_left at h
  refine y_aload_n cx (pc := 0) d_l_left_0 rfl 2 rfl ?_
  refine y_iconst cx (pc := 1) ic_0 d_l_left_1 ?_
  refine y_aload_n cx (pc := 2) d_l_left_2 rfl 0 rfl ?_
  refine y_iload_n cx (pc := 3) d_l_left_3 rfl 1 rfl ?_
  refine y_vI cx (pc := 4) (st := [.int 0, .ref (Δ.1 87)]) [.int p2] (c_x_left cx.fl Δ p2 _ _ _ h) mv_x_left kw_709 (oc_0 Δ) ck_GM rfl (le_b rfl) (le_b rfl) (le_b rfl) (le_b rfl) (le_b rfl) d_l_left_4 (fun x1 σ2 h => ?_) (fun x σ2 h => ?_)
  ·
    refine y_i2l cx (pc := 7) d_l_left_7 ?_
    refine y_outst cx (pc := 8) (x := x1) d_l_left_8 ?_
    refine y_goto cx (pc := 9) (tgt := 15) d_l_left_9 (by decide) ?_
    refine y_iconst cx (pc := 15) ic_0 d_l_left_15 ?_
    exact y_iret cx (pc := 16) rfl d_l_left_16 (le_b rfl) (le_b rfl) h
  ·
    obtain ⟨rfl, h⟩ := h
    refine t_catch1 cx rfl (le_b rfl) (le_b rfl) (by decide) kw_479 (fun a ha hb => ?_)
    replace h := h a
    refine y_sub [] rfl ?_
    exact b_l_left_12 cx a σ2 h
theorem c_l_left {l : Launch} (hfl : l.flags = flags0) (Δ : Ly) (p2 : Int32) (σ : Sg) (Q : Int32 → Sg → Prop) (h : w_l_left p2 σ Q) : Ct l Δ mi_l_left [.ref (Δ.1 0), .int p2, .ref (Δ.1 87)] σ (qI Q) noE :=
  Ct.of hfl (by show plainFor ⟨"GuardedMovesLaw", "left", "(LGuardedMoves;I[J)I"⟩ = true; decide +kernel) rfl (le_b rfl) (fun G hl cx => b_l_left cx p2 σ h)
def mi_l_kept : Mi := ("GuardedMovesLaw", method_11_code, 4, [(0, 9, 12, 13)], (some .int), 10, 249, 1, 6, ⟨"GuardedMovesLaw", "kept", "(LGuardedMoves;I[J)I"⟩)
theorem d_l_kept_0 : decode method_11_code 0 = .ok (.aload_n 2, 1) := by decide +kernel
theorem d_l_kept_1 : decode method_11_code 1 = .ok (.iconst 0, 1) := by decide +kernel
theorem d_l_kept_2 : decode method_11_code 2 = .ok (.aload_n 0, 1) := by decide +kernel
theorem d_l_kept_3 : decode method_11_code 3 = .ok (.iload_n 1, 1) := by decide +kernel
theorem d_l_kept_4 : decode method_11_code 4 = .ok (.invokevirtual 44, 3) := by decide +kernel
theorem d_l_kept_7 : decode method_11_code 7 = .ok (.i2l, 1) := by decide +kernel
theorem d_l_kept_8 : decode method_11_code 8 = .ok (.lastore, 1) := by decide +kernel
theorem d_l_kept_9 : decode method_11_code 9 = .ok (.goto 6, 3) := by decide +kernel
theorem d_l_kept_12 : decode method_11_code 12 = .ok (.astore_n 3, 1) := by decide +kernel
theorem d_l_kept_13 : decode method_11_code 13 = .ok (.iconst 1, 1) := by decide +kernel
theorem d_l_kept_14 : decode method_11_code 14 = .ok (.ireturn, 1) := by decide +kernel
theorem d_l_kept_15 : decode method_11_code 15 = .ok (.iconst 0, 1) := by decide +kernel
theorem d_l_kept_16 : decode method_11_code 16 = .ok (.ireturn, 1) := by decide +kernel
theorem kc_l_kept : Kw (m_w (mi_l_kept )) := ⟨(in_t3 (List.mem_of_getElem? (i := 235) rfl)), rfl⟩
theorem mv_l_kept : MS mi_l_kept 3 := ⟨kw_714, kc_l_kept, kw_0, ⟨⟨(by show ("GuardedMovesLaw" : String) ≠ "java/lang/invoke/MethodHandle"; decide), (by show ("GuardedMovesLaw" : String) ≠ "java/lang/invoke/VarHandle"; decide)⟩, (by show (parseMethodDescriptor "(LGuardedMoves;I[J)I").map (fun d => d.parameters.length) = some 3; decide +kernel)⟩⟩
def w_l_kept_12 (Q : Int32 → Sg → Prop) (a : Nat) (σ : Sg) : Prop := Q 1 σ
theorem b_l_kept_12 {Δ : Ly} {G : Gm} {Q : Int32 → Sg → Prop} (cx : Cx Δ G mi_l_kept) : ∀ (a : Nat) (σ : Sg), w_l_kept_12 Q a σ → Y Δ G mi_l_kept (qI Q) noE 1 6 σ 12 [] [.ref a] := by
  intro a σ h
  unfold w_l_kept_12 at h
  refine y_astore_n (lv' := [(3, .ref a)]) cx (pc := 12) d_l_kept_12 rfl (le_b rfl) rfl ?_
  refine y_iconst cx (pc := 13) ic_1 d_l_kept_13 ?_
  exact y_iret cx (pc := 14) rfl d_l_kept_14 (le_b rfl) (le_b rfl) h
def w_l_kept (p2 : Int32) (σ : Sg) (Q : Int32 → Sg → Prop) : Prop := w_x_kept p2 σ (fun x1 σ2 => Q 0 (up σ2 87 0 x1)) (fun x σ2 => (x = 2 ∧ (∀ a : Nat, (w_l_kept_12 Q a σ2))))
theorem b_l_kept {Δ : Ly} {G : Gm} {Q : Int32 → Sg → Prop} (cx : Cx Δ G mi_l_kept) (p2 : Int32) (σ : Sg) (h : w_l_kept p2 σ Q) : Y Δ G mi_l_kept (qI Q) noE 0 0 σ 0 [(0, .ref (Δ.1 0)), (1, .int p2), (2, .ref (Δ.1 87))] [] := by
  unfold w_l_kept at h
  refine y_aload_n cx (pc := 0) d_l_kept_0 rfl 2 rfl ?_
  refine y_iconst cx (pc := 1) ic_0 d_l_kept_1 ?_
  refine y_aload_n cx (pc := 2) d_l_kept_2 rfl 0 rfl ?_
  refine y_iload_n cx (pc := 3) d_l_kept_3 rfl 1 rfl ?_
  refine y_vI cx (pc := 4) (st := [.int 0, .ref (Δ.1 87)]) [.int p2] (c_x_kept cx.fl Δ p2 _ _ _ h) mv_x_kept kw_716 (oc_0 Δ) ck_GM rfl (le_b rfl) (le_b rfl) (le_b rfl) (le_b rfl) (le_b rfl) d_l_kept_4 (fun x1 σ2 h => ?_) (fun x σ2 h => ?_)
  ·
    refine y_i2l cx (pc := 7) d_l_kept_7 ?_
    refine y_outst cx (pc := 8) (x := x1) d_l_kept_8 ?_
    refine y_goto cx (pc := 9) (tgt := 15) d_l_kept_9 (by decide) ?_
    refine y_iconst cx (pc := 15) ic_0 d_l_kept_15 ?_
    exact y_iret cx (pc := 16) rfl d_l_kept_16 (le_b rfl) (le_b rfl) h
  ·
    obtain ⟨rfl, h⟩ := h
    refine t_catch1 cx rfl (le_b rfl) (le_b rfl) (by decide) kw_479 (fun a ha hb => ?_)
    replace h := h a
    refine y_sub [] rfl ?_
    exact b_l_kept_12 cx a σ2 h
theorem c_l_kept {l : Launch} (hfl : l.flags = flags0) (Δ : Ly) (p2 : Int32) (σ : Sg) (Q : Int32 → Sg → Prop) (h : w_l_kept p2 σ Q) : Ct l Δ mi_l_kept [.ref (Δ.1 0), .int p2, .ref (Δ.1 87)] σ (qI Q) noE :=
  Ct.of hfl (by show plainFor ⟨"GuardedMovesLaw", "kept", "(LGuardedMoves;I[J)I"⟩ = true; decide +kernel) rfl (le_b rfl) (fun G hl cx => b_l_kept cx p2 σ h)
def mi_l_output : Mi := ("GuardedMovesLaw", method_12_code, 4, [(0, 9, 12, 13)], (some .int), 10, 249, 1, 6, ⟨"GuardedMovesLaw", "output", "(LGuardedMoves;I[J)I"⟩)
theorem d_l_output_0 : decode method_12_code 0 = .ok (.aload_n 2, 1) := by decide +kernel
theorem d_l_output_1 : decode method_12_code 1 = .ok (.iconst 0, 1) := by decide +kernel
theorem d_l_output_2 : decode method_12_code 2 = .ok (.aload_n 0, 1) := by decide +kernel
theorem d_l_output_3 : decode method_12_code 3 = .ok (.iload_n 1, 1) := by decide +kernel
theorem d_l_output_4 : decode method_12_code 4 = .ok (.invokevirtual 47, 3) := by decide +kernel
theorem d_l_output_7 : decode method_12_code 7 = .ok (.i2l, 1) := by decide +kernel
theorem d_l_output_8 : decode method_12_code 8 = .ok (.lastore, 1) := by decide +kernel
theorem d_l_output_9 : decode method_12_code 9 = .ok (.goto 6, 3) := by decide +kernel
theorem d_l_output_12 : decode method_12_code 12 = .ok (.astore_n 3, 1) := by decide +kernel
theorem d_l_output_13 : decode method_12_code 13 = .ok (.iconst 1, 1) := by decide +kernel
theorem d_l_output_14 : decode method_12_code 14 = .ok (.ireturn, 1) := by decide +kernel
theorem d_l_output_15 : decode method_12_code 15 = .ok (.iconst 0, 1) := by decide +kernel
theorem d_l_output_16 : decode method_12_code 16 = .ok (.ireturn, 1) := by decide +kernel
theorem kc_l_output : Kw (m_w (mi_l_output )) := ⟨(in_t4 (List.mem_of_getElem? (i := 2) rfl)), rfl⟩
theorem mv_l_output : MS mi_l_output 3 := ⟨kw_721, kc_l_output, kw_0, ⟨⟨(by show ("GuardedMovesLaw" : String) ≠ "java/lang/invoke/MethodHandle"; decide), (by show ("GuardedMovesLaw" : String) ≠ "java/lang/invoke/VarHandle"; decide)⟩, (by show (parseMethodDescriptor "(LGuardedMoves;I[J)I").map (fun d => d.parameters.length) = some 3; decide +kernel)⟩⟩
def w_l_output_12 (Q : Int32 → Sg → Prop) (a : Nat) (σ : Sg) : Prop := Q 1 σ
theorem b_l_output_12 {Δ : Ly} {G : Gm} {Q : Int32 → Sg → Prop} (cx : Cx Δ G mi_l_output) : ∀ (a : Nat) (σ : Sg), w_l_output_12 Q a σ → Y Δ G mi_l_output (qI Q) noE 1 6 σ 12 [] [.ref a] := by
  intro a σ h
  unfold w_l_output_12 at h
  refine y_astore_n (lv' := [(3, .ref a)]) cx (pc := 12) d_l_output_12 rfl (le_b rfl) rfl ?_
  refine y_iconst cx (pc := 13) ic_1 d_l_output_13 ?_
  exact y_iret cx (pc := 14) rfl d_l_output_14 (le_b rfl) (le_b rfl) h
def w_l_output (p2 : Int32) (σ : Sg) (Q : Int32 → Sg → Prop) : Prop := w_x_output p2 σ (fun x1 σ2 => Q 0 (up σ2 87 0 x1)) (fun x σ2 => (x = 2 ∧ (∀ a : Nat, (w_l_output_12 Q a σ2))))
theorem b_l_output {Δ : Ly} {G : Gm} {Q : Int32 → Sg → Prop} (cx : Cx Δ G mi_l_output) (p2 : Int32) (σ : Sg) (h : w_l_output p2 σ Q) : Y Δ G mi_l_output (qI Q) noE 0 0 σ 0 [(0, .ref (Δ.1 0)), (1, .int p2), (2, .ref (Δ.1 87))] [] := by
  unfold w_l_output at h
  refine y_aload_n cx (pc := 0) d_l_output_0 rfl 2 rfl ?_
  refine y_iconst cx (pc := 1) ic_0 d_l_output_1 ?_
  refine y_aload_n cx (pc := 2) d_l_output_2 rfl 0 rfl ?_
  refine y_iload_n cx (pc := 3) d_l_output_3 rfl 1 rfl ?_
  refine y_vI cx (pc := 4) (st := [.int 0, .ref (Δ.1 87)]) [.int p2] (c_x_output cx.fl Δ p2 _ _ _ h) mv_x_output kw_723 (oc_0 Δ) ck_GM rfl (le_b rfl) (le_b rfl) (le_b rfl) (le_b rfl) (le_b rfl) d_l_output_4 (fun x1 σ2 h => ?_) (fun x σ2 h => ?_)
  ·
    refine y_i2l cx (pc := 7) d_l_output_7 ?_
    refine y_outst cx (pc := 8) (x := x1) d_l_output_8 ?_
    refine y_goto cx (pc := 9) (tgt := 15) d_l_output_9 (by decide) ?_
    refine y_iconst cx (pc := 15) ic_0 d_l_output_15 ?_
    exact y_iret cx (pc := 16) rfl d_l_output_16 (le_b rfl) (le_b rfl) h
  ·
    obtain ⟨rfl, h⟩ := h
    refine t_catch1 cx rfl (le_b rfl) (le_b rfl) (by decide) kw_479 (fun a ha hb => ?_)
    replace h := h a
    refine y_sub [] rfl ?_
    exact b_l_output_12 cx a σ2 h
theorem c_l_output {l : Launch} (hfl : l.flags = flags0) (Δ : Ly) (p2 : Int32) (σ : Sg) (Q : Int32 → Sg → Prop) (h : w_l_output p2 σ Q) : Ct l Δ mi_l_output [.ref (Δ.1 0), .int p2, .ref (Δ.1 87)] σ (qI Q) noE :=
  Ct.of hfl (by show plainFor ⟨"GuardedMovesLaw", "output", "(LGuardedMoves;I[J)I"⟩ = true; decide +kernel) rfl (le_b rfl) (fun G hl cx => b_l_output cx p2 σ h)
def mi_l_count : Mi := ("GuardedMovesLaw", method_13_code, 4, [(0, 9, 12, 22)], (some .int), 10, 249, 1, 6, ⟨"GuardedMovesLaw", "count", "(LGuardedMoves;I[J)I"⟩)
theorem d_l_count_0 : decode method_13_code 0 = .ok (.aload_n 2, 1) := by decide +kernel
theorem d_l_count_1 : decode method_13_code 1 = .ok (.iconst 0, 1) := by decide +kernel
theorem d_l_count_2 : decode method_13_code 2 = .ok (.aload_n 0, 1) := by decide +kernel
theorem d_l_count_3 : decode method_13_code 3 = .ok (.iload_n 1, 1) := by decide +kernel
theorem d_l_count_4 : decode method_13_code 4 = .ok (.invokevirtual 50, 3) := by decide +kernel
theorem d_l_count_7 : decode method_13_code 7 = .ok (.i2l, 1) := by decide +kernel
theorem d_l_count_8 : decode method_13_code 8 = .ok (.lastore, 1) := by decide +kernel
theorem d_l_count_9 : decode method_13_code 9 = .ok (.goto 6, 3) := by decide +kernel
theorem d_l_count_12 : decode method_13_code 12 = .ok (.astore_n 3, 1) := by decide +kernel
theorem d_l_count_13 : decode method_13_code 13 = .ok (.iconst 1, 1) := by decide +kernel
theorem d_l_count_14 : decode method_13_code 14 = .ok (.ireturn, 1) := by decide +kernel
theorem d_l_count_15 : decode method_13_code 15 = .ok (.iconst 0, 1) := by decide +kernel
theorem d_l_count_16 : decode method_13_code 16 = .ok (.ireturn, 1) := by decide +kernel
theorem kc_l_count : Kw (m_w (mi_l_count )) := ⟨(in_t4 (List.mem_of_getElem? (i := 9) rfl)), rfl⟩
theorem mv_l_count : MS mi_l_count 3 := ⟨kw_728, kc_l_count, kw_0, ⟨⟨(by show ("GuardedMovesLaw" : String) ≠ "java/lang/invoke/MethodHandle"; decide), (by show ("GuardedMovesLaw" : String) ≠ "java/lang/invoke/VarHandle"; decide)⟩, (by show (parseMethodDescriptor "(LGuardedMoves;I[J)I").map (fun d => d.parameters.length) = some 3; decide +kernel)⟩⟩
def w_l_count_12 (Q : Int32 → Sg → Prop) (a : Nat) (σ : Sg) : Prop := Q 1 σ
theorem b_l_count_12 {Δ : Ly} {G : Gm} {Q : Int32 → Sg → Prop} (cx : Cx Δ G mi_l_count) : ∀ (a : Nat) (σ : Sg), w_l_count_12 Q a σ → Y Δ G mi_l_count (qI Q) noE 1 6 σ 12 [] [.ref a] := by
  intro a σ h
  unfold w_l_count_12 at h
  refine y_astore_n (lv' := [(3, .ref a)]) cx (pc := 12) d_l_count_12 rfl (le_b rfl) rfl ?_
  refine y_iconst cx (pc := 13) ic_1 d_l_count_13 ?_
  exact y_iret cx (pc := 14) rfl d_l_count_14 (le_b rfl) (le_b rfl) h
def w_l_count (p2 : Int32) (σ : Sg) (Q : Int32 → Sg → Prop) : Prop := w_x_count p2 σ (fun x1 σ2 => Q 0 (up σ2 87 0 x1)) (fun x σ2 => (x = 3 ∧ (∀ a : Nat, (w_l_count_12 Q a σ2))))
theorem b_l_count {Δ : Ly} {G : Gm} {Q : Int32 → Sg → Prop} (cx : Cx Δ G mi_l_count) (p2 : Int32) (σ : Sg) (h : w_l_count p2 σ Q) : Y Δ G mi_l_count (qI Q) noE 0 0 σ 0 [(0, .ref (Δ.1 0)), (1, .int p2), (2, .ref (Δ.1 87))] [] := by
  unfold w_l_count at h
  refine y_aload_n cx (pc := 0) d_l_count_0 rfl 2 rfl ?_
  refine y_iconst cx (pc := 1) ic_0 d_l_count_1 ?_
  refine y_aload_n cx (pc := 2) d_l_count_2 rfl 0 rfl ?_
  refine y_iload_n cx (pc := 3) d_l_count_3 rfl 1 rfl ?_
  refine y_vI cx (pc := 4) (st := [.int 0, .ref (Δ.1 87)]) [.int p2] (c_x_count cx.fl Δ p2 _ _ _ h) mv_x_count kw_730 (oc_0 Δ) ck_GM rfl (le_b rfl) (le_b rfl) (le_b rfl) (le_b rfl) (le_b rfl) d_l_count_4 (fun x1 σ2 h => ?_) (fun x σ2 h => ?_)
  ·
    refine y_i2l cx (pc := 7) d_l_count_7 ?_
    refine y_outst cx (pc := 8) (x := x1) d_l_count_8 ?_
    refine y_goto cx (pc := 9) (tgt := 15) d_l_count_9 (by decide) ?_
    refine y_iconst cx (pc := 15) ic_0 d_l_count_15 ?_
    exact y_iret cx (pc := 16) rfl d_l_count_16 (le_b rfl) (le_b rfl) h
  ·
    obtain ⟨rfl, h⟩ := h
    refine t_catch1 cx rfl (le_b rfl) (le_b rfl) (by decide) kw_552 (fun a ha hb => ?_)
    replace h := h a
    refine y_sub [] rfl ?_
    exact b_l_count_12 cx a σ2 h
theorem c_l_count {l : Launch} (hfl : l.flags = flags0) (Δ : Ly) (p2 : Int32) (σ : Sg) (Q : Int32 → Sg → Prop) (h : w_l_count p2 σ Q) : Ct l Δ mi_l_count [.ref (Δ.1 0), .int p2, .ref (Δ.1 87)] σ (qI Q) noE :=
  Ct.of hfl (by show plainFor ⟨"GuardedMovesLaw", "count", "(LGuardedMoves;I[J)I"⟩ = true; decide +kernel) rfl (le_b rfl) (fun G hl cx => b_l_count cx p2 σ h)

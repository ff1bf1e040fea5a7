-- printed by wip/tools/gen_all.py
theorem le_b {a b : Nat} (h : Nat.ble a b = true) : a ≤ b := Nat.le_of_ble_eq_true h
def inN (c : Nat) : Prop := 14 ≤ c ∧ c < 18
def inS (c : Nat) : Prop := 18 ≤ c ∧ c < 34
theorem av_inS {Δ : Ly} {b : Nat} (h : inS b) : AV Δ b 0 16 := av_stand h.1 h.2
theorem av_inN {Δ : Ly} {b : Nat} (h : inN b) : AV Δ b 0 3000 := by
  have e : b = 14 + (b - 14) := by have := h.1; omega
  rw [e]
  exact av_num (by have := h.1; have := h.2; omega)
theorem y_aaldK {Δ : Ly} {G : Gm} {μ : Mi} {Qr : Option Value → Sg → Prop} {Qe : Nat → Sg → Prop} {k n : Nat} {σ : Sg} {pc : Nat} {lv : List (Nat × Value)} {st : List Value} (cx : Cx Δ G μ) {c base N : Nat} {i : Int32} (j : Nat) (hc : c < 88 ∧ ∀ f : Nat → Int32, ent Δ c f = .inl (Δ.2.2.1 4, N, .inr (.inr (.inr (.inr (fun j => some (Δ.1 (base + j)))))))) (hi : vp_in i N) (hj : i.toNatClampNeg = j) (d : decode (m_cc μ) pc = .ok (.aaload, 1)) (h : Y Δ G μ Qr Qe k n σ (pc + 1) lv (.ref (Δ.1 (base + j)) :: st)) : Y Δ G μ Qr Qe k n σ pc lv (.int i :: .ref (Δ.1 c) :: st) := y_aald cx hc hi d (by rw [hj]; exact h)
theorem in_t1 {w : Cond} (h : w ∈ tables_1_1) : w ∈ lw_tbl := List.mem_append_right _ (List.mem_append_left _ h)
theorem in_t2 {w : Cond} (h : w ∈ tables_1_2) : w ∈ lw_tbl := List.mem_append_right _ (List.mem_append_right _ (List.mem_append_left _ h))
theorem in_t3 {w : Cond} (h : w ∈ tables_1_3) : w ∈ lw_tbl := List.mem_append_right _ (List.mem_append_right _ (List.mem_append_right _ (List.mem_append_left _ h)))
theorem in_t4 {w : Cond} (h : w ∈ tables_1_4) : w ∈ lw_tbl := List.mem_append_right _ (List.mem_append_right _ (List.mem_append_right _ (List.mem_append_right _ (List.mem_append_left _ h))))
theorem in_t5 {w : Cond} (h : w ∈ tables_1_5) : w ∈ lw_tbl := List.mem_append_right _ (List.mem_append_right _ (List.mem_append_right _ (List.mem_append_right _ (List.mem_append_right _ h))))
theorem lc_0 : Int64.ofNat ((0 : Fin 2) : Nat) = 0 := by decide
theorem lc_1 : Int64.ofNat ((1 : Fin 2) : Nat) = 1 := by decide
theorem vp_dec (i : Int32) (n : Nat) (h : (decide (i < 0) || decide (n ≤ i.toNatClampNeg)) = false) : vp_in i n := by
  intro q
  rcases q with q | q <;> simp [q] at h
theorem kw_0 : Kw (Jvm.Cond.initialized "GuardedMovesLaw") := ⟨(in_t1 (List.mem_of_getElem? (i := 0) rfl)), rfl⟩
theorem kw_1 : Kw (Jvm.Cond.initialized "GuardedMoves") := ⟨(in_t1 (List.mem_of_getElem? (i := 1) rfl)), rfl⟩
theorem kw_2 : Kw (Jvm.Cond.initialized "GuardedMoves$Text") := ⟨(in_t1 (List.mem_of_getElem? (i := 2) rfl)), rfl⟩
theorem kw_7 : Kw (Jvm.Cond.initialized "GuardedMovesModel") := ⟨(in_t1 (List.mem_of_getElem? (i := 7) rfl)), rfl⟩
theorem kw_9 : Kw (Jvm.Cond.initialized "java/lang/IndexOutOfBoundsException") := ⟨(in_t1 (List.mem_of_getElem? (i := 9) rfl)), rfl⟩
theorem kw_11 : Kw (Jvm.Cond.initialized "java/lang/String") := ⟨(in_t1 (List.mem_of_getElem? (i := 11) rfl)), rfl⟩
theorem kw_12 : Kw (Jvm.Cond.initialized "java/lang/IllegalArgumentException") := ⟨(in_t1 (List.mem_of_getElem? (i := 12) rfl)), rfl⟩
theorem kw_13 : Kw (Jvm.Cond.initialized "java/lang/IllegalStateException") := ⟨(in_t1 (List.mem_of_getElem? (i := 13) rfl)), rfl⟩
theorem kw_14 : Kw (Jvm.Cond.initialized "java/lang/Math") := ⟨(in_t1 (List.mem_of_getElem? (i := 14) rfl)), rfl⟩
theorem kw_15 : Kw (Jvm.Cond.initialized "java/lang/StringLatin1") := ⟨(in_t1 (List.mem_of_getElem? (i := 15) rfl)), rfl⟩
theorem kw_19 : Kw (Jvm.Cond.methodLink "GuardedMovesLaw" (75 : Nat) ({ cls := "GuardedMoves", name := "read", desc := "()I" } : Jvm.MethodName)) := ⟨(in_t1 (List.mem_of_getElem? (i := 19) rfl)), rfl⟩
theorem kw_20 : Kw (Jvm.Cond.instanceMethod ({ cls := "GuardedMoves", name := "read", desc := "()I" } : Jvm.MethodName)) := ⟨(in_t1 (List.mem_of_getElem? (i := 20) rfl)), rfl⟩
theorem kw_21 : Kw (Jvm.Cond.selects "GuardedMoves" ({ cls := "GuardedMoves", name := "read", desc := "()I" } : Jvm.MethodName) ({ cls := "GuardedMoves", name := "read", desc := "()I" } : Jvm.MethodName)) := ⟨(in_t1 (List.mem_of_getElem? (i := 21) rfl)), rfl⟩
theorem kw_23 : Kw (Jvm.Cond.classLink "GuardedMoves" (20 : Nat) "GuardedMoves$BadText") := ⟨(in_t1 (List.mem_of_getElem? (i := 23) rfl)), rfl⟩
theorem kw_24 : Kw (Jvm.Cond.methodLink "GuardedMoves" (148 : Nat) ({ cls := "GuardedMoves", name := "readAll", desc := "(I)V" } : Jvm.MethodName)) := ⟨(in_t1 (List.mem_of_getElem? (i := 24) rfl)), rfl⟩
theorem kw_26 : Kw (Jvm.Cond.instanceMethod ({ cls := "GuardedMoves", name := "readAll", desc := "(I)V" } : Jvm.MethodName)) := ⟨(in_t1 (List.mem_of_getElem? (i := 26) rfl)), rfl⟩
theorem kw_29 : Kw (Jvm.Cond.methodLink "GuardedMoves" (46 : Nat) ({ cls := "GuardedMoves", name := "here", desc := "()I" } : Jvm.MethodName)) := ⟨(in_t1 (List.mem_of_getElem? (i := 29) rfl)), rfl⟩
theorem kw_31 : Kw (Jvm.Cond.instanceMethod ({ cls := "GuardedMoves", name := "here", desc := "()I" } : Jvm.MethodName)) := ⟨(in_t1 (List.mem_of_getElem? (i := 31) rfl)), rfl⟩
theorem kw_33 : Kw (Jvm.Cond.methodLink "GuardedMoves" (103 : Nat) ({ cls := "GuardedMoves", name := "begins", desc := "(I)Z" } : Jvm.MethodName)) := ⟨(in_t1 (List.mem_of_getElem? (i := 33) rfl)), rfl⟩
theorem kw_34 : Kw (Jvm.Cond.static ({ cls := "GuardedMoves", name := "begins", desc := "(I)Z" } : Jvm.MethodName)) := ⟨(in_t1 (List.mem_of_getElem? (i := 34) rfl)), rfl⟩
theorem kw_36 : Kw (Jvm.Cond.methodLink "GuardedMoves" (59 : Nat) ({ cls := "GuardedMoves", name := "isVariable", desc := "(I)Z" } : Jvm.MethodName)) := ⟨(in_t1 (List.mem_of_getElem? (i := 36) rfl)), rfl⟩
theorem kw_37 : Kw (Jvm.Cond.static ({ cls := "GuardedMoves", name := "isVariable", desc := "(I)Z" } : Jvm.MethodName)) := ⟨(in_t1 (List.mem_of_getElem? (i := 37) rfl)), rfl⟩
theorem kw_39 : Kw (Jvm.Cond.constantLong "GuardedMoves" (38 : Nat) (97 : Int64)) := ⟨(in_t1 (List.mem_of_getElem? (i := 39) rfl)), rfl⟩
theorem kw_40 : Kw (Jvm.Cond.constantLong "GuardedMoves" (40 : Nat) (112 : Int64)) := ⟨(in_t1 (List.mem_of_getElem? (i := 40) rfl)), rfl⟩
theorem kw_41 : Kw (Jvm.Cond.methodLink "GuardedMoves" (42 : Nat) ({ cls := "GuardedMoves", name := "within", desc := "(JJJ)Z" } : Jvm.MethodName)) := ⟨(in_t1 (List.mem_of_getElem? (i := 41) rfl)), rfl⟩
theorem kw_42 : Kw (Jvm.Cond.static ({ cls := "GuardedMoves", name := "within", desc := "(JJJ)Z" } : Jvm.MethodName)) := ⟨(in_t1 (List.mem_of_getElem? (i := 42) rfl)), rfl⟩
theorem kw_44 : Kw (Jvm.Cond.methodLink "GuardedMoves" (50 : Nat) ({ cls := "GuardedMoves", name := "bad", desc := "(II)LGuardedMoves$BadText;" } : Jvm.MethodName)) := ⟨(in_t1 (List.mem_of_getElem? (i := 44) rfl)), rfl⟩
theorem kw_46 : Kw (Jvm.Cond.instanceMethod ({ cls := "GuardedMoves", name := "bad", desc := "(II)LGuardedMoves$BadText;" } : Jvm.MethodName)) := ⟨(in_t1 (List.mem_of_getElem? (i := 46) rfl)), rfl⟩
theorem kw_48 : Kw (Jvm.Cond.methodLink "GuardedMoves" (112 : Nat) ({ cls := "GuardedMoves", name := "readAsk", desc := "(II)V" } : Jvm.MethodName)) := ⟨(in_t1 (List.mem_of_getElem? (i := 48) rfl)), rfl⟩
theorem kw_50 : Kw (Jvm.Cond.instanceMethod ({ cls := "GuardedMoves", name := "readAsk", desc := "(II)V" } : Jvm.MethodName)) := ⟨(in_t1 (List.mem_of_getElem? (i := 50) rfl)), rfl⟩
theorem kw_52 : Kw (Jvm.Cond.methodLink "GuardedMoves" (119 : Nat) ({ cls := "GuardedMoves", name := "takeFirst", desc := "(I)V" } : Jvm.MethodName)) := ⟨(in_t1 (List.mem_of_getElem? (i := 52) rfl)), rfl⟩
theorem kw_54 : Kw (Jvm.Cond.instanceMethod ({ cls := "GuardedMoves", name := "takeFirst", desc := "(I)V" } : Jvm.MethodName)) := ⟨(in_t1 (List.mem_of_getElem? (i := 54) rfl)), rfl⟩
theorem kw_56 : Kw (Jvm.Cond.methodLink "GuardedMoves" (81 : Nat) ({ cls := "GuardedMoves", name := "readValue", desc := "()V" } : Jvm.MethodName)) := ⟨(in_t1 (List.mem_of_getElem? (i := 56) rfl)), rfl⟩
theorem kw_58 : Kw (Jvm.Cond.instanceMethod ({ cls := "GuardedMoves", name := "readValue", desc := "()V" } : Jvm.MethodName)) := ⟨(in_t1 (List.mem_of_getElem? (i := 58) rfl)), rfl⟩
theorem kw_60 : Kw (Jvm.Cond.constantLong "GuardedMoves" (63 : Nat) (48 : Int64)) := ⟨(in_t1 (List.mem_of_getElem? (i := 60) rfl)), rfl⟩
theorem kw_61 : Kw (Jvm.Cond.constantLong "GuardedMoves" (65 : Nat) (57 : Int64)) := ⟨(in_t1 (List.mem_of_getElem? (i := 61) rfl)), rfl⟩
theorem kw_62 : Kw (Jvm.Cond.constantLong "GuardedMoves" (67 : Nat) (10 : Int64)) := ⟨(in_t1 (List.mem_of_getElem? (i := 62) rfl)), rfl⟩
theorem kw_63 : Kw (Jvm.Cond.constantLong "GuardedMoves" (69 : Nat) (1099511627776 : Int64)) := ⟨(in_t1 (List.mem_of_getElem? (i := 63) rfl)), rfl⟩
theorem kw_64 : Kw (Jvm.Cond.methodLink "GuardedMoves" (71 : Nat) ({ cls := "java/lang/Math", name := "min", desc := "(JJ)J" } : Jvm.MethodName)) := ⟨(in_t1 (List.mem_of_getElem? (i := 64) rfl)), rfl⟩
theorem kw_65 : Kw (Jvm.Cond.static ({ cls := "java/lang/Math", name := "min", desc := "(JJ)J" } : Jvm.MethodName)) := ⟨(in_t1 (List.mem_of_getElem? (i := 65) rfl)), rfl⟩
theorem kw_67 : Kw (Jvm.Cond.constantLong "GuardedMoves" (79 : Nat) (2147483647 : Int64)) := ⟨(in_t1 (List.mem_of_getElem? (i := 67) rfl)), rfl⟩
theorem kw_69 : Kw (Jvm.Cond.methodLink "GuardedMoves" (137 : Nat) ({ cls := "java/lang/String", name := "indexOf", desc := "(I)I" } : Jvm.MethodName)) := ⟨(in_t1 (List.mem_of_getElem? (i := 69) rfl)), rfl⟩
theorem kw_70 : Kw (Jvm.Cond.instanceMethod ({ cls := "java/lang/String", name := "indexOf", desc := "(I)I" } : Jvm.MethodName)) := ⟨(in_t1 (List.mem_of_getElem? (i := 70) rfl)), rfl⟩
theorem kw_71 : Kw (Jvm.Cond.selects "java/lang/String" ({ cls := "java/lang/String", name := "indexOf", desc := "(I)I" } : Jvm.MethodName) ({ cls := "java/lang/String", name := "indexOf", desc := "(I)I" } : Jvm.MethodName)) := ⟨(in_t1 (List.mem_of_getElem? (i := 71) rfl)), rfl⟩
theorem kw_73 : Kw (Jvm.Cond.methodLink "java/lang/String" (633 : Nat) ({ cls := "java/lang/String", name := "indexOf", desc := "(II)I" } : Jvm.MethodName)) := ⟨(in_t1 (List.mem_of_getElem? (i := 73) rfl)), rfl⟩
theorem kw_74 : Kw (Jvm.Cond.instanceMethod ({ cls := "java/lang/String", name := "indexOf", desc := "(II)I" } : Jvm.MethodName)) := ⟨(in_t1 (List.mem_of_getElem? (i := 74) rfl)), rfl⟩
theorem kw_75 : Kw (Jvm.Cond.selects "java/lang/String" ({ cls := "java/lang/String", name := "indexOf", desc := "(II)I" } : Jvm.MethodName) ({ cls := "java/lang/String", name := "indexOf", desc := "(II)I" } : Jvm.MethodName)) := ⟨(in_t1 (List.mem_of_getElem? (i := 75) rfl)), rfl⟩
theorem kw_77 : Kw (Jvm.Cond.methodLink "java/lang/String" (492 : Nat) ({ cls := "java/lang/String", name := "isLatin1", desc := "()Z" } : Jvm.MethodName)) := ⟨(in_t1 (List.mem_of_getElem? (i := 77) rfl)), rfl⟩
theorem kw_78 : Kw (Jvm.Cond.instanceMethod ({ cls := "java/lang/String", name := "isLatin1", desc := "()Z" } : Jvm.MethodName)) := ⟨(in_t1 (List.mem_of_getElem? (i := 78) rfl)), rfl⟩
theorem kw_79 : Kw (Jvm.Cond.selects "java/lang/String" ({ cls := "java/lang/String", name := "isLatin1", desc := "()Z" } : Jvm.MethodName) ({ cls := "java/lang/String", name := "isLatin1", desc := "()Z" } : Jvm.MethodName)) := ⟨(in_t1 (List.mem_of_getElem? (i := 79) rfl)), rfl⟩
theorem kw_81 : Kw (Jvm.Cond.fieldLink "java/lang/String" (38 : Nat) "java/lang/String" "COMPACT_STRINGS" "Z") := ⟨(in_t1 (List.mem_of_getElem? (i := 81) rfl)), rfl⟩
theorem kw_83 : Kw (Jvm.Cond.methodLink "java/lang/String" (505 : Nat) ({ cls := "java/lang/String", name := "length", desc := "()I" } : Jvm.MethodName)) := ⟨(in_t1 (List.mem_of_getElem? (i := 83) rfl)), rfl⟩
theorem kw_84 : Kw (Jvm.Cond.instanceMethod ({ cls := "java/lang/String", name := "length", desc := "()I" } : Jvm.MethodName)) := ⟨(in_t1 (List.mem_of_getElem? (i := 84) rfl)), rfl⟩
theorem kw_85 : Kw (Jvm.Cond.selects "java/lang/String" ({ cls := "java/lang/String", name := "length", desc := "()I" } : Jvm.MethodName) ({ cls := "java/lang/String", name := "length", desc := "()I" } : Jvm.MethodName)) := ⟨(in_t1 (List.mem_of_getElem? (i := 85) rfl)), rfl⟩
theorem kw_87 : Kw (Jvm.Cond.methodLink "java/lang/String" (335 : Nat) ({ cls := "java/lang/String", name := "coder", desc := "()B" } : Jvm.MethodName)) := ⟨(in_t1 (List.mem_of_getElem? (i := 87) rfl)), rfl⟩
theorem kw_88 : Kw (Jvm.Cond.instanceMethod ({ cls := "java/lang/String", name := "coder", desc := "()B" } : Jvm.MethodName)) := ⟨(in_t1 (List.mem_of_getElem? (i := 88) rfl)), rfl⟩
theorem kw_89 : Kw (Jvm.Cond.selects "java/lang/String" ({ cls := "java/lang/String", name := "coder", desc := "()B" } : Jvm.MethodName) ({ cls := "java/lang/String", name := "coder", desc := "()B" } : Jvm.MethodName)) := ⟨(in_t1 (List.mem_of_getElem? (i := 89) rfl)), rfl⟩
theorem kw_91 : Kw (Jvm.Cond.methodLink "java/lang/String" (637 : Nat) ({ cls := "java/lang/StringLatin1", name := "indexOf", desc := "([BIII)I" } : Jvm.MethodName)) := ⟨(in_t1 (List.mem_of_getElem? (i := 91) rfl)), rfl⟩
theorem kw_92 : Kw (Jvm.Cond.static ({ cls := "java/lang/StringLatin1", name := "indexOf", desc := "([BIII)I" } : Jvm.MethodName)) := ⟨(in_t1 (List.mem_of_getElem? (i := 92) rfl)), rfl⟩
theorem kw_94 : Kw (Jvm.Cond.methodLink "java/lang/StringLatin1" (88 : Nat) ({ cls := "java/lang/StringLatin1", name := "canEncode", desc := "(I)Z" } : Jvm.MethodName)) := ⟨(in_t1 (List.mem_of_getElem? (i := 94) rfl)), rfl⟩
theorem kw_95 : Kw (Jvm.Cond.static ({ cls := "java/lang/StringLatin1", name := "canEncode", desc := "(I)Z" } : Jvm.MethodName)) := ⟨(in_t1 (List.mem_of_getElem? (i := 95) rfl)), rfl⟩
theorem kw_97 : Kw (Jvm.Cond.methodLink "java/lang/StringLatin1" (92 : Nat) ({ cls := "java/lang/Math", name := "max", desc := "(II)I" } : Jvm.MethodName)) := ⟨(in_t1 (List.mem_of_getElem? (i := 97) rfl)), rfl⟩
theorem kw_98 : Kw (Jvm.Cond.static ({ cls := "java/lang/Math", name := "max", desc := "(II)I" } : Jvm.MethodName)) := ⟨(in_t1 (List.mem_of_getElem? (i := 98) rfl)), rfl⟩
theorem kw_100 : Kw (Jvm.Cond.methodLink "java/lang/StringLatin1" (38 : Nat) ({ cls := "java/lang/Math", name := "min", desc := "(II)I" } : Jvm.MethodName)) := ⟨(in_t1 (List.mem_of_getElem? (i := 100) rfl)), rfl⟩
theorem kw_101 : Kw (Jvm.Cond.static ({ cls := "java/lang/Math", name := "min", desc := "(II)I" } : Jvm.MethodName)) := ⟨(in_t1 (List.mem_of_getElem? (i := 101) rfl)), rfl⟩
theorem kw_103 : Kw (Jvm.Cond.methodLink "java/lang/StringLatin1" (95 : Nat) ({ cls := "java/lang/StringLatin1", name := "indexOfChar", desc := "([BIII)I" } : Jvm.MethodName)) := ⟨(in_t1 (List.mem_of_getElem? (i := 103) rfl)), rfl⟩
theorem kw_104 : Kw (Jvm.Cond.static ({ cls := "java/lang/StringLatin1", name := "indexOfChar", desc := "([BIII)I" } : Jvm.MethodName)) := ⟨(in_t1 (List.mem_of_getElem? (i := 104) rfl)), rfl⟩
theorem kw_155 : Kw (Jvm.Cond.methodLink "GuardedMoves" (126 : Nat) ({ cls := "GuardedMoves", name := "takeSecond", desc := "(I)V" } : Jvm.MethodName)) := ⟨(in_t1 (List.mem_of_getElem? (i := 155) rfl)), rfl⟩
theorem kw_157 : Kw (Jvm.Cond.instanceMethod ({ cls := "GuardedMoves", name := "takeSecond", desc := "(I)V" } : Jvm.MethodName)) := ⟨(in_t1 (List.mem_of_getElem? (i := 157) rfl)), rfl⟩
theorem kw_159 : Kw (Jvm.Cond.methodLink "GuardedMoves" (123 : Nat) ({ cls := "GuardedMoves", name := "want", desc := "(I)V" } : Jvm.MethodName)) := ⟨(in_t1 (List.mem_of_getElem? (i := 159) rfl)), rfl⟩
theorem kw_161 : Kw (Jvm.Cond.instanceMethod ({ cls := "GuardedMoves", name := "want", desc := "(I)V" } : Jvm.MethodName)) := ⟨(in_t1 (List.mem_of_getElem? (i := 161) rfl)), rfl⟩
theorem kw_163 : Kw (Jvm.Cond.methodLink "GuardedMoves" (132 : Nat) ({ cls := "GuardedMoves", name := "readSet", desc := "(I)V" } : Jvm.MethodName)) := ⟨(in_t1 (List.mem_of_getElem? (i := 163) rfl)), rfl⟩
theorem kw_165 : Kw (Jvm.Cond.instanceMethod ({ cls := "GuardedMoves", name := "readSet", desc := "(I)V" } : Jvm.MethodName)) := ⟨(in_t1 (List.mem_of_getElem? (i := 165) rfl)), rfl⟩
theorem kw_168 : Kw (Jvm.Cond.methodLink "GuardedMoves" (175 : Nat) ({ cls := "GuardedMoves$Text", name := "take", desc := "(LGuardedMoves$Text;)V" } : Jvm.MethodName)) := ⟨(in_t1 (List.mem_of_getElem? (i := 168) rfl)), rfl⟩
theorem kw_169 : Kw (Jvm.Cond.instanceMethod ({ cls := "GuardedMoves$Text", name := "take", desc := "(LGuardedMoves$Text;)V" } : Jvm.MethodName)) := ⟨(in_t1 (List.mem_of_getElem? (i := 169) rfl)), rfl⟩
theorem kw_170 : Kw (Jvm.Cond.selects "GuardedMoves$Text" ({ cls := "GuardedMoves$Text", name := "take", desc := "(LGuardedMoves$Text;)V" } : Jvm.MethodName) ({ cls := "GuardedMoves$Text", name := "take", desc := "(LGuardedMoves$Text;)V" } : Jvm.MethodName)) := ⟨(in_t1 (List.mem_of_getElem? (i := 170) rfl)), rfl⟩
theorem kw_173 : Kw (Jvm.Cond.methodLink "GuardedMovesLaw" (79 : Nat) ({ cls := "GuardedMoves", name := "fault", desc := "()I" } : Jvm.MethodName)) := ⟨(in_t1 (List.mem_of_getElem? (i := 173) rfl)), rfl⟩
theorem kw_174 : Kw (Jvm.Cond.instanceMethod ({ cls := "GuardedMoves", name := "fault", desc := "()I" } : Jvm.MethodName)) := ⟨(in_t1 (List.mem_of_getElem? (i := 174) rfl)), rfl⟩
theorem kw_175 : Kw (Jvm.Cond.selects "GuardedMoves" ({ cls := "GuardedMoves", name := "fault", desc := "()I" } : Jvm.MethodName) ({ cls := "GuardedMoves", name := "fault", desc := "()I" } : Jvm.MethodName)) := ⟨(in_t1 (List.mem_of_getElem? (i := 175) rfl)), rfl⟩
theorem kw_177 : Kw (Jvm.Cond.methodLink "GuardedMovesLaw" (91 : Nat) ({ cls := "GuardedMoves", name := "trim", desc := "()I" } : Jvm.MethodName)) := ⟨(in_t1 (List.mem_of_getElem? (i := 177) rfl)), rfl⟩
theorem kw_178 : Kw (Jvm.Cond.instanceMethod ({ cls := "GuardedMoves", name := "trim", desc := "()I" } : Jvm.MethodName)) := ⟨(in_t1 (List.mem_of_getElem? (i := 178) rfl)), rfl⟩
theorem kw_179 : Kw (Jvm.Cond.selects "GuardedMoves" ({ cls := "GuardedMoves", name := "trim", desc := "()I" } : Jvm.MethodName) ({ cls := "GuardedMoves", name := "trim", desc := "()I" } : Jvm.MethodName)) := ⟨(in_t1 (List.mem_of_getElem? (i := 179) rfl)), rfl⟩
theorem kw_181 : Kw (Jvm.Cond.methodLink "GuardedMoves" (280 : Nat) ({ cls := "GuardedMoves", name := "isUseless", desc := "(I)Z" } : Jvm.MethodName)) := ⟨(in_t1 (List.mem_of_getElem? (i := 181) rfl)), rfl⟩
theorem kw_183 : Kw (Jvm.Cond.instanceMethod ({ cls := "GuardedMoves", name := "isUseless", desc := "(I)Z" } : Jvm.MethodName)) := ⟨(in_t1 (List.mem_of_getElem? (i := 183) rfl)), rfl⟩
theorem kw_185 : Kw (Jvm.Cond.methodLink "GuardedMoves" (277 : Nat) ({ cls := "GuardedMoves", name := "isTaken", desc := "(I)Z" } : Jvm.MethodName)) := ⟨(in_t1 (List.mem_of_getElem? (i := 185) rfl)), rfl⟩
theorem kw_187 : Kw (Jvm.Cond.instanceMethod ({ cls := "GuardedMoves", name := "isTaken", desc := "(I)Z" } : Jvm.MethodName)) := ⟨(in_t1 (List.mem_of_getElem? (i := 187) rfl)), rfl⟩
theorem kw_189 : Kw (Jvm.Cond.methodLink "GuardedMoves" (274 : Nat) ({ cls := "GuardedMoves", name := "takes", desc := "(I)I" } : Jvm.MethodName)) := ⟨(in_t1 (List.mem_of_getElem? (i := 189) rfl)), rfl⟩
theorem kw_190 : Kw (Jvm.Cond.static ({ cls := "GuardedMoves", name := "takes", desc := "(I)I" } : Jvm.MethodName)) := ⟨(in_t1 (List.mem_of_getElem? (i := 190) rfl)), rfl⟩
theorem kw_192 : Kw (Jvm.Cond.methodLink "GuardedMoves" (283 : Nat) ({ cls := "GuardedMoves", name := "lose", desc := "(I)V" } : Jvm.MethodName)) := ⟨(in_t1 (List.mem_of_getElem? (i := 192) rfl)), rfl⟩
theorem kw_194 : Kw (Jvm.Cond.instanceMethod ({ cls := "GuardedMoves", name := "lose", desc := "(I)V" } : Jvm.MethodName)) := ⟨(in_t1 (List.mem_of_getElem? (i := 194) rfl)), rfl⟩
theorem kw_196 : Kw (Jvm.Cond.methodLink "GuardedMovesLaw" (98 : Nat) ({ cls := "GuardedMoves", name := "tell", desc := "()I" } : Jvm.MethodName)) := ⟨(in_t1 (List.mem_of_getElem? (i := 196) rfl)), rfl⟩
theorem kw_197 : Kw (Jvm.Cond.instanceMethod ({ cls := "GuardedMoves", name := "tell", desc := "()I" } : Jvm.MethodName)) := ⟨(in_t1 (List.mem_of_getElem? (i := 197) rfl)), rfl⟩
theorem kw_198 : Kw (Jvm.Cond.selects "GuardedMoves" ({ cls := "GuardedMoves", name := "tell", desc := "()I" } : Jvm.MethodName) ({ cls := "GuardedMoves", name := "tell", desc := "()I" } : Jvm.MethodName)) := ⟨(in_t1 (List.mem_of_getElem? (i := 198) rfl)), rfl⟩
theorem kw_200 : Kw (Jvm.Cond.classLink "GuardedMoves" (307 : Nat) "GuardedMoves$Ended") := ⟨(in_t1 (List.mem_of_getElem? (i := 200) rfl)), rfl⟩
theorem kw_201 : Kw (Jvm.Cond.methodLink "GuardedMoves" (354 : Nat) ({ cls := "GuardedMoves", name := "beginRun", desc := "()V" } : Jvm.MethodName)) := ⟨(in_t1 (List.mem_of_getElem? (i := 201) rfl)), rfl⟩
theorem kw_203 : Kw (Jvm.Cond.instanceMethod ({ cls := "GuardedMoves", name := "beginRun", desc := "()V" } : Jvm.MethodName)) := ⟨(in_t1 (List.mem_of_getElem? (i := 203) rfl)), rfl⟩
theorem kw_205 : Kw (Jvm.Cond.methodLink "GuardedMoves" (351 : Nat) ({ cls := "GuardedMoves", name := "tellAll", desc := "(II)V" } : Jvm.MethodName)) := ⟨(in_t1 (List.mem_of_getElem? (i := 205) rfl)), rfl⟩
theorem kw_207 : Kw (Jvm.Cond.instanceMethod ({ cls := "GuardedMoves", name := "tellAll", desc := "(II)V" } : Jvm.MethodName)) := ⟨(in_t1 (List.mem_of_getElem? (i := 207) rfl)), rfl⟩
theorem kw_209 : Kw (Jvm.Cond.methodLink "GuardedMoves" (336 : Nat) ({ cls := "GuardedMoves", name := "tellOne", desc := "(I)V" } : Jvm.MethodName)) := ⟨(in_t1 (List.mem_of_getElem? (i := 209) rfl)), rfl⟩
theorem kw_211 : Kw (Jvm.Cond.instanceMethod ({ cls := "GuardedMoves", name := "tellOne", desc := "(I)V" } : Jvm.MethodName)) := ⟨(in_t1 (List.mem_of_getElem? (i := 211) rfl)), rfl⟩
theorem kw_213 : Kw (Jvm.Cond.methodLink "GuardedMoves" (339 : Nat) ({ cls := "GuardedMoves", name := "first", desc := "(I)I" } : Jvm.MethodName)) := ⟨(in_t1 (List.mem_of_getElem? (i := 213) rfl)), rfl⟩
theorem kw_215 : Kw (Jvm.Cond.instanceMethod ({ cls := "GuardedMoves", name := "first", desc := "(I)I" } : Jvm.MethodName)) := ⟨(in_t1 (List.mem_of_getElem? (i := 215) rfl)), rfl⟩
theorem kw_217 : Kw (Jvm.Cond.methodLink "GuardedMoves" (341 : Nat) ({ cls := "GuardedMoves", name := "second", desc := "(I)I" } : Jvm.MethodName)) := ⟨(in_t1 (List.mem_of_getElem? (i := 217) rfl)), rfl⟩
theorem kw_219 : Kw (Jvm.Cond.instanceMethod ({ cls := "GuardedMoves", name := "second", desc := "(I)I" } : Jvm.MethodName)) := ⟨(in_t1 (List.mem_of_getElem? (i := 219) rfl)), rfl⟩
theorem kw_221 : Kw (Jvm.Cond.methodLink "GuardedMoves" (343 : Nat) ({ cls := "GuardedMoves", name := "reckon", desc := "(IIII)I" } : Jvm.MethodName)) := ⟨(in_t1 (List.mem_of_getElem? (i := 221) rfl)), rfl⟩
theorem kw_223 : Kw (Jvm.Cond.instanceMethod ({ cls := "GuardedMoves", name := "reckon", desc := "(IIII)I" } : Jvm.MethodName)) := ⟨(in_t1 (List.mem_of_getElem? (i := 223) rfl)), rfl⟩
theorem kw_225 : Kw (Jvm.Cond.methodLink "GuardedMoves" (329 : Nat) ({ cls := "GuardedMoves", name := "end", desc := "(II)LGuardedMoves$Ended;" } : Jvm.MethodName)) := ⟨(in_t1 (List.mem_of_getElem? (i := 225) rfl)), rfl⟩
theorem kw_227 : Kw (Jvm.Cond.instanceMethod ({ cls := "GuardedMoves", name := "end", desc := "(II)LGuardedMoves$Ended;" } : Jvm.MethodName)) := ⟨(in_t1 (List.mem_of_getElem? (i := 227) rfl)), rfl⟩
theorem kw_229 : Kw (Jvm.Cond.methodLink "GuardedMoves" (346 : Nat) ({ cls := "GuardedMoves", name := "place", desc := "(II)I" } : Jvm.MethodName)) := ⟨(in_t1 (List.mem_of_getElem? (i := 229) rfl)), rfl⟩
theorem kw_231 : Kw (Jvm.Cond.instanceMethod ({ cls := "GuardedMoves", name := "place", desc := "(II)I" } : Jvm.MethodName)) := ⟨(in_t1 (List.mem_of_getElem? (i := 231) rfl)), rfl⟩
theorem kw_233 : Kw (Jvm.Cond.constantLong "GuardedMoves" (256 : Nat) (31 : Int64)) := ⟨(in_t1 (List.mem_of_getElem? (i := 233) rfl)), rfl⟩
theorem kw_234 : Kw (Jvm.Cond.methodLink "GuardedMoves" (348 : Nat) ({ cls := "GuardedMoves", name := "tell", desc := "(I)V" } : Jvm.MethodName)) := ⟨(in_t1 (List.mem_of_getElem? (i := 234) rfl)), rfl⟩
theorem kw_236 : Kw (Jvm.Cond.instanceMethod ({ cls := "GuardedMoves", name := "tell", desc := "(I)V" } : Jvm.MethodName)) := ⟨(in_t1 (List.mem_of_getElem? (i := 236) rfl)), rfl⟩
theorem kw_238 : Kw (Jvm.Cond.methodLink "GuardedMoves" (217 : Nat) ({ cls := "GuardedMoves$Text", name := "next", desc := "(I)I" } : Jvm.MethodName)) := ⟨(in_t1 (List.mem_of_getElem? (i := 238) rfl)), rfl⟩
theorem kw_239 : Kw (Jvm.Cond.instanceMethod ({ cls := "GuardedMoves$Text", name := "next", desc := "(I)I" } : Jvm.MethodName)) := ⟨(in_t1 (List.mem_of_getElem? (i := 239) rfl)), rfl⟩
theorem kw_240 : Kw (Jvm.Cond.selects "GuardedMoves$Text" ({ cls := "GuardedMoves$Text", name := "next", desc := "(I)I" } : Jvm.MethodName) ({ cls := "GuardedMoves$Text", name := "next", desc := "(I)I" } : Jvm.MethodName)) := ⟨(in_t2 (List.mem_of_getElem? (i := 0) rfl)), rfl⟩
theorem kw_255 : Kw (Jvm.Cond.fieldLink "GuardedMoves$Text" (46 : Nat) "GuardedMoves$Text" "many" "I") := ⟨(in_t2 (List.mem_of_getElem? (i := 15) rfl)), rfl⟩
theorem kw_256 : Kw (Jvm.Cond.fieldLinkNest "GuardedMoves" (106 : Nat) "GuardedMoves$Text" "many" "I" "GuardedMoves") := ⟨(in_t2 (List.mem_of_getElem? (i := 16) rfl)), rfl⟩
theorem kw_257 : Kw (Jvm.Cond.fieldLink "GuardedMoves$Text" (9 : Nat) "GuardedMoves$Text" "sorts" "[I") := ⟨(in_t2 (List.mem_of_getElem? (i := 17) rfl)), rfl⟩
theorem kw_258 : Kw (Jvm.Cond.fieldLinkNest "GuardedMoves" (116 : Nat) "GuardedMoves$Text" "sorts" "[I" "GuardedMoves") := ⟨(in_t2 (List.mem_of_getElem? (i := 18) rfl)), rfl⟩
theorem kw_259 : Kw (Jvm.Cond.fieldLink "GuardedMoves$Text" (15 : Nat) "GuardedMoves$Text" "others" "[I") := ⟨(in_t2 (List.mem_of_getElem? (i := 19) rfl)), rfl⟩
theorem kw_260 : Kw (Jvm.Cond.fieldLinkNest "GuardedMoves" (109 : Nat) "GuardedMoves$Text" "others" "[I" "GuardedMoves") := ⟨(in_t2 (List.mem_of_getElem? (i := 20) rfl)), rfl⟩
theorem kw_261 : Kw (Jvm.Cond.fieldLink "GuardedMoves$Text" (18 : Nat) "GuardedMoves$Text" "variables" "[I") := ⟨(in_t2 (List.mem_of_getElem? (i := 21) rfl)), rfl⟩
theorem kw_262 : Kw (Jvm.Cond.fieldLinkNest "GuardedMoves" (129 : Nat) "GuardedMoves$Text" "variables" "[I" "GuardedMoves") := ⟨(in_t2 (List.mem_of_getElem? (i := 22) rfl)), rfl⟩
theorem kw_263 : Kw (Jvm.Cond.fieldLink "GuardedMoves$Text" (21 : Nat) "GuardedMoves$Text" "operators" "[I") := ⟨(in_t2 (List.mem_of_getElem? (i := 23) rfl)), rfl⟩
theorem kw_264 : Kw (Jvm.Cond.fieldLinkNest "GuardedMoves" (143 : Nat) "GuardedMoves$Text" "operators" "[I" "GuardedMoves") := ⟨(in_t2 (List.mem_of_getElem? (i := 24) rfl)), rfl⟩
theorem kw_265 : Kw (Jvm.Cond.fieldLink "GuardedMoves$Text" (24 : Nat) "GuardedMoves$Text" "firsts" "[I") := ⟨(in_t2 (List.mem_of_getElem? (i := 25) rfl)), rfl⟩
theorem kw_266 : Kw (Jvm.Cond.fieldLinkNest "GuardedMoves" (88 : Nat) "GuardedMoves$Text" "firsts" "[I" "GuardedMoves") := ⟨(in_t2 (List.mem_of_getElem? (i := 26) rfl)), rfl⟩
theorem kw_267 : Kw (Jvm.Cond.fieldLink "GuardedMoves$Text" (27 : Nat) "GuardedMoves$Text" "firstNumbers" "[I") := ⟨(in_t2 (List.mem_of_getElem? (i := 27) rfl)), rfl⟩
theorem kw_268 : Kw (Jvm.Cond.fieldLinkNest "GuardedMoves" (94 : Nat) "GuardedMoves$Text" "firstNumbers" "[I" "GuardedMoves") := ⟨(in_t2 (List.mem_of_getElem? (i := 28) rfl)), rfl⟩
theorem kw_269 : Kw (Jvm.Cond.fieldLink "GuardedMoves$Text" (30 : Nat) "GuardedMoves$Text" "seconds" "[I") := ⟨(in_t2 (List.mem_of_getElem? (i := 29) rfl)), rfl⟩
theorem kw_270 : Kw (Jvm.Cond.fieldLinkNest "GuardedMoves" (97 : Nat) "GuardedMoves$Text" "seconds" "[I" "GuardedMoves") := ⟨(in_t2 (List.mem_of_getElem? (i := 30) rfl)), rfl⟩
theorem kw_271 : Kw (Jvm.Cond.fieldLink "GuardedMoves$Text" (33 : Nat) "GuardedMoves$Text" "secondNumbers" "[I") := ⟨(in_t2 (List.mem_of_getElem? (i := 31) rfl)), rfl⟩
theorem kw_272 : Kw (Jvm.Cond.fieldLinkNest "GuardedMoves" (100 : Nat) "GuardedMoves$Text" "secondNumbers" "[I" "GuardedMoves") := ⟨(in_t2 (List.mem_of_getElem? (i := 32) rfl)), rfl⟩
theorem kw_273 : Kw (Jvm.Cond.fieldLink "GuardedMoves$Text" (36 : Nat) "GuardedMoves$Text" "middles" "[I") := ⟨(in_t2 (List.mem_of_getElem? (i := 33) rfl)), rfl⟩
theorem kw_274 : Kw (Jvm.Cond.fieldLinkNest "GuardedMoves" (151 : Nat) "GuardedMoves$Text" "middles" "[I" "GuardedMoves") := ⟨(in_t2 (List.mem_of_getElem? (i := 34) rfl)), rfl⟩
theorem kw_275 : Kw (Jvm.Cond.fieldLink "GuardedMoves$Text" (39 : Nat) "GuardedMoves$Text" "ends" "[I") := ⟨(in_t2 (List.mem_of_getElem? (i := 35) rfl)), rfl⟩
theorem kw_276 : Kw (Jvm.Cond.fieldLinkNest "GuardedMoves" (158 : Nat) "GuardedMoves$Text" "ends" "[I" "GuardedMoves") := ⟨(in_t2 (List.mem_of_getElem? (i := 36) rfl)), rfl⟩
theorem kw_277 : Kw (Jvm.Cond.fieldLink "GuardedMoves$Text" (42 : Nat) "GuardedMoves$Text" "hasSecond" "[Z") := ⟨(in_t2 (List.mem_of_getElem? (i := 37) rfl)), rfl⟩
theorem kw_278 : Kw (Jvm.Cond.fieldLinkNest "GuardedMoves" (154 : Nat) "GuardedMoves$Text" "hasSecond" "[Z" "GuardedMoves") := ⟨(in_t2 (List.mem_of_getElem? (i := 38) rfl)), rfl⟩
theorem kw_356 : Kw (Jvm.Cond.fieldLinkNest "GuardedMoves" (19 : Nat) "GuardedMoves$BadText" "code" "I" "GuardedMoves") := ⟨(in_t2 (List.mem_of_getElem? (i := 116) rfl)), rfl⟩
theorem kw_357 : Kw (Jvm.Cond.fieldLinkNest "GuardedMoves" (25 : Nat) "GuardedMoves$BadText" "place" "I" "GuardedMoves") := ⟨(in_t2 (List.mem_of_getElem? (i := 117) rfl)), rfl⟩
theorem kw_389 : Kw (Jvm.Cond.fieldLinkNest "GuardedMoves" (306 : Nat) "GuardedMoves$Ended" "how" "I" "GuardedMoves") := ⟨(in_t2 (List.mem_of_getElem? (i := 149) rfl)), rfl⟩
theorem kw_390 : Kw (Jvm.Cond.fieldLinkNest "GuardedMoves" (311 : Nat) "GuardedMoves$Ended" "statement" "I" "GuardedMoves") := ⟨(in_t2 (List.mem_of_getElem? (i := 150) rfl)), rfl⟩
theorem kw_397 : Kw (Jvm.Cond.fieldLink "GuardedMoves" (172 : Nat) "GuardedMoves" "text" "LGuardedMoves$Text;") := ⟨(in_t2 (List.mem_of_getElem? (i := 157) rfl)), rfl⟩
theorem kw_398 : Kw (Jvm.Cond.fieldLink "GuardedMoves" (84 : Nat) "GuardedMoves" "draft" "LGuardedMoves$Text;") := ⟨(in_t2 (List.mem_of_getElem? (i := 158) rfl)), rfl⟩
theorem kw_399 : Kw (Jvm.Cond.fieldLink "GuardedMoves" (13 : Nat) "GuardedMoves" "bad" "LGuardedMoves$BadText;") := ⟨(in_t2 (List.mem_of_getElem? (i := 159) rfl)), rfl⟩
theorem kw_400 : Kw (Jvm.Cond.fieldLink "GuardedMoves" (34 : Nat) "GuardedMoves" "tape" "[B") := ⟨(in_t2 (List.mem_of_getElem? (i := 160) rfl)), rfl⟩
theorem kw_401 : Kw (Jvm.Cond.fieldLink "GuardedMoves" (31 : Nat) "GuardedMoves" "size" "I") := ⟨(in_t2 (List.mem_of_getElem? (i := 161) rfl)), rfl⟩
theorem kw_402 : Kw (Jvm.Cond.fieldLink "GuardedMoves" (28 : Nat) "GuardedMoves" "at" "I") := ⟨(in_t2 (List.mem_of_getElem? (i := 162) rfl)), rfl⟩
theorem kw_403 : Kw (Jvm.Cond.fieldLink "GuardedMoves" (169 : Nat) "GuardedMoves" "fault" "I") := ⟨(in_t2 (List.mem_of_getElem? (i := 163) rfl)), rfl⟩
theorem kw_404 : Kw (Jvm.Cond.fieldLink "GuardedMoves" (53 : Nat) "GuardedMoves" "value" "I") := ⟨(in_t2 (List.mem_of_getElem? (i := 164) rfl)), rfl⟩
theorem kw_405 : Kw (Jvm.Cond.fieldLink "GuardedMoves" (56 : Nat) "GuardedMoves" "number" "I") := ⟨(in_t2 (List.mem_of_getElem? (i := 165) rfl)), rfl⟩
theorem kw_406 : Kw (Jvm.Cond.fieldLink "GuardedMoves" (186 : Nat) "GuardedMoves" "codes" "[I") := ⟨(in_t2 (List.mem_of_getElem? (i := 166) rfl)), rfl⟩
theorem kw_407 : Kw (Jvm.Cond.fieldLink "GuardedMoves" (189 : Nat) "GuardedMoves" "numbers" "[[I") := ⟨(in_t2 (List.mem_of_getElem? (i := 167) rfl)), rfl⟩
theorem kw_408 : Kw (Jvm.Cond.fieldLink "GuardedMoves" (193 : Nat) "GuardedMoves" "of" "[I") := ⟨(in_t2 (List.mem_of_getElem? (i := 168) rfl)), rfl⟩
theorem kw_409 : Kw (Jvm.Cond.fieldLink "GuardedMoves" (183 : Nat) "GuardedMoves" "steps" "I") := ⟨(in_t2 (List.mem_of_getElem? (i := 169) rfl)), rfl⟩
theorem kw_410 : Kw (Jvm.Cond.fieldLink "GuardedMoves" (196 : Nat) "GuardedMoves" "registers" "I") := ⟨(in_t2 (List.mem_of_getElem? (i := 170) rfl)), rfl⟩
theorem kw_411 : Kw (Jvm.Cond.fieldLink "GuardedMoves" (179 : Nat) "GuardedMoves" "hasCode" "Z") := ⟨(in_t2 (List.mem_of_getElem? (i := 171) rfl)), rfl⟩
theorem kw_412 : Kw (Jvm.Cond.fieldLink "GuardedMoves" (230 : Nat) "GuardedMoves" "isConverted" "[Z") := ⟨(in_t2 (List.mem_of_getElem? (i := 172) rfl)), rfl⟩
theorem kw_413 : Kw (Jvm.Cond.fieldLink "GuardedMoves" (220 : Nat) "GuardedMoves" "stand" "[[I") := ⟨(in_t2 (List.mem_of_getElem? (i := 173) rfl)), rfl⟩
theorem kw_414 : Kw (Jvm.Cond.fieldLink "GuardedMoves" (302 : Nat) "GuardedMoves" "ended" "LGuardedMoves$Ended;") := ⟨(in_t2 (List.mem_of_getElem? (i := 174) rfl)), rfl⟩
theorem kw_415 : Kw (Jvm.Cond.fieldLink "GuardedMoves" (298 : Nat) "GuardedMoves" "variables" "[I") := ⟨(in_t2 (List.mem_of_getElem? (i := 175) rfl)), rfl⟩
theorem kw_416 : Kw (Jvm.Cond.fieldLink "GuardedMoves" (299 : Nat) "GuardedMoves" "words" "[I") := ⟨(in_t2 (List.mem_of_getElem? (i := 176) rfl)), rfl⟩
theorem kw_417 : Kw (Jvm.Cond.fieldLink "GuardedMoves" (314 : Nat) "GuardedMoves" "left" "[I") := ⟨(in_t2 (List.mem_of_getElem? (i := 177) rfl)), rfl⟩
theorem kw_418 : Kw (Jvm.Cond.fieldLink "GuardedMoves" (317 : Nat) "GuardedMoves" "kept" "[I") := ⟨(in_t2 (List.mem_of_getElem? (i := 178) rfl)), rfl⟩
theorem kw_419 : Kw (Jvm.Cond.fieldLink "GuardedMoves" (333 : Nat) "GuardedMoves" "output" "[I") := ⟨(in_t2 (List.mem_of_getElem? (i := 179) rfl)), rfl⟩
theorem kw_420 : Kw (Jvm.Cond.fieldLink "GuardedMoves" (320 : Nat) "GuardedMoves" "outputMany" "I") := ⟨(in_t2 (List.mem_of_getElem? (i := 180) rfl)), rfl⟩
theorem kw_421 : Kw (Jvm.Cond.fieldLink "GuardedMoves" (323 : Nat) "GuardedMoves" "endedAt" "I") := ⟨(in_t2 (List.mem_of_getElem? (i := 181) rfl)), rfl⟩
theorem kw_422 : Kw (Jvm.Cond.fieldLink "GuardedMoves" (326 : Nat) "GuardedMoves" "done" "I") := ⟨(in_t2 (List.mem_of_getElem? (i := 182) rfl)), rfl⟩
theorem kw_476 : Kw (Jvm.Cond.methodLink "GuardedMovesLaw" (57 : Nat) ({ cls := "GuardedMovesLaw", name := "variable", desc := "(LGuardedMoves;II)I" } : Jvm.MethodName)) := ⟨(in_t2 (List.mem_of_getElem? (i := 236) rfl)), rfl⟩
theorem kw_477 : Kw (Jvm.Cond.static ({ cls := "GuardedMovesLaw", name := "variable", desc := "(LGuardedMoves;II)I" } : Jvm.MethodName)) := ⟨(in_t2 (List.mem_of_getElem? (i := 237) rfl)), rfl⟩
theorem kw_479 : Kw (Jvm.Cond.classLink "GuardedMovesLaw" (13 : Nat) "java/lang/IndexOutOfBoundsException") := ⟨(in_t2 (List.mem_of_getElem? (i := 239) rfl)), rfl⟩
theorem kw_513 : Kw (Jvm.Cond.methodLink "GuardedMovesLaw" (7 : Nat) ({ cls := "GuardedMoves", name := "variable", desc := "(II)V" } : Jvm.MethodName)) := ⟨(in_t3 (List.mem_of_getElem? (i := 33) rfl)), rfl⟩
theorem kw_514 : Kw (Jvm.Cond.instanceMethod ({ cls := "GuardedMoves", name := "variable", desc := "(II)V" } : Jvm.MethodName)) := ⟨(in_t3 (List.mem_of_getElem? (i := 34) rfl)), rfl⟩
theorem kw_515 : Kw (Jvm.Cond.selects "GuardedMoves" ({ cls := "GuardedMoves", name := "variable", desc := "(II)V" } : Jvm.MethodName) ({ cls := "GuardedMoves", name := "variable", desc := "(II)V" } : Jvm.MethodName)) := ⟨(in_t3 (List.mem_of_getElem? (i := 35) rfl)), rfl⟩
theorem kw_517 : Kw (Jvm.Cond.constantLong "GuardedMoves" (296 : Nat) (15 : Int64)) := ⟨(in_t3 (List.mem_of_getElem? (i := 37) rfl)), rfl⟩
theorem kw_518 : Kw (Jvm.Cond.methodLink "GuardedMoves" (286 : Nat) ({ cls := "GuardedMoves", name := "wantIndex", desc := "(Z)V" } : Jvm.MethodName)) := ⟨(in_t3 (List.mem_of_getElem? (i := 38) rfl)), rfl⟩
theorem kw_519 : Kw (Jvm.Cond.static ({ cls := "GuardedMoves", name := "wantIndex", desc := "(Z)V" } : Jvm.MethodName)) := ⟨(in_t3 (List.mem_of_getElem? (i := 39) rfl)), rfl⟩
theorem kw_521 : Kw (Jvm.Cond.classLink "GuardedMoves" (1 : Nat) "java/lang/IndexOutOfBoundsException") := ⟨(in_t3 (List.mem_of_getElem? (i := 41) rfl)), rfl⟩
theorem kw_522 : Kw (Jvm.Cond.instantiable "java/lang/IndexOutOfBoundsException" (6 : Nat)) := ⟨(in_t3 (List.mem_of_getElem? (i := 42) rfl)), rfl⟩
theorem kw_542 : Kw (Jvm.Cond.methodLink "GuardedMovesLaw" (66 : Nat) ({ cls := "GuardedMovesLaw", name := "word", desc := "(LGuardedMoves;II)I" } : Jvm.MethodName)) := ⟨(in_t3 (List.mem_of_getElem? (i := 62) rfl)), rfl⟩
theorem kw_543 : Kw (Jvm.Cond.static ({ cls := "GuardedMovesLaw", name := "word", desc := "(LGuardedMoves;II)I" } : Jvm.MethodName)) := ⟨(in_t3 (List.mem_of_getElem? (i := 63) rfl)), rfl⟩
theorem kw_545 : Kw (Jvm.Cond.methodLink "GuardedMovesLaw" (15 : Nat) ({ cls := "GuardedMoves", name := "word", desc := "(II)V" } : Jvm.MethodName)) := ⟨(in_t3 (List.mem_of_getElem? (i := 65) rfl)), rfl⟩
theorem kw_546 : Kw (Jvm.Cond.instanceMethod ({ cls := "GuardedMoves", name := "word", desc := "(II)V" } : Jvm.MethodName)) := ⟨(in_t3 (List.mem_of_getElem? (i := 66) rfl)), rfl⟩
theorem kw_547 : Kw (Jvm.Cond.selects "GuardedMoves" ({ cls := "GuardedMoves", name := "word", desc := "(II)V" } : Jvm.MethodName) ({ cls := "GuardedMoves", name := "word", desc := "(II)V" } : Jvm.MethodName)) := ⟨(in_t3 (List.mem_of_getElem? (i := 67) rfl)), rfl⟩
theorem kw_549 : Kw (Jvm.Cond.methodLink "GuardedMovesLaw" (71 : Nat) ({ cls := "GuardedMovesLaw", name := "feed", desc := "(LGuardedMoves;JI[J)I" } : Jvm.MethodName)) := ⟨(in_t3 (List.mem_of_getElem? (i := 69) rfl)), rfl⟩
theorem kw_550 : Kw (Jvm.Cond.static ({ cls := "GuardedMovesLaw", name := "feed", desc := "(LGuardedMoves;JI[J)I" } : Jvm.MethodName)) := ⟨(in_t3 (List.mem_of_getElem? (i := 70) rfl)), rfl⟩
theorem kw_552 : Kw (Jvm.Cond.classLink "GuardedMovesLaw" (22 : Nat) "java/lang/IllegalArgumentException") := ⟨(in_t3 (List.mem_of_getElem? (i := 72) rfl)), rfl⟩
theorem kw_553 : Kw (Jvm.Cond.classLink "GuardedMovesLaw" (24 : Nat) "java/lang/IllegalStateException") := ⟨(in_t3 (List.mem_of_getElem? (i := 73) rfl)), rfl⟩
theorem kw_554 : Kw (Jvm.Cond.methodLink "GuardedMovesLaw" (18 : Nat) ({ cls := "GuardedMoves", name := "feed", desc := "(JI)I" } : Jvm.MethodName)) := ⟨(in_t3 (List.mem_of_getElem? (i := 74) rfl)), rfl⟩
theorem kw_555 : Kw (Jvm.Cond.instanceMethod ({ cls := "GuardedMoves", name := "feed", desc := "(JI)I" } : Jvm.MethodName)) := ⟨(in_t3 (List.mem_of_getElem? (i := 75) rfl)), rfl⟩
theorem kw_556 : Kw (Jvm.Cond.selects "GuardedMoves" ({ cls := "GuardedMoves", name := "feed", desc := "(JI)I" } : Jvm.MethodName) ({ cls := "GuardedMoves", name := "feed", desc := "(JI)I" } : Jvm.MethodName)) := ⟨(in_t3 (List.mem_of_getElem? (i := 76) rfl)), rfl⟩
theorem kw_558 : Kw (Jvm.Cond.constantLong "GuardedMoves" (161 : Nat) (8 : Int64)) := ⟨(in_t3 (List.mem_of_getElem? (i := 78) rfl)), rfl⟩
theorem kw_559 : Kw (Jvm.Cond.methodLink "GuardedMoves" (163 : Nat) ({ cls := "GuardedMoves", name := "want", desc := "(Z)V" } : Jvm.MethodName)) := ⟨(in_t3 (List.mem_of_getElem? (i := 79) rfl)), rfl⟩
theorem kw_560 : Kw (Jvm.Cond.static ({ cls := "GuardedMoves", name := "want", desc := "(Z)V" } : Jvm.MethodName)) := ⟨(in_t3 (List.mem_of_getElem? (i := 80) rfl)), rfl⟩
theorem kw_562 : Kw (Jvm.Cond.classLink "GuardedMoves" (7 : Nat) "java/lang/IllegalArgumentException") := ⟨(in_t3 (List.mem_of_getElem? (i := 82) rfl)), rfl⟩
theorem kw_563 : Kw (Jvm.Cond.instantiable "java/lang/IllegalArgumentException" (6 : Nat)) := ⟨(in_t3 (List.mem_of_getElem? (i := 83) rfl)), rfl⟩
theorem kw_577 : Kw (Jvm.Cond.methodLink "GuardedMoves" (166 : Nat) ({ cls := "GuardedMoves", name := "wantState", desc := "(Z)V" } : Jvm.MethodName)) := ⟨(in_t3 (List.mem_of_getElem? (i := 97) rfl)), rfl⟩
theorem kw_578 : Kw (Jvm.Cond.static ({ cls := "GuardedMoves", name := "wantState", desc := "(Z)V" } : Jvm.MethodName)) := ⟨(in_t3 (List.mem_of_getElem? (i := 98) rfl)), rfl⟩
theorem kw_580 : Kw (Jvm.Cond.classLink "GuardedMoves" (10 : Nat) "java/lang/IllegalStateException") := ⟨(in_t3 (List.mem_of_getElem? (i := 100) rfl)), rfl⟩
theorem kw_581 : Kw (Jvm.Cond.instantiable "java/lang/IllegalStateException" (6 : Nat)) := ⟨(in_t3 (List.mem_of_getElem? (i := 101) rfl)), rfl⟩
theorem kw_595 : Kw (Jvm.Cond.methodLink "GuardedMovesLaw" (83 : Nat) ({ cls := "GuardedMovesLaw", name := "statement", desc := "(LGuardedMoves;II[J)I" } : Jvm.MethodName)) := ⟨(in_t3 (List.mem_of_getElem? (i := 115) rfl)), rfl⟩
theorem kw_596 : Kw (Jvm.Cond.static ({ cls := "GuardedMovesLaw", name := "statement", desc := "(LGuardedMoves;II[J)I" } : Jvm.MethodName)) := ⟨(in_t3 (List.mem_of_getElem? (i := 116) rfl)), rfl⟩
theorem kw_598 : Kw (Jvm.Cond.methodLink "GuardedMovesLaw" (26 : Nat) ({ cls := "GuardedMoves", name := "statement", desc := "(II)I" } : Jvm.MethodName)) := ⟨(in_t3 (List.mem_of_getElem? (i := 118) rfl)), rfl⟩
theorem kw_599 : Kw (Jvm.Cond.instanceMethod ({ cls := "GuardedMoves", name := "statement", desc := "(II)I" } : Jvm.MethodName)) := ⟨(in_t3 (List.mem_of_getElem? (i := 119) rfl)), rfl⟩
theorem kw_600 : Kw (Jvm.Cond.selects "GuardedMoves" ({ cls := "GuardedMoves", name := "statement", desc := "(II)I" } : Jvm.MethodName) ({ cls := "GuardedMoves", name := "statement", desc := "(II)I" } : Jvm.MethodName)) := ⟨(in_t3 (List.mem_of_getElem? (i := 120) rfl)), rfl⟩
theorem kw_602 : Kw (Jvm.Cond.constantLong "GuardedMoves" (291 : Nat) (3 : Int64)) := ⟨(in_t3 (List.mem_of_getElem? (i := 122) rfl)), rfl⟩
theorem kw_603 : Kw (Jvm.Cond.methodLink "GuardedMoves" (293 : Nat) ({ cls := "GuardedMoves", name := "stepsOf", desc := "(I)I" } : Jvm.MethodName)) := ⟨(in_t3 (List.mem_of_getElem? (i := 123) rfl)), rfl⟩
theorem kw_605 : Kw (Jvm.Cond.instanceMethod ({ cls := "GuardedMoves", name := "stepsOf", desc := "(I)I" } : Jvm.MethodName)) := ⟨(in_t3 (List.mem_of_getElem? (i := 125) rfl)), rfl⟩
theorem kw_607 : Kw (Jvm.Cond.methodLink "GuardedMovesLaw" (87 : Nat) ({ cls := "GuardedMovesLaw", name := "lower", desc := "(LGuardedMoves;I[J)I" } : Jvm.MethodName)) := ⟨(in_t3 (List.mem_of_getElem? (i := 127) rfl)), rfl⟩
theorem kw_608 : Kw (Jvm.Cond.static ({ cls := "GuardedMovesLaw", name := "lower", desc := "(LGuardedMoves;I[J)I" } : Jvm.MethodName)) := ⟨(in_t3 (List.mem_of_getElem? (i := 128) rfl)), rfl⟩
theorem kw_610 : Kw (Jvm.Cond.methodLink "GuardedMovesLaw" (30 : Nat) ({ cls := "GuardedMoves", name := "lower", desc := "(I)I" } : Jvm.MethodName)) := ⟨(in_t3 (List.mem_of_getElem? (i := 130) rfl)), rfl⟩
theorem kw_611 : Kw (Jvm.Cond.instanceMethod ({ cls := "GuardedMoves", name := "lower", desc := "(I)I" } : Jvm.MethodName)) := ⟨(in_t3 (List.mem_of_getElem? (i := 131) rfl)), rfl⟩
theorem kw_612 : Kw (Jvm.Cond.selects "GuardedMoves" ({ cls := "GuardedMoves", name := "lower", desc := "(I)I" } : Jvm.MethodName) ({ cls := "GuardedMoves", name := "lower", desc := "(I)I" } : Jvm.MethodName)) := ⟨(in_t3 (List.mem_of_getElem? (i := 132) rfl)), rfl⟩
theorem kw_614 : Kw (Jvm.Cond.constantLong "GuardedMoves" (266 : Nat) (400 : Int64)) := ⟨(in_t3 (List.mem_of_getElem? (i := 134) rfl)), rfl⟩
theorem kw_615 : Kw (Jvm.Cond.methodLink "GuardedMoves" (268 : Nat) ({ cls := "GuardedMoves", name := "mayConvert", desc := "(I)Z" } : Jvm.MethodName)) := ⟨(in_t3 (List.mem_of_getElem? (i := 135) rfl)), rfl⟩
theorem kw_617 : Kw (Jvm.Cond.instanceMethod ({ cls := "GuardedMoves", name := "mayConvert", desc := "(I)Z" } : Jvm.MethodName)) := ⟨(in_t3 (List.mem_of_getElem? (i := 137) rfl)), rfl⟩
theorem kw_619 : Kw (Jvm.Cond.methodLink "GuardedMoves" (271 : Nat) ({ cls := "GuardedMoves", name := "beginCode", desc := "()V" } : Jvm.MethodName)) := ⟨(in_t3 (List.mem_of_getElem? (i := 139) rfl)), rfl⟩
theorem kw_621 : Kw (Jvm.Cond.instanceMethod ({ cls := "GuardedMoves", name := "beginCode", desc := "()V" } : Jvm.MethodName)) := ⟨(in_t3 (List.mem_of_getElem? (i := 141) rfl)), rfl⟩
theorem kw_623 : Kw (Jvm.Cond.methodLink "GuardedMoves" (233 : Nat) ({ cls := "GuardedMoves", name := "convert", desc := "(IIII)V" } : Jvm.MethodName)) := ⟨(in_t3 (List.mem_of_getElem? (i := 143) rfl)), rfl⟩
theorem kw_625 : Kw (Jvm.Cond.instanceMethod ({ cls := "GuardedMoves", name := "convert", desc := "(IIII)V" } : Jvm.MethodName)) := ⟨(in_t3 (List.mem_of_getElem? (i := 145) rfl)), rfl⟩
theorem kw_627 : Kw (Jvm.Cond.methodLink "GuardedMoves" (240 : Nat) ({ cls := "GuardedMoves", name := "test", desc := "(I[I)I" } : Jvm.MethodName)) := ⟨(in_t3 (List.mem_of_getElem? (i := 147) rfl)), rfl⟩
theorem kw_629 : Kw (Jvm.Cond.instanceMethod ({ cls := "GuardedMoves", name := "test", desc := "(I[I)I" } : Jvm.MethodName)) := ⟨(in_t3 (List.mem_of_getElem? (i := 149) rfl)), rfl⟩
theorem kw_631 : Kw (Jvm.Cond.methodLink "GuardedMoves" (223 : Nat) ({ cls := "GuardedMoves", name := "first", desc := "(I[I)I" } : Jvm.MethodName)) := ⟨(in_t3 (List.mem_of_getElem? (i := 151) rfl)), rfl⟩
theorem kw_633 : Kw (Jvm.Cond.instanceMethod ({ cls := "GuardedMoves", name := "first", desc := "(I[I)I" } : Jvm.MethodName)) := ⟨(in_t3 (List.mem_of_getElem? (i := 153) rfl)), rfl⟩
theorem kw_635 : Kw (Jvm.Cond.methodLink "GuardedMoves" (210 : Nat) ({ cls := "GuardedMoves", name := "register", desc := "(III[I)I" } : Jvm.MethodName)) := ⟨(in_t3 (List.mem_of_getElem? (i := 155) rfl)), rfl⟩
theorem kw_637 : Kw (Jvm.Cond.instanceMethod ({ cls := "GuardedMoves", name := "register", desc := "(III[I)I" } : Jvm.MethodName)) := ⟨(in_t3 (List.mem_of_getElem? (i := 157) rfl)), rfl⟩
theorem kw_639 : Kw (Jvm.Cond.methodLink "GuardedMoves" (206 : Nat) ({ cls := "GuardedMoves", name := "set", desc := "(II)I" } : Jvm.MethodName)) := ⟨(in_t3 (List.mem_of_getElem? (i := 159) rfl)), rfl⟩
theorem kw_641 : Kw (Jvm.Cond.instanceMethod ({ cls := "GuardedMoves", name := "set", desc := "(II)I" } : Jvm.MethodName)) := ⟨(in_t3 (List.mem_of_getElem? (i := 161) rfl)), rfl⟩
theorem kw_643 : Kw (Jvm.Cond.methodLink "GuardedMoves" (199 : Nat) ({ cls := "GuardedMoves", name := "fresh", desc := "()I" } : Jvm.MethodName)) := ⟨(in_t3 (List.mem_of_getElem? (i := 163) rfl)), rfl⟩
theorem kw_645 : Kw (Jvm.Cond.instanceMethod ({ cls := "GuardedMoves", name := "fresh", desc := "()I" } : Jvm.MethodName)) := ⟨(in_t3 (List.mem_of_getElem? (i := 165) rfl)), rfl⟩
theorem kw_647 : Kw (Jvm.Cond.methodLink "GuardedMoves" (202 : Nat) ({ cls := "GuardedMoves", name := "put", desc := "(IIIIII)I" } : Jvm.MethodName)) := ⟨(in_t3 (List.mem_of_getElem? (i := 167) rfl)), rfl⟩
theorem kw_649 : Kw (Jvm.Cond.instanceMethod ({ cls := "GuardedMoves", name := "put", desc := "(IIIIII)I" } : Jvm.MethodName)) := ⟨(in_t3 (List.mem_of_getElem? (i := 169) rfl)), rfl⟩
theorem kw_651 : Kw (Jvm.Cond.methodLink "GuardedMoves" (227 : Nat) ({ cls := "GuardedMoves", name := "second", desc := "(I[I)I" } : Jvm.MethodName)) := ⟨(in_t3 (List.mem_of_getElem? (i := 171) rfl)), rfl⟩
theorem kw_653 : Kw (Jvm.Cond.instanceMethod ({ cls := "GuardedMoves", name := "second", desc := "(I[I)I" } : Jvm.MethodName)) := ⟨(in_t3 (List.mem_of_getElem? (i := 173) rfl)), rfl⟩
theorem kw_655 : Kw (Jvm.Cond.methodLink "GuardedMoves" (246 : Nat) ({ cls := "GuardedMoves", name := "copy", desc := "(II)V" } : Jvm.MethodName)) := ⟨(in_t3 (List.mem_of_getElem? (i := 175) rfl)), rfl⟩
theorem kw_657 : Kw (Jvm.Cond.instanceMethod ({ cls := "GuardedMoves", name := "copy", desc := "(II)V" } : Jvm.MethodName)) := ⟨(in_t3 (List.mem_of_getElem? (i := 177) rfl)), rfl⟩
theorem kw_659 : Kw (Jvm.Cond.methodLink "GuardedMoves" (249 : Nat) ({ cls := "GuardedMoves", name := "side", desc := "(IIIII)V" } : Jvm.MethodName)) := ⟨(in_t3 (List.mem_of_getElem? (i := 179) rfl)), rfl⟩
theorem kw_661 : Kw (Jvm.Cond.instanceMethod ({ cls := "GuardedMoves", name := "side", desc := "(IIIII)V" } : Jvm.MethodName)) := ⟨(in_t3 (List.mem_of_getElem? (i := 181) rfl)), rfl⟩
theorem kw_663 : Kw (Jvm.Cond.methodLink "GuardedMoves" (253 : Nat) ({ cls := "GuardedMoves", name := "guarded", desc := "(IIII)V" } : Jvm.MethodName)) := ⟨(in_t3 (List.mem_of_getElem? (i := 183) rfl)), rfl⟩
theorem kw_665 : Kw (Jvm.Cond.instanceMethod ({ cls := "GuardedMoves", name := "guarded", desc := "(IIII)V" } : Jvm.MethodName)) := ⟨(in_t3 (List.mem_of_getElem? (i := 185) rfl)), rfl⟩
theorem kw_667 : Kw (Jvm.Cond.methodLink "GuardedMoves" (258 : Nat) ({ cls := "GuardedMoves", name := "harmless", desc := "(IIII)I" } : Jvm.MethodName)) := ⟨(in_t3 (List.mem_of_getElem? (i := 187) rfl)), rfl⟩
theorem kw_669 : Kw (Jvm.Cond.instanceMethod ({ cls := "GuardedMoves", name := "harmless", desc := "(IIII)I" } : Jvm.MethodName)) := ⟨(in_t3 (List.mem_of_getElem? (i := 189) rfl)), rfl⟩
theorem kw_671 : Kw (Jvm.Cond.methodLink "GuardedMoves" (262 : Nat) ({ cls := "GuardedMoves", name := "index", desc := "(III)I" } : Jvm.MethodName)) := ⟨(in_t3 (List.mem_of_getElem? (i := 191) rfl)), rfl⟩
theorem kw_673 : Kw (Jvm.Cond.instanceMethod ({ cls := "GuardedMoves", name := "index", desc := "(III)I" } : Jvm.MethodName)) := ⟨(in_t3 (List.mem_of_getElem? (i := 193) rfl)), rfl⟩
theorem kw_675 : Kw (Jvm.Cond.methodLink "GuardedMoves" (243 : Nat) ({ cls := "GuardedMoves", name := "lowerAll", desc := "(II)V" } : Jvm.MethodName)) := ⟨(in_t3 (List.mem_of_getElem? (i := 195) rfl)), rfl⟩
theorem kw_677 : Kw (Jvm.Cond.instanceMethod ({ cls := "GuardedMoves", name := "lowerAll", desc := "(II)V" } : Jvm.MethodName)) := ⟨(in_t3 (List.mem_of_getElem? (i := 197) rfl)), rfl⟩
theorem kw_679 : Kw (Jvm.Cond.methodLink "GuardedMoves" (214 : Nat) ({ cls := "GuardedMoves", name := "lowerOne", desc := "(I)V" } : Jvm.MethodName)) := ⟨(in_t3 (List.mem_of_getElem? (i := 199) rfl)), rfl⟩
theorem kw_681 : Kw (Jvm.Cond.instanceMethod ({ cls := "GuardedMoves", name := "lowerOne", desc := "(I)V" } : Jvm.MethodName)) := ⟨(in_t3 (List.mem_of_getElem? (i := 201) rfl)), rfl⟩
theorem kw_683 : Kw (Jvm.Cond.methodLink "GuardedMoves" (237 : Nat) ({ cls := "GuardedMoves", name := "lowerAsk", desc := "(I)V" } : Jvm.MethodName)) := ⟨(in_t3 (List.mem_of_getElem? (i := 203) rfl)), rfl⟩
theorem kw_685 : Kw (Jvm.Cond.instanceMethod ({ cls := "GuardedMoves", name := "lowerAsk", desc := "(I)V" } : Jvm.MethodName)) := ⟨(in_t3 (List.mem_of_getElem? (i := 205) rfl)), rfl⟩
theorem kw_687 : Kw (Jvm.Cond.methodLink "GuardedMovesLaw" (95 : Nat) ({ cls := "GuardedMovesLaw", name := "step", desc := "(LGuardedMoves;II[J)I" } : Jvm.MethodName)) := ⟨(in_t3 (List.mem_of_getElem? (i := 207) rfl)), rfl⟩
theorem kw_688 : Kw (Jvm.Cond.static ({ cls := "GuardedMovesLaw", name := "step", desc := "(LGuardedMoves;II[J)I" } : Jvm.MethodName)) := ⟨(in_t3 (List.mem_of_getElem? (i := 208) rfl)), rfl⟩
theorem kw_690 : Kw (Jvm.Cond.methodLink "GuardedMovesLaw" (34 : Nat) ({ cls := "GuardedMoves", name := "step", desc := "(II)I" } : Jvm.MethodName)) := ⟨(in_t3 (List.mem_of_getElem? (i := 210) rfl)), rfl⟩
theorem kw_691 : Kw (Jvm.Cond.instanceMethod ({ cls := "GuardedMoves", name := "step", desc := "(II)I" } : Jvm.MethodName)) := ⟨(in_t3 (List.mem_of_getElem? (i := 211) rfl)), rfl⟩
theorem kw_692 : Kw (Jvm.Cond.selects "GuardedMoves" ({ cls := "GuardedMoves", name := "step", desc := "(II)I" } : Jvm.MethodName) ({ cls := "GuardedMoves", name := "step", desc := "(II)I" } : Jvm.MethodName)) := ⟨(in_t3 (List.mem_of_getElem? (i := 212) rfl)), rfl⟩
theorem kw_694 : Kw (Jvm.Cond.constantLong "GuardedMoves" (289 : Nat) (5 : Int64)) := ⟨(in_t3 (List.mem_of_getElem? (i := 214) rfl)), rfl⟩
theorem kw_695 : Kw (Jvm.Cond.methodLink "GuardedMovesLaw" (102 : Nat) ({ cls := "GuardedMovesLaw", name := "run", desc := "(LGuardedMoves;[J)I" } : Jvm.MethodName)) := ⟨(in_t3 (List.mem_of_getElem? (i := 215) rfl)), rfl⟩
theorem kw_696 : Kw (Jvm.Cond.static ({ cls := "GuardedMovesLaw", name := "run", desc := "(LGuardedMoves;[J)I" } : Jvm.MethodName)) := ⟨(in_t3 (List.mem_of_getElem? (i := 216) rfl)), rfl⟩
theorem kw_698 : Kw (Jvm.Cond.methodLink "GuardedMovesLaw" (37 : Nat) ({ cls := "GuardedMoves", name := "run", desc := "()I" } : Jvm.MethodName)) := ⟨(in_t3 (List.mem_of_getElem? (i := 218) rfl)), rfl⟩
theorem kw_699 : Kw (Jvm.Cond.instanceMethod ({ cls := "GuardedMoves", name := "run", desc := "()I" } : Jvm.MethodName)) := ⟨(in_t3 (List.mem_of_getElem? (i := 219) rfl)), rfl⟩
theorem kw_700 : Kw (Jvm.Cond.selects "GuardedMoves" ({ cls := "GuardedMoves", name := "run", desc := "()I" } : Jvm.MethodName) ({ cls := "GuardedMoves", name := "run", desc := "()I" } : Jvm.MethodName)) := ⟨(in_t3 (List.mem_of_getElem? (i := 220) rfl)), rfl⟩
theorem kw_702 : Kw (Jvm.Cond.methodLink "GuardedMoves" (357 : Nat) ({ cls := "GuardedMoves", name := "runAll", desc := "()V" } : Jvm.MethodName)) := ⟨(in_t3 (List.mem_of_getElem? (i := 222) rfl)), rfl⟩
theorem kw_704 : Kw (Jvm.Cond.instanceMethod ({ cls := "GuardedMoves", name := "runAll", desc := "()V" } : Jvm.MethodName)) := ⟨(in_t3 (List.mem_of_getElem? (i := 224) rfl)), rfl⟩
theorem kw_706 : Kw (Jvm.Cond.methodLink "GuardedMovesLaw" (106 : Nat) ({ cls := "GuardedMovesLaw", name := "left", desc := "(LGuardedMoves;I[J)I" } : Jvm.MethodName)) := ⟨(in_t3 (List.mem_of_getElem? (i := 226) rfl)), rfl⟩
theorem kw_707 : Kw (Jvm.Cond.static ({ cls := "GuardedMovesLaw", name := "left", desc := "(LGuardedMoves;I[J)I" } : Jvm.MethodName)) := ⟨(in_t3 (List.mem_of_getElem? (i := 227) rfl)), rfl⟩
theorem kw_709 : Kw (Jvm.Cond.methodLink "GuardedMovesLaw" (41 : Nat) ({ cls := "GuardedMoves", name := "left", desc := "(I)I" } : Jvm.MethodName)) := ⟨(in_t3 (List.mem_of_getElem? (i := 229) rfl)), rfl⟩
theorem kw_710 : Kw (Jvm.Cond.instanceMethod ({ cls := "GuardedMoves", name := "left", desc := "(I)I" } : Jvm.MethodName)) := ⟨(in_t3 (List.mem_of_getElem? (i := 230) rfl)), rfl⟩
theorem kw_711 : Kw (Jvm.Cond.selects "GuardedMoves" ({ cls := "GuardedMoves", name := "left", desc := "(I)I" } : Jvm.MethodName) ({ cls := "GuardedMoves", name := "left", desc := "(I)I" } : Jvm.MethodName)) := ⟨(in_t3 (List.mem_of_getElem? (i := 231) rfl)), rfl⟩
theorem kw_713 : Kw (Jvm.Cond.methodLink "GuardedMovesLaw" (109 : Nat) ({ cls := "GuardedMovesLaw", name := "kept", desc := "(LGuardedMoves;I[J)I" } : Jvm.MethodName)) := ⟨(in_t3 (List.mem_of_getElem? (i := 233) rfl)), rfl⟩
theorem kw_714 : Kw (Jvm.Cond.static ({ cls := "GuardedMovesLaw", name := "kept", desc := "(LGuardedMoves;I[J)I" } : Jvm.MethodName)) := ⟨(in_t3 (List.mem_of_getElem? (i := 234) rfl)), rfl⟩
theorem kw_716 : Kw (Jvm.Cond.methodLink "GuardedMovesLaw" (44 : Nat) ({ cls := "GuardedMoves", name := "kept", desc := "(I)I" } : Jvm.MethodName)) := ⟨(in_t3 (List.mem_of_getElem? (i := 236) rfl)), rfl⟩
theorem kw_717 : Kw (Jvm.Cond.instanceMethod ({ cls := "GuardedMoves", name := "kept", desc := "(I)I" } : Jvm.MethodName)) := ⟨(in_t3 (List.mem_of_getElem? (i := 237) rfl)), rfl⟩
theorem kw_718 : Kw (Jvm.Cond.selects "GuardedMoves" ({ cls := "GuardedMoves", name := "kept", desc := "(I)I" } : Jvm.MethodName) ({ cls := "GuardedMoves", name := "kept", desc := "(I)I" } : Jvm.MethodName)) := ⟨(in_t3 (List.mem_of_getElem? (i := 238) rfl)), rfl⟩
theorem kw_720 : Kw (Jvm.Cond.methodLink "GuardedMovesLaw" (112 : Nat) ({ cls := "GuardedMovesLaw", name := "output", desc := "(LGuardedMoves;I[J)I" } : Jvm.MethodName)) := ⟨(in_t4 (List.mem_of_getElem? (i := 0) rfl)), rfl⟩
theorem kw_721 : Kw (Jvm.Cond.static ({ cls := "GuardedMovesLaw", name := "output", desc := "(LGuardedMoves;I[J)I" } : Jvm.MethodName)) := ⟨(in_t4 (List.mem_of_getElem? (i := 1) rfl)), rfl⟩
theorem kw_723 : Kw (Jvm.Cond.methodLink "GuardedMovesLaw" (47 : Nat) ({ cls := "GuardedMoves", name := "output", desc := "(I)I" } : Jvm.MethodName)) := ⟨(in_t4 (List.mem_of_getElem? (i := 3) rfl)), rfl⟩
theorem kw_724 : Kw (Jvm.Cond.instanceMethod ({ cls := "GuardedMoves", name := "output", desc := "(I)I" } : Jvm.MethodName)) := ⟨(in_t4 (List.mem_of_getElem? (i := 4) rfl)), rfl⟩
theorem kw_725 : Kw (Jvm.Cond.selects "GuardedMoves" ({ cls := "GuardedMoves", name := "output", desc := "(I)I" } : Jvm.MethodName) ({ cls := "GuardedMoves", name := "output", desc := "(I)I" } : Jvm.MethodName)) := ⟨(in_t4 (List.mem_of_getElem? (i := 5) rfl)), rfl⟩
theorem kw_727 : Kw (Jvm.Cond.methodLink "GuardedMovesLaw" (115 : Nat) ({ cls := "GuardedMovesLaw", name := "count", desc := "(LGuardedMoves;I[J)I" } : Jvm.MethodName)) := ⟨(in_t4 (List.mem_of_getElem? (i := 7) rfl)), rfl⟩
theorem kw_728 : Kw (Jvm.Cond.static ({ cls := "GuardedMovesLaw", name := "count", desc := "(LGuardedMoves;I[J)I" } : Jvm.MethodName)) := ⟨(in_t4 (List.mem_of_getElem? (i := 8) rfl)), rfl⟩
theorem kw_730 : Kw (Jvm.Cond.methodLink "GuardedMovesLaw" (50 : Nat) ({ cls := "GuardedMoves", name := "count", desc := "(I)I" } : Jvm.MethodName)) := ⟨(in_t4 (List.mem_of_getElem? (i := 10) rfl)), rfl⟩
theorem kw_731 : Kw (Jvm.Cond.instanceMethod ({ cls := "GuardedMoves", name := "count", desc := "(I)I" } : Jvm.MethodName)) := ⟨(in_t4 (List.mem_of_getElem? (i := 11) rfl)), rfl⟩
theorem kw_732 : Kw (Jvm.Cond.selects "GuardedMoves" ({ cls := "GuardedMoves", name := "count", desc := "(I)I" } : Jvm.MethodName) ({ cls := "GuardedMoves", name := "count", desc := "(I)I" } : Jvm.MethodName)) := ⟨(in_t4 (List.mem_of_getElem? (i := 12) rfl)), rfl⟩
theorem kw_734 : Kw (Jvm.Cond.methodLink "GuardedMoves" (360 : Nat) ({ cls := "GuardedMoves", name := "jumps", desc := "()I" } : Jvm.MethodName)) := ⟨(in_t4 (List.mem_of_getElem? (i := 14) rfl)), rfl⟩
theorem kw_736 : Kw (Jvm.Cond.instanceMethod ({ cls := "GuardedMoves", name := "jumps", desc := "()I" } : Jvm.MethodName)) := ⟨(in_t4 (List.mem_of_getElem? (i := 16) rfl)), rfl⟩
theorem kw_738 : Kw (Jvm.Cond.methodLink "GuardedMoves" (363 : Nat) ({ cls := "GuardedMoves", name := "converted", desc := "()I" } : Jvm.MethodName)) := ⟨(in_t4 (List.mem_of_getElem? (i := 18) rfl)), rfl⟩
theorem kw_740 : Kw (Jvm.Cond.instanceMethod ({ cls := "GuardedMoves", name := "converted", desc := "()I" } : Jvm.MethodName)) := ⟨(in_t4 (List.mem_of_getElem? (i := 20) rfl)), rfl⟩
theorem kw_748 : Kw (Jvm.Cond.fieldLink "GuardedMovesModel" (102 : Nat) "GuardedMovesModel" "thrown" "I") := ⟨(in_t4 (List.mem_of_getElem? (i := 28) rfl)), rfl⟩
theorem kw_749 : Kw (Jvm.Cond.fieldLink "GuardedMovesModel" (7 : Nat) "GuardedMovesModel" "putVariable" "[I") := ⟨(in_t4 (List.mem_of_getElem? (i := 29) rfl)), rfl⟩
theorem kw_750 : Kw (Jvm.Cond.fieldLink "GuardedMovesModel" (13 : Nat) "GuardedMovesModel" "putWord" "[I") := ⟨(in_t4 (List.mem_of_getElem? (i := 30) rfl)), rfl⟩
theorem kw_751 : Kw (Jvm.Cond.fieldLink "GuardedMovesModel" (16 : Nat) "GuardedMovesModel" "tape" "[I") := ⟨(in_t4 (List.mem_of_getElem? (i := 31) rfl)), rfl⟩
theorem kw_752 : Kw (Jvm.Cond.fieldLink "GuardedMovesModel" (119 : Nat) "GuardedMovesModel" "tapeSize" "I") := ⟨(in_t4 (List.mem_of_getElem? (i := 32) rfl)), rfl⟩
theorem kw_753 : Kw (Jvm.Cond.fieldLink "GuardedMovesModel" (130 : Nat) "GuardedMovesModel" "at" "I") := ⟨(in_t4 (List.mem_of_getElem? (i := 33) rfl)), rfl⟩
theorem kw_754 : Kw (Jvm.Cond.fieldLink "GuardedMovesModel" (124 : Nat) "GuardedMovesModel" "faultIs" "I") := ⟨(in_t4 (List.mem_of_getElem? (i := 34) rfl)), rfl⟩
theorem kw_755 : Kw (Jvm.Cond.fieldLink "GuardedMovesModel" (127 : Nat) "GuardedMovesModel" "faultAt" "I") := ⟨(in_t4 (List.mem_of_getElem? (i := 35) rfl)), rfl⟩
theorem kw_756 : Kw (Jvm.Cond.fieldLink "GuardedMovesModel" (174 : Nat) "GuardedMovesModel" "fresh" "I") := ⟨(in_t4 (List.mem_of_getElem? (i := 36) rfl)), rfl⟩
theorem kw_757 : Kw (Jvm.Cond.fieldLink "GuardedMovesModel" (192 : Nat) "GuardedMovesModel" "statements" "I") := ⟨(in_t4 (List.mem_of_getElem? (i := 37) rfl)), rfl⟩
theorem kw_758 : Kw (Jvm.Cond.fieldLink "GuardedMovesModel" (19 : Nat) "GuardedMovesModel" "freshAt" "[I") := ⟨(in_t4 (List.mem_of_getElem? (i := 38) rfl)), rfl⟩
theorem kw_759 : Kw (Jvm.Cond.fieldLink "GuardedMovesModel" (22 : Nat) "GuardedMovesModel" "told" "[I") := ⟨(in_t4 (List.mem_of_getElem? (i := 39) rfl)), rfl⟩
theorem kw_760 : Kw (Jvm.Cond.fieldLink "GuardedMovesModel" (25 : Nat) "GuardedMovesModel" "freshFirst" "[I") := ⟨(in_t4 (List.mem_of_getElem? (i := 40) rfl)), rfl⟩
theorem kw_761 : Kw (Jvm.Cond.fieldLink "GuardedMovesModel" (28 : Nat) "GuardedMovesModel" "freshSecond" "[I") := ⟨(in_t4 (List.mem_of_getElem? (i := 41) rfl)), rfl⟩
theorem kw_762 : Kw (Jvm.Cond.fieldLink "GuardedMovesModel" (31 : Nat) "GuardedMovesModel" "firstEnd" "[I") := ⟨(in_t4 (List.mem_of_getElem? (i := 42) rfl)), rfl⟩
theorem kw_763 : Kw (Jvm.Cond.fieldLink "GuardedMovesModel" (34 : Nat) "GuardedMovesModel" "secondEnd" "[I") := ⟨(in_t4 (List.mem_of_getElem? (i := 43) rfl)), rfl⟩
theorem kw_764 : Kw (Jvm.Cond.fieldLink "GuardedMovesModel" (37 : Nat) "GuardedMovesModel" "openAt" "[I") := ⟨(in_t4 (List.mem_of_getElem? (i := 44) rfl)), rfl⟩
theorem kw_765 : Kw (Jvm.Cond.fieldLink "GuardedMovesModel" (40 : Nat) "GuardedMovesModel" "openSecond" "[Z") := ⟨(in_t4 (List.mem_of_getElem? (i := 45) rfl)), rfl⟩
theorem kw_766 : Kw (Jvm.Cond.fieldLink "GuardedMovesModel" (177 : Nat) "GuardedMovesModel" "opens" "I") := ⟨(in_t4 (List.mem_of_getElem? (i := 46) rfl)), rfl⟩
theorem kw_767 : Kw (Jvm.Cond.fieldLink "GuardedMovesModel" (44 : Nat) "GuardedMovesModel" "step" "[I") := ⟨(in_t4 (List.mem_of_getElem? (i := 47) rfl)), rfl⟩
theorem kw_768 : Kw (Jvm.Cond.fieldLink "GuardedMovesModel" (199 : Nat) "GuardedMovesModel" "steps" "I") := ⟨(in_t4 (List.mem_of_getElem? (i := 48) rfl)), rfl⟩
theorem kw_769 : Kw (Jvm.Cond.fieldLink "GuardedMovesModel" (47 : Nat) "GuardedMovesModel" "registers" "I") := ⟨(in_t4 (List.mem_of_getElem? (i := 49) rfl)), rfl⟩
theorem kw_770 : Kw (Jvm.Cond.fieldLink "GuardedMovesModel" (195 : Nat) "GuardedMovesModel" "isCoded" "Z") := ⟨(in_t4 (List.mem_of_getElem? (i := 50) rfl)), rfl⟩
theorem kw_771 : Kw (Jvm.Cond.fieldLink "GuardedMovesModel" (51 : Nat) "GuardedMovesModel" "isConverted" "[Z") := ⟨(in_t4 (List.mem_of_getElem? (i := 51) rfl)), rfl⟩
theorem kw_772 : Kw (Jvm.Cond.fieldLink "GuardedMovesModel" (202 : Nat) "GuardedMovesModel" "statementNow" "I") := ⟨(in_t4 (List.mem_of_getElem? (i := 52) rfl)), rfl⟩
theorem kw_773 : Kw (Jvm.Cond.fieldLink "GuardedMovesModel" (54 : Nat) "GuardedMovesModel" "map" "[I") := ⟨(in_t4 (List.mem_of_getElem? (i := 53) rfl)), rfl⟩
theorem kw_774 : Kw (Jvm.Cond.fieldLink "GuardedMovesModel" (219 : Nat) "GuardedMovesModel" "sides" "I") := ⟨(in_t4 (List.mem_of_getElem? (i := 54) rfl)), rfl⟩
theorem kw_775 : Kw (Jvm.Cond.fieldLink "GuardedMovesModel" (57 : Nat) "GuardedMovesModel" "sideOf" "[I") := ⟨(in_t4 (List.mem_of_getElem? (i := 55) rfl)), rfl⟩
theorem kw_776 : Kw (Jvm.Cond.fieldLink "GuardedMovesModel" (60 : Nat) "GuardedMovesModel" "isSecond" "[Z") := ⟨(in_t4 (List.mem_of_getElem? (i := 56) rfl)), rfl⟩
theorem kw_777 : Kw (Jvm.Cond.fieldLink "GuardedMovesModel" (63 : Nat) "GuardedMovesModel" "isMoved" "[Z") := ⟨(in_t4 (List.mem_of_getElem? (i := 57) rfl)), rfl⟩
theorem kw_778 : Kw (Jvm.Cond.fieldLink "GuardedMovesModel" (66 : Nat) "GuardedMovesModel" "sideTest" "[I") := ⟨(in_t4 (List.mem_of_getElem? (i := 58) rfl)), rfl⟩
theorem kw_779 : Kw (Jvm.Cond.fieldLink "GuardedMovesModel" (69 : Nat) "GuardedMovesModel" "sideGuard" "[I") := ⟨(in_t4 (List.mem_of_getElem? (i := 59) rfl)), rfl⟩
theorem kw_780 : Kw (Jvm.Cond.fieldLink "GuardedMovesModel" (72 : Nat) "GuardedMovesModel" "sideJump" "[I") := ⟨(in_t4 (List.mem_of_getElem? (i := 60) rfl)), rfl⟩
theorem kw_781 : Kw (Jvm.Cond.fieldLink "GuardedMovesModel" (75 : Nat) "GuardedMovesModel" "mapBefore" "[I") := ⟨(in_t4 (List.mem_of_getElem? (i := 61) rfl)), rfl⟩
theorem kw_782 : Kw (Jvm.Cond.fieldLink "GuardedMovesModel" (78 : Nat) "GuardedMovesModel" "mapFirst" "[I") := ⟨(in_t4 (List.mem_of_getElem? (i := 62) rfl)), rfl⟩
theorem kw_783 : Kw (Jvm.Cond.fieldLink "GuardedMovesModel" (81 : Nat) "GuardedMovesModel" "isGone" "[Z") := ⟨(in_t4 (List.mem_of_getElem? (i := 63) rfl)), rfl⟩
theorem kw_784 : Kw (Jvm.Cond.fieldLink "GuardedMovesModel" (84 : Nat) "GuardedMovesModel" "left" "[I") := ⟨(in_t4 (List.mem_of_getElem? (i := 64) rfl)), rfl⟩
theorem kw_785 : Kw (Jvm.Cond.fieldLink "GuardedMovesModel" (87 : Nat) "GuardedMovesModel" "kept" "[I") := ⟨(in_t4 (List.mem_of_getElem? (i := 65) rfl)), rfl⟩
theorem kw_786 : Kw (Jvm.Cond.fieldLink "GuardedMovesModel" (90 : Nat) "GuardedMovesModel" "output" "[I") := ⟨(in_t4 (List.mem_of_getElem? (i := 66) rfl)), rfl⟩
theorem kw_787 : Kw (Jvm.Cond.fieldLink "GuardedMovesModel" (282 : Nat) "GuardedMovesModel" "outputs" "I") := ⟨(in_t4 (List.mem_of_getElem? (i := 67) rfl)), rfl⟩
theorem kw_788 : Kw (Jvm.Cond.fieldLink "GuardedMovesModel" (93 : Nat) "GuardedMovesModel" "endedAt" "I") := ⟨(in_t4 (List.mem_of_getElem? (i := 68) rfl)), rfl⟩
theorem kw_789 : Kw (Jvm.Cond.fieldLink "GuardedMovesModel" (285 : Nat) "GuardedMovesModel" "done" "I") := ⟨(in_t4 (List.mem_of_getElem? (i := 69) rfl)), rfl⟩
theorem kw_790 : Kw (Jvm.Cond.fieldLink "GuardedMovesModel" (288 : Nat) "GuardedMovesModel" "ended" "I") := ⟨(in_t4 (List.mem_of_getElem? (i := 70) rfl)), rfl⟩
theorem kw_791 : Kw (Jvm.Cond.fieldLink "GuardedMovesModel" (96 : Nat) "GuardedMovesModel" "register" "[I") := ⟨(in_t4 (List.mem_of_getElem? (i := 71) rfl)), rfl⟩
theorem kw_792 : Kw (Jvm.Cond.fieldLink "GuardedMovesModel" (99 : Nat) "GuardedMovesModel" "tookFirst" "[Z") := ⟨(in_t4 (List.mem_of_getElem? (i := 72) rfl)), rfl⟩
theorem kw_884 : Kw (Jvm.Cond.methodLink "GuardedMovesLaw" (63 : Nat) ({ cls := "GuardedMovesModel", name := "thrown", desc := "()I" } : Jvm.MethodName)) := ⟨(in_t4 (List.mem_of_getElem? (i := 164) rfl)), rfl⟩
theorem kw_885 : Kw (Jvm.Cond.instanceMethod ({ cls := "GuardedMovesModel", name := "thrown", desc := "()I" } : Jvm.MethodName)) := ⟨(in_t4 (List.mem_of_getElem? (i := 165) rfl)), rfl⟩
theorem kw_886 : Kw (Jvm.Cond.selects "GuardedMovesModel" ({ cls := "GuardedMovesModel", name := "thrown", desc := "()I" } : Jvm.MethodName) ({ cls := "GuardedMovesModel", name := "thrown", desc := "()I" } : Jvm.MethodName)) := ⟨(in_t4 (List.mem_of_getElem? (i := 166) rfl)), rfl⟩
theorem kw_888 : Kw (Jvm.Cond.methodLink "GuardedMovesLaw" (62 : Nat) ({ cls := "GuardedMovesModel", name := "variable", desc := "(II)V" } : Jvm.MethodName)) := ⟨(in_t4 (List.mem_of_getElem? (i := 168) rfl)), rfl⟩
theorem kw_889 : Kw (Jvm.Cond.instanceMethod ({ cls := "GuardedMovesModel", name := "variable", desc := "(II)V" } : Jvm.MethodName)) := ⟨(in_t4 (List.mem_of_getElem? (i := 169) rfl)), rfl⟩
theorem kw_890 : Kw (Jvm.Cond.selects "GuardedMovesModel" ({ cls := "GuardedMovesModel", name := "variable", desc := "(II)V" } : Jvm.MethodName) ({ cls := "GuardedMovesModel", name := "variable", desc := "(II)V" } : Jvm.MethodName)) := ⟨(in_t4 (List.mem_of_getElem? (i := 170) rfl)), rfl⟩
theorem kw_892 : Kw (Jvm.Cond.constantLong "GuardedMovesModel" (105 : Nat) (15 : Int64)) := ⟨(in_t4 (List.mem_of_getElem? (i := 172) rfl)), rfl⟩
theorem kw_893 : Kw (Jvm.Cond.methodLink "GuardedMovesModel" (107 : Nat) ({ cls := "GuardedMovesModel", name := "isIn", desc := "(JJJ)Z" } : Jvm.MethodName)) := ⟨(in_t4 (List.mem_of_getElem? (i := 173) rfl)), rfl⟩
theorem kw_894 : Kw (Jvm.Cond.static ({ cls := "GuardedMovesModel", name := "isIn", desc := "(JJJ)Z" } : Jvm.MethodName)) := ⟨(in_t4 (List.mem_of_getElem? (i := 174) rfl)), rfl⟩
theorem kw_896 : Kw (Jvm.Cond.methodLink "GuardedMovesModel" (111 : Nat) ({ cls := "GuardedMovesModel", name := "may", desc := "(ZZ)Z" } : Jvm.MethodName)) := ⟨(in_t4 (List.mem_of_getElem? (i := 176) rfl)), rfl⟩
theorem kw_898 : Kw (Jvm.Cond.instanceMethod ({ cls := "GuardedMovesModel", name := "may", desc := "(ZZ)Z" } : Jvm.MethodName)) := ⟨(in_t4 (List.mem_of_getElem? (i := 178) rfl)), rfl⟩
theorem kw_900 : Kw (Jvm.Cond.methodLink "GuardedMovesLaw" (68 : Nat) ({ cls := "GuardedMovesModel", name := "word", desc := "(II)V" } : Jvm.MethodName)) := ⟨(in_t4 (List.mem_of_getElem? (i := 180) rfl)), rfl⟩
theorem kw_901 : Kw (Jvm.Cond.instanceMethod ({ cls := "GuardedMovesModel", name := "word", desc := "(II)V" } : Jvm.MethodName)) := ⟨(in_t4 (List.mem_of_getElem? (i := 181) rfl)), rfl⟩
theorem kw_902 : Kw (Jvm.Cond.selects "GuardedMovesModel" ({ cls := "GuardedMovesModel", name := "word", desc := "(II)V" } : Jvm.MethodName) ({ cls := "GuardedMovesModel", name := "word", desc := "(II)V" } : Jvm.MethodName)) := ⟨(in_t4 (List.mem_of_getElem? (i := 182) rfl)), rfl⟩
theorem kw_904 : Kw (Jvm.Cond.constantLong "GuardedMovesModel" (115 : Nat) (31 : Int64)) := ⟨(in_t4 (List.mem_of_getElem? (i := 184) rfl)), rfl⟩
theorem kw_905 : Kw (Jvm.Cond.methodLink "GuardedMovesLaw" (74 : Nat) ({ cls := "GuardedMovesModel", name := "feed", desc := "(JI)I" } : Jvm.MethodName)) := ⟨(in_t4 (List.mem_of_getElem? (i := 185) rfl)), rfl⟩
theorem kw_906 : Kw (Jvm.Cond.instanceMethod ({ cls := "GuardedMovesModel", name := "feed", desc := "(JI)I" } : Jvm.MethodName)) := ⟨(in_t4 (List.mem_of_getElem? (i := 186) rfl)), rfl⟩
theorem kw_907 : Kw (Jvm.Cond.selects "GuardedMovesModel" ({ cls := "GuardedMovesModel", name := "feed", desc := "(JI)I" } : Jvm.MethodName) ({ cls := "GuardedMovesModel", name := "feed", desc := "(JI)I" } : Jvm.MethodName)) := ⟨(in_t4 (List.mem_of_getElem? (i := 187) rfl)), rfl⟩
theorem kw_909 : Kw (Jvm.Cond.constantLong "GuardedMovesModel" (117 : Nat) (8 : Int64)) := ⟨(in_t4 (List.mem_of_getElem? (i := 189) rfl)), rfl⟩
theorem kw_910 : Kw (Jvm.Cond.constantLong "GuardedMovesModel" (122 : Nat) (255 : Int64)) := ⟨(in_t4 (List.mem_of_getElem? (i := 190) rfl)), rfl⟩
theorem kw_911 : Kw (Jvm.Cond.methodLink "GuardedMovesLaw" (78 : Nat) ({ cls := "GuardedMovesModel", name := "read", desc := "()I" } : Jvm.MethodName)) := ⟨(in_t4 (List.mem_of_getElem? (i := 191) rfl)), rfl⟩
theorem kw_912 : Kw (Jvm.Cond.instanceMethod ({ cls := "GuardedMovesModel", name := "read", desc := "()I" } : Jvm.MethodName)) := ⟨(in_t4 (List.mem_of_getElem? (i := 192) rfl)), rfl⟩
theorem kw_913 : Kw (Jvm.Cond.selects "GuardedMovesModel" ({ cls := "GuardedMovesModel", name := "read", desc := "()I" } : Jvm.MethodName) ({ cls := "GuardedMovesModel", name := "read", desc := "()I" } : Jvm.MethodName)) := ⟨(in_t4 (List.mem_of_getElem? (i := 193) rfl)), rfl⟩
theorem kw_915 : Kw (Jvm.Cond.methodLink "GuardedMovesModel" (133 : Nat) ({ cls := "GuardedMovesModel", name := "next", desc := "()I" } : Jvm.MethodName)) := ⟨(in_t4 (List.mem_of_getElem? (i := 195) rfl)), rfl⟩
theorem kw_917 : Kw (Jvm.Cond.instanceMethod ({ cls := "GuardedMovesModel", name := "next", desc := "()I" } : Jvm.MethodName)) := ⟨(in_t4 (List.mem_of_getElem? (i := 197) rfl)), rfl⟩
theorem kw_919 : Kw (Jvm.Cond.methodLink "GuardedMovesModel" (186 : Nat) ({ cls := "GuardedMovesModel", name := "closeSide", desc := "()V" } : Jvm.MethodName)) := ⟨(in_t4 (List.mem_of_getElem? (i := 199) rfl)), rfl⟩
theorem kw_921 : Kw (Jvm.Cond.instanceMethod ({ cls := "GuardedMovesModel", name := "closeSide", desc := "()V" } : Jvm.MethodName)) := ⟨(in_t4 (List.mem_of_getElem? (i := 201) rfl)), rfl⟩
theorem kw_923 : Kw (Jvm.Cond.methodLink "GuardedMovesModel" (189 : Nat) ({ cls := "GuardedMovesModel", name := "readStatement", desc := "(I)V" } : Jvm.MethodName)) := ⟨(in_t4 (List.mem_of_getElem? (i := 203) rfl)), rfl⟩
theorem kw_925 : Kw (Jvm.Cond.instanceMethod ({ cls := "GuardedMovesModel", name := "readStatement", desc := "(I)V" } : Jvm.MethodName)) := ⟨(in_t4 (List.mem_of_getElem? (i := 205) rfl)), rfl⟩
theorem kw_927 : Kw (Jvm.Cond.methodLink "GuardedMovesModel" (153 : Nat) ({ cls := "GuardedMovesModel", name := "isVariable", desc := "(I)Z" } : Jvm.MethodName)) := ⟨(in_t4 (List.mem_of_getElem? (i := 207) rfl)), rfl⟩
theorem kw_928 : Kw (Jvm.Cond.static ({ cls := "GuardedMovesModel", name := "isVariable", desc := "(I)Z" } : Jvm.MethodName)) := ⟨(in_t4 (List.mem_of_getElem? (i := 208) rfl)), rfl⟩
theorem kw_930 : Kw (Jvm.Cond.methodLink "GuardedMovesModel" (137 : Nat) ({ cls := "GuardedMovesModel", name := "fail", desc := "(II)V" } : Jvm.MethodName)) := ⟨(in_t4 (List.mem_of_getElem? (i := 210) rfl)), rfl⟩
theorem kw_932 : Kw (Jvm.Cond.instanceMethod ({ cls := "GuardedMovesModel", name := "fail", desc := "(II)V" } : Jvm.MethodName)) := ⟨(in_t4 (List.mem_of_getElem? (i := 212) rfl)), rfl⟩
theorem kw_934 : Kw (Jvm.Cond.methodLink "GuardedMovesModel" (180 : Nat) ({ cls := "GuardedMovesModel", name := "readSet", desc := "(I)V" } : Jvm.MethodName)) := ⟨(in_t4 (List.mem_of_getElem? (i := 214) rfl)), rfl⟩
theorem kw_936 : Kw (Jvm.Cond.instanceMethod ({ cls := "GuardedMovesModel", name := "readSet", desc := "(I)V" } : Jvm.MethodName)) := ⟨(in_t4 (List.mem_of_getElem? (i := 216) rfl)), rfl⟩
theorem kw_938 : Kw (Jvm.Cond.methodLink "GuardedMovesModel" (160 : Nat) ({ cls := "GuardedMovesModel", name := "take", desc := "(I)V" } : Jvm.MethodName)) := ⟨(in_t4 (List.mem_of_getElem? (i := 218) rfl)), rfl⟩
theorem kw_940 : Kw (Jvm.Cond.instanceMethod ({ cls := "GuardedMovesModel", name := "take", desc := "(I)V" } : Jvm.MethodName)) := ⟨(in_t4 (List.mem_of_getElem? (i := 220) rfl)), rfl⟩
theorem kw_942 : Kw (Jvm.Cond.methodLink "GuardedMovesModel" (164 : Nat) ({ cls := "GuardedMovesModel", name := "readValue", desc := "(II)V" } : Jvm.MethodName)) := ⟨(in_t4 (List.mem_of_getElem? (i := 222) rfl)), rfl⟩
theorem kw_944 : Kw (Jvm.Cond.instanceMethod ({ cls := "GuardedMovesModel", name := "readValue", desc := "(II)V" } : Jvm.MethodName)) := ⟨(in_t4 (List.mem_of_getElem? (i := 224) rfl)), rfl⟩
theorem kw_946 : Kw (Jvm.Cond.methodLink "GuardedMovesModel" (156 : Nat) ({ cls := "GuardedMovesModel", name := "readNumber", desc := "(IIZ)V" } : Jvm.MethodName)) := ⟨(in_t4 (List.mem_of_getElem? (i := 226) rfl)), rfl⟩
theorem kw_948 : Kw (Jvm.Cond.instanceMethod ({ cls := "GuardedMovesModel", name := "readNumber", desc := "(IIZ)V" } : Jvm.MethodName)) := ⟨(in_t4 (List.mem_of_getElem? (i := 228) rfl)), rfl⟩
theorem kw_950 : Kw (Jvm.Cond.methodLink "GuardedMovesModel" (141 : Nat) ({ cls := "GuardedMovesModel", name := "isFigure", desc := "(I)Z" } : Jvm.MethodName)) := ⟨(in_t4 (List.mem_of_getElem? (i := 230) rfl)), rfl⟩
theorem kw_951 : Kw (Jvm.Cond.static ({ cls := "GuardedMovesModel", name := "isFigure", desc := "(I)Z" } : Jvm.MethodName)) := ⟨(in_t4 (List.mem_of_getElem? (i := 231) rfl)), rfl⟩
theorem kw_953 : Kw (Jvm.Cond.constantLong "GuardedMovesModel" (145 : Nat) (4000000000 : Int64)) := ⟨(in_t4 (List.mem_of_getElem? (i := 233) rfl)), rfl⟩
theorem kw_954 : Kw (Jvm.Cond.constantLong "GuardedMovesModel" (147 : Nat) (10 : Int64)) := ⟨(in_t4 (List.mem_of_getElem? (i := 234) rfl)), rfl⟩
theorem kw_955 : Kw (Jvm.Cond.constantLong "GuardedMovesModel" (149 : Nat) (48 : Int64)) := ⟨(in_t4 (List.mem_of_getElem? (i := 235) rfl)), rfl⟩
theorem kw_956 : Kw (Jvm.Cond.constantLong "GuardedMovesModel" (151 : Nat) (2147483647 : Int64)) := ⟨(in_t4 (List.mem_of_getElem? (i := 236) rfl)), rfl⟩
theorem kw_957 : Kw (Jvm.Cond.methodLink "GuardedMovesModel" (167 : Nat) ({ cls := "GuardedMovesModel", name := "opOf", desc := "(I)I" } : Jvm.MethodName)) := ⟨(in_t4 (List.mem_of_getElem? (i := 237) rfl)), rfl⟩
theorem kw_958 : Kw (Jvm.Cond.static ({ cls := "GuardedMovesModel", name := "opOf", desc := "(I)I" } : Jvm.MethodName)) := ⟨(in_t4 (List.mem_of_getElem? (i := 238) rfl)), rfl⟩
theorem kw_960 : Kw (Jvm.Cond.methodLink "GuardedMovesModel" (183 : Nat) ({ cls := "GuardedMovesModel", name := "readTest", desc := "(I)V" } : Jvm.MethodName)) := ⟨(in_t5 (List.mem_of_getElem? (i := 0) rfl)), rfl⟩
theorem kw_962 : Kw (Jvm.Cond.instanceMethod ({ cls := "GuardedMovesModel", name := "readTest", desc := "(I)V" } : Jvm.MethodName)) := ⟨(in_t5 (List.mem_of_getElem? (i := 2) rfl)), rfl⟩
theorem kw_964 : Kw (Jvm.Cond.methodLink "GuardedMovesModel" (171 : Nat) ({ cls := "GuardedMovesModel", name := "relOf", desc := "(I)I" } : Jvm.MethodName)) := ⟨(in_t5 (List.mem_of_getElem? (i := 4) rfl)), rfl⟩
theorem kw_965 : Kw (Jvm.Cond.static ({ cls := "GuardedMovesModel", name := "relOf", desc := "(I)I" } : Jvm.MethodName)) := ⟨(in_t5 (List.mem_of_getElem? (i := 5) rfl)), rfl⟩
theorem kw_967 : Kw (Jvm.Cond.methodLink "GuardedMovesLaw" (82 : Nat) ({ cls := "GuardedMovesModel", name := "fault", desc := "()I" } : Jvm.MethodName)) := ⟨(in_t5 (List.mem_of_getElem? (i := 7) rfl)), rfl⟩
theorem kw_968 : Kw (Jvm.Cond.instanceMethod ({ cls := "GuardedMovesModel", name := "fault", desc := "()I" } : Jvm.MethodName)) := ⟨(in_t5 (List.mem_of_getElem? (i := 8) rfl)), rfl⟩
theorem kw_969 : Kw (Jvm.Cond.selects "GuardedMovesModel" ({ cls := "GuardedMovesModel", name := "fault", desc := "()I" } : Jvm.MethodName) ({ cls := "GuardedMovesModel", name := "fault", desc := "()I" } : Jvm.MethodName)) := ⟨(in_t5 (List.mem_of_getElem? (i := 9) rfl)), rfl⟩
theorem kw_971 : Kw (Jvm.Cond.methodLink "GuardedMovesLaw" (90 : Nat) ({ cls := "GuardedMovesModel", name := "lower", desc := "(I)I" } : Jvm.MethodName)) := ⟨(in_t5 (List.mem_of_getElem? (i := 11) rfl)), rfl⟩
theorem kw_972 : Kw (Jvm.Cond.instanceMethod ({ cls := "GuardedMovesModel", name := "lower", desc := "(I)I" } : Jvm.MethodName)) := ⟨(in_t5 (List.mem_of_getElem? (i := 12) rfl)), rfl⟩
theorem kw_973 : Kw (Jvm.Cond.selects "GuardedMovesModel" ({ cls := "GuardedMovesModel", name := "lower", desc := "(I)I" } : Jvm.MethodName) ({ cls := "GuardedMovesModel", name := "lower", desc := "(I)I" } : Jvm.MethodName)) := ⟨(in_t5 (List.mem_of_getElem? (i := 13) rfl)), rfl⟩
theorem kw_975 : Kw (Jvm.Cond.constantLong "GuardedMovesModel" (263 : Nat) (400 : Int64)) := ⟨(in_t5 (List.mem_of_getElem? (i := 15) rfl)), rfl⟩
theorem kw_976 : Kw (Jvm.Cond.methodLink "GuardedMovesModel" (212 : Nat) ({ cls := "GuardedMovesModel", name := "of", desc := "(II)I" } : Jvm.MethodName)) := ⟨(in_t5 (List.mem_of_getElem? (i := 16) rfl)), rfl⟩
theorem kw_978 : Kw (Jvm.Cond.instanceMethod ({ cls := "GuardedMovesModel", name := "of", desc := "(II)I" } : Jvm.MethodName)) := ⟨(in_t5 (List.mem_of_getElem? (i := 18) rfl)), rfl⟩
theorem kw_980 : Kw (Jvm.Cond.methodLink "GuardedMovesModel" (265 : Nat) ({ cls := "GuardedMovesModel", name := "mayConvert", desc := "(II)Z" } : Jvm.MethodName)) := ⟨(in_t5 (List.mem_of_getElem? (i := 20) rfl)), rfl⟩
theorem kw_982 : Kw (Jvm.Cond.instanceMethod ({ cls := "GuardedMovesModel", name := "mayConvert", desc := "(II)Z" } : Jvm.MethodName)) := ⟨(in_t5 (List.mem_of_getElem? (i := 22) rfl)), rfl⟩
theorem kw_984 : Kw (Jvm.Cond.methodLink "GuardedMovesModel" (260 : Nat) ({ cls := "GuardedMovesModel", name := "lowerAll", desc := "(II)V" } : Jvm.MethodName)) := ⟨(in_t5 (List.mem_of_getElem? (i := 24) rfl)), rfl⟩
theorem kw_986 : Kw (Jvm.Cond.instanceMethod ({ cls := "GuardedMovesModel", name := "lowerAll", desc := "(II)V" } : Jvm.MethodName)) := ⟨(in_t5 (List.mem_of_getElem? (i := 26) rfl)), rfl⟩
theorem kw_988 : Kw (Jvm.Cond.methodLink "GuardedMovesModel" (251 : Nat) ({ cls := "GuardedMovesModel", name := "endSecond", desc := "(I)V" } : Jvm.MethodName)) := ⟨(in_t5 (List.mem_of_getElem? (i := 28) rfl)), rfl⟩
theorem kw_990 : Kw (Jvm.Cond.instanceMethod ({ cls := "GuardedMovesModel", name := "endSecond", desc := "(I)V" } : Jvm.MethodName)) := ⟨(in_t5 (List.mem_of_getElem? (i := 30) rfl)), rfl⟩
theorem kw_992 : Kw (Jvm.Cond.methodLink "GuardedMovesModel" (205 : Nat) ({ cls := "GuardedMovesModel", name := "fresh1", desc := "()I" } : Jvm.MethodName)) := ⟨(in_t5 (List.mem_of_getElem? (i := 32) rfl)), rfl⟩
theorem kw_994 : Kw (Jvm.Cond.instanceMethod ({ cls := "GuardedMovesModel", name := "fresh1", desc := "()I" } : Jvm.MethodName)) := ⟨(in_t5 (List.mem_of_getElem? (i := 34) rfl)), rfl⟩
theorem kw_996 : Kw (Jvm.Cond.methodLink "GuardedMovesModel" (208 : Nat) ({ cls := "GuardedMovesModel", name := "emit", desc := "(IIIII)I" } : Jvm.MethodName)) := ⟨(in_t5 (List.mem_of_getElem? (i := 36) rfl)), rfl⟩
theorem kw_998 : Kw (Jvm.Cond.instanceMethod ({ cls := "GuardedMovesModel", name := "emit", desc := "(IIIII)I" } : Jvm.MethodName)) := ⟨(in_t5 (List.mem_of_getElem? (i := 38) rfl)), rfl⟩
theorem kw_1000 : Kw (Jvm.Cond.methodLink "GuardedMovesModel" (228 : Nat) ({ cls := "GuardedMovesModel", name := "isOnSide", desc := "()Z" } : Jvm.MethodName)) := ⟨(in_t5 (List.mem_of_getElem? (i := 40) rfl)), rfl⟩
theorem kw_1002 : Kw (Jvm.Cond.instanceMethod ({ cls := "GuardedMovesModel", name := "isOnSide", desc := "()Z" } : Jvm.MethodName)) := ⟨(in_t5 (List.mem_of_getElem? (i := 42) rfl)), rfl⟩
theorem kw_1004 : Kw (Jvm.Cond.methodLink "GuardedMovesModel" (254 : Nat) ({ cls := "GuardedMovesModel", name := "endFirst", desc := "(I)V" } : Jvm.MethodName)) := ⟨(in_t5 (List.mem_of_getElem? (i := 44) rfl)), rfl⟩
theorem kw_1006 : Kw (Jvm.Cond.instanceMethod ({ cls := "GuardedMovesModel", name := "endFirst", desc := "(I)V" } : Jvm.MethodName)) := ⟨(in_t5 (List.mem_of_getElem? (i := 46) rfl)), rfl⟩
theorem kw_1008 : Kw (Jvm.Cond.methodLink "GuardedMovesModel" (216 : Nat) ({ cls := "GuardedMovesModel", name := "setNew", desc := "(I)I" } : Jvm.MethodName)) := ⟨(in_t5 (List.mem_of_getElem? (i := 48) rfl)), rfl⟩
theorem kw_1010 : Kw (Jvm.Cond.instanceMethod ({ cls := "GuardedMovesModel", name := "setNew", desc := "(I)I" } : Jvm.MethodName)) := ⟨(in_t5 (List.mem_of_getElem? (i := 50) rfl)), rfl⟩
theorem kw_1012 : Kw (Jvm.Cond.methodLink "GuardedMovesModel" (225 : Nat) ({ cls := "GuardedMovesModel", name := "guarded", desc := "(II)I" } : Jvm.MethodName)) := ⟨(in_t5 (List.mem_of_getElem? (i := 52) rfl)), rfl⟩
theorem kw_1014 : Kw (Jvm.Cond.instanceMethod ({ cls := "GuardedMovesModel", name := "guarded", desc := "(II)I" } : Jvm.MethodName)) := ⟨(in_t5 (List.mem_of_getElem? (i := 54) rfl)), rfl⟩
theorem kw_1016 : Kw (Jvm.Cond.methodLink "GuardedMovesModel" (257 : Nat) ({ cls := "GuardedMovesModel", name := "lowerOne", desc := "(I)V" } : Jvm.MethodName)) := ⟨(in_t5 (List.mem_of_getElem? (i := 56) rfl)), rfl⟩
theorem kw_1018 : Kw (Jvm.Cond.instanceMethod ({ cls := "GuardedMovesModel", name := "lowerOne", desc := "(I)V" } : Jvm.MethodName)) := ⟨(in_t5 (List.mem_of_getElem? (i := 58) rfl)), rfl⟩
theorem kw_1020 : Kw (Jvm.Cond.methodLink "GuardedMovesModel" (235 : Nat) ({ cls := "GuardedMovesModel", name := "lowerSet", desc := "(I)V" } : Jvm.MethodName)) := ⟨(in_t5 (List.mem_of_getElem? (i := 60) rfl)), rfl⟩
theorem kw_1022 : Kw (Jvm.Cond.instanceMethod ({ cls := "GuardedMovesModel", name := "lowerSet", desc := "(I)V" } : Jvm.MethodName)) := ⟨(in_t5 (List.mem_of_getElem? (i := 62) rfl)), rfl⟩
theorem kw_1024 : Kw (Jvm.Cond.methodLink "GuardedMovesModel" (232 : Nat) ({ cls := "GuardedMovesModel", name := "target", desc := "(I)I" } : Jvm.MethodName)) := ⟨(in_t5 (List.mem_of_getElem? (i := 64) rfl)), rfl⟩
theorem kw_1026 : Kw (Jvm.Cond.instanceMethod ({ cls := "GuardedMovesModel", name := "target", desc := "(I)I" } : Jvm.MethodName)) := ⟨(in_t5 (List.mem_of_getElem? (i := 66) rfl)), rfl⟩
theorem kw_1028 : Kw (Jvm.Cond.methodLink "GuardedMovesModel" (222 : Nat) ({ cls := "GuardedMovesModel", name := "value", desc := "(II)I" } : Jvm.MethodName)) := ⟨(in_t5 (List.mem_of_getElem? (i := 68) rfl)), rfl⟩
theorem kw_1030 : Kw (Jvm.Cond.instanceMethod ({ cls := "GuardedMovesModel", name := "value", desc := "(II)I" } : Jvm.MethodName)) := ⟨(in_t5 (List.mem_of_getElem? (i := 70) rfl)), rfl⟩
theorem kw_1032 : Kw (Jvm.Cond.methodLink "GuardedMovesModel" (238 : Nat) ({ cls := "GuardedMovesModel", name := "harmless", desc := "(II)I" } : Jvm.MethodName)) := ⟨(in_t5 (List.mem_of_getElem? (i := 72) rfl)), rfl⟩
theorem kw_1034 : Kw (Jvm.Cond.instanceMethod ({ cls := "GuardedMovesModel", name := "harmless", desc := "(II)I" } : Jvm.MethodName)) := ⟨(in_t5 (List.mem_of_getElem? (i := 74) rfl)), rfl⟩
theorem kw_1036 : Kw (Jvm.Cond.methodLink "GuardedMovesModel" (241 : Nat) ({ cls := "GuardedMovesModel", name := "isPlainIndex", desc := "(I)Z" } : Jvm.MethodName)) := ⟨(in_t5 (List.mem_of_getElem? (i := 76) rfl)), rfl⟩
theorem kw_1038 : Kw (Jvm.Cond.instanceMethod ({ cls := "GuardedMovesModel", name := "isPlainIndex", desc := "(I)Z" } : Jvm.MethodName)) := ⟨(in_t5 (List.mem_of_getElem? (i := 78) rfl)), rfl⟩
theorem kw_1040 : Kw (Jvm.Cond.methodLink "GuardedMovesModel" (244 : Nat) ({ cls := "GuardedMovesModel", name := "lowerStore", desc := "(III)V" } : Jvm.MethodName)) := ⟨(in_t5 (List.mem_of_getElem? (i := 80) rfl)), rfl⟩
theorem kw_1042 : Kw (Jvm.Cond.instanceMethod ({ cls := "GuardedMovesModel", name := "lowerStore", desc := "(III)V" } : Jvm.MethodName)) := ⟨(in_t5 (List.mem_of_getElem? (i := 82) rfl)), rfl⟩
theorem kw_1044 : Kw (Jvm.Cond.methodLink "GuardedMovesModel" (248 : Nat) ({ cls := "GuardedMovesModel", name := "beginTest", desc := "(I)V" } : Jvm.MethodName)) := ⟨(in_t5 (List.mem_of_getElem? (i := 84) rfl)), rfl⟩
theorem kw_1046 : Kw (Jvm.Cond.instanceMethod ({ cls := "GuardedMovesModel", name := "beginTest", desc := "(I)V" } : Jvm.MethodName)) := ⟨(in_t5 (List.mem_of_getElem? (i := 86) rfl)), rfl⟩
theorem kw_1048 : Kw (Jvm.Cond.methodLink "GuardedMovesLaw" (94 : Nat) ({ cls := "GuardedMovesModel", name := "trim", desc := "()I" } : Jvm.MethodName)) := ⟨(in_t5 (List.mem_of_getElem? (i := 88) rfl)), rfl⟩
theorem kw_1049 : Kw (Jvm.Cond.instanceMethod ({ cls := "GuardedMovesModel", name := "trim", desc := "()I" } : Jvm.MethodName)) := ⟨(in_t5 (List.mem_of_getElem? (i := 89) rfl)), rfl⟩
theorem kw_1050 : Kw (Jvm.Cond.selects "GuardedMovesModel" ({ cls := "GuardedMovesModel", name := "trim", desc := "()I" } : Jvm.MethodName) ({ cls := "GuardedMovesModel", name := "trim", desc := "()I" } : Jvm.MethodName)) := ⟨(in_t5 (List.mem_of_getElem? (i := 90) rfl)), rfl⟩
theorem kw_1052 : Kw (Jvm.Cond.methodLink "GuardedMovesModel" (272 : Nat) ({ cls := "GuardedMovesModel", name := "isUseless", desc := "(I)Z" } : Jvm.MethodName)) := ⟨(in_t5 (List.mem_of_getElem? (i := 92) rfl)), rfl⟩
theorem kw_1054 : Kw (Jvm.Cond.instanceMethod ({ cls := "GuardedMovesModel", name := "isUseless", desc := "(I)Z" } : Jvm.MethodName)) := ⟨(in_t5 (List.mem_of_getElem? (i := 94) rfl)), rfl⟩
theorem kw_1056 : Kw (Jvm.Cond.methodLink "GuardedMovesModel" (269 : Nat) ({ cls := "GuardedMovesModel", name := "names", desc := "(II)Z" } : Jvm.MethodName)) := ⟨(in_t5 (List.mem_of_getElem? (i := 96) rfl)), rfl⟩
theorem kw_1058 : Kw (Jvm.Cond.instanceMethod ({ cls := "GuardedMovesModel", name := "names", desc := "(II)Z" } : Jvm.MethodName)) := ⟨(in_t5 (List.mem_of_getElem? (i := 98) rfl)), rfl⟩
theorem kw_1060 : Kw (Jvm.Cond.methodLink "GuardedMovesModel" (275 : Nat) ({ cls := "GuardedMovesModel", name := "goneBefore", desc := "(I)I" } : Jvm.MethodName)) := ⟨(in_t5 (List.mem_of_getElem? (i := 100) rfl)), rfl⟩
theorem kw_1062 : Kw (Jvm.Cond.instanceMethod ({ cls := "GuardedMovesModel", name := "goneBefore", desc := "(I)I" } : Jvm.MethodName)) := ⟨(in_t5 (List.mem_of_getElem? (i := 102) rfl)), rfl⟩
theorem kw_1064 : Kw (Jvm.Cond.methodLink "GuardedMovesLaw" (97 : Nat) ({ cls := "GuardedMovesModel", name := "step", desc := "(II)I" } : Jvm.MethodName)) := ⟨(in_t5 (List.mem_of_getElem? (i := 104) rfl)), rfl⟩
theorem kw_1065 : Kw (Jvm.Cond.instanceMethod ({ cls := "GuardedMovesModel", name := "step", desc := "(II)I" } : Jvm.MethodName)) := ⟨(in_t5 (List.mem_of_getElem? (i := 105) rfl)), rfl⟩
theorem kw_1066 : Kw (Jvm.Cond.selects "GuardedMovesModel" ({ cls := "GuardedMovesModel", name := "step", desc := "(II)I" } : Jvm.MethodName) ({ cls := "GuardedMovesModel", name := "step", desc := "(II)I" } : Jvm.MethodName)) := ⟨(in_t5 (List.mem_of_getElem? (i := 106) rfl)), rfl⟩
theorem kw_1068 : Kw (Jvm.Cond.constantLong "GuardedMovesModel" (278 : Nat) (5 : Int64)) := ⟨(in_t5 (List.mem_of_getElem? (i := 108) rfl)), rfl⟩
theorem kw_1069 : Kw (Jvm.Cond.methodLink "GuardedMovesLaw" (86 : Nat) ({ cls := "GuardedMovesModel", name := "statement", desc := "(II)I" } : Jvm.MethodName)) := ⟨(in_t5 (List.mem_of_getElem? (i := 109) rfl)), rfl⟩
theorem kw_1070 : Kw (Jvm.Cond.instanceMethod ({ cls := "GuardedMovesModel", name := "statement", desc := "(II)I" } : Jvm.MethodName)) := ⟨(in_t5 (List.mem_of_getElem? (i := 110) rfl)), rfl⟩
theorem kw_1071 : Kw (Jvm.Cond.selects "GuardedMovesModel" ({ cls := "GuardedMovesModel", name := "statement", desc := "(II)I" } : Jvm.MethodName) ({ cls := "GuardedMovesModel", name := "statement", desc := "(II)I" } : Jvm.MethodName)) := ⟨(in_t5 (List.mem_of_getElem? (i := 111) rfl)), rfl⟩
theorem kw_1073 : Kw (Jvm.Cond.constantLong "GuardedMovesModel" (280 : Nat) (3 : Int64)) := ⟨(in_t5 (List.mem_of_getElem? (i := 113) rfl)), rfl⟩
theorem kw_1074 : Kw (Jvm.Cond.methodLink "GuardedMovesLaw" (101 : Nat) ({ cls := "GuardedMovesModel", name := "tell", desc := "()I" } : Jvm.MethodName)) := ⟨(in_t5 (List.mem_of_getElem? (i := 114) rfl)), rfl⟩
theorem kw_1075 : Kw (Jvm.Cond.instanceMethod ({ cls := "GuardedMovesModel", name := "tell", desc := "()I" } : Jvm.MethodName)) := ⟨(in_t5 (List.mem_of_getElem? (i := 115) rfl)), rfl⟩
theorem kw_1076 : Kw (Jvm.Cond.selects "GuardedMovesModel" ({ cls := "GuardedMovesModel", name := "tell", desc := "()I" } : Jvm.MethodName) ({ cls := "GuardedMovesModel", name := "tell", desc := "()I" } : Jvm.MethodName)) := ⟨(in_t5 (List.mem_of_getElem? (i := 116) rfl)), rfl⟩
theorem kw_1078 : Kw (Jvm.Cond.methodLink "GuardedMovesModel" (304 : Nat) ({ cls := "GuardedMovesModel", name := "begin", desc := "()V" } : Jvm.MethodName)) := ⟨(in_t5 (List.mem_of_getElem? (i := 118) rfl)), rfl⟩
theorem kw_1080 : Kw (Jvm.Cond.instanceMethod ({ cls := "GuardedMovesModel", name := "begin", desc := "()V" } : Jvm.MethodName)) := ⟨(in_t5 (List.mem_of_getElem? (i := 120) rfl)), rfl⟩
theorem kw_1082 : Kw (Jvm.Cond.methodLink "GuardedMovesModel" (307 : Nat) ({ cls := "GuardedMovesModel", name := "doStatement", desc := "(I)I" } : Jvm.MethodName)) := ⟨(in_t5 (List.mem_of_getElem? (i := 122) rfl)), rfl⟩
theorem kw_1084 : Kw (Jvm.Cond.instanceMethod ({ cls := "GuardedMovesModel", name := "doStatement", desc := "(I)I" } : Jvm.MethodName)) := ⟨(in_t5 (List.mem_of_getElem? (i := 124) rfl)), rfl⟩
theorem kw_1086 : Kw (Jvm.Cond.methodLink "GuardedMovesModel" (294 : Nat) ({ cls := "GuardedMovesModel", name := "toldValue", desc := "(II)I" } : Jvm.MethodName)) := ⟨(in_t5 (List.mem_of_getElem? (i := 126) rfl)), rfl⟩
theorem kw_1088 : Kw (Jvm.Cond.instanceMethod ({ cls := "GuardedMovesModel", name := "toldValue", desc := "(II)I" } : Jvm.MethodName)) := ⟨(in_t5 (List.mem_of_getElem? (i := 128) rfl)), rfl⟩
theorem kw_1090 : Kw (Jvm.Cond.methodLink "GuardedMovesModel" (297 : Nat) ({ cls := "GuardedMovesModel", name := "reach", desc := "(IIII)I" } : Jvm.MethodName)) := ⟨(in_t5 (List.mem_of_getElem? (i := 130) rfl)), rfl⟩
theorem kw_1092 : Kw (Jvm.Cond.instanceMethod ({ cls := "GuardedMovesModel", name := "reach", desc := "(IIII)I" } : Jvm.MethodName)) := ⟨(in_t5 (List.mem_of_getElem? (i := 132) rfl)), rfl⟩
theorem kw_1094 : Kw (Jvm.Cond.methodLink "GuardedMovesModel" (291 : Nat) ({ cls := "GuardedMovesModel", name := "stop", desc := "(II)V" } : Jvm.MethodName)) := ⟨(in_t5 (List.mem_of_getElem? (i := 134) rfl)), rfl⟩
theorem kw_1096 : Kw (Jvm.Cond.instanceMethod ({ cls := "GuardedMovesModel", name := "stop", desc := "(II)V" } : Jvm.MethodName)) := ⟨(in_t5 (List.mem_of_getElem? (i := 136) rfl)), rfl⟩
theorem kw_1098 : Kw (Jvm.Cond.methodLink "GuardedMovesModel" (301 : Nat) ({ cls := "GuardedMovesModel", name := "isWord", desc := "(II)Z" } : Jvm.MethodName)) := ⟨(in_t5 (List.mem_of_getElem? (i := 138) rfl)), rfl⟩
theorem kw_1100 : Kw (Jvm.Cond.instanceMethod ({ cls := "GuardedMovesModel", name := "isWord", desc := "(II)Z" } : Jvm.MethodName)) := ⟨(in_t5 (List.mem_of_getElem? (i := 140) rfl)), rfl⟩
theorem kw_1102 : Kw (Jvm.Cond.methodLink "GuardedMovesModel" (310 : Nat) ({ cls := "GuardedMovesModel", name := "behind", desc := "(I)I" } : Jvm.MethodName)) := ⟨(in_t5 (List.mem_of_getElem? (i := 142) rfl)), rfl⟩
theorem kw_1104 : Kw (Jvm.Cond.instanceMethod ({ cls := "GuardedMovesModel", name := "behind", desc := "(I)I" } : Jvm.MethodName)) := ⟨(in_t5 (List.mem_of_getElem? (i := 144) rfl)), rfl⟩
theorem kw_1106 : Kw (Jvm.Cond.methodLink "GuardedMovesModel" (313 : Nat) ({ cls := "GuardedMovesModel", name := "leave", desc := "()V" } : Jvm.MethodName)) := ⟨(in_t5 (List.mem_of_getElem? (i := 146) rfl)), rfl⟩
theorem kw_1108 : Kw (Jvm.Cond.instanceMethod ({ cls := "GuardedMovesModel", name := "leave", desc := "()V" } : Jvm.MethodName)) := ⟨(in_t5 (List.mem_of_getElem? (i := 148) rfl)), rfl⟩
theorem kw_1110 : Kw (Jvm.Cond.methodLink "GuardedMovesLaw" (105 : Nat) ({ cls := "GuardedMovesModel", name := "run", desc := "()I" } : Jvm.MethodName)) := ⟨(in_t5 (List.mem_of_getElem? (i := 150) rfl)), rfl⟩
theorem kw_1111 : Kw (Jvm.Cond.instanceMethod ({ cls := "GuardedMovesModel", name := "run", desc := "()I" } : Jvm.MethodName)) := ⟨(in_t5 (List.mem_of_getElem? (i := 151) rfl)), rfl⟩
theorem kw_1112 : Kw (Jvm.Cond.selects "GuardedMovesModel" ({ cls := "GuardedMovesModel", name := "run", desc := "()I" } : Jvm.MethodName) ({ cls := "GuardedMovesModel", name := "run", desc := "()I" } : Jvm.MethodName)) := ⟨(in_t5 (List.mem_of_getElem? (i := 152) rfl)), rfl⟩
theorem kw_1114 : Kw (Jvm.Cond.methodLink "GuardedMovesModel" (316 : Nat) ({ cls := "GuardedMovesModel", name := "doStep", desc := "(I)I" } : Jvm.MethodName)) := ⟨(in_t5 (List.mem_of_getElem? (i := 154) rfl)), rfl⟩
theorem kw_1116 : Kw (Jvm.Cond.instanceMethod ({ cls := "GuardedMovesModel", name := "doStep", desc := "(I)I" } : Jvm.MethodName)) := ⟨(in_t5 (List.mem_of_getElem? (i := 156) rfl)), rfl⟩
theorem kw_1118 : Kw (Jvm.Cond.methodLink "GuardedMovesLaw" (108 : Nat) ({ cls := "GuardedMovesModel", name := "left", desc := "(I)I" } : Jvm.MethodName)) := ⟨(in_t5 (List.mem_of_getElem? (i := 158) rfl)), rfl⟩
theorem kw_1119 : Kw (Jvm.Cond.instanceMethod ({ cls := "GuardedMovesModel", name := "left", desc := "(I)I" } : Jvm.MethodName)) := ⟨(in_t5 (List.mem_of_getElem? (i := 159) rfl)), rfl⟩
theorem kw_1120 : Kw (Jvm.Cond.selects "GuardedMovesModel" ({ cls := "GuardedMovesModel", name := "left", desc := "(I)I" } : Jvm.MethodName) ({ cls := "GuardedMovesModel", name := "left", desc := "(I)I" } : Jvm.MethodName)) := ⟨(in_t5 (List.mem_of_getElem? (i := 160) rfl)), rfl⟩
theorem kw_1122 : Kw (Jvm.Cond.methodLink "GuardedMovesLaw" (111 : Nat) ({ cls := "GuardedMovesModel", name := "kept", desc := "(I)I" } : Jvm.MethodName)) := ⟨(in_t5 (List.mem_of_getElem? (i := 162) rfl)), rfl⟩
theorem kw_1123 : Kw (Jvm.Cond.instanceMethod ({ cls := "GuardedMovesModel", name := "kept", desc := "(I)I" } : Jvm.MethodName)) := ⟨(in_t5 (List.mem_of_getElem? (i := 163) rfl)), rfl⟩
theorem kw_1124 : Kw (Jvm.Cond.selects "GuardedMovesModel" ({ cls := "GuardedMovesModel", name := "kept", desc := "(I)I" } : Jvm.MethodName) ({ cls := "GuardedMovesModel", name := "kept", desc := "(I)I" } : Jvm.MethodName)) := ⟨(in_t5 (List.mem_of_getElem? (i := 164) rfl)), rfl⟩
theorem kw_1126 : Kw (Jvm.Cond.methodLink "GuardedMovesLaw" (114 : Nat) ({ cls := "GuardedMovesModel", name := "output", desc := "(I)I" } : Jvm.MethodName)) := ⟨(in_t5 (List.mem_of_getElem? (i := 166) rfl)), rfl⟩
theorem kw_1127 : Kw (Jvm.Cond.instanceMethod ({ cls := "GuardedMovesModel", name := "output", desc := "(I)I" } : Jvm.MethodName)) := ⟨(in_t5 (List.mem_of_getElem? (i := 167) rfl)), rfl⟩
theorem kw_1128 : Kw (Jvm.Cond.selects "GuardedMovesModel" ({ cls := "GuardedMovesModel", name := "output", desc := "(I)I" } : Jvm.MethodName) ({ cls := "GuardedMovesModel", name := "output", desc := "(I)I" } : Jvm.MethodName)) := ⟨(in_t5 (List.mem_of_getElem? (i := 168) rfl)), rfl⟩
theorem kw_1130 : Kw (Jvm.Cond.methodLink "GuardedMovesLaw" (117 : Nat) ({ cls := "GuardedMovesModel", name := "count", desc := "(I)I" } : Jvm.MethodName)) := ⟨(in_t5 (List.mem_of_getElem? (i := 170) rfl)), rfl⟩
theorem kw_1131 : Kw (Jvm.Cond.instanceMethod ({ cls := "GuardedMovesModel", name := "count", desc := "(I)I" } : Jvm.MethodName)) := ⟨(in_t5 (List.mem_of_getElem? (i := 171) rfl)), rfl⟩
theorem kw_1132 : Kw (Jvm.Cond.selects "GuardedMovesModel" ({ cls := "GuardedMovesModel", name := "count", desc := "(I)I" } : Jvm.MethodName) ({ cls := "GuardedMovesModel", name := "count", desc := "(I)I" } : Jvm.MethodName)) := ⟨(in_t5 (List.mem_of_getElem? (i := 172) rfl)), rfl⟩
theorem kw_1134 : Kw (Jvm.Cond.methodLink "GuardedMovesModel" (319 : Nat) ({ cls := "GuardedMovesModel", name := "countJumps", desc := "()I" } : Jvm.MethodName)) := ⟨(in_t5 (List.mem_of_getElem? (i := 174) rfl)), rfl⟩
theorem kw_1136 : Kw (Jvm.Cond.instanceMethod ({ cls := "GuardedMovesModel", name := "countJumps", desc := "()I" } : Jvm.MethodName)) := ⟨(in_t5 (List.mem_of_getElem? (i := 176) rfl)), rfl⟩
theorem kw_1138 : Kw (Jvm.Cond.methodLink "GuardedMovesModel" (322 : Nat) ({ cls := "GuardedMovesModel", name := "countConverted", desc := "()I" } : Jvm.MethodName)) := ⟨(in_t5 (List.mem_of_getElem? (i := 178) rfl)), rfl⟩
theorem kw_1140 : Kw (Jvm.Cond.instanceMethod ({ cls := "GuardedMovesModel", name := "countConverted", desc := "()I" } : Jvm.MethodName)) := ⟨(in_t5 (List.mem_of_getElem? (i := 180) rfl)), rfl⟩
theorem kw_1142 : Kw (Jvm.Cond.constantLong "GuardedMovesLaw" (69 : Nat) (4294967295 : Int64)) := ⟨(in_t5 (List.mem_of_getElem? (i := 182) rfl)), rfl⟩
theorem kw_1146 : Kw (Jvm.Cond.fieldLink "java/lang/String" (15 : Nat) "java/lang/String" "coder" "B") := ⟨(in_t5 (List.mem_of_getElem? (i := 186) rfl)), rfl⟩
theorem kw_1147 : Kw (Jvm.Cond.fieldLink "java/lang/String" (9 : Nat) "java/lang/String" "value" "[B") := ⟨(in_t5 (List.mem_of_getElem? (i := 187) rfl)), rfl⟩
theorem ks_0 : Kw (.selects "GuardedMoves" ⟨"GuardedMoves", "readAll", "(I)V"⟩ ⟨"GuardedMoves", "readAll", "(I)V"⟩) := ⟨List.mem_append_left _ (List.mem_of_getElem? (i := 0) rfl), rfl⟩
theorem ks_1 : Kw (.selects "GuardedMoves" ⟨"GuardedMoves", "here", "()I"⟩ ⟨"GuardedMoves", "here", "()I"⟩) := ⟨List.mem_append_left _ (List.mem_of_getElem? (i := 1) rfl), rfl⟩
theorem ks_2 : Kw (.selects "GuardedMoves" ⟨"GuardedMoves", "bad", "(II)LGuardedMoves$BadText;"⟩ ⟨"GuardedMoves", "bad", "(II)LGuardedMoves$BadText;"⟩) := ⟨List.mem_append_left _ (List.mem_of_getElem? (i := 2) rfl), rfl⟩
theorem ks_3 : Kw (.selects "GuardedMoves" ⟨"GuardedMoves", "readAsk", "(II)V"⟩ ⟨"GuardedMoves", "readAsk", "(II)V"⟩) := ⟨List.mem_append_left _ (List.mem_of_getElem? (i := 3) rfl), rfl⟩
theorem ks_4 : Kw (.selects "GuardedMoves" ⟨"GuardedMoves", "takeFirst", "(I)V"⟩ ⟨"GuardedMoves", "takeFirst", "(I)V"⟩) := ⟨List.mem_append_left _ (List.mem_of_getElem? (i := 4) rfl), rfl⟩
theorem ks_5 : Kw (.selects "GuardedMoves" ⟨"GuardedMoves", "readValue", "()V"⟩ ⟨"GuardedMoves", "readValue", "()V"⟩) := ⟨List.mem_append_left _ (List.mem_of_getElem? (i := 5) rfl), rfl⟩
theorem ks_6 : Kw (.selects "GuardedMoves" ⟨"GuardedMoves", "takeSecond", "(I)V"⟩ ⟨"GuardedMoves", "takeSecond", "(I)V"⟩) := ⟨List.mem_append_left _ (List.mem_of_getElem? (i := 6) rfl), rfl⟩
theorem ks_7 : Kw (.selects "GuardedMoves" ⟨"GuardedMoves", "want", "(I)V"⟩ ⟨"GuardedMoves", "want", "(I)V"⟩) := ⟨List.mem_append_left _ (List.mem_of_getElem? (i := 7) rfl), rfl⟩
theorem ks_8 : Kw (.selects "GuardedMoves" ⟨"GuardedMoves", "readSet", "(I)V"⟩ ⟨"GuardedMoves", "readSet", "(I)V"⟩) := ⟨List.mem_append_left _ (List.mem_of_getElem? (i := 8) rfl), rfl⟩
theorem ks_9 : Kw (.selects "GuardedMoves" ⟨"GuardedMoves", "isUseless", "(I)Z"⟩ ⟨"GuardedMoves", "isUseless", "(I)Z"⟩) := ⟨List.mem_append_left _ (List.mem_of_getElem? (i := 9) rfl), rfl⟩
theorem ks_10 : Kw (.selects "GuardedMoves" ⟨"GuardedMoves", "isTaken", "(I)Z"⟩ ⟨"GuardedMoves", "isTaken", "(I)Z"⟩) := ⟨List.mem_append_left _ (List.mem_of_getElem? (i := 10) rfl), rfl⟩
theorem ks_11 : Kw (.selects "GuardedMoves" ⟨"GuardedMoves", "lose", "(I)V"⟩ ⟨"GuardedMoves", "lose", "(I)V"⟩) := ⟨List.mem_append_left _ (List.mem_of_getElem? (i := 11) rfl), rfl⟩
theorem ks_12 : Kw (.selects "GuardedMoves" ⟨"GuardedMoves", "beginRun", "()V"⟩ ⟨"GuardedMoves", "beginRun", "()V"⟩) := ⟨List.mem_append_left _ (List.mem_of_getElem? (i := 12) rfl), rfl⟩
theorem ks_13 : Kw (.selects "GuardedMoves" ⟨"GuardedMoves", "tellAll", "(II)V"⟩ ⟨"GuardedMoves", "tellAll", "(II)V"⟩) := ⟨List.mem_append_left _ (List.mem_of_getElem? (i := 13) rfl), rfl⟩
theorem ks_14 : Kw (.selects "GuardedMoves" ⟨"GuardedMoves", "tellOne", "(I)V"⟩ ⟨"GuardedMoves", "tellOne", "(I)V"⟩) := ⟨List.mem_append_left _ (List.mem_of_getElem? (i := 14) rfl), rfl⟩
theorem ks_15 : Kw (.selects "GuardedMoves" ⟨"GuardedMoves", "first", "(I)I"⟩ ⟨"GuardedMoves", "first", "(I)I"⟩) := ⟨List.mem_append_left _ (List.mem_of_getElem? (i := 15) rfl), rfl⟩
theorem ks_16 : Kw (.selects "GuardedMoves" ⟨"GuardedMoves", "second", "(I)I"⟩ ⟨"GuardedMoves", "second", "(I)I"⟩) := ⟨List.mem_append_left _ (List.mem_of_getElem? (i := 16) rfl), rfl⟩
theorem ks_17 : Kw (.selects "GuardedMoves" ⟨"GuardedMoves", "reckon", "(IIII)I"⟩ ⟨"GuardedMoves", "reckon", "(IIII)I"⟩) := ⟨List.mem_append_left _ (List.mem_of_getElem? (i := 17) rfl), rfl⟩
theorem ks_18 : Kw (.selects "GuardedMoves" ⟨"GuardedMoves", "end", "(II)LGuardedMoves$Ended;"⟩ ⟨"GuardedMoves", "end", "(II)LGuardedMoves$Ended;"⟩) := ⟨List.mem_append_left _ (List.mem_of_getElem? (i := 18) rfl), rfl⟩
theorem ks_19 : Kw (.selects "GuardedMoves" ⟨"GuardedMoves", "place", "(II)I"⟩ ⟨"GuardedMoves", "place", "(II)I"⟩) := ⟨List.mem_append_left _ (List.mem_of_getElem? (i := 19) rfl), rfl⟩
theorem ks_20 : Kw (.selects "GuardedMoves" ⟨"GuardedMoves", "tell", "(I)V"⟩ ⟨"GuardedMoves", "tell", "(I)V"⟩) := ⟨List.mem_append_left _ (List.mem_of_getElem? (i := 20) rfl), rfl⟩
theorem ks_22 : Kw (.selects "GuardedMoves" ⟨"GuardedMoves", "stepsOf", "(I)I"⟩ ⟨"GuardedMoves", "stepsOf", "(I)I"⟩) := ⟨List.mem_append_left _ (List.mem_of_getElem? (i := 22) rfl), rfl⟩
theorem ks_23 : Kw (.selects "GuardedMoves" ⟨"GuardedMoves", "mayConvert", "(I)Z"⟩ ⟨"GuardedMoves", "mayConvert", "(I)Z"⟩) := ⟨List.mem_append_left _ (List.mem_of_getElem? (i := 23) rfl), rfl⟩
theorem ks_24 : Kw (.selects "GuardedMoves" ⟨"GuardedMoves", "beginCode", "()V"⟩ ⟨"GuardedMoves", "beginCode", "()V"⟩) := ⟨List.mem_append_left _ (List.mem_of_getElem? (i := 24) rfl), rfl⟩
theorem ks_25 : Kw (.selects "GuardedMoves" ⟨"GuardedMoves", "convert", "(IIII)V"⟩ ⟨"GuardedMoves", "convert", "(IIII)V"⟩) := ⟨List.mem_append_left _ (List.mem_of_getElem? (i := 25) rfl), rfl⟩
theorem ks_26 : Kw (.selects "GuardedMoves" ⟨"GuardedMoves", "test", "(I[I)I"⟩ ⟨"GuardedMoves", "test", "(I[I)I"⟩) := ⟨List.mem_append_left _ (List.mem_of_getElem? (i := 26) rfl), rfl⟩
theorem ks_27 : Kw (.selects "GuardedMoves" ⟨"GuardedMoves", "first", "(I[I)I"⟩ ⟨"GuardedMoves", "first", "(I[I)I"⟩) := ⟨List.mem_append_left _ (List.mem_of_getElem? (i := 27) rfl), rfl⟩
theorem ks_28 : Kw (.selects "GuardedMoves" ⟨"GuardedMoves", "register", "(III[I)I"⟩ ⟨"GuardedMoves", "register", "(III[I)I"⟩) := ⟨List.mem_append_left _ (List.mem_of_getElem? (i := 28) rfl), rfl⟩
theorem ks_29 : Kw (.selects "GuardedMoves" ⟨"GuardedMoves", "set", "(II)I"⟩ ⟨"GuardedMoves", "set", "(II)I"⟩) := ⟨List.mem_append_left _ (List.mem_of_getElem? (i := 29) rfl), rfl⟩
theorem ks_30 : Kw (.selects "GuardedMoves" ⟨"GuardedMoves", "fresh", "()I"⟩ ⟨"GuardedMoves", "fresh", "()I"⟩) := ⟨List.mem_append_left _ (List.mem_of_getElem? (i := 30) rfl), rfl⟩
theorem ks_31 : Kw (.selects "GuardedMoves" ⟨"GuardedMoves", "put", "(IIIIII)I"⟩ ⟨"GuardedMoves", "put", "(IIIIII)I"⟩) := ⟨List.mem_append_left _ (List.mem_of_getElem? (i := 31) rfl), rfl⟩
theorem ks_32 : Kw (.selects "GuardedMoves" ⟨"GuardedMoves", "second", "(I[I)I"⟩ ⟨"GuardedMoves", "second", "(I[I)I"⟩) := ⟨List.mem_append_left _ (List.mem_of_getElem? (i := 32) rfl), rfl⟩
theorem ks_33 : Kw (.selects "GuardedMoves" ⟨"GuardedMoves", "copy", "(II)V"⟩ ⟨"GuardedMoves", "copy", "(II)V"⟩) := ⟨List.mem_append_left _ (List.mem_of_getElem? (i := 33) rfl), rfl⟩
theorem ks_34 : Kw (.selects "GuardedMoves" ⟨"GuardedMoves", "side", "(IIIII)V"⟩ ⟨"GuardedMoves", "side", "(IIIII)V"⟩) := ⟨List.mem_append_left _ (List.mem_of_getElem? (i := 34) rfl), rfl⟩
theorem ks_35 : Kw (.selects "GuardedMoves" ⟨"GuardedMoves", "guarded", "(IIII)V"⟩ ⟨"GuardedMoves", "guarded", "(IIII)V"⟩) := ⟨List.mem_append_left _ (List.mem_of_getElem? (i := 35) rfl), rfl⟩
theorem ks_36 : Kw (.selects "GuardedMoves" ⟨"GuardedMoves", "harmless", "(IIII)I"⟩ ⟨"GuardedMoves", "harmless", "(IIII)I"⟩) := ⟨List.mem_append_left _ (List.mem_of_getElem? (i := 36) rfl), rfl⟩
theorem ks_37 : Kw (.selects "GuardedMoves" ⟨"GuardedMoves", "index", "(III)I"⟩ ⟨"GuardedMoves", "index", "(III)I"⟩) := ⟨List.mem_append_left _ (List.mem_of_getElem? (i := 37) rfl), rfl⟩
theorem ks_38 : Kw (.selects "GuardedMoves" ⟨"GuardedMoves", "lowerAll", "(II)V"⟩ ⟨"GuardedMoves", "lowerAll", "(II)V"⟩) := ⟨List.mem_append_left _ (List.mem_of_getElem? (i := 38) rfl), rfl⟩
theorem ks_39 : Kw (.selects "GuardedMoves" ⟨"GuardedMoves", "lowerOne", "(I)V"⟩ ⟨"GuardedMoves", "lowerOne", "(I)V"⟩) := ⟨List.mem_append_left _ (List.mem_of_getElem? (i := 39) rfl), rfl⟩
theorem ks_40 : Kw (.selects "GuardedMoves" ⟨"GuardedMoves", "lowerAsk", "(I)V"⟩ ⟨"GuardedMoves", "lowerAsk", "(I)V"⟩) := ⟨List.mem_append_left _ (List.mem_of_getElem? (i := 40) rfl), rfl⟩
theorem ks_41 : Kw (.selects "GuardedMoves" ⟨"GuardedMoves", "runAll", "()V"⟩ ⟨"GuardedMoves", "runAll", "()V"⟩) := ⟨List.mem_append_left _ (List.mem_of_getElem? (i := 41) rfl), rfl⟩
theorem ks_42 : Kw (.selects "GuardedMoves" ⟨"GuardedMoves", "jumps", "()I"⟩ ⟨"GuardedMoves", "jumps", "()I"⟩) := ⟨List.mem_append_left _ (List.mem_of_getElem? (i := 42) rfl), rfl⟩
theorem ks_43 : Kw (.selects "GuardedMoves" ⟨"GuardedMoves", "converted", "()I"⟩ ⟨"GuardedMoves", "converted", "()I"⟩) := ⟨List.mem_append_left _ (List.mem_of_getElem? (i := 43) rfl), rfl⟩
theorem ks_44 : Kw (.selects "GuardedMovesModel" ⟨"GuardedMovesModel", "may", "(ZZ)Z"⟩ ⟨"GuardedMovesModel", "may", "(ZZ)Z"⟩) := ⟨List.mem_append_left _ (List.mem_of_getElem? (i := 44) rfl), rfl⟩
theorem ks_45 : Kw (.selects "GuardedMovesModel" ⟨"GuardedMovesModel", "next", "()I"⟩ ⟨"GuardedMovesModel", "next", "()I"⟩) := ⟨List.mem_append_left _ (List.mem_of_getElem? (i := 45) rfl), rfl⟩
theorem ks_46 : Kw (.selects "GuardedMovesModel" ⟨"GuardedMovesModel", "closeSide", "()V"⟩ ⟨"GuardedMovesModel", "closeSide", "()V"⟩) := ⟨List.mem_append_left _ (List.mem_of_getElem? (i := 46) rfl), rfl⟩
theorem ks_47 : Kw (.selects "GuardedMovesModel" ⟨"GuardedMovesModel", "readStatement", "(I)V"⟩ ⟨"GuardedMovesModel", "readStatement", "(I)V"⟩) := ⟨List.mem_append_left _ (List.mem_of_getElem? (i := 47) rfl), rfl⟩
theorem ks_48 : Kw (.selects "GuardedMovesModel" ⟨"GuardedMovesModel", "fail", "(II)V"⟩ ⟨"GuardedMovesModel", "fail", "(II)V"⟩) := ⟨List.mem_append_left _ (List.mem_of_getElem? (i := 48) rfl), rfl⟩
theorem ks_49 : Kw (.selects "GuardedMovesModel" ⟨"GuardedMovesModel", "readSet", "(I)V"⟩ ⟨"GuardedMovesModel", "readSet", "(I)V"⟩) := ⟨List.mem_append_left _ (List.mem_of_getElem? (i := 49) rfl), rfl⟩
theorem ks_50 : Kw (.selects "GuardedMovesModel" ⟨"GuardedMovesModel", "take", "(I)V"⟩ ⟨"GuardedMovesModel", "take", "(I)V"⟩) := ⟨List.mem_append_left _ (List.mem_of_getElem? (i := 50) rfl), rfl⟩
theorem ks_51 : Kw (.selects "GuardedMovesModel" ⟨"GuardedMovesModel", "readValue", "(II)V"⟩ ⟨"GuardedMovesModel", "readValue", "(II)V"⟩) := ⟨List.mem_append_left _ (List.mem_of_getElem? (i := 51) rfl), rfl⟩
theorem ks_52 : Kw (.selects "GuardedMovesModel" ⟨"GuardedMovesModel", "readNumber", "(IIZ)V"⟩ ⟨"GuardedMovesModel", "readNumber", "(IIZ)V"⟩) := ⟨List.mem_append_left _ (List.mem_of_getElem? (i := 52) rfl), rfl⟩
theorem ks_53 : Kw (.selects "GuardedMovesModel" ⟨"GuardedMovesModel", "readTest", "(I)V"⟩ ⟨"GuardedMovesModel", "readTest", "(I)V"⟩) := ⟨List.mem_append_left _ (List.mem_of_getElem? (i := 53) rfl), rfl⟩
theorem ks_54 : Kw (.selects "GuardedMovesModel" ⟨"GuardedMovesModel", "of", "(II)I"⟩ ⟨"GuardedMovesModel", "of", "(II)I"⟩) := ⟨List.mem_append_left _ (List.mem_of_getElem? (i := 54) rfl), rfl⟩
theorem ks_55 : Kw (.selects "GuardedMovesModel" ⟨"GuardedMovesModel", "mayConvert", "(II)Z"⟩ ⟨"GuardedMovesModel", "mayConvert", "(II)Z"⟩) := ⟨List.mem_append_left _ (List.mem_of_getElem? (i := 55) rfl), rfl⟩
theorem ks_56 : Kw (.selects "GuardedMovesModel" ⟨"GuardedMovesModel", "lowerAll", "(II)V"⟩ ⟨"GuardedMovesModel", "lowerAll", "(II)V"⟩) := ⟨List.mem_append_left _ (List.mem_of_getElem? (i := 56) rfl), rfl⟩
theorem ks_57 : Kw (.selects "GuardedMovesModel" ⟨"GuardedMovesModel", "endSecond", "(I)V"⟩ ⟨"GuardedMovesModel", "endSecond", "(I)V"⟩) := ⟨List.mem_append_left _ (List.mem_of_getElem? (i := 57) rfl), rfl⟩
theorem ks_58 : Kw (.selects "GuardedMovesModel" ⟨"GuardedMovesModel", "fresh1", "()I"⟩ ⟨"GuardedMovesModel", "fresh1", "()I"⟩) := ⟨List.mem_append_left _ (List.mem_of_getElem? (i := 58) rfl), rfl⟩
theorem ks_59 : Kw (.selects "GuardedMovesModel" ⟨"GuardedMovesModel", "emit", "(IIIII)I"⟩ ⟨"GuardedMovesModel", "emit", "(IIIII)I"⟩) := ⟨List.mem_append_left _ (List.mem_of_getElem? (i := 59) rfl), rfl⟩
theorem ks_60 : Kw (.selects "GuardedMovesModel" ⟨"GuardedMovesModel", "isOnSide", "()Z"⟩ ⟨"GuardedMovesModel", "isOnSide", "()Z"⟩) := ⟨List.mem_append_left _ (List.mem_of_getElem? (i := 60) rfl), rfl⟩
theorem ks_61 : Kw (.selects "GuardedMovesModel" ⟨"GuardedMovesModel", "endFirst", "(I)V"⟩ ⟨"GuardedMovesModel", "endFirst", "(I)V"⟩) := ⟨List.mem_append_left _ (List.mem_of_getElem? (i := 61) rfl), rfl⟩
theorem ks_62 : Kw (.selects "GuardedMovesModel" ⟨"GuardedMovesModel", "setNew", "(I)I"⟩ ⟨"GuardedMovesModel", "setNew", "(I)I"⟩) := ⟨List.mem_append_left _ (List.mem_of_getElem? (i := 62) rfl), rfl⟩
theorem ks_63 : Kw (.selects "GuardedMovesModel" ⟨"GuardedMovesModel", "guarded", "(II)I"⟩ ⟨"GuardedMovesModel", "guarded", "(II)I"⟩) := ⟨List.mem_append_left _ (List.mem_of_getElem? (i := 63) rfl), rfl⟩
theorem ks_64 : Kw (.selects "GuardedMovesModel" ⟨"GuardedMovesModel", "lowerOne", "(I)V"⟩ ⟨"GuardedMovesModel", "lowerOne", "(I)V"⟩) := ⟨List.mem_append_left _ (List.mem_of_getElem? (i := 64) rfl), rfl⟩
theorem ks_65 : Kw (.selects "GuardedMovesModel" ⟨"GuardedMovesModel", "lowerSet", "(I)V"⟩ ⟨"GuardedMovesModel", "lowerSet", "(I)V"⟩) := ⟨List.mem_append_left _ (List.mem_of_getElem? (i := 65) rfl), rfl⟩
theorem ks_66 : Kw (.selects "GuardedMovesModel" ⟨"GuardedMovesModel", "target", "(I)I"⟩ ⟨"GuardedMovesModel", "target", "(I)I"⟩) := ⟨List.mem_append_left _ (List.mem_of_getElem? (i := 66) rfl), rfl⟩
theorem ks_67 : Kw (.selects "GuardedMovesModel" ⟨"GuardedMovesModel", "value", "(II)I"⟩ ⟨"GuardedMovesModel", "value", "(II)I"⟩) := ⟨List.mem_append_left _ (List.mem_of_getElem? (i := 67) rfl), rfl⟩
theorem ks_68 : Kw (.selects "GuardedMovesModel" ⟨"GuardedMovesModel", "harmless", "(II)I"⟩ ⟨"GuardedMovesModel", "harmless", "(II)I"⟩) := ⟨List.mem_append_left _ (List.mem_of_getElem? (i := 68) rfl), rfl⟩
theorem ks_69 : Kw (.selects "GuardedMovesModel" ⟨"GuardedMovesModel", "isPlainIndex", "(I)Z"⟩ ⟨"GuardedMovesModel", "isPlainIndex", "(I)Z"⟩) := ⟨List.mem_append_left _ (List.mem_of_getElem? (i := 69) rfl), rfl⟩
theorem ks_70 : Kw (.selects "GuardedMovesModel" ⟨"GuardedMovesModel", "lowerStore", "(III)V"⟩ ⟨"GuardedMovesModel", "lowerStore", "(III)V"⟩) := ⟨List.mem_append_left _ (List.mem_of_getElem? (i := 70) rfl), rfl⟩
theorem ks_71 : Kw (.selects "GuardedMovesModel" ⟨"GuardedMovesModel", "beginTest", "(I)V"⟩ ⟨"GuardedMovesModel", "beginTest", "(I)V"⟩) := ⟨List.mem_append_left _ (List.mem_of_getElem? (i := 71) rfl), rfl⟩
theorem ks_72 : Kw (.selects "GuardedMovesModel" ⟨"GuardedMovesModel", "isUseless", "(I)Z"⟩ ⟨"GuardedMovesModel", "isUseless", "(I)Z"⟩) := ⟨List.mem_append_left _ (List.mem_of_getElem? (i := 72) rfl), rfl⟩
theorem ks_73 : Kw (.selects "GuardedMovesModel" ⟨"GuardedMovesModel", "names", "(II)Z"⟩ ⟨"GuardedMovesModel", "names", "(II)Z"⟩) := ⟨List.mem_append_left _ (List.mem_of_getElem? (i := 73) rfl), rfl⟩
theorem ks_74 : Kw (.selects "GuardedMovesModel" ⟨"GuardedMovesModel", "goneBefore", "(I)I"⟩ ⟨"GuardedMovesModel", "goneBefore", "(I)I"⟩) := ⟨List.mem_append_left _ (List.mem_of_getElem? (i := 74) rfl), rfl⟩
theorem ks_75 : Kw (.selects "GuardedMovesModel" ⟨"GuardedMovesModel", "begin", "()V"⟩ ⟨"GuardedMovesModel", "begin", "()V"⟩) := ⟨List.mem_append_left _ (List.mem_of_getElem? (i := 75) rfl), rfl⟩
theorem ks_76 : Kw (.selects "GuardedMovesModel" ⟨"GuardedMovesModel", "doStatement", "(I)I"⟩ ⟨"GuardedMovesModel", "doStatement", "(I)I"⟩) := ⟨List.mem_append_left _ (List.mem_of_getElem? (i := 76) rfl), rfl⟩
theorem ks_77 : Kw (.selects "GuardedMovesModel" ⟨"GuardedMovesModel", "toldValue", "(II)I"⟩ ⟨"GuardedMovesModel", "toldValue", "(II)I"⟩) := ⟨List.mem_append_left _ (List.mem_of_getElem? (i := 77) rfl), rfl⟩
theorem ks_78 : Kw (.selects "GuardedMovesModel" ⟨"GuardedMovesModel", "reach", "(IIII)I"⟩ ⟨"GuardedMovesModel", "reach", "(IIII)I"⟩) := ⟨List.mem_append_left _ (List.mem_of_getElem? (i := 78) rfl), rfl⟩
theorem ks_79 : Kw (.selects "GuardedMovesModel" ⟨"GuardedMovesModel", "stop", "(II)V"⟩ ⟨"GuardedMovesModel", "stop", "(II)V"⟩) := ⟨List.mem_append_left _ (List.mem_of_getElem? (i := 79) rfl), rfl⟩
theorem ks_80 : Kw (.selects "GuardedMovesModel" ⟨"GuardedMovesModel", "isWord", "(II)Z"⟩ ⟨"GuardedMovesModel", "isWord", "(II)Z"⟩) := ⟨List.mem_append_left _ (List.mem_of_getElem? (i := 80) rfl), rfl⟩
theorem ks_81 : Kw (.selects "GuardedMovesModel" ⟨"GuardedMovesModel", "behind", "(I)I"⟩ ⟨"GuardedMovesModel", "behind", "(I)I"⟩) := ⟨List.mem_append_left _ (List.mem_of_getElem? (i := 81) rfl), rfl⟩
theorem ks_82 : Kw (.selects "GuardedMovesModel" ⟨"GuardedMovesModel", "leave", "()V"⟩ ⟨"GuardedMovesModel", "leave", "()V"⟩) := ⟨List.mem_append_left _ (List.mem_of_getElem? (i := 82) rfl), rfl⟩
theorem ks_83 : Kw (.selects "GuardedMovesModel" ⟨"GuardedMovesModel", "doStep", "(I)I"⟩ ⟨"GuardedMovesModel", "doStep", "(I)I"⟩) := ⟨List.mem_append_left _ (List.mem_of_getElem? (i := 83) rfl), rfl⟩
theorem ks_84 : Kw (.selects "GuardedMovesModel" ⟨"GuardedMovesModel", "countJumps", "()I"⟩ ⟨"GuardedMovesModel", "countJumps", "()I"⟩) := ⟨List.mem_append_left _ (List.mem_of_getElem? (i := 84) rfl), rfl⟩
theorem ks_85 : Kw (.selects "GuardedMovesModel" ⟨"GuardedMovesModel", "countConverted", "()I"⟩ ⟨"GuardedMovesModel", "countConverted", "()I"⟩) := ⟨List.mem_append_left _ (List.mem_of_getElem? (i := 85) rfl), rfl⟩
theorem gf_0_0 (Δ : Ly) (f : Nat → Int32) : FV Δ 0 0 0 (.ref (Δ.1 1)) f := ⟨_, rfl, rfl⟩
theorem gf_0_1 (Δ : Ly) (f : Nat → Int32) : FV Δ 0 0 1 (.ref (Δ.1 2)) f := ⟨_, rfl, rfl⟩
theorem gf_0_2 (Δ : Ly) (f : Nat → Int32) : FV Δ 0 0 2 (.ref (Δ.1 3)) f := ⟨_, rfl, rfl⟩
theorem gf_0_3 (Δ : Ly) (f : Nat → Int32) : FV Δ 0 0 3 (.ref (Δ.1 5)) f := ⟨_, rfl, rfl⟩
theorem gf_0_4 (Δ : Ly) (f : Nat → Int32) : FV Δ 0 0 4 (.int (f 4)) f := ⟨_, rfl, rfl⟩
theorem gf_0_5 (Δ : Ly) (f : Nat → Int32) : FV Δ 0 0 5 (.int (f 5)) f := ⟨_, rfl, rfl⟩
theorem gf_0_6 (Δ : Ly) (f : Nat → Int32) : FV Δ 0 0 6 (.int (f 6)) f := ⟨_, rfl, rfl⟩
theorem gf_0_7 (Δ : Ly) (f : Nat → Int32) : FV Δ 0 0 7 (.int (f 7)) f := ⟨_, rfl, rfl⟩
theorem gf_0_8 (Δ : Ly) (f : Nat → Int32) : FV Δ 0 0 8 (.int (f 8)) f := ⟨_, rfl, rfl⟩
theorem gf_0_9 (Δ : Ly) (f : Nat → Int32) : FV Δ 0 0 9 (.ref (Δ.1 6)) f := ⟨_, rfl, rfl⟩
theorem gf_0_10 (Δ : Ly) (f : Nat → Int32) : FV Δ 0 0 10 (.ref (Δ.1 34)) f := ⟨_, rfl, rfl⟩
theorem gf_0_11 (Δ : Ly) (f : Nat → Int32) : FV Δ 0 0 11 (.ref (Δ.1 7)) f := ⟨_, rfl, rfl⟩
theorem gf_0_12 (Δ : Ly) (f : Nat → Int32) : FV Δ 0 0 12 (.int (f 12)) f := ⟨_, rfl, rfl⟩
theorem gf_0_13 (Δ : Ly) (f : Nat → Int32) : FV Δ 0 0 13 (.int (f 13)) f := ⟨_, rfl, rfl⟩
theorem gf_0_14 (Δ : Ly) (f : Nat → Int32) : FV Δ 0 0 14 (.int (f 14)) f := ⟨_, rfl, rfl⟩
theorem gf_0_15 (Δ : Ly) (f : Nat → Int32) : FV Δ 0 0 15 (.ref (Δ.1 8)) f := ⟨_, rfl, rfl⟩
theorem gf_0_16 (Δ : Ly) (f : Nat → Int32) : FV Δ 0 0 16 (.ref (Δ.1 35)) f := ⟨_, rfl, rfl⟩
theorem gf_0_17 (Δ : Ly) (f : Nat → Int32) : FV Δ 0 0 17 (.ref (Δ.1 4)) f := ⟨_, rfl, rfl⟩
theorem gf_0_18 (Δ : Ly) (f : Nat → Int32) : FV Δ 0 0 18 (.ref (Δ.1 9)) f := ⟨_, rfl, rfl⟩
theorem gf_0_19 (Δ : Ly) (f : Nat → Int32) : FV Δ 0 0 19 (.ref (Δ.1 10)) f := ⟨_, rfl, rfl⟩
theorem gf_0_20 (Δ : Ly) (f : Nat → Int32) : FV Δ 0 0 20 (.ref (Δ.1 11)) f := ⟨_, rfl, rfl⟩
theorem gf_0_21 (Δ : Ly) (f : Nat → Int32) : FV Δ 0 0 21 (.ref (Δ.1 12)) f := ⟨_, rfl, rfl⟩
theorem gf_0_22 (Δ : Ly) (f : Nat → Int32) : FV Δ 0 0 22 (.ref (Δ.1 13)) f := ⟨_, rfl, rfl⟩
theorem gf_0_23 (Δ : Ly) (f : Nat → Int32) : FV Δ 0 0 23 (.int (f 23)) f := ⟨_, rfl, rfl⟩
theorem gf_0_24 (Δ : Ly) (f : Nat → Int32) : FV Δ 0 0 24 (.int (f 24)) f := ⟨_, rfl, rfl⟩
theorem gf_0_25 (Δ : Ly) (f : Nat → Int32) : FV Δ 0 0 25 (.int (f 25)) f := ⟨_, rfl, rfl⟩
theorem gf_1_0 (Δ : Ly) (f : Nat → Int32) : FV Δ 1 1 0 (.int (f 0)) f := ⟨_, rfl, rfl⟩
theorem gf_1_1 (Δ : Ly) (f : Nat → Int32) : FV Δ 1 1 1 (.ref (Δ.1 36)) f := ⟨_, rfl, rfl⟩
theorem gf_1_2 (Δ : Ly) (f : Nat → Int32) : FV Δ 1 1 2 (.ref (Δ.1 37)) f := ⟨_, rfl, rfl⟩
theorem gf_1_3 (Δ : Ly) (f : Nat → Int32) : FV Δ 1 1 3 (.ref (Δ.1 38)) f := ⟨_, rfl, rfl⟩
theorem gf_1_4 (Δ : Ly) (f : Nat → Int32) : FV Δ 1 1 4 (.ref (Δ.1 39)) f := ⟨_, rfl, rfl⟩
theorem gf_1_5 (Δ : Ly) (f : Nat → Int32) : FV Δ 1 1 5 (.ref (Δ.1 40)) f := ⟨_, rfl, rfl⟩
theorem gf_1_6 (Δ : Ly) (f : Nat → Int32) : FV Δ 1 1 6 (.ref (Δ.1 41)) f := ⟨_, rfl, rfl⟩
theorem gf_1_7 (Δ : Ly) (f : Nat → Int32) : FV Δ 1 1 7 (.ref (Δ.1 42)) f := ⟨_, rfl, rfl⟩
theorem gf_1_8 (Δ : Ly) (f : Nat → Int32) : FV Δ 1 1 8 (.ref (Δ.1 43)) f := ⟨_, rfl, rfl⟩
theorem gf_1_9 (Δ : Ly) (f : Nat → Int32) : FV Δ 1 1 9 (.ref (Δ.1 44)) f := ⟨_, rfl, rfl⟩
theorem gf_1_10 (Δ : Ly) (f : Nat → Int32) : FV Δ 1 1 10 (.ref (Δ.1 45)) f := ⟨_, rfl, rfl⟩
theorem gf_1_11 (Δ : Ly) (f : Nat → Int32) : FV Δ 1 1 11 (.ref (Δ.1 46)) f := ⟨_, rfl, rfl⟩
theorem gf_2_0 (Δ : Ly) (f : Nat → Int32) : FV Δ 2 1 0 (.int (f 0)) f := ⟨_, rfl, rfl⟩
theorem gf_2_1 (Δ : Ly) (f : Nat → Int32) : FV Δ 2 1 1 (.ref (Δ.1 47)) f := ⟨_, rfl, rfl⟩
theorem gf_2_2 (Δ : Ly) (f : Nat → Int32) : FV Δ 2 1 2 (.ref (Δ.1 48)) f := ⟨_, rfl, rfl⟩
theorem gf_2_3 (Δ : Ly) (f : Nat → Int32) : FV Δ 2 1 3 (.ref (Δ.1 49)) f := ⟨_, rfl, rfl⟩
theorem gf_2_4 (Δ : Ly) (f : Nat → Int32) : FV Δ 2 1 4 (.ref (Δ.1 50)) f := ⟨_, rfl, rfl⟩
theorem gf_2_5 (Δ : Ly) (f : Nat → Int32) : FV Δ 2 1 5 (.ref (Δ.1 51)) f := ⟨_, rfl, rfl⟩
theorem gf_2_6 (Δ : Ly) (f : Nat → Int32) : FV Δ 2 1 6 (.ref (Δ.1 52)) f := ⟨_, rfl, rfl⟩
theorem gf_2_7 (Δ : Ly) (f : Nat → Int32) : FV Δ 2 1 7 (.ref (Δ.1 53)) f := ⟨_, rfl, rfl⟩
theorem gf_2_8 (Δ : Ly) (f : Nat → Int32) : FV Δ 2 1 8 (.ref (Δ.1 54)) f := ⟨_, rfl, rfl⟩
theorem gf_2_9 (Δ : Ly) (f : Nat → Int32) : FV Δ 2 1 9 (.ref (Δ.1 55)) f := ⟨_, rfl, rfl⟩
theorem gf_2_10 (Δ : Ly) (f : Nat → Int32) : FV Δ 2 1 10 (.ref (Δ.1 56)) f := ⟨_, rfl, rfl⟩
theorem gf_2_11 (Δ : Ly) (f : Nat → Int32) : FV Δ 2 1 11 (.ref (Δ.1 57)) f := ⟨_, rfl, rfl⟩
theorem gf_3_5 (Δ : Ly) (f : Nat → Int32) : FV Δ 3 2 5 (.int (f 5)) f := ⟨_, rfl, rfl⟩
theorem gf_3_6 (Δ : Ly) (f : Nat → Int32) : FV Δ 3 2 6 (.int (f 6)) f := ⟨_, rfl, rfl⟩
theorem gf_4_5 (Δ : Ly) (f : Nat → Int32) : FV Δ 4 3 5 (.int (f 5)) f := ⟨_, rfl, rfl⟩
theorem gf_4_6 (Δ : Ly) (f : Nat → Int32) : FV Δ 4 3 6 (.int (f 6)) f := ⟨_, rfl, rfl⟩
theorem gf_58_0 (Δ : Ly) (f : Nat → Int32) : FV Δ 58 4 0 (.int (f 0)) f := ⟨_, rfl, rfl⟩
theorem gf_58_1 (Δ : Ly) (f : Nat → Int32) : FV Δ 58 4 1 (.ref (Δ.1 59)) f := ⟨_, rfl, rfl⟩
theorem gf_58_2 (Δ : Ly) (f : Nat → Int32) : FV Δ 58 4 2 (.ref (Δ.1 60)) f := ⟨_, rfl, rfl⟩
theorem gf_58_3 (Δ : Ly) (f : Nat → Int32) : FV Δ 58 4 3 (.ref (Δ.1 61)) f := ⟨_, rfl, rfl⟩
theorem gf_58_4 (Δ : Ly) (f : Nat → Int32) : FV Δ 58 4 4 (.int (f 4)) f := ⟨_, rfl, rfl⟩
theorem gf_58_5 (Δ : Ly) (f : Nat → Int32) : FV Δ 58 4 5 (.int (f 5)) f := ⟨_, rfl, rfl⟩
theorem gf_58_6 (Δ : Ly) (f : Nat → Int32) : FV Δ 58 4 6 (.int (f 6)) f := ⟨_, rfl, rfl⟩
theorem gf_58_7 (Δ : Ly) (f : Nat → Int32) : FV Δ 58 4 7 (.int (f 7)) f := ⟨_, rfl, rfl⟩
theorem gf_58_8 (Δ : Ly) (f : Nat → Int32) : FV Δ 58 4 8 (.int (f 8)) f := ⟨_, rfl, rfl⟩
theorem gf_58_9 (Δ : Ly) (f : Nat → Int32) : FV Δ 58 4 9 (.int (f 9)) f := ⟨_, rfl, rfl⟩
theorem gf_58_10 (Δ : Ly) (f : Nat → Int32) : FV Δ 58 4 10 (.ref (Δ.1 62)) f := ⟨_, rfl, rfl⟩
theorem gf_58_11 (Δ : Ly) (f : Nat → Int32) : FV Δ 58 4 11 (.ref (Δ.1 63)) f := ⟨_, rfl, rfl⟩
theorem gf_58_12 (Δ : Ly) (f : Nat → Int32) : FV Δ 58 4 12 (.ref (Δ.1 64)) f := ⟨_, rfl, rfl⟩
theorem gf_58_13 (Δ : Ly) (f : Nat → Int32) : FV Δ 58 4 13 (.ref (Δ.1 65)) f := ⟨_, rfl, rfl⟩
theorem gf_58_14 (Δ : Ly) (f : Nat → Int32) : FV Δ 58 4 14 (.ref (Δ.1 66)) f := ⟨_, rfl, rfl⟩
theorem gf_58_15 (Δ : Ly) (f : Nat → Int32) : FV Δ 58 4 15 (.ref (Δ.1 67)) f := ⟨_, rfl, rfl⟩
theorem gf_58_16 (Δ : Ly) (f : Nat → Int32) : FV Δ 58 4 16 (.ref (Δ.1 68)) f := ⟨_, rfl, rfl⟩
theorem gf_58_17 (Δ : Ly) (f : Nat → Int32) : FV Δ 58 4 17 (.ref (Δ.1 69)) f := ⟨_, rfl, rfl⟩
theorem gf_58_18 (Δ : Ly) (f : Nat → Int32) : FV Δ 58 4 18 (.int (f 18)) f := ⟨_, rfl, rfl⟩
theorem gf_58_19 (Δ : Ly) (f : Nat → Int32) : FV Δ 58 4 19 (.ref (Δ.1 70)) f := ⟨_, rfl, rfl⟩
theorem gf_58_20 (Δ : Ly) (f : Nat → Int32) : FV Δ 58 4 20 (.int (f 20)) f := ⟨_, rfl, rfl⟩
theorem gf_58_21 (Δ : Ly) (f : Nat → Int32) : FV Δ 58 4 21 (.int (f 21)) f := ⟨_, rfl, rfl⟩
theorem gf_58_22 (Δ : Ly) (f : Nat → Int32) : FV Δ 58 4 22 (.int (f 22)) f := ⟨_, rfl, rfl⟩
theorem gf_58_23 (Δ : Ly) (f : Nat → Int32) : FV Δ 58 4 23 (.ref (Δ.1 71)) f := ⟨_, rfl, rfl⟩
theorem gf_58_24 (Δ : Ly) (f : Nat → Int32) : FV Δ 58 4 24 (.int (f 24)) f := ⟨_, rfl, rfl⟩
theorem gf_58_25 (Δ : Ly) (f : Nat → Int32) : FV Δ 58 4 25 (.ref (Δ.1 72)) f := ⟨_, rfl, rfl⟩
theorem gf_58_26 (Δ : Ly) (f : Nat → Int32) : FV Δ 58 4 26 (.int (f 26)) f := ⟨_, rfl, rfl⟩
theorem gf_58_27 (Δ : Ly) (f : Nat → Int32) : FV Δ 58 4 27 (.ref (Δ.1 73)) f := ⟨_, rfl, rfl⟩
theorem gf_58_28 (Δ : Ly) (f : Nat → Int32) : FV Δ 58 4 28 (.ref (Δ.1 74)) f := ⟨_, rfl, rfl⟩
theorem gf_58_29 (Δ : Ly) (f : Nat → Int32) : FV Δ 58 4 29 (.ref (Δ.1 75)) f := ⟨_, rfl, rfl⟩
theorem gf_58_30 (Δ : Ly) (f : Nat → Int32) : FV Δ 58 4 30 (.ref (Δ.1 76)) f := ⟨_, rfl, rfl⟩
theorem gf_58_31 (Δ : Ly) (f : Nat → Int32) : FV Δ 58 4 31 (.ref (Δ.1 77)) f := ⟨_, rfl, rfl⟩
theorem gf_58_32 (Δ : Ly) (f : Nat → Int32) : FV Δ 58 4 32 (.ref (Δ.1 78)) f := ⟨_, rfl, rfl⟩
theorem gf_58_33 (Δ : Ly) (f : Nat → Int32) : FV Δ 58 4 33 (.ref (Δ.1 79)) f := ⟨_, rfl, rfl⟩
theorem gf_58_34 (Δ : Ly) (f : Nat → Int32) : FV Δ 58 4 34 (.ref (Δ.1 80)) f := ⟨_, rfl, rfl⟩
theorem gf_58_35 (Δ : Ly) (f : Nat → Int32) : FV Δ 58 4 35 (.ref (Δ.1 81)) f := ⟨_, rfl, rfl⟩
theorem gf_58_36 (Δ : Ly) (f : Nat → Int32) : FV Δ 58 4 36 (.ref (Δ.1 82)) f := ⟨_, rfl, rfl⟩
theorem gf_58_37 (Δ : Ly) (f : Nat → Int32) : FV Δ 58 4 37 (.ref (Δ.1 83)) f := ⟨_, rfl, rfl⟩
theorem gf_58_38 (Δ : Ly) (f : Nat → Int32) : FV Δ 58 4 38 (.ref (Δ.1 84)) f := ⟨_, rfl, rfl⟩
theorem gf_58_39 (Δ : Ly) (f : Nat → Int32) : FV Δ 58 4 39 (.int (f 39)) f := ⟨_, rfl, rfl⟩
theorem gf_58_40 (Δ : Ly) (f : Nat → Int32) : FV Δ 58 4 40 (.int (f 40)) f := ⟨_, rfl, rfl⟩
theorem gf_58_41 (Δ : Ly) (f : Nat → Int32) : FV Δ 58 4 41 (.int (f 41)) f := ⟨_, rfl, rfl⟩
theorem gf_58_42 (Δ : Ly) (f : Nat → Int32) : FV Δ 58 4 42 (.int (f 42)) f := ⟨_, rfl, rfl⟩
theorem gf_58_43 (Δ : Ly) (f : Nat → Int32) : FV Δ 58 4 43 (.ref (Δ.1 85)) f := ⟨_, rfl, rfl⟩
theorem gf_58_44 (Δ : Ly) (f : Nat → Int32) : FV Δ 58 4 44 (.ref (Δ.1 86)) f := ⟨_, rfl, rfl⟩
theorem pf_0_4 (Δ : Ly) : PV Δ 0 0 4 := fun _ _ => ⟨_, rfl, le_b rfl, rfl⟩
theorem pf_0_5 (Δ : Ly) : PV Δ 0 0 5 := fun _ _ => ⟨_, rfl, le_b rfl, rfl⟩
theorem pf_0_6 (Δ : Ly) : PV Δ 0 0 6 := fun _ _ => ⟨_, rfl, le_b rfl, rfl⟩
theorem pf_0_7 (Δ : Ly) : PV Δ 0 0 7 := fun _ _ => ⟨_, rfl, le_b rfl, rfl⟩
theorem pf_0_8 (Δ : Ly) : PV Δ 0 0 8 := fun _ _ => ⟨_, rfl, le_b rfl, rfl⟩
theorem pf_0_12 (Δ : Ly) : PV Δ 0 0 12 := fun _ _ => ⟨_, rfl, le_b rfl, rfl⟩
theorem pf_0_13 (Δ : Ly) : PV Δ 0 0 13 := fun _ _ => ⟨_, rfl, le_b rfl, rfl⟩
theorem pf_0_14 (Δ : Ly) : PV Δ 0 0 14 := fun _ _ => ⟨_, rfl, le_b rfl, rfl⟩
theorem pf_0_23 (Δ : Ly) : PV Δ 0 0 23 := fun _ _ => ⟨_, rfl, le_b rfl, rfl⟩
theorem pf_0_24 (Δ : Ly) : PV Δ 0 0 24 := fun _ _ => ⟨_, rfl, le_b rfl, rfl⟩
theorem pf_0_25 (Δ : Ly) : PV Δ 0 0 25 := fun _ _ => ⟨_, rfl, le_b rfl, rfl⟩
theorem pf_1_0 (Δ : Ly) : PV Δ 1 1 0 := fun _ _ => ⟨_, rfl, le_b rfl, rfl⟩
theorem pf_2_0 (Δ : Ly) : PV Δ 2 1 0 := fun _ _ => ⟨_, rfl, le_b rfl, rfl⟩
theorem pf_3_5 (Δ : Ly) : PV Δ 3 2 5 := fun _ _ => ⟨_, rfl, le_b rfl, rfl⟩
theorem pf_3_6 (Δ : Ly) : PV Δ 3 2 6 := fun _ _ => ⟨_, rfl, le_b rfl, rfl⟩
theorem pf_4_5 (Δ : Ly) : PV Δ 4 3 5 := fun _ _ => ⟨_, rfl, le_b rfl, rfl⟩
theorem pf_4_6 (Δ : Ly) : PV Δ 4 3 6 := fun _ _ => ⟨_, rfl, le_b rfl, rfl⟩
theorem pf_58_0 (Δ : Ly) : PV Δ 58 4 0 := fun _ _ => ⟨_, rfl, le_b rfl, rfl⟩
theorem pf_58_4 (Δ : Ly) : PV Δ 58 4 4 := fun _ _ => ⟨_, rfl, le_b rfl, rfl⟩
theorem pf_58_5 (Δ : Ly) : PV Δ 58 4 5 := fun _ _ => ⟨_, rfl, le_b rfl, rfl⟩
theorem pf_58_6 (Δ : Ly) : PV Δ 58 4 6 := fun _ _ => ⟨_, rfl, le_b rfl, rfl⟩
theorem pf_58_7 (Δ : Ly) : PV Δ 58 4 7 := fun _ _ => ⟨_, rfl, le_b rfl, rfl⟩
theorem pf_58_8 (Δ : Ly) : PV Δ 58 4 8 := fun _ _ => ⟨_, rfl, le_b rfl, rfl⟩
theorem pf_58_9 (Δ : Ly) : PV Δ 58 4 9 := fun _ _ => ⟨_, rfl, le_b rfl, rfl⟩
theorem pf_58_18 (Δ : Ly) : PV Δ 58 4 18 := fun _ _ => ⟨_, rfl, le_b rfl, rfl⟩
theorem pf_58_20 (Δ : Ly) : PV Δ 58 4 20 := fun _ _ => ⟨_, rfl, le_b rfl, rfl⟩
theorem pf_58_21 (Δ : Ly) : PV Δ 58 4 21 := fun _ _ => ⟨_, rfl, le_b rfl, rfl⟩
theorem pf_58_22 (Δ : Ly) : PV Δ 58 4 22 := fun _ _ => ⟨_, rfl, le_b rfl, rfl⟩
theorem pf_58_24 (Δ : Ly) : PV Δ 58 4 24 := fun _ _ => ⟨_, rfl, le_b rfl, rfl⟩
theorem pf_58_26 (Δ : Ly) : PV Δ 58 4 26 := fun _ _ => ⟨_, rfl, le_b rfl, rfl⟩
theorem pf_58_39 (Δ : Ly) : PV Δ 58 4 39 := fun _ _ => ⟨_, rfl, le_b rfl, rfl⟩
theorem pf_58_40 (Δ : Ly) : PV Δ 58 4 40 := fun _ _ => ⟨_, rfl, le_b rfl, rfl⟩
theorem pf_58_41 (Δ : Ly) : PV Δ 58 4 41 := fun _ _ => ⟨_, rfl, le_b rfl, rfl⟩
theorem pf_58_42 (Δ : Ly) : PV Δ 58 4 42 := fun _ _ => ⟨_, rfl, le_b rfl, rfl⟩
theorem ic_m1 : Int32.ofInt (-1) = (-1) := by decide
theorem ic_0 : Int32.ofInt 0 = 0 := by decide
theorem ic_1 : Int32.ofInt 1 = 1 := by decide
theorem ic_2 : Int32.ofInt 2 = 2 := by decide
theorem ic_3 : Int32.ofInt 3 = 3 := by decide
theorem ic_4 : Int32.ofInt 4 = 4 := by decide
theorem ic_5 : Int32.ofInt 5 = 5 := by decide
theorem bp_6 : (Int8.ofInt 6).toInt32 = 6 := by decide
theorem bp_7 : (Int8.ofInt 7).toInt32 = 7 := by decide
theorem bp_8 : (Int8.ofInt 8).toInt32 = 8 := by decide
theorem bp_9 : (Int8.ofInt 9).toInt32 = 9 := by decide
theorem bp_10 : (Int8.ofInt 10).toInt32 = 10 := by decide
theorem bp_11 : (Int8.ofInt 11).toInt32 = 11 := by decide
theorem bp_12 : (Int8.ofInt 12).toInt32 = 12 := by decide
theorem bp_13 : (Int8.ofInt 13).toInt32 = 13 := by decide
theorem bp_14 : (Int8.ofInt 14).toInt32 = 14 := by decide
theorem bp_15 : (Int8.ofInt 15).toInt32 = 15 := by decide
theorem bp_16 : (Int8.ofInt 16).toInt32 = 16 := by decide
theorem bp_17 : (Int8.ofInt 17).toInt32 = 17 := by decide
theorem bp_18 : (Int8.ofInt 18).toInt32 = 18 := by decide
theorem bp_32 : (Int8.ofInt 32).toInt32 = 32 := by decide
theorem bp_33 : (Int8.ofInt 33).toInt32 = 33 := by decide
theorem bp_35 : (Int8.ofInt 35).toInt32 = 35 := by decide
theorem bp_37 : (Int8.ofInt 37).toInt32 = 37 := by decide
theorem bp_38 : (Int8.ofInt 38).toInt32 = 38 := by decide
theorem bp_42 : (Int8.ofInt 42).toInt32 = 42 := by decide
theorem bp_43 : (Int8.ofInt 43).toInt32 = 43 := by decide
theorem bp_45 : (Int8.ofInt 45).toInt32 = 45 := by decide
theorem bp_47 : (Int8.ofInt 47).toInt32 = 47 := by decide
theorem bp_48 : (Int8.ofInt 48).toInt32 = 48 := by decide
theorem bp_57 : (Int8.ofInt 57).toInt32 = 57 := by decide
theorem bp_59 : (Int8.ofInt 59).toInt32 = 59 := by decide
theorem bp_60 : (Int8.ofInt 60).toInt32 = 60 := by decide
theorem bp_61 : (Int8.ofInt 61).toInt32 = 61 := by decide
theorem bp_63 : (Int8.ofInt 63).toInt32 = 63 := by decide
theorem bp_64 : (Int8.ofInt 64).toInt32 = 64 := by decide
theorem bp_94 : (Int8.ofInt 94).toInt32 = 94 := by decide
theorem bp_97 : (Int8.ofInt 97).toInt32 = 97 := by decide
theorem bp_112 : (Int8.ofInt 112).toInt32 = 112 := by decide
theorem bp_123 : (Int8.ofInt 123).toInt32 = 123 := by decide
theorem bp_124 : (Int8.ofInt 124).toInt32 = 124 := by decide
theorem bp_125 : (Int8.ofInt 125).toInt32 = 125 := by decide
theorem sp_255 : (Int16.ofInt 255).toInt32 = 255 := by decide
theorem sp_540 : (Int16.ofInt 540).toInt32 = 540 := by decide
theorem sp_600 : (Int16.ofInt 600).toInt32 = 600 := by decide

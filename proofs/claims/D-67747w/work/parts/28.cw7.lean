def w_x_convert_367 (RA : Int32 → Int32 → Int32 → Int32 → Sg → (Sg → Prop) → Prop) (K302 : Int32 → Int32 → Int32 → Nat → Int32 → Sg → Prop) (Q : Sg → Prop) (v1 : Int32) (v3 : Int32) (v4 : Int32) (v5 : Nat) (v7 : Int32) (σ : Sg) : Prop := ∀ x1 : Int32, x1 = v7 + 1 → (K302 v1 v3 v4 v5 x1 σ)
theorem b_x_convert_367 {Δ : Ly} {G : Gm} {d : Nat} {RA : Int32 → Int32 → Int32 → Int32 → Sg → (Sg → Prop) → Prop} {K302 : Int32 → Int32 → Int32 → Nat → Int32 → Sg → Prop} {Q : Sg → Prop} (cx : Cx Δ G (mi_x_convert (d + 1))) (hRA : ∀ (p1 : Int32) (p2 : Int32) (p3 : Int32) (p4 : Int32) (σ : Sg) (Q : Sg → Prop) , RA p1 p2 p3 p4 σ Q  → Ct (g_l G) Δ (mi_x_convert d) [.ref (Δ.1 0), .int p1, .int p2, .int p3, .int p4] σ (qV Q) noE) (hK302 : ∀ (v1 : Int32) (v3 : Int32) (v4 : Int32) (v5 : Nat) (v7 : Int32) (σ : Sg), K302 v1 v3 v4 v5 v7 σ → Y Δ G (mi_x_convert (d + 1)) (qV Q) noE 0 0 σ 302 [(0, .ref (Δ.1 0)), (1, .int v1), (3, .int v3), (4, .int v4), (5, .ref (Δ.1 v5)), (7, .int v7)] []) : ∀ (v1 : Int32) (v3 : Int32) (v4 : Int32) (v5 : Nat) (v7 : Int32) (σ : Sg), w_x_convert_367 RA K302 Q v1 v3 v4 v5 v7 σ → Y Δ G (mi_x_convert (d + 1)) (qV Q) noE 0 0 σ 367 [(0, .ref (Δ.1 0)), (1, .int v1), (3, .int v3), (4, .int v4), (5, .ref (Δ.1 v5)), (7, .int v7)] [] := by
  intro v1 v3 v4 v5 v7 σ h
  unfold w_x_convert_367 at h
  obtain ⟨x1, ex1⟩ : ∃ y : Int32, y = v7 + 1 := ⟨_, rfl⟩
  replace h := h x1 ex1
  refine y_iinc (v := x1) (lv' := [(7, .int x1), (0, .ref (Δ.1 0)), (1, .int v1), (3, .int v3), (4, .int v4), (5, .ref (Δ.1 v5))]) cx (pc := 367) d_x_convert_367 (j := 5) rfl (by rw [ex1]; rfl) (le_b rfl) rfl ?_
  refine y_goto cx (pc := 370) (tgt := 302) d_x_convert_370 (by decide) ?_
  refine y_sub [1, 2, 3, 4, 5, 0] rfl ?_
  exact hK302 v1 v3 v4 v5 x1 σ h
def w_x_convert_302 (RA : Int32 → Int32 → Int32 → Int32 → Sg → (Sg → Prop) → Prop) (Q : Sg → Prop) : Nat → Int32 → Int32 → Int32 → Nat → Int32 → Sg → Prop
  | 0, _, _, _, _, _, _ => False
  | n + 1, v1, v3, v4, v5, v7, σ => (16 ≤ v7 → (Q σ)) ∧ (¬ 16 ≤ v7 → ((v3 ≤ 0 → (vp_in v4 16 ∧ (inS (18 + v4.toNatClampNeg) ∧ (vp_in v7 16 ∧ (((σ (18 + v4.toNatClampNeg) (v7.toNatClampNeg)) = v7 → (w_x_convert_367 RA (w_x_convert_302 RA Q n) Q v1 v3 v4 v5 v7 σ)) ∧ (¬ (σ (18 + v4.toNatClampNeg) (v7.toNatClampNeg)) = v7 → (vp_in v4 16 ∧ (inS (18 + v4.toNatClampNeg) ∧ (vp_in v7 16 ∧ (w_x_put v1 1 v7 (σ (18 + v4.toNatClampNeg) (v7.toNatClampNeg)) 0 0 σ (fun x1 σ2 => w_x_convert_367 RA (w_x_convert_302 RA Q n) Q v1 v3 v4 v5 v7 σ2))))))))))) ∧ (¬ v3 ≤ 0 → (vp_in v4 16 ∧ (inS (18 + v4.toNatClampNeg) ∧ (vp_in v7 16 ∧ (inS v5 ∧ (vp_in v7 16 ∧ (w_x_convert_367 RA (w_x_convert_302 RA Q n) Q v1 v3 v4 v5 v7 (up σ v5 (v7.toNatClampNeg) (σ (18 + v4.toNatClampNeg) (v7.toNatClampNeg))))))))))))
theorem b_x_convert_302 {Δ : Ly} {G : Gm} {d : Nat} {RA : Int32 → Int32 → Int32 → Int32 → Sg → (Sg → Prop) → Prop} {Q : Sg → Prop} (cx : Cx Δ G (mi_x_convert (d + 1))) (hRA : ∀ (p1 : Int32) (p2 : Int32) (p3 : Int32) (p4 : Int32) (σ : Sg) (Q : Sg → Prop) , RA p1 p2 p3 p4 σ Q  → Ct (g_l G) Δ (mi_x_convert d) [.ref (Δ.1 0), .int p1, .int p2, .int p3, .int p4] σ (qV Q) noE) : ∀ (n : Nat) (v1 : Int32) (v3 : Int32) (v4 : Int32) (v5 : Nat) (v7 : Int32) (σ : Sg), w_x_convert_302 RA Q n v1 v3 v4 v5 v7 σ → Y Δ G (mi_x_convert (d + 1)) (qV Q) noE 0 0 σ 302 [(0, .ref (Δ.1 0)), (1, .int v1), (3, .int v3), (4, .int v4), (5, .ref (Δ.1 v5)), (7, .int v7)] [] := by
  intro n
  induction n with
  | zero => intro v1 v3 v4 v5 v7 σ h; exact h.elim
  | succ n ih =>
    intro v1 v3 v4 v5 v7 σ h
    unfold w_x_convert_302 at h
    refine y_iload cx (pc := 302) d_x_convert_302 5 rfl ?_
    refine y_bipush cx (pc := 304) bp_16 d_x_convert_304 ?_
    refine y_icmp_ge cx (pc := 306) (tgt := 373) d_x_convert_306 (by decide) (fun hc => ?_) (fun hc => ?_)
    · replace h := h.1 hc
      exact y_vret cx (pc := 373) rfl d_x_convert_373 (le_b rfl) (le_b rfl) h
    · replace h := h.2 hc
      refine y_iload_n cx (pc := 309) d_x_convert_309 rfl 2 rfl ?_
      refine y_if_le cx (pc := 310) (tgt := 331) d_x_convert_310 (by decide) (fun hc => ?_) (fun hc => ?_)
      · replace h := h.1 hc
        refine y_aload_n cx (pc := 331) d_x_convert_331 rfl 0 rfl ?_
        refine y_get cx (pc := 332) (j := 16) (v := .ref (Δ.1 35)) (le_b rfl) ck_GM kw_413 (le_b rfl) (gf_0_16 Δ _) d_x_convert_332 ?_
        refine y_iload cx (pc := 335) d_x_convert_335 3 rfl ?_
        obtain ⟨h0, h⟩ := h
        refine y_aald cx (pc := 337) (base := 18) ⟨(le_b rfl), fun _ => rfl⟩ h0 d_x_convert_337 ?_
        refine y_iload cx (pc := 338) d_x_convert_338 5 rfl ?_
        obtain ⟨h9, h⟩ := h
        obtain ⟨h0, h⟩ := h
        refine y_iald cx (pc := 340) (av_inS h9) h0 d_x_convert_340 ?_
        refine y_iload cx (pc := 341) d_x_convert_341 5 rfl ?_
        refine y_icmp_eq cx (pc := 343) (tgt := 367) d_x_convert_343 (by decide) (fun hc => ?_) (fun hc => ?_)
        · replace h := h.1 hc
          exact b_x_convert_367 cx hRA ih v1 v3 v4 v5 v7 σ h
        · replace h := h.2 hc
          refine y_aload_n cx (pc := 346) d_x_convert_346 rfl 0 rfl ?_
          refine y_iload_n cx (pc := 347) d_x_convert_347 rfl 1 rfl ?_
          refine y_iconst cx (pc := 348) ic_1 d_x_convert_348 ?_
          refine y_iload cx (pc := 349) d_x_convert_349 5 rfl ?_
          refine y_aload_n cx (pc := 351) d_x_convert_351 rfl 0 rfl ?_
          refine y_get cx (pc := 352) (j := 16) (v := .ref (Δ.1 35)) (le_b rfl) ck_GM kw_413 (le_b rfl) (gf_0_16 Δ _) d_x_convert_352 ?_
          refine y_iload cx (pc := 355) d_x_convert_355 3 rfl ?_
          obtain ⟨h0, h⟩ := h
          refine y_aald cx (pc := 357) (base := 18) ⟨(le_b rfl), fun _ => rfl⟩ h0 d_x_convert_357 ?_
          refine y_iload cx (pc := 358) d_x_convert_358 5 rfl ?_
          obtain ⟨h9, h⟩ := h
          obtain ⟨h0, h⟩ := h
          refine y_iald cx (pc := 360) (av_inS h9) h0 d_x_convert_360 ?_
          refine y_iconst cx (pc := 361) ic_0 d_x_convert_361 ?_
          refine y_iconst cx (pc := 362) ic_0 d_x_convert_362 ?_
          refine y_vI cx (pc := 363) (st := []) [.int v1, .int 1, .int v7, .int (σ (18 + v4.toNatClampNeg) (v7.toNatClampNeg)), .int 0, .int 0] (c_x_put cx.fl Δ v1 1 v7 (σ (18 + v4.toNatClampNeg) (v7.toNatClampNeg)) 0 0 _ _ h) mv_x_put kw_647 (oc_0 Δ) ck_GM rfl (le_b rfl) (by show 0 + 1 ≤ 5 + 3 * (d + 1); omega) (by show 12 + (7 + 11) + (0) ≤ 138 + 97 * (d + 1); omega) (le_b rfl) (le_b rfl) d_x_convert_363 (fun x1 σ2 h => ?_) (fun x σ2 h => yt_no h)
          refine y_pop cx (pc := 366) rfl d_x_convert_366 ?_
          exact b_x_convert_367 cx hRA ih v1 v3 v4 v5 v7 σ2 h
      · replace h := h.2 hc
        refine y_aload cx (pc := 313) d_x_convert_313 4 rfl ?_
        refine y_iload cx (pc := 315) d_x_convert_315 5 rfl ?_
        refine y_aload_n cx (pc := 317) d_x_convert_317 rfl 0 rfl ?_
        refine y_get cx (pc := 318) (j := 16) (v := .ref (Δ.1 35)) (le_b rfl) ck_GM kw_413 (le_b rfl) (gf_0_16 Δ _) d_x_convert_318 ?_
        refine y_iload cx (pc := 321) d_x_convert_321 3 rfl ?_
        obtain ⟨h0, h⟩ := h
        refine y_aald cx (pc := 323) (base := 18) ⟨(le_b rfl), fun _ => rfl⟩ h0 d_x_convert_323 ?_
        refine y_iload cx (pc := 324) d_x_convert_324 5 rfl ?_
        obtain ⟨h9, h⟩ := h
        obtain ⟨h0, h⟩ := h
        refine y_iald cx (pc := 326) (av_inS h9) h0 d_x_convert_326 ?_
        obtain ⟨h9, h⟩ := h
        obtain ⟨h0, h⟩ := h
        refine y_iast cx (pc := 327) (av_inS h9) h0 d_x_convert_327 ?_
        refine y_goto cx (pc := 328) (tgt := 367) d_x_convert_328 (by decide) ?_
        exact b_x_convert_367 cx hRA ih v1 v3 v4 v5 v7 (up σ v5 (v7.toNatClampNeg) (σ (18 + v4.toNatClampNeg) (v7.toNatClampNeg))) h
def w_x_convert_292 (RA : Int32 → Int32 → Int32 → Int32 → Sg → (Sg → Prop) → Prop) (K208 : Int32 → Int32 → Int32 → Nat → Int32 → Int32 → Sg → Prop) (Q : Sg → Prop) (v1 : Int32) (v3 : Int32) (v4 : Int32) (v5 : Nat) (v6 : Int32) (v7 : Int32) (s0 : Int32) (s1 : Int32) (s2 : Nat) (σ : Sg) : Prop := inS s2 ∧ (vp_in s1 16 ∧ (∀ x1 : Int32, x1 = v7 + 1 → (K208 v1 v3 v4 v5 v6 x1 (up σ s2 (s1.toNatClampNeg) s0))))
theorem b_x_convert_292 {Δ : Ly} {G : Gm} {d : Nat} {RA : Int32 → Int32 → Int32 → Int32 → Sg → (Sg → Prop) → Prop} {K208 : Int32 → Int32 → Int32 → Nat → Int32 → Int32 → Sg → Prop} {Q : Sg → Prop} (cx : Cx Δ G (mi_x_convert (d + 1))) (hRA : ∀ (p1 : Int32) (p2 : Int32) (p3 : Int32) (p4 : Int32) (σ : Sg) (Q : Sg → Prop) , RA p1 p2 p3 p4 σ Q  → Ct (g_l G) Δ (mi_x_convert d) [.ref (Δ.1 0), .int p1, .int p2, .int p3, .int p4] σ (qV Q) noE) (hK208 : ∀ (v1 : Int32) (v3 : Int32) (v4 : Int32) (v5 : Nat) (v6 : Int32) (v7 : Int32) (σ : Sg), K208 v1 v3 v4 v5 v6 v7 σ → Y Δ G (mi_x_convert (d + 1)) (qV Q) noE 0 0 σ 208 [(0, .ref (Δ.1 0)), (1, .int v1), (3, .int v3), (4, .int v4), (5, .ref (Δ.1 v5)), (6, .int v6), (7, .int v7)] []) : ∀ (v1 : Int32) (v3 : Int32) (v4 : Int32) (v5 : Nat) (v6 : Int32) (v7 : Int32) (s0 : Int32) (s1 : Int32) (s2 : Nat) (σ : Sg), w_x_convert_292 RA K208 Q v1 v3 v4 v5 v6 v7 s0 s1 s2 σ → Y Δ G (mi_x_convert (d + 1)) (qV Q) noE 0 0 σ 292 [(0, .ref (Δ.1 0)), (1, .int v1), (3, .int v3), (4, .int v4), (5, .ref (Δ.1 v5)), (6, .int v6), (7, .int v7)] [.int s0, .int s1, .ref (Δ.1 s2)] := by
  intro v1 v3 v4 v5 v6 v7 s0 s1 s2 σ h
  unfold w_x_convert_292 at h
  obtain ⟨h9, h⟩ := h
  obtain ⟨h0, h⟩ := h
  refine y_iast cx (pc := 292) (av_inS h9) h0 d_x_convert_292 ?_
  obtain ⟨x1, ex1⟩ : ∃ y : Int32, y = v7 + 1 := ⟨_, rfl⟩
  replace h := h x1 ex1
  refine y_iinc (v := x1) (lv' := [(7, .int x1), (0, .ref (Δ.1 0)), (1, .int v1), (3, .int v3), (4, .int v4), (5, .ref (Δ.1 v5)), (6, .int v6)]) cx (pc := 293) d_x_convert_293 (j := 6) rfl (by rw [ex1]; rfl) (le_b rfl) rfl ?_
  refine y_goto cx (pc := 296) (tgt := 208) d_x_convert_296 (by decide) ?_
  refine y_sub [1, 2, 3, 4, 5, 6, 0] rfl ?_
  exact hK208 v1 v3 v4 v5 v6 x1 (up σ s2 (s1.toNatClampNeg) s0) h
def w_x_convert_270 (RA : Int32 → Int32 → Int32 → Int32 → Sg → (Sg → Prop) → Prop) (K208 : Int32 → Int32 → Int32 → Nat → Int32 → Int32 → Sg → Prop) (Q : Sg → Prop) (v1 : Int32) (v3 : Int32) (v4 : Int32) (v5 : Nat) (v6 : Int32) (v7 : Int32) (v8 : Int32) (v9 : Int32) (s0 : Int32) (s1 : Nat) (σ : Sg) : Prop := w_x_fresh σ (fun x1 σ2 => w_x_put v1 13 x1 v6 v8 v9 σ2 (fun x3 σ4 => w_x_convert_292 RA K208 Q v1 v3 v4 v5 v6 v7 x3 s0 s1 σ4))
theorem b_x_convert_270 {Δ : Ly} {G : Gm} {d : Nat} {RA : Int32 → Int32 → Int32 → Int32 → Sg → (Sg → Prop) → Prop} {K208 : Int32 → Int32 → Int32 → Nat → Int32 → Int32 → Sg → Prop} {Q : Sg → Prop} (cx : Cx Δ G (mi_x_convert (d + 1))) (hRA : ∀ (p1 : Int32) (p2 : Int32) (p3 : Int32) (p4 : Int32) (σ : Sg) (Q : Sg → Prop) , RA p1 p2 p3 p4 σ Q  → Ct (g_l G) Δ (mi_x_convert d) [.ref (Δ.1 0), .int p1, .int p2, .int p3, .int p4] σ (qV Q) noE) (hK208 : ∀ (v1 : Int32) (v3 : Int32) (v4 : Int32) (v5 : Nat) (v6 : Int32) (v7 : Int32) (σ : Sg), K208 v1 v3 v4 v5 v6 v7 σ → Y Δ G (mi_x_convert (d + 1)) (qV Q) noE 0 0 σ 208 [(0, .ref (Δ.1 0)), (1, .int v1), (3, .int v3), (4, .int v4), (5, .ref (Δ.1 v5)), (6, .int v6), (7, .int v7)] []) : ∀ (v1 : Int32) (v3 : Int32) (v4 : Int32) (v5 : Nat) (v6 : Int32) (v7 : Int32) (v8 : Int32) (v9 : Int32) (s0 : Int32) (s1 : Nat) (σ : Sg), w_x_convert_270 RA K208 Q v1 v3 v4 v5 v6 v7 v8 v9 s0 s1 σ → Y Δ G (mi_x_convert (d + 1)) (qV Q) noE 0 0 σ 270 [(0, .ref (Δ.1 0)), (1, .int v1), (3, .int v3), (4, .int v4), (5, .ref (Δ.1 v5)), (6, .int v6), (7, .int v7), (8, .int v8), (9, .int v9)] [.int s0, .ref (Δ.1 s1)] := by
  intro v1 v3 v4 v5 v6 v7 v8 v9 s0 s1 σ h
  unfold w_x_convert_270 at h
  refine y_aload_n cx (pc := 270) d_x_convert_270 rfl 0 rfl ?_
  refine y_iload_n cx (pc := 271) d_x_convert_271 rfl 1 rfl ?_
  refine y_bipush cx (pc := 272) bp_13 d_x_convert_272 ?_
  refine y_aload_n cx (pc := 274) d_x_convert_274 rfl 0 rfl ?_
  refine y_vI cx (pc := 275) (st := [.int 13, .int v1, .ref (Δ.1 0), .int s0, .ref (Δ.1 s1)]) [] (c_x_fresh cx.fl Δ _ _ h) mv_x_fresh kw_643 (oc_0 Δ) ck_GM rfl (le_b rfl) (by show 0 + 1 ≤ 5 + 3 * (d + 1); omega) (by show 12 + (1 + 11) + (0) ≤ 138 + 97 * (d + 1); omega) (le_b rfl) (le_b rfl) d_x_convert_275 (fun x1 σ2 h => ?_) (fun x σ2 h => yt_no h)
  refine y_iload cx (pc := 278) d_x_convert_278 5 rfl ?_
  refine y_iload cx (pc := 280) d_x_convert_280 7 rfl ?_
  refine y_iload cx (pc := 282) d_x_convert_282 8 rfl ?_
  refine y_vI cx (pc := 284) (st := [.int s0, .ref (Δ.1 s1)]) [.int v1, .int 13, .int x1, .int v6, .int v8, .int v9] (c_x_put cx.fl Δ v1 13 x1 v6 v8 v9 _ _ h) mv_x_put kw_647 (oc_0 Δ) ck_GM rfl (le_b rfl) (by show 0 + 1 ≤ 5 + 3 * (d + 1); omega) (by show 12 + (7 + 11) + (0) ≤ 138 + 97 * (d + 1); omega) (le_b rfl) (le_b rfl) d_x_convert_284 (fun x3 σ4 h => ?_) (fun x σ4 h => yt_no h)
  refine y_goto cx (pc := 287) (tgt := 292) d_x_convert_287 (by decide) ?_
  refine y_sub [0, 1, 2, 3, 4, 5, 6] rfl ?_
  exact b_x_convert_292 cx hRA hK208 v1 v3 v4 v5 v6 v7 x3 s0 s1 σ4 h
def w_x_convert_208 (RA : Int32 → Int32 → Int32 → Int32 → Sg → (Sg → Prop) → Prop) (Q : Sg → Prop) : Nat → Int32 → Int32 → Int32 → Nat → Int32 → Int32 → Sg → Prop
  | 0, _, _, _, _, _, _, _ => False
  | n + 1, v1, v3, v4, v5, v6, v7, σ => (16 ≤ v7 → (∃ q302, w_x_convert_302 RA Q q302 v1 v3 v4 v5 0 σ)) ∧ (¬ 16 ≤ v7 → (vp_in v4 16 ∧ (inS (18 + v4.toNatClampNeg) ∧ (vp_in v7 16 ∧ (∀ x1 : Int32, x1 = σ (18 + v4.toNatClampNeg) (v7.toNatClampNeg) → (vp_in (v4 + 1) 16 ∧ (inS (18 + (v4 + 1).toNatClampNeg) ∧ (vp_in v7 16 ∧ (∀ x2 : Int32, x2 = σ (18 + (v4 + 1).toNatClampNeg) (v7.toNatClampNeg) → (vp_in v4 16 ∧ (inS v5 ∧ (vp_in v7 16 ∧ ((¬ x1 = (σ v5 (v7.toNatClampNeg)) → (w_x_convert_270 RA (w_x_convert_208 RA Q n) Q v1 v3 v4 v5 v6 v7 x1 x2 v7 (18 + v4.toNatClampNeg) σ)) ∧ (x1 = (σ v5 (v7.toNatClampNeg)) → (inS v5 ∧ (vp_in v7 16 ∧ ((x2 = (σ v5 (v7.toNatClampNeg)) → (w_x_convert_292 RA (w_x_convert_208 RA Q n) Q v1 v3 v4 v5 v6 v7 x1 v7 (18 + v4.toNatClampNeg) σ)) ∧ (¬ x2 = (σ v5 (v7.toNatClampNeg)) → (w_x_convert_270 RA (w_x_convert_208 RA Q n) Q v1 v3 v4 v5 v6 v7 x1 x2 v7 (18 + v4.toNatClampNeg) σ)))))))))))))))))))
theorem b_x_convert_208 {Δ : Ly} {G : Gm} {d : Nat} {RA : Int32 → Int32 → Int32 → Int32 → Sg → (Sg → Prop) → Prop} {Q : Sg → Prop} (cx : Cx Δ G (mi_x_convert (d + 1))) (hRA : ∀ (p1 : Int32) (p2 : Int32) (p3 : Int32) (p4 : Int32) (σ : Sg) (Q : Sg → Prop) , RA p1 p2 p3 p4 σ Q  → Ct (g_l G) Δ (mi_x_convert d) [.ref (Δ.1 0), .int p1, .int p2, .int p3, .int p4] σ (qV Q) noE) : ∀ (n : Nat) (v1 : Int32) (v3 : Int32) (v4 : Int32) (v5 : Nat) (v6 : Int32) (v7 : Int32) (σ : Sg), w_x_convert_208 RA Q n v1 v3 v4 v5 v6 v7 σ → Y Δ G (mi_x_convert (d + 1)) (qV Q) noE 0 0 σ 208 [(0, .ref (Δ.1 0)), (1, .int v1), (3, .int v3), (4, .int v4), (5, .ref (Δ.1 v5)), (6, .int v6), (7, .int v7)] [] := by
  intro n
  induction n with
  | zero => intro v1 v3 v4 v5 v6 v7 σ h; exact h.elim
  | succ n ih =>
    intro v1 v3 v4 v5 v6 v7 σ h
    unfold w_x_convert_208 at h
    refine y_iload cx (pc := 208) d_x_convert_208 6 rfl ?_
    refine y_bipush cx (pc := 210) bp_16 d_x_convert_210 ?_
    refine y_icmp_ge cx (pc := 212) (tgt := 299) d_x_convert_212 (by decide) (fun hc => ?_) (fun hc => ?_)
    · replace h := h.1 hc
      refine y_iconst cx (pc := 299) ic_0 d_x_convert_299 ?_
      refine y_istore (lv' := [(7, .int 0), (0, .ref (Δ.1 0)), (1, .int v1), (3, .int v3), (4, .int v4), (5, .ref (Δ.1 v5)), (6, .int v6)]) cx (pc := 300) d_x_convert_300 (le_b rfl) rfl ?_
      refine y_sub [1, 2, 3, 4, 5, 0] rfl ?_
      obtain ⟨n, h⟩ := h
      exact b_x_convert_302 cx hRA n v1 v3 v4 v5 0 σ h
    · replace h := h.2 hc
      refine y_aload_n cx (pc := 215) d_x_convert_215 rfl 0 rfl ?_
      refine y_get cx (pc := 216) (j := 16) (v := .ref (Δ.1 35)) (le_b rfl) ck_GM kw_413 (le_b rfl) (gf_0_16 Δ _) d_x_convert_216 ?_
      refine y_iload cx (pc := 219) d_x_convert_219 3 rfl ?_
      obtain ⟨h0, h⟩ := h
      refine y_aald cx (pc := 221) (base := 18) ⟨(le_b rfl), fun _ => rfl⟩ h0 d_x_convert_221 ?_
      refine y_iload cx (pc := 222) d_x_convert_222 6 rfl ?_
      obtain ⟨h9, h⟩ := h
      obtain ⟨h0, h⟩ := h
      refine y_iald cx (pc := 224) (av_inS h9) h0 d_x_convert_224 ?_
      refine y_topi (fun x1 ex1 => ?_)
      replace h := h x1 ex1
      refine y_istore (lv' := [(8, .int x1), (0, .ref (Δ.1 0)), (1, .int v1), (3, .int v3), (4, .int v4), (5, .ref (Δ.1 v5)), (6, .int v6), (7, .int v7)]) cx (pc := 225) d_x_convert_225 (le_b rfl) rfl ?_
      refine y_aload_n cx (pc := 227) d_x_convert_227 rfl 1 rfl ?_
      refine y_get cx (pc := 228) (j := 16) (v := .ref (Δ.1 35)) (le_b rfl) ck_GM kw_413 (le_b rfl) (gf_0_16 Δ _) d_x_convert_228 ?_
      refine y_iload cx (pc := 231) d_x_convert_231 4 rfl ?_
      refine y_iconst cx (pc := 233) ic_1 d_x_convert_233 ?_
      refine y_iadd cx (pc := 234) d_x_convert_234 ?_
      obtain ⟨h0, h⟩ := h
      refine y_aald cx (pc := 235) (base := 18) ⟨(le_b rfl), fun _ => rfl⟩ h0 d_x_convert_235 ?_
      refine y_iload cx (pc := 236) d_x_convert_236 7 rfl ?_
      obtain ⟨h9, h⟩ := h
      obtain ⟨h0, h⟩ := h
      refine y_iald cx (pc := 238) (av_inS h9) h0 d_x_convert_238 ?_
      refine y_topi (fun x2 ex2 => ?_)
      replace h := h x2 ex2
      refine y_istore (lv' := [(9, .int x2), (8, .int x1), (0, .ref (Δ.1 0)), (1, .int v1), (3, .int v3), (4, .int v4), (5, .ref (Δ.1 v5)), (6, .int v6), (7, .int v7)]) cx (pc := 239) d_x_convert_239 (le_b rfl) rfl ?_
      refine y_aload_n cx (pc := 241) d_x_convert_241 rfl 2 rfl ?_
      refine y_get cx (pc := 242) (j := 16) (v := .ref (Δ.1 35)) (le_b rfl) ck_GM kw_413 (le_b rfl) (gf_0_16 Δ _) d_x_convert_242 ?_
      refine y_iload cx (pc := 245) d_x_convert_245 5 rfl ?_
      obtain ⟨h0, h⟩ := h
      refine y_aald cx (pc := 247) (base := 18) ⟨(le_b rfl), fun _ => rfl⟩ h0 d_x_convert_247 ?_
      refine y_iload cx (pc := 248) d_x_convert_248 8 rfl ?_
      refine y_iload cx (pc := 250) d_x_convert_250 1 rfl ?_
      refine y_aload cx (pc := 252) d_x_convert_252 6 rfl ?_
      refine y_iload cx (pc := 254) d_x_convert_254 8 rfl ?_
      obtain ⟨h9, h⟩ := h
      obtain ⟨h0, h⟩ := h
      refine y_iald cx (pc := 256) (av_inS h9) h0 d_x_convert_256 ?_
      refine y_icmp_ne cx (pc := 257) (tgt := 270) d_x_convert_257 (by decide) (fun hc => ?_) (fun hc => ?_)
      · replace h := h.1 hc
        refine y_sub [2, 3, 4, 5, 6, 7, 8, 1, 0] rfl ?_
        exact b_x_convert_270 cx hRA ih v1 v3 v4 v5 v6 v7 x1 x2 v7 (18 + v4.toNatClampNeg) σ h
      · replace h := h.2 hc
        refine y_iload cx (pc := 260) d_x_convert_260 0 rfl ?_
        refine y_aload cx (pc := 262) d_x_convert_262 6 rfl ?_
        refine y_iload cx (pc := 264) d_x_convert_264 8 rfl ?_
        obtain ⟨h9, h⟩ := h
        obtain ⟨h0, h⟩ := h
        refine y_iald cx (pc := 266) (av_inS h9) h0 d_x_convert_266 ?_
        refine y_icmp_eq cx (pc := 267) (tgt := 290) d_x_convert_267 (by decide) (fun hc => ?_) (fun hc => ?_)
        · replace h := h.1 hc
          refine y_iload cx (pc := 290) d_x_convert_290 1 rfl ?_
          refine y_sub [2, 3, 4, 5, 6, 7, 8] rfl ?_
          exact b_x_convert_292 cx hRA ih v1 v3 v4 v5 v6 v7 x1 v7 (18 + v4.toNatClampNeg) σ h
        · replace h := h.2 hc
          refine y_sub [2, 3, 4, 5, 6, 7, 8, 1, 0] rfl ?_
          exact b_x_convert_270 cx hRA ih v1 v3 v4 v5 v6 v7 x1 x2 v7 (18 + v4.toNatClampNeg) σ h
def w_x_convert_205 (RA : Int32 → Int32 → Int32 → Int32 → Sg → (Sg → Prop) → Prop) (Q : Sg → Prop) (v1 : Int32) (v3 : Int32) (v4 : Int32) (v5 : Nat) (v6 : Int32) (σ : Sg) : Prop := ∃ q208, w_x_convert_208 RA Q q208 v1 v3 v4 v5 v6 0 σ
theorem b_x_convert_205 {Δ : Ly} {G : Gm} {d : Nat} {RA : Int32 → Int32 → Int32 → Int32 → Sg → (Sg → Prop) → Prop} {Q : Sg → Prop} (cx : Cx Δ G (mi_x_convert (d + 1))) (hRA : ∀ (p1 : Int32) (p2 : Int32) (p3 : Int32) (p4 : Int32) (σ : Sg) (Q : Sg → Prop) , RA p1 p2 p3 p4 σ Q  → Ct (g_l G) Δ (mi_x_convert d) [.ref (Δ.1 0), .int p1, .int p2, .int p3, .int p4] σ (qV Q) noE) : ∀ (v1 : Int32) (v3 : Int32) (v4 : Int32) (v5 : Nat) (v6 : Int32) (σ : Sg), w_x_convert_205 RA Q v1 v3 v4 v5 v6 σ → Y Δ G (mi_x_convert (d + 1)) (qV Q) noE 0 0 σ 205 [(0, .ref (Δ.1 0)), (1, .int v1), (3, .int v3), (4, .int v4), (5, .ref (Δ.1 v5)), (6, .int v6)] [] := by
  intro v1 v3 v4 v5 v6 σ h
  unfold w_x_convert_205 at h
  refine y_iconst cx (pc := 205) ic_0 d_x_convert_205 ?_
  refine y_istore (lv' := [(7, .int 0), (0, .ref (Δ.1 0)), (1, .int v1), (3, .int v3), (4, .int v4), (5, .ref (Δ.1 v5)), (6, .int v6)]) cx (pc := 206) d_x_convert_206 (le_b rfl) rfl ?_
  refine y_sub [1, 2, 3, 4, 5, 6, 0] rfl ?_
  obtain ⟨n, h⟩ := h
  exact b_x_convert_208 cx hRA n v1 v3 v4 v5 v6 0 σ h
def w_x_convert_171 (RA : Int32 → Int32 → Int32 → Int32 → Sg → (Sg → Prop) → Prop) (Q : Sg → Prop) (v1 : Int32) (v3 : Int32) (v4 : Int32) (v5 : Nat) (v6 : Int32) (s0 : Int32) (σ : Sg) : Prop := vp_in v1 60 ∧ (vp_in v1 60 ∧ (w_x_side RA (σ 44 (v1.toNatClampNeg)) (σ 45 (v1.toNatClampNeg)) s0 (v4 + 1) (v4 + 2) σ (fun σ1 => w_x_convert_205 RA Q v1 v3 v4 v5 v6 σ1)))
theorem b_x_convert_171 {Δ : Ly} {G : Gm} {d : Nat} {RA : Int32 → Int32 → Int32 → Int32 → Sg → (Sg → Prop) → Prop} {Q : Sg → Prop} (cx : Cx Δ G (mi_x_convert (d + 1))) (hRA : ∀ (p1 : Int32) (p2 : Int32) (p3 : Int32) (p4 : Int32) (σ : Sg) (Q : Sg → Prop) , RA p1 p2 p3 p4 σ Q  → Ct (g_l G) Δ (mi_x_convert d) [.ref (Δ.1 0), .int p1, .int p2, .int p3, .int p4] σ (qV Q) noE) : ∀ (v1 : Int32) (v3 : Int32) (v4 : Int32) (v5 : Nat) (v6 : Int32) (s0 : Int32) (σ : Sg), w_x_convert_171 RA Q v1 v3 v4 v5 v6 s0 σ → Y Δ G (mi_x_convert (d + 1)) (qV Q) noE 0 0 σ 171 [(0, .ref (Δ.1 0)), (1, .int v1), (3, .int v3), (4, .int v4), (5, .ref (Δ.1 v5)), (6, .int v6)] [.int s0] := by
  intro v1 v3 v4 v5 v6 s0 σ h
  unfold w_x_convert_171 at h
  refine y_istore (lv' := [(8, .int s0), (0, .ref (Δ.1 0)), (1, .int v1), (3, .int v3), (4, .int v4), (5, .ref (Δ.1 v5)), (6, .int v6)]) cx (pc := 171) d_x_convert_171 (le_b rfl) rfl ?_
  refine y_aload_n cx (pc := 173) d_x_convert_173 rfl 1 rfl ?_
  refine y_aload_n cx (pc := 174) d_x_convert_174 rfl 1 rfl ?_
  refine y_get cx (pc := 175) (j := 0) (v := .ref (Δ.1 1)) (le_b rfl) ck_GM kw_397 (le_b rfl) (gf_0_0 Δ _) d_x_convert_175 ?_
  refine y_getN cx (pc := 178) (j := 9) (v := .ref (Δ.1 44)) (le_b rfl) ck_Tx kw_274 (le_b rfl) (gf_1_9 Δ _) d_x_convert_178 ?_
  refine y_iload_n cx (pc := 181) d_x_convert_181 rfl 2 rfl ?_
  obtain ⟨h0, h⟩ := h
  refine y_iald cx (pc := 182) ⟨(le_b rfl), fun _ => rfl⟩ h0 d_x_convert_182 ?_
  refine y_aload_n cx (pc := 183) d_x_convert_183 rfl 1 rfl ?_
  refine y_get cx (pc := 184) (j := 0) (v := .ref (Δ.1 1)) (le_b rfl) ck_GM kw_397 (le_b rfl) (gf_0_0 Δ _) d_x_convert_184 ?_
  refine y_getN cx (pc := 187) (j := 10) (v := .ref (Δ.1 45)) (le_b rfl) ck_Tx kw_276 (le_b rfl) (gf_1_10 Δ _) d_x_convert_187 ?_
  refine y_iload_n cx (pc := 190) d_x_convert_190 rfl 2 rfl ?_
  obtain ⟨h0, h⟩ := h
  refine y_iald cx (pc := 191) ⟨(le_b rfl), fun _ => rfl⟩ h0 d_x_convert_191 ?_
  refine y_iload cx (pc := 192) d_x_convert_192 0 rfl ?_
  refine y_iload cx (pc := 194) d_x_convert_194 4 rfl ?_
  refine y_iconst cx (pc := 196) ic_1 d_x_convert_196 ?_
  refine y_iadd cx (pc := 197) d_x_convert_197 ?_
  refine y_iload cx (pc := 198) d_x_convert_198 4 rfl ?_
  refine y_iconst cx (pc := 200) ic_2 d_x_convert_200 ?_
  refine y_iadd cx (pc := 201) d_x_convert_201 ?_
  refine y_vV cx (pc := 202) (st := []) [.int (σ 44 (v1.toNatClampNeg)), .int (σ 45 (v1.toNatClampNeg)), .int s0, .int (v4 + 1), .int (v4 + 2)] (c_x_side cx.fl Δ RA d hRA (σ 44 (v1.toNatClampNeg)) (σ 45 (v1.toNatClampNeg)) s0 (v4 + 1) (v4 + 2) _ _ h) (mv_x_side d) kw_659 (oc_0 Δ) ck_GM rfl (le_b rfl) (by show 5 + 3 * d + 2 + 1 ≤ 5 + 3 * (d + 1); omega) (by show 12 + (7 + 11) + (138 + 97 * d + 67) ≤ 138 + 97 * (d + 1); omega) (le_b rfl) (le_b rfl) d_x_convert_202 (fun σ1 h => ?_) (fun x σ1 h => yt_no h)
  refine y_sub [1, 2, 3, 4, 5, 6] rfl ?_
  exact b_x_convert_205 cx hRA v1 v3 v4 v5 v6 σ1 h
def w_x_convert_99 (RA : Int32 → Int32 → Int32 → Int32 → Sg → (Sg → Prop) → Prop) (Q : Sg → Prop) (v1 : Int32) (v2 : Int32) (v3 : Int32) (v4 : Int32) (v5 : Nat) (v6 : Int32) (σ : Sg) : Prop := vp_in v1 60 ∧ (vp_in v1 60 ∧ (((σ 45 (v1.toNatClampNeg)) ≤ (σ 44 (v1.toNatClampNeg)) → (w_x_convert_205 RA Q v1 v3 v4 v5 v6 σ)) ∧ (¬ (σ 45 (v1.toNatClampNeg)) ≤ (σ 44 (v1.toNatClampNeg)) → (w_x_set v1 0 σ (fun x1 σ2 => w_x_fresh σ2 (fun x3 σ4 => w_x_put v1 10 x3 v6 x1 0 σ4 (fun x5 σ6 => (¬ v2 = (-1) → (w_x_fresh σ6 (fun x7 σ8 => w_x_put v1 7 x7 v2 x5 0 σ8 (fun x9 σ10 => w_x_convert_171 RA Q v1 v3 v4 v5 v6 x9 σ10)))) ∧ (v2 = (-1) → (w_x_convert_171 RA Q v1 v3 v4 v5 v6 x5 σ6)))))))))
theorem b_x_convert_99 {Δ : Ly} {G : Gm} {d : Nat} {RA : Int32 → Int32 → Int32 → Int32 → Sg → (Sg → Prop) → Prop} {Q : Sg → Prop} (cx : Cx Δ G (mi_x_convert (d + 1))) (hRA : ∀ (p1 : Int32) (p2 : Int32) (p3 : Int32) (p4 : Int32) (σ : Sg) (Q : Sg → Prop) , RA p1 p2 p3 p4 σ Q  → Ct (g_l G) Δ (mi_x_convert d) [.ref (Δ.1 0), .int p1, .int p2, .int p3, .int p4] σ (qV Q) noE) : ∀ (v1 : Int32) (v2 : Int32) (v3 : Int32) (v4 : Int32) (v5 : Nat) (v6 : Int32) (σ : Sg), w_x_convert_99 RA Q v1 v2 v3 v4 v5 v6 σ → Y Δ G (mi_x_convert (d + 1)) (qV Q) noE 0 0 σ 99 [(0, .ref (Δ.1 0)), (1, .int v1), (2, .int v2), (3, .int v3), (4, .int v4), (5, .ref (Δ.1 v5)), (6, .int v6)] [] := by
  intro v1 v2 v3 v4 v5 v6 σ h
  unfold w_x_convert_99 at h
  refine y_aload_n cx (pc := 99) d_x_convert_99 rfl 0 rfl ?_
  refine y_get cx (pc := 100) (j := 0) (v := .ref (Δ.1 1)) (le_b rfl) ck_GM kw_397 (le_b rfl) (gf_0_0 Δ _) d_x_convert_100 ?_
  refine y_getN cx (pc := 103) (j := 10) (v := .ref (Δ.1 45)) (le_b rfl) ck_Tx kw_276 (le_b rfl) (gf_1_10 Δ _) d_x_convert_103 ?_
  refine y_iload_n cx (pc := 106) d_x_convert_106 rfl 1 rfl ?_
  obtain ⟨h0, h⟩ := h
  refine y_iald cx (pc := 107) ⟨(le_b rfl), fun _ => rfl⟩ h0 d_x_convert_107 ?_
  refine y_aload_n cx (pc := 108) d_x_convert_108 rfl 0 rfl ?_
  refine y_get cx (pc := 109) (j := 0) (v := .ref (Δ.1 1)) (le_b rfl) ck_GM kw_397 (le_b rfl) (gf_0_0 Δ _) d_x_convert_109 ?_
  refine y_getN cx (pc := 112) (j := 9) (v := .ref (Δ.1 44)) (le_b rfl) ck_Tx kw_274 (le_b rfl) (gf_1_9 Δ _) d_x_convert_112 ?_
  refine y_iload_n cx (pc := 115) d_x_convert_115 rfl 1 rfl ?_
  obtain ⟨h0, h⟩ := h
  refine y_iald cx (pc := 116) ⟨(le_b rfl), fun _ => rfl⟩ h0 d_x_convert_116 ?_
  refine y_icmp_le cx (pc := 117) (tgt := 205) d_x_convert_117 (by decide) (fun hc => ?_) (fun hc => ?_)
  · replace h := h.1 hc
    refine y_sub [0, 1, 3, 4, 5, 6] rfl ?_
    exact b_x_convert_205 cx hRA v1 v3 v4 v5 v6 σ h
  · replace h := h.2 hc
    refine y_aload_n cx (pc := 120) d_x_convert_120 rfl 0 rfl ?_
    refine y_iload_n cx (pc := 121) d_x_convert_121 rfl 1 rfl ?_
    refine y_iconst cx (pc := 122) ic_0 d_x_convert_122 ?_
    refine y_vI cx (pc := 123) (st := []) [.int v1, .int 0] (c_x_set cx.fl Δ v1 0 _ _ h) mv_x_set kw_639 (oc_0 Δ) ck_GM rfl (le_b rfl) (by show 1 + 1 ≤ 5 + 3 * (d + 1); omega) (by show 12 + (3 + 11) + (30) ≤ 138 + 97 * (d + 1); omega) (le_b rfl) (le_b rfl) d_x_convert_123 (fun x1 σ2 h => ?_) (fun x σ2 h => yt_no h)
    refine y_istore (lv' := [(7, .int x1), (0, .ref (Δ.1 0)), (1, .int v1), (2, .int v2), (3, .int v3), (4, .int v4), (5, .ref (Δ.1 v5)), (6, .int v6)]) cx (pc := 126) d_x_convert_126 (le_b rfl) rfl ?_
    refine y_aload_n cx (pc := 128) d_x_convert_128 rfl 1 rfl ?_
    refine y_iload_n cx (pc := 129) d_x_convert_129 rfl 2 rfl ?_
    refine y_bipush cx (pc := 130) bp_10 d_x_convert_130 ?_
    refine y_aload_n cx (pc := 132) d_x_convert_132 rfl 1 rfl ?_
    refine y_vI cx (pc := 133) (st := [.int 10, .int v1, .ref (Δ.1 0)]) [] (c_x_fresh cx.fl Δ _ _ h) mv_x_fresh kw_643 (oc_0 Δ) ck_GM rfl (le_b rfl) (by show 0 + 1 ≤ 5 + 3 * (d + 1); omega) (by show 12 + (1 + 11) + (0) ≤ 138 + 97 * (d + 1); omega) (le_b rfl) (le_b rfl) d_x_convert_133 (fun x3 σ4 h => ?_) (fun x σ4 h => yt_no h)
    refine y_iload cx (pc := 136) d_x_convert_136 7 rfl ?_
    refine y_iload cx (pc := 138) d_x_convert_138 0 rfl ?_
    refine y_iconst cx (pc := 140) ic_0 d_x_convert_140 ?_
    refine y_vI cx (pc := 141) (st := []) [.int v1, .int 10, .int x3, .int v6, .int x1, .int 0] (c_x_put cx.fl Δ v1 10 x3 v6 x1 0 _ _ h) mv_x_put kw_647 (oc_0 Δ) ck_GM rfl (le_b rfl) (by show 0 + 1 ≤ 5 + 3 * (d + 1); omega) (by show 12 + (7 + 11) + (0) ≤ 138 + 97 * (d + 1); omega) (le_b rfl) (le_b rfl) d_x_convert_141 (fun x5 σ6 h => ?_) (fun x σ6 h => yt_no h)
    refine y_istore (lv' := [(8, .int x5), (7, .int x1), (0, .ref (Δ.1 0)), (1, .int v1), (2, .int v2), (3, .int v3), (4, .int v4), (5, .ref (Δ.1 v5)), (6, .int v6)]) cx (pc := 144) d_x_convert_144 (le_b rfl) rfl ?_
    refine y_iload_n cx (pc := 146) d_x_convert_146 rfl 4 rfl ?_
    refine y_iconst cx (pc := 147) ic_m1 d_x_convert_147 ?_
    refine y_icmp_ne cx (pc := 148) (tgt := 156) d_x_convert_148 (by decide) (fun hc => ?_) (fun hc => ?_)
    · replace h := h.1 hc
      refine y_aload_n cx (pc := 156) d_x_convert_156 rfl 2 rfl ?_
      refine y_iload_n cx (pc := 157) d_x_convert_157 rfl 3 rfl ?_
      refine y_bipush cx (pc := 158) bp_7 d_x_convert_158 ?_
      refine y_aload_n cx (pc := 160) d_x_convert_160 rfl 2 rfl ?_
      refine y_vI cx (pc := 161) (st := [.int 7, .int v1, .ref (Δ.1 0)]) [] (c_x_fresh cx.fl Δ _ _ h) mv_x_fresh kw_643 (oc_0 Δ) ck_GM rfl (le_b rfl) (by show 0 + 1 ≤ 5 + 3 * (d + 1); omega) (by show 12 + (1 + 11) + (0) ≤ 138 + 97 * (d + 1); omega) (le_b rfl) (le_b rfl) d_x_convert_161 (fun x7 σ8 h => ?_) (fun x σ8 h => yt_no h)
      refine y_iload_n cx (pc := 164) d_x_convert_164 rfl 4 rfl ?_
      refine y_iload cx (pc := 165) d_x_convert_165 0 rfl ?_
      refine y_iconst cx (pc := 167) ic_0 d_x_convert_167 ?_
      refine y_vI cx (pc := 168) (st := []) [.int v1, .int 7, .int x7, .int v2, .int x5, .int 0] (c_x_put cx.fl Δ v1 7 x7 v2 x5 0 _ _ h) mv_x_put kw_647 (oc_0 Δ) ck_GM rfl (le_b rfl) (by show 0 + 1 ≤ 5 + 3 * (d + 1); omega) (by show 12 + (7 + 11) + (0) ≤ 138 + 97 * (d + 1); omega) (le_b rfl) (le_b rfl) d_x_convert_168 (fun x9 σ10 h => ?_) (fun x σ10 h => yt_no h)
      refine y_sub [2, 3, 5, 6, 7, 8] rfl ?_
      exact b_x_convert_171 cx hRA v1 v3 v4 v5 v6 x9 σ10 h
    · replace h := h.2 hc
      refine y_iload cx (pc := 151) d_x_convert_151 0 rfl ?_
      refine y_goto cx (pc := 153) (tgt := 171) d_x_convert_153 (by decide) ?_
      refine y_sub [2, 3, 5, 6, 7, 8] rfl ?_
      exact b_x_convert_171 cx hRA v1 v3 v4 v5 v6 x5 σ6 h
def w_x_convert_73 (RA : Int32 → Int32 → Int32 → Int32 → Sg → (Sg → Prop) → Prop) (Q : Sg → Prop) (v1 : Int32) (v2 : Int32) (v3 : Int32) (v4 : Int32) (v5 : Nat) (v6 : Int32) (s0 : Int32) (σ : Sg) : Prop := vp_in v1 60 ∧ (w_x_side RA (v1 + 1) (σ 44 (v1.toNatClampNeg)) s0 v4 (v4 + 2) σ (fun σ1 => w_x_convert_99 RA Q v1 v2 v3 v4 v5 v6 σ1))
theorem b_x_convert_73 {Δ : Ly} {G : Gm} {d : Nat} {RA : Int32 → Int32 → Int32 → Int32 → Sg → (Sg → Prop) → Prop} {Q : Sg → Prop} (cx : Cx Δ G (mi_x_convert (d + 1))) (hRA : ∀ (p1 : Int32) (p2 : Int32) (p3 : Int32) (p4 : Int32) (σ : Sg) (Q : Sg → Prop) , RA p1 p2 p3 p4 σ Q  → Ct (g_l G) Δ (mi_x_convert d) [.ref (Δ.1 0), .int p1, .int p2, .int p3, .int p4] σ (qV Q) noE) : ∀ (v1 : Int32) (v2 : Int32) (v3 : Int32) (v4 : Int32) (v5 : Nat) (v6 : Int32) (s0 : Int32) (σ : Sg), w_x_convert_73 RA Q v1 v2 v3 v4 v5 v6 s0 σ → Y Δ G (mi_x_convert (d + 1)) (qV Q) noE 0 0 σ 73 [(0, .ref (Δ.1 0)), (1, .int v1), (2, .int v2), (3, .int v3), (4, .int v4), (5, .ref (Δ.1 v5)), (6, .int v6)] [.int s0] := by
  intro v1 v2 v3 v4 v5 v6 s0 σ h
  unfold w_x_convert_73 at h
  refine y_istore (lv' := [(7, .int s0), (0, .ref (Δ.1 0)), (1, .int v1), (2, .int v2), (3, .int v3), (4, .int v4), (5, .ref (Δ.1 v5)), (6, .int v6)]) cx (pc := 73) d_x_convert_73 (le_b rfl) rfl ?_
  refine y_aload_n cx (pc := 75) d_x_convert_75 rfl 1 rfl ?_
  refine y_iload_n cx (pc := 76) d_x_convert_76 rfl 2 rfl ?_
  refine y_iconst cx (pc := 77) ic_1 d_x_convert_77 ?_
  refine y_iadd cx (pc := 78) d_x_convert_78 ?_
  refine y_aload_n cx (pc := 79) d_x_convert_79 rfl 1 rfl ?_
  refine y_get cx (pc := 80) (j := 0) (v := .ref (Δ.1 1)) (le_b rfl) ck_GM kw_397 (le_b rfl) (gf_0_0 Δ _) d_x_convert_80 ?_
  refine y_getN cx (pc := 83) (j := 9) (v := .ref (Δ.1 44)) (le_b rfl) ck_Tx kw_274 (le_b rfl) (gf_1_9 Δ _) d_x_convert_83 ?_
  refine y_iload_n cx (pc := 86) d_x_convert_86 rfl 2 rfl ?_
  obtain ⟨h0, h⟩ := h
  refine y_iald cx (pc := 87) ⟨(le_b rfl), fun _ => rfl⟩ h0 d_x_convert_87 ?_
  refine y_iload cx (pc := 88) d_x_convert_88 0 rfl ?_
  refine y_iload cx (pc := 90) d_x_convert_90 5 rfl ?_
  refine y_iload cx (pc := 92) d_x_convert_92 5 rfl ?_
  refine y_iconst cx (pc := 94) ic_2 d_x_convert_94 ?_
  refine y_iadd cx (pc := 95) d_x_convert_95 ?_
  refine y_vV cx (pc := 96) (st := []) [.int (v1 + 1), .int (σ 44 (v1.toNatClampNeg)), .int s0, .int v4, .int (v4 + 2)] (c_x_side cx.fl Δ RA d hRA (v1 + 1) (σ 44 (v1.toNatClampNeg)) s0 v4 (v4 + 2) _ _ h) (mv_x_side d) kw_659 (oc_0 Δ) ck_GM rfl (le_b rfl) (by show 5 + 3 * d + 2 + 1 ≤ 5 + 3 * (d + 1); omega) (by show 12 + (7 + 11) + (138 + 97 * d + 67) ≤ 138 + 97 * (d + 1); omega) (le_b rfl) (le_b rfl) d_x_convert_96 (fun σ1 h => ?_) (fun x σ1 h => yt_no h)
  refine y_sub [1, 2, 3, 4, 5, 6, 7] rfl ?_
  exact b_x_convert_99 cx hRA v1 v2 v3 v4 v5 v6 σ1 h
def w_x_convert_s (RA : Int32 → Int32 → Int32 → Int32 → Sg → (Sg → Prop) → Prop) (p1 : Int32) (p2 : Int32) (p3 : Int32) (p4 : Int32) (σ : Sg) (Q : Sg → Prop) : Prop := vp_in p3 16 ∧ (w_x_test p1 (18 + p3.toNatClampNeg) σ (fun x1 σ2 => w_x_copy p3 p4 σ2 (fun σ3 => w_x_copy p3 (p4 + 1) σ3 (fun σ4 => vp_in p1 60 ∧ (((σ4 44 (p1.toNatClampNeg)) ≤ (p1 + 1) → (w_x_convert_99 RA Q p1 p2 p3 p4 (18 + p3.toNatClampNeg) x1 σ4)) ∧ (¬ (σ4 44 (p1.toNatClampNeg)) ≤ (p1 + 1) → ((¬ p2 = (-1) → (w_x_fresh σ4 (fun x5 σ6 => w_x_put p1 7 x5 p2 x1 0 σ6 (fun x7 σ8 => w_x_convert_73 RA Q p1 p2 p3 p4 (18 + p3.toNatClampNeg) x1 x7 σ8)))) ∧ (p2 = (-1) → (w_x_convert_73 RA Q p1 p2 p3 p4 (18 + p3.toNatClampNeg) x1 x1 σ4)))))))))
def w_x_convert : Nat → Int32 → Int32 → Int32 → Int32 → Sg → (Sg → Prop) → Prop
  | 0, _, _, _, _, _, _ => False
  | d + 1, p1, p2, p3, p4, σ, Q => w_x_convert_s (w_x_convert d) p1 p2 p3 p4 σ Q
theorem b_x_convert {Δ : Ly} {G : Gm} {d : Nat} {RA : Int32 → Int32 → Int32 → Int32 → Sg → (Sg → Prop) → Prop} {Q : Sg → Prop} (cx : Cx Δ G (mi_x_convert (d + 1))) (hRA : ∀ (p1 : Int32) (p2 : Int32) (p3 : Int32) (p4 : Int32) (σ : Sg) (Q : Sg → Prop) , RA p1 p2 p3 p4 σ Q  → Ct (g_l G) Δ (mi_x_convert d) [.ref (Δ.1 0), .int p1, .int p2, .int p3, .int p4] σ (qV Q) noE) (p1 : Int32) (p2 : Int32) (p3 : Int32) (p4 : Int32) (σ : Sg) (h : w_x_convert_s RA p1 p2 p3 p4 σ Q) : Y Δ G (mi_x_convert (d + 1)) (qV Q) noE 0 0 σ 0 [(0, .ref (Δ.1 0)), (1, .int p1), (2, .int p2), (3, .int p3), (4, .int p4)] [] := by
  unfold w_x_convert_s at h
  refine y_aload_n cx (pc := 0) d_x_convert_0 rfl 0 rfl ?_
  refine y_get cx (pc := 1) (j := 16) (v := .ref (Δ.1 35)) (le_b rfl) ck_GM kw_413 (le_b rfl) (gf_0_16 Δ _) d_x_convert_1 ?_
  refine y_iload_n cx (pc := 4) d_x_convert_4 rfl 3 rfl ?_
  obtain ⟨h0, h⟩ := h
  refine y_aald cx (pc := 5) (base := 18) ⟨(le_b rfl), fun _ => rfl⟩ h0 d_x_convert_5 ?_
  refine y_astore (lv' := [(5, .ref (Δ.1 (18 + p3.toNatClampNeg))), (0, .ref (Δ.1 0)), (1, .int p1), (2, .int p2), (3, .int p3), (4, .int p4)]) cx (pc := 6) d_x_convert_6 (le_b rfl) rfl ?_
  refine y_aload_n cx (pc := 8) d_x_convert_8 rfl 1 rfl ?_
  refine y_iload_n cx (pc := 9) d_x_convert_9 rfl 2 rfl ?_
  refine y_aload cx (pc := 10) d_x_convert_10 0 rfl ?_
  refine y_vI cx (pc := 12) (st := []) [.int p1, .ref (Δ.1 (18 + p3.toNatClampNeg))] (c_x_test cx.fl Δ p1 (18 + p3.toNatClampNeg) _ _ h) mv_x_test kw_627 (oc_0 Δ) ck_GM rfl (le_b rfl) (by show 4 + 1 ≤ 5 + 3 * (d + 1); omega) (by show 12 + (5 + 11) + (110) ≤ 138 + 97 * (d + 1); omega) (le_b rfl) (le_b rfl) d_x_convert_12 (fun x1 σ2 h => ?_) (fun x σ2 h => yt_no h)
  refine y_istore (lv' := [(6, .int x1), (5, .ref (Δ.1 (18 + p3.toNatClampNeg))), (0, .ref (Δ.1 0)), (1, .int p1), (2, .int p2), (3, .int p3), (4, .int p4)]) cx (pc := 15) d_x_convert_15 (le_b rfl) rfl ?_
  refine y_aload_n cx (pc := 17) d_x_convert_17 rfl 2 rfl ?_
  refine y_iload_n cx (pc := 18) d_x_convert_18 rfl 5 rfl ?_
  refine y_iload cx (pc := 19) d_x_convert_19 6 rfl ?_
  refine y_vV cx (pc := 21) (st := []) [.int p3, .int p4] (c_x_copy cx.fl Δ p3 p4 _ _ h) mv_x_copy kw_655 (oc_0 Δ) ck_GM rfl (le_b rfl) (by show 0 + 1 ≤ 5 + 3 * (d + 1); omega) (by show 12 + (4 + 11) + (0) ≤ 138 + 97 * (d + 1); omega) (le_b rfl) (le_b rfl) d_x_convert_21 (fun σ3 h => ?_) (fun x σ3 h => yt_no h)
  refine y_aload_n cx (pc := 24) d_x_convert_24 rfl 2 rfl ?_
  refine y_iload_n cx (pc := 25) d_x_convert_25 rfl 5 rfl ?_
  refine y_iload cx (pc := 26) d_x_convert_26 6 rfl ?_
  refine y_iconst cx (pc := 28) ic_1 d_x_convert_28 ?_
  refine y_iadd cx (pc := 29) d_x_convert_29 ?_
  refine y_vV cx (pc := 30) (st := []) [.int p3, .int (p4 + 1)] (c_x_copy cx.fl Δ p3 (p4 + 1) _ _ h) mv_x_copy kw_655 (oc_0 Δ) ck_GM rfl (le_b rfl) (by show 0 + 1 ≤ 5 + 3 * (d + 1); omega) (by show 12 + (4 + 11) + (0) ≤ 138 + 97 * (d + 1); omega) (le_b rfl) (le_b rfl) d_x_convert_30 (fun σ4 h => ?_) (fun x σ4 h => yt_no h)
  refine y_aload_n cx (pc := 33) d_x_convert_33 rfl 2 rfl ?_
  refine y_get cx (pc := 34) (j := 0) (v := .ref (Δ.1 1)) (le_b rfl) ck_GM kw_397 (le_b rfl) (gf_0_0 Δ _) d_x_convert_34 ?_
  refine y_getN cx (pc := 37) (j := 9) (v := .ref (Δ.1 44)) (le_b rfl) ck_Tx kw_274 (le_b rfl) (gf_1_9 Δ _) d_x_convert_37 ?_
  refine y_iload_n cx (pc := 40) d_x_convert_40 rfl 3 rfl ?_
  obtain ⟨h0, h⟩ := h
  refine y_iald cx (pc := 41) ⟨(le_b rfl), fun _ => rfl⟩ h0 d_x_convert_41 ?_
  refine y_iload_n cx (pc := 42) d_x_convert_42 rfl 3 rfl ?_
  refine y_iconst cx (pc := 43) ic_1 d_x_convert_43 ?_
  refine y_iadd cx (pc := 44) d_x_convert_44 ?_
  refine y_icmp_le cx (pc := 45) (tgt := 99) d_x_convert_45 (by decide) (fun hc => ?_) (fun hc => ?_)
  · replace h := h.1 hc
    refine y_sub [2, 3, 4, 5, 6, 1, 0] rfl ?_
    exact b_x_convert_99 cx hRA p1 p2 p3 p4 (18 + p3.toNatClampNeg) x1 σ4 h
  · replace h := h.2 hc
    refine y_iload_n cx (pc := 48) d_x_convert_48 rfl 4 rfl ?_
    refine y_iconst cx (pc := 49) ic_m1 d_x_convert_49 ?_
    refine y_icmp_ne cx (pc := 50) (tgt := 58) d_x_convert_50 (by decide) (fun hc => ?_) (fun hc => ?_)
    · replace h := h.1 hc
      refine y_aload_n cx (pc := 58) d_x_convert_58 rfl 2 rfl ?_
      refine y_iload_n cx (pc := 59) d_x_convert_59 rfl 3 rfl ?_
      refine y_bipush cx (pc := 60) bp_7 d_x_convert_60 ?_
      refine y_aload_n cx (pc := 62) d_x_convert_62 rfl 2 rfl ?_
      refine y_vI cx (pc := 63) (st := [.int 7, .int p1, .ref (Δ.1 0)]) [] (c_x_fresh cx.fl Δ _ _ h) mv_x_fresh kw_643 (oc_0 Δ) ck_GM rfl (le_b rfl) (by show 0 + 1 ≤ 5 + 3 * (d + 1); omega) (by show 12 + (1 + 11) + (0) ≤ 138 + 97 * (d + 1); omega) (le_b rfl) (le_b rfl) d_x_convert_63 (fun x5 σ6 h => ?_) (fun x σ6 h => yt_no h)
      refine y_iload_n cx (pc := 66) d_x_convert_66 rfl 4 rfl ?_
      refine y_iload cx (pc := 67) d_x_convert_67 0 rfl ?_
      refine y_iconst cx (pc := 69) ic_0 d_x_convert_69 ?_
      refine y_vI cx (pc := 70) (st := []) [.int p1, .int 7, .int x5, .int p2, .int x1, .int 0] (c_x_put cx.fl Δ p1 7 x5 p2 x1 0 _ _ h) mv_x_put kw_647 (oc_0 Δ) ck_GM rfl (le_b rfl) (by show 0 + 1 ≤ 5 + 3 * (d + 1); omega) (by show 12 + (7 + 11) + (0) ≤ 138 + 97 * (d + 1); omega) (le_b rfl) (le_b rfl) d_x_convert_70 (fun x7 σ8 h => ?_) (fun x σ8 h => yt_no h)
      refine y_sub [2, 3, 4, 5, 6, 1, 0] rfl ?_
      exact b_x_convert_73 cx hRA p1 p2 p3 p4 (18 + p3.toNatClampNeg) x1 x7 σ8 h
    · replace h := h.2 hc
      refine y_iload cx (pc := 53) d_x_convert_53 0 rfl ?_
      refine y_goto cx (pc := 55) (tgt := 73) d_x_convert_55 (by decide) ?_
      refine y_sub [2, 3, 4, 5, 6, 1, 0] rfl ?_
      exact b_x_convert_73 cx hRA p1 p2 p3 p4 (18 + p3.toNatClampNeg) x1 x1 σ4 h
theorem c_x_convert {l : Launch} (hfl : l.flags = flags0) (Δ : Ly) : ∀ (d : Nat) (p1 : Int32) (p2 : Int32) (p3 : Int32) (p4 : Int32) (σ : Sg) (Q : Sg → Prop) (_ : w_x_convert d p1 p2 p3 p4 σ Q), Ct l Δ (mi_x_convert d) [.ref (Δ.1 0), .int p1, .int p2, .int p3, .int p4] σ (qV Q) noE := by
  intro d
  induction d with
  | zero => intro p1 p2 p3 p4 σ Q h; exact h.elim
  | succ d ih =>
    intro p1 p2 p3 p4 σ Q h
    refine Ct.of hfl (by show plainFor ⟨"GuardedMoves", "convert", "(IIII)V"⟩ = true; decide +kernel) rfl (le_b rfl) (fun G hl cx => ?_)
    subst hl
    exact b_x_convert cx ih p1 p2 p3 p4 σ h
def mi_x_lowerAsk (d : Nat) : Mi := ("GuardedMoves", prog_1_method_28_code, 5, [], none, 30 + 3 * d + 1, 947 + 84 * d + 27, 0, 0, ⟨"GuardedMoves", "lowerAsk", "(I)V"⟩)
theorem d_x_lowerAsk_0 : decode prog_1_method_28_code 0 = .ok (.aload_n 0, 1) := by decide +kernel
theorem d_x_lowerAsk_1 : decode prog_1_method_28_code 1 = .ok (.iload_n 1, 1) := by decide +kernel
theorem d_x_lowerAsk_2 : decode prog_1_method_28_code 2 = .ok (.aload_n 0, 1) := by decide +kernel
theorem d_x_lowerAsk_3 : decode prog_1_method_28_code 3 = .ok (.getfield 220, 3) := by decide +kernel
theorem d_x_lowerAsk_6 : decode prog_1_method_28_code 6 = .ok (.iconst 0, 1) := by decide +kernel
theorem d_x_lowerAsk_7 : decode prog_1_method_28_code 7 = .ok (.aaload, 1) := by decide +kernel
theorem d_x_lowerAsk_8 : decode prog_1_method_28_code 8 = .ok (.invokevirtual 240, 3) := by decide +kernel
theorem d_x_lowerAsk_11 : decode prog_1_method_28_code 11 = .ok (.istore_n 2, 1) := by decide +kernel
theorem d_x_lowerAsk_12 : decode prog_1_method_28_code 12 = .ok (.aload_n 0, 1) := by decide +kernel
theorem d_x_lowerAsk_13 : decode prog_1_method_28_code 13 = .ok (.getfield 183, 3) := by decide +kernel
theorem d_x_lowerAsk_16 : decode prog_1_method_28_code 16 = .ok (.istore_n 3, 1) := by decide +kernel
theorem d_x_lowerAsk_17 : decode prog_1_method_28_code 17 = .ok (.aload_n 0, 1) := by decide +kernel
theorem d_x_lowerAsk_18 : decode prog_1_method_28_code 18 = .ok (.iload_n 1, 1) := by decide +kernel
theorem d_x_lowerAsk_19 : decode prog_1_method_28_code 19 = .ok (.bipush 17, 2) := by decide +kernel
theorem d_x_lowerAsk_21 : decode prog_1_method_28_code 21 = .ok (.iload_n 2, 1) := by decide +kernel
theorem d_x_lowerAsk_22 : decode prog_1_method_28_code 22 = .ok (.iconst 0, 1) := by decide +kernel
theorem d_x_lowerAsk_23 : decode prog_1_method_28_code 23 = .ok (.iconst 0, 1) := by decide +kernel
theorem d_x_lowerAsk_24 : decode prog_1_method_28_code 24 = .ok (.iconst 0, 1) := by decide +kernel
theorem d_x_lowerAsk_25 : decode prog_1_method_28_code 25 = .ok (.invokevirtual 202, 3) := by decide +kernel
theorem d_x_lowerAsk_28 : decode prog_1_method_28_code 28 = .ok (.pop, 1) := by decide +kernel
theorem d_x_lowerAsk_29 : decode prog_1_method_28_code 29 = .ok (.aload_n 0, 1) := by decide +kernel
theorem d_x_lowerAsk_30 : decode prog_1_method_28_code 30 = .ok (.iload_n 1, 1) := by decide +kernel
theorem d_x_lowerAsk_31 : decode prog_1_method_28_code 31 = .ok (.iconst 1, 1) := by decide +kernel
theorem d_x_lowerAsk_32 : decode prog_1_method_28_code 32 = .ok (.iadd, 1) := by decide +kernel
theorem d_x_lowerAsk_33 : decode prog_1_method_28_code 33 = .ok (.aload_n 0, 1) := by decide +kernel
theorem d_x_lowerAsk_34 : decode prog_1_method_28_code 34 = .ok (.getfield 172, 3) := by decide +kernel
theorem d_x_lowerAsk_37 : decode prog_1_method_28_code 37 = .ok (.getfield 151, 3) := by decide +kernel
theorem d_x_lowerAsk_40 : decode prog_1_method_28_code 40 = .ok (.iload_n 1, 1) := by decide +kernel
theorem d_x_lowerAsk_41 : decode prog_1_method_28_code 41 = .ok (.iaload, 1) := by decide +kernel
theorem d_x_lowerAsk_42 : decode prog_1_method_28_code 42 = .ok (.invokevirtual 243, 3) := by decide +kernel
theorem d_x_lowerAsk_45 : decode prog_1_method_28_code 45 = .ok (.aload_n 0, 1) := by decide +kernel
theorem d_x_lowerAsk_46 : decode prog_1_method_28_code 46 = .ok (.getfield 172, 3) := by decide +kernel
theorem d_x_lowerAsk_49 : decode prog_1_method_28_code 49 = .ok (.getfield 158, 3) := by decide +kernel
theorem d_x_lowerAsk_52 : decode prog_1_method_28_code 52 = .ok (.iload_n 1, 1) := by decide +kernel
theorem d_x_lowerAsk_53 : decode prog_1_method_28_code 53 = .ok (.iaload, 1) := by decide +kernel
theorem d_x_lowerAsk_54 : decode prog_1_method_28_code 54 = .ok (.aload_n 0, 1) := by decide +kernel
theorem d_x_lowerAsk_55 : decode prog_1_method_28_code 55 = .ok (.getfield 172, 3) := by decide +kernel
theorem d_x_lowerAsk_58 : decode prog_1_method_28_code 58 = .ok (.getfield 151, 3) := by decide +kernel
theorem d_x_lowerAsk_61 : decode prog_1_method_28_code 61 = .ok (.iload_n 1, 1) := by decide +kernel
theorem d_x_lowerAsk_62 : decode prog_1_method_28_code 62 = .ok (.iaload, 1) := by decide +kernel
theorem d_x_lowerAsk_63 : decode prog_1_method_28_code 63 = .ok (.if_icmp .le 71, 3) := by decide +kernel
theorem d_x_lowerAsk_66 : decode prog_1_method_28_code 66 = .ok (.aload_n 0, 1) := by decide +kernel
theorem d_x_lowerAsk_67 : decode prog_1_method_28_code 67 = .ok (.getfield 183, 3) := by decide +kernel
theorem d_x_lowerAsk_70 : decode prog_1_method_28_code 70 = .ok (.istore 4, 2) := by decide +kernel
theorem d_x_lowerAsk_72 : decode prog_1_method_28_code 72 = .ok (.aload_n 0, 1) := by decide +kernel
theorem d_x_lowerAsk_73 : decode prog_1_method_28_code 73 = .ok (.iload_n 1, 1) := by decide +kernel
theorem d_x_lowerAsk_74 : decode prog_1_method_28_code 74 = .ok (.bipush 16, 2) := by decide +kernel
theorem d_x_lowerAsk_76 : decode prog_1_method_28_code 76 = .ok (.iconst 0, 1) := by decide +kernel
theorem d_x_lowerAsk_77 : decode prog_1_method_28_code 77 = .ok (.iconst 0, 1) := by decide +kernel
theorem d_x_lowerAsk_78 : decode prog_1_method_28_code 78 = .ok (.iconst 0, 1) := by decide +kernel
theorem d_x_lowerAsk_79 : decode prog_1_method_28_code 79 = .ok (.iconst 0, 1) := by decide +kernel
theorem d_x_lowerAsk_80 : decode prog_1_method_28_code 80 = .ok (.invokevirtual 202, 3) := by decide +kernel
theorem d_x_lowerAsk_83 : decode prog_1_method_28_code 83 = .ok (.pop, 1) := by decide +kernel
theorem d_x_lowerAsk_84 : decode prog_1_method_28_code 84 = .ok (.aload_n 0, 1) := by decide +kernel
theorem d_x_lowerAsk_85 : decode prog_1_method_28_code 85 = .ok (.getfield 189, 3) := by decide +kernel
theorem d_x_lowerAsk_88 : decode prog_1_method_28_code 88 = .ok (.iconst 1, 1) := by decide +kernel
theorem d_x_lowerAsk_89 : decode prog_1_method_28_code 89 = .ok (.aaload, 1) := by decide +kernel
theorem d_x_lowerAsk_90 : decode prog_1_method_28_code 90 = .ok (.iload_n 3, 1) := by decide +kernel
theorem d_x_lowerAsk_91 : decode prog_1_method_28_code 91 = .ok (.aload_n 0, 1) := by decide +kernel
theorem d_x_lowerAsk_92 : decode prog_1_method_28_code 92 = .ok (.getfield 183, 3) := by decide +kernel
theorem d_x_lowerAsk_95 : decode prog_1_method_28_code 95 = .ok (.iastore, 1) := by decide +kernel
theorem d_x_lowerAsk_96 : decode prog_1_method_28_code 96 = .ok (.aload_n 0, 1) := by decide +kernel
theorem d_x_lowerAsk_97 : decode prog_1_method_28_code 97 = .ok (.aload_n 0, 1) := by decide +kernel
theorem d_x_lowerAsk_98 : decode prog_1_method_28_code 98 = .ok (.getfield 172, 3) := by decide +kernel
theorem d_x_lowerAsk_101 : decode prog_1_method_28_code 101 = .ok (.getfield 151, 3) := by decide +kernel
theorem d_x_lowerAsk_104 : decode prog_1_method_28_code 104 = .ok (.iload_n 1, 1) := by decide +kernel
theorem d_x_lowerAsk_105 : decode prog_1_method_28_code 105 = .ok (.iaload, 1) := by decide +kernel
theorem d_x_lowerAsk_106 : decode prog_1_method_28_code 106 = .ok (.aload_n 0, 1) := by decide +kernel
theorem d_x_lowerAsk_107 : decode prog_1_method_28_code 107 = .ok (.getfield 172, 3) := by decide +kernel
theorem d_x_lowerAsk_110 : decode prog_1_method_28_code 110 = .ok (.getfield 158, 3) := by decide +kernel
theorem d_x_lowerAsk_113 : decode prog_1_method_28_code 113 = .ok (.iload_n 1, 1) := by decide +kernel
theorem d_x_lowerAsk_114 : decode prog_1_method_28_code 114 = .ok (.iaload, 1) := by decide +kernel
theorem d_x_lowerAsk_115 : decode prog_1_method_28_code 115 = .ok (.invokevirtual 243, 3) := by decide +kernel
theorem d_x_lowerAsk_118 : decode prog_1_method_28_code 118 = .ok (.aload_n 0, 1) := by decide +kernel
theorem d_x_lowerAsk_119 : decode prog_1_method_28_code 119 = .ok (.getfield 189, 3) := by decide +kernel
theorem d_x_lowerAsk_122 : decode prog_1_method_28_code 122 = .ok (.iconst 0, 1) := by decide +kernel
theorem d_x_lowerAsk_123 : decode prog_1_method_28_code 123 = .ok (.aaload, 1) := by decide +kernel
theorem d_x_lowerAsk_124 : decode prog_1_method_28_code 124 = .ok (.iload 4, 2) := by decide +kernel
theorem d_x_lowerAsk_126 : decode prog_1_method_28_code 126 = .ok (.aload_n 0, 1) := by decide +kernel
theorem d_x_lowerAsk_127 : decode prog_1_method_28_code 127 = .ok (.getfield 183, 3) := by decide +kernel
theorem d_x_lowerAsk_130 : decode prog_1_method_28_code 130 = .ok (.iastore, 1) := by decide +kernel
theorem d_x_lowerAsk_131 : decode prog_1_method_28_code 131 = .ok (.goto 15, 3) := by decide +kernel
theorem d_x_lowerAsk_134 : decode prog_1_method_28_code 134 = .ok (.aload_n 0, 1) := by decide +kernel
theorem d_x_lowerAsk_135 : decode prog_1_method_28_code 135 = .ok (.getfield 189, 3) := by decide +kernel
theorem d_x_lowerAsk_138 : decode prog_1_method_28_code 138 = .ok (.iconst 1, 1) := by decide +kernel
theorem d_x_lowerAsk_139 : decode prog_1_method_28_code 139 = .ok (.aaload, 1) := by decide +kernel
theorem d_x_lowerAsk_140 : decode prog_1_method_28_code 140 = .ok (.iload_n 3, 1) := by decide +kernel
theorem d_x_lowerAsk_141 : decode prog_1_method_28_code 141 = .ok (.aload_n 0, 1) := by decide +kernel
theorem d_x_lowerAsk_142 : decode prog_1_method_28_code 142 = .ok (.getfield 183, 3) := by decide +kernel
theorem d_x_lowerAsk_145 : decode prog_1_method_28_code 145 = .ok (.iastore, 1) := by decide +kernel
theorem d_x_lowerAsk_146 : decode prog_1_method_28_code 146 = .ok (.return_, 1) := by decide +kernel
theorem kc_x_lowerAsk (d : Nat) : Kw (m_w (mi_x_lowerAsk d )) := ⟨(in_t3 (List.mem_of_getElem? (i := 206) rfl)), rfl⟩
theorem mv_x_lowerAsk (d : Nat) : MV (mi_x_lowerAsk d ) "GuardedMoves" 1 := ⟨kw_685, ks_40, kc_x_lowerAsk d , kw_1, ⟨⟨(by show ("GuardedMoves" : String) ≠ "java/lang/invoke/MethodHandle"; decide), (by show ("GuardedMoves" : String) ≠ "java/lang/invoke/VarHandle"; decide)⟩, (by show (parseMethodDescriptor "(I)V").map (fun d => d.parameters.length) = some 1; decide +kernel)⟩⟩
def mi_x_lowerOne (d : Nat) : Mi := ("GuardedMoves", prog_1_method_26_code, 6, [], none, 30 + 3 * d + 2, 947 + 84 * d + 55, 0, 0, ⟨"GuardedMoves", "lowerOne", "(I)V"⟩)
theorem d_x_lowerOne_0 : decode prog_1_method_26_code 0 = .ok (.aload_n 0, 1) := by decide +kernel
theorem d_x_lowerOne_1 : decode prog_1_method_26_code 1 = .ok (.getfield 220, 3) := by decide +kernel
theorem d_x_lowerOne_4 : decode prog_1_method_26_code 4 = .ok (.iconst 0, 1) := by decide +kernel
theorem d_x_lowerOne_5 : decode prog_1_method_26_code 5 = .ok (.aaload, 1) := by decide +kernel
theorem d_x_lowerOne_6 : decode prog_1_method_26_code 6 = .ok (.astore_n 2, 1) := by decide +kernel
theorem d_x_lowerOne_7 : decode prog_1_method_26_code 7 = .ok (.aload_n 0, 1) := by decide +kernel
theorem d_x_lowerOne_8 : decode prog_1_method_26_code 8 = .ok (.getfield 172, 3) := by decide +kernel
theorem d_x_lowerOne_11 : decode prog_1_method_26_code 11 = .ok (.getfield 129, 3) := by decide +kernel
theorem d_x_lowerOne_14 : decode prog_1_method_26_code 14 = .ok (.iload_n 1, 1) := by decide +kernel
theorem d_x_lowerOne_15 : decode prog_1_method_26_code 15 = .ok (.iaload, 1) := by decide +kernel
theorem d_x_lowerOne_16 : decode prog_1_method_26_code 16 = .ok (.istore_n 3, 1) := by decide +kernel
theorem d_x_lowerOne_17 : decode prog_1_method_26_code 17 = .ok (.aload_n 0, 1) := by decide +kernel
theorem d_x_lowerOne_18 : decode prog_1_method_26_code 18 = .ok (.getfield 172, 3) := by decide +kernel
theorem d_x_lowerOne_21 : decode prog_1_method_26_code 21 = .ok (.getfield 116, 3) := by decide +kernel
theorem d_x_lowerOne_24 : decode prog_1_method_26_code 24 = .ok (.iload_n 1, 1) := by decide +kernel
theorem d_x_lowerOne_25 : decode prog_1_method_26_code 25 = .ok (.iaload, 1) := by decide +kernel
theorem d_x_lowerOne_26 : decode prog_1_method_26_code 26 = .ok (.tableswitch 214 0 4 #[34, 91, 133, 157, 190], 34) := by decide +kernel
theorem d_x_lowerOne_60 : decode prog_1_method_26_code 60 = .ok (.aload_n 0, 1) := by decide +kernel
theorem d_x_lowerOne_61 : decode prog_1_method_26_code 61 = .ok (.getfield 172, 3) := by decide +kernel
theorem d_x_lowerOne_64 : decode prog_1_method_26_code 64 = .ok (.getfield 88, 3) := by decide +kernel
theorem d_x_lowerOne_67 : decode prog_1_method_26_code 67 = .ok (.iload_n 1, 1) := by decide +kernel
theorem d_x_lowerOne_68 : decode prog_1_method_26_code 68 = .ok (.iaload, 1) := by decide +kernel
theorem d_x_lowerOne_69 : decode prog_1_method_26_code 69 = .ok (.iconst (-1), 1) := by decide +kernel
theorem d_x_lowerOne_70 : decode prog_1_method_26_code 70 = .ok (.if_icmp .ne 25, 3) := by decide +kernel
theorem d_x_lowerOne_73 : decode prog_1_method_26_code 73 = .ok (.aload_n 0, 1) := by decide +kernel
theorem d_x_lowerOne_74 : decode prog_1_method_26_code 74 = .ok (.iload_n 1, 1) := by decide +kernel
theorem d_x_lowerOne_75 : decode prog_1_method_26_code 75 = .ok (.iconst 0, 1) := by decide +kernel
theorem d_x_lowerOne_76 : decode prog_1_method_26_code 76 = .ok (.iload_n 3, 1) := by decide +kernel
theorem d_x_lowerOne_77 : decode prog_1_method_26_code 77 = .ok (.aload_n 0, 1) := by decide +kernel
theorem d_x_lowerOne_78 : decode prog_1_method_26_code 78 = .ok (.getfield 172, 3) := by decide +kernel
theorem d_x_lowerOne_81 : decode prog_1_method_26_code 81 = .ok (.getfield 94, 3) := by decide +kernel
theorem d_x_lowerOne_84 : decode prog_1_method_26_code 84 = .ok (.iload_n 1, 1) := by decide +kernel
theorem d_x_lowerOne_85 : decode prog_1_method_26_code 85 = .ok (.iaload, 1) := by decide +kernel
theorem d_x_lowerOne_86 : decode prog_1_method_26_code 86 = .ok (.iconst 0, 1) := by decide +kernel
theorem d_x_lowerOne_87 : decode prog_1_method_26_code 87 = .ok (.iconst 0, 1) := by decide +kernel
theorem d_x_lowerOne_88 : decode prog_1_method_26_code 88 = .ok (.invokevirtual 202, 3) := by decide +kernel
theorem d_x_lowerOne_91 : decode prog_1_method_26_code 91 = .ok (.pop, 1) := by decide +kernel
theorem d_x_lowerOne_92 : decode prog_1_method_26_code 92 = .ok (.goto 173, 3) := by decide +kernel
theorem d_x_lowerOne_95 : decode prog_1_method_26_code 95 = .ok (.aload_n 0, 1) := by decide +kernel
theorem d_x_lowerOne_96 : decode prog_1_method_26_code 96 = .ok (.iload_n 1, 1) := by decide +kernel
theorem d_x_lowerOne_97 : decode prog_1_method_26_code 97 = .ok (.iconst 1, 1) := by decide +kernel
theorem d_x_lowerOne_98 : decode prog_1_method_26_code 98 = .ok (.iload_n 3, 1) := by decide +kernel
theorem d_x_lowerOne_99 : decode prog_1_method_26_code 99 = .ok (.aload_n 0, 1) := by decide +kernel
theorem d_x_lowerOne_100 : decode prog_1_method_26_code 100 = .ok (.getfield 172, 3) := by decide +kernel
theorem d_x_lowerOne_103 : decode prog_1_method_26_code 103 = .ok (.getfield 88, 3) := by decide +kernel
theorem d_x_lowerOne_106 : decode prog_1_method_26_code 106 = .ok (.iload_n 1, 1) := by decide +kernel
theorem d_x_lowerOne_107 : decode prog_1_method_26_code 107 = .ok (.iaload, 1) := by decide +kernel
theorem d_x_lowerOne_108 : decode prog_1_method_26_code 108 = .ok (.iconst 0, 1) := by decide +kernel
theorem d_x_lowerOne_109 : decode prog_1_method_26_code 109 = .ok (.iconst 0, 1) := by decide +kernel
theorem d_x_lowerOne_110 : decode prog_1_method_26_code 110 = .ok (.invokevirtual 202, 3) := by decide +kernel
theorem d_x_lowerOne_113 : decode prog_1_method_26_code 113 = .ok (.pop, 1) := by decide +kernel
theorem d_x_lowerOne_114 : decode prog_1_method_26_code 114 = .ok (.goto 151, 3) := by decide +kernel
theorem d_x_lowerOne_117 : decode prog_1_method_26_code 117 = .ok (.aload_n 0, 1) := by decide +kernel
theorem d_x_lowerOne_118 : decode prog_1_method_26_code 118 = .ok (.iload_n 1, 1) := by decide +kernel
theorem d_x_lowerOne_119 : decode prog_1_method_26_code 119 = .ok (.aload_n 2, 1) := by decide +kernel
theorem d_x_lowerOne_120 : decode prog_1_method_26_code 120 = .ok (.invokevirtual 223, 3) := by decide +kernel
theorem d_x_lowerOne_123 : decode prog_1_method_26_code 123 = .ok (.istore 4, 2) := by decide +kernel
theorem d_x_lowerOne_125 : decode prog_1_method_26_code 125 = .ok (.aload_n 0, 1) := by decide +kernel
theorem d_x_lowerOne_126 : decode prog_1_method_26_code 126 = .ok (.iload_n 1, 1) := by decide +kernel
theorem d_x_lowerOne_127 : decode prog_1_method_26_code 127 = .ok (.aload_n 2, 1) := by decide +kernel
theorem d_x_lowerOne_128 : decode prog_1_method_26_code 128 = .ok (.invokevirtual 227, 3) := by decide +kernel
theorem d_x_lowerOne_131 : decode prog_1_method_26_code 131 = .ok (.istore 5, 2) := by decide +kernel
theorem d_x_lowerOne_133 : decode prog_1_method_26_code 133 = .ok (.aload_n 0, 1) := by decide +kernel
theorem d_x_lowerOne_134 : decode prog_1_method_26_code 134 = .ok (.iload_n 1, 1) := by decide +kernel
theorem d_x_lowerOne_135 : decode prog_1_method_26_code 135 = .ok (.iconst 2, 1) := by decide +kernel
theorem d_x_lowerOne_136 : decode prog_1_method_26_code 136 = .ok (.aload_n 0, 1) := by decide +kernel
theorem d_x_lowerOne_137 : decode prog_1_method_26_code 137 = .ok (.getfield 172, 3) := by decide +kernel
theorem d_x_lowerOne_140 : decode prog_1_method_26_code 140 = .ok (.getfield 143, 3) := by decide +kernel
theorem d_x_lowerOne_143 : decode prog_1_method_26_code 143 = .ok (.iload_n 1, 1) := by decide +kernel
theorem d_x_lowerOne_144 : decode prog_1_method_26_code 144 = .ok (.iaload, 1) := by decide +kernel
theorem d_x_lowerOne_145 : decode prog_1_method_26_code 145 = .ok (.iadd, 1) := by decide +kernel
theorem d_x_lowerOne_146 : decode prog_1_method_26_code 146 = .ok (.iload_n 3, 1) := by decide +kernel
theorem d_x_lowerOne_147 : decode prog_1_method_26_code 147 = .ok (.iload 4, 2) := by decide +kernel
theorem d_x_lowerOne_149 : decode prog_1_method_26_code 149 = .ok (.iload 5, 2) := by decide +kernel
theorem d_x_lowerOne_151 : decode prog_1_method_26_code 151 = .ok (.iconst 0, 1) := by decide +kernel
theorem d_x_lowerOne_152 : decode prog_1_method_26_code 152 = .ok (.invokevirtual 202, 3) := by decide +kernel
theorem d_x_lowerOne_155 : decode prog_1_method_26_code 155 = .ok (.pop, 1) := by decide +kernel
theorem d_x_lowerOne_156 : decode prog_1_method_26_code 156 = .ok (.goto 109, 3) := by decide +kernel
theorem d_x_lowerOne_159 : decode prog_1_method_26_code 159 = .ok (.aload_n 0, 1) := by decide +kernel
theorem d_x_lowerOne_160 : decode prog_1_method_26_code 160 = .ok (.iload_n 1, 1) := by decide +kernel
theorem d_x_lowerOne_161 : decode prog_1_method_26_code 161 = .ok (.aload_n 2, 1) := by decide +kernel
theorem d_x_lowerOne_162 : decode prog_1_method_26_code 162 = .ok (.invokevirtual 223, 3) := by decide +kernel
theorem d_x_lowerOne_165 : decode prog_1_method_26_code 165 = .ok (.istore 4, 2) := by decide +kernel
theorem d_x_lowerOne_167 : decode prog_1_method_26_code 167 = .ok (.aload_n 0, 1) := by decide +kernel
theorem d_x_lowerOne_168 : decode prog_1_method_26_code 168 = .ok (.iload_n 1, 1) := by decide +kernel
theorem d_x_lowerOne_169 : decode prog_1_method_26_code 169 = .ok (.bipush 14, 2) := by decide +kernel
theorem d_x_lowerOne_171 : decode prog_1_method_26_code 171 = .ok (.iload_n 3, 1) := by decide +kernel
theorem d_x_lowerOne_172 : decode prog_1_method_26_code 172 = .ok (.iload 4, 2) := by decide +kernel
theorem d_x_lowerOne_174 : decode prog_1_method_26_code 174 = .ok (.iconst 0, 1) := by decide +kernel
theorem d_x_lowerOne_175 : decode prog_1_method_26_code 175 = .ok (.iconst 0, 1) := by decide +kernel
theorem d_x_lowerOne_176 : decode prog_1_method_26_code 176 = .ok (.invokevirtual 202, 3) := by decide +kernel
theorem d_x_lowerOne_179 : decode prog_1_method_26_code 179 = .ok (.pop, 1) := by decide +kernel
theorem d_x_lowerOne_180 : decode prog_1_method_26_code 180 = .ok (.goto 85, 3) := by decide +kernel
theorem d_x_lowerOne_183 : decode prog_1_method_26_code 183 = .ok (.aload_n 0, 1) := by decide +kernel
theorem d_x_lowerOne_184 : decode prog_1_method_26_code 184 = .ok (.iload_n 1, 1) := by decide +kernel
theorem d_x_lowerOne_185 : decode prog_1_method_26_code 185 = .ok (.aload_n 2, 1) := by decide +kernel
theorem d_x_lowerOne_186 : decode prog_1_method_26_code 186 = .ok (.invokevirtual 223, 3) := by decide +kernel
theorem d_x_lowerOne_189 : decode prog_1_method_26_code 189 = .ok (.istore 4, 2) := by decide +kernel
theorem d_x_lowerOne_191 : decode prog_1_method_26_code 191 = .ok (.aload_n 0, 1) := by decide +kernel
theorem d_x_lowerOne_192 : decode prog_1_method_26_code 192 = .ok (.iload_n 1, 1) := by decide +kernel
theorem d_x_lowerOne_193 : decode prog_1_method_26_code 193 = .ok (.aload_n 2, 1) := by decide +kernel
theorem d_x_lowerOne_194 : decode prog_1_method_26_code 194 = .ok (.invokevirtual 227, 3) := by decide +kernel
theorem d_x_lowerOne_197 : decode prog_1_method_26_code 197 = .ok (.istore 5, 2) := by decide +kernel
theorem d_x_lowerOne_199 : decode prog_1_method_26_code 199 = .ok (.aload_n 0, 1) := by decide +kernel
theorem d_x_lowerOne_200 : decode prog_1_method_26_code 200 = .ok (.iload_n 1, 1) := by decide +kernel
theorem d_x_lowerOne_201 : decode prog_1_method_26_code 201 = .ok (.bipush 15, 2) := by decide +kernel
theorem d_x_lowerOne_203 : decode prog_1_method_26_code 203 = .ok (.iload 4, 2) := by decide +kernel
theorem d_x_lowerOne_205 : decode prog_1_method_26_code 205 = .ok (.iload 5, 2) := by decide +kernel
theorem d_x_lowerOne_207 : decode prog_1_method_26_code 207 = .ok (.iconst 0, 1) := by decide +kernel
theorem d_x_lowerOne_208 : decode prog_1_method_26_code 208 = .ok (.iconst 0, 1) := by decide +kernel
theorem d_x_lowerOne_209 : decode prog_1_method_26_code 209 = .ok (.invokevirtual 202, 3) := by decide +kernel
theorem d_x_lowerOne_212 : decode prog_1_method_26_code 212 = .ok (.pop, 1) := by decide +kernel
theorem d_x_lowerOne_213 : decode prog_1_method_26_code 213 = .ok (.goto 52, 3) := by decide +kernel
theorem d_x_lowerOne_216 : decode prog_1_method_26_code 216 = .ok (.aload_n 0, 1) := by decide +kernel
theorem d_x_lowerOne_217 : decode prog_1_method_26_code 217 = .ok (.iload_n 1, 1) := by decide +kernel
theorem d_x_lowerOne_218 : decode prog_1_method_26_code 218 = .ok (.aload_n 2, 1) := by decide +kernel
theorem d_x_lowerOne_219 : decode prog_1_method_26_code 219 = .ok (.invokevirtual 223, 3) := by decide +kernel
theorem d_x_lowerOne_222 : decode prog_1_method_26_code 222 = .ok (.istore 4, 2) := by decide +kernel
theorem d_x_lowerOne_224 : decode prog_1_method_26_code 224 = .ok (.aload_n 0, 1) := by decide +kernel
theorem d_x_lowerOne_225 : decode prog_1_method_26_code 225 = .ok (.iload_n 1, 1) := by decide +kernel
theorem d_x_lowerOne_226 : decode prog_1_method_26_code 226 = .ok (.bipush 18, 2) := by decide +kernel
theorem d_x_lowerOne_228 : decode prog_1_method_26_code 228 = .ok (.iload 4, 2) := by decide +kernel
theorem d_x_lowerOne_230 : decode prog_1_method_26_code 230 = .ok (.iconst 0, 1) := by decide +kernel
theorem d_x_lowerOne_231 : decode prog_1_method_26_code 231 = .ok (.iconst 0, 1) := by decide +kernel
theorem d_x_lowerOne_232 : decode prog_1_method_26_code 232 = .ok (.iconst 0, 1) := by decide +kernel
theorem d_x_lowerOne_233 : decode prog_1_method_26_code 233 = .ok (.invokevirtual 202, 3) := by decide +kernel
theorem d_x_lowerOne_236 : decode prog_1_method_26_code 236 = .ok (.pop, 1) := by decide +kernel
theorem d_x_lowerOne_237 : decode prog_1_method_26_code 237 = .ok (.goto 28, 3) := by decide +kernel
theorem d_x_lowerOne_240 : decode prog_1_method_26_code 240 = .ok (.aload_n 0, 1) := by decide +kernel
theorem d_x_lowerOne_241 : decode prog_1_method_26_code 241 = .ok (.getfield 230, 3) := by decide +kernel
theorem d_x_lowerOne_244 : decode prog_1_method_26_code 244 = .ok (.iload_n 1, 1) := by decide +kernel
theorem d_x_lowerOne_245 : decode prog_1_method_26_code 245 = .ok (.baload, 1) := by decide +kernel
theorem d_x_lowerOne_246 : decode prog_1_method_26_code 246 = .ok (.ifCond .eq 14, 3) := by decide +kernel
theorem d_x_lowerOne_249 : decode prog_1_method_26_code 249 = .ok (.aload_n 0, 1) := by decide +kernel
theorem d_x_lowerOne_250 : decode prog_1_method_26_code 250 = .ok (.iload_n 1, 1) := by decide +kernel
theorem d_x_lowerOne_251 : decode prog_1_method_26_code 251 = .ok (.iconst (-1), 1) := by decide +kernel
theorem d_x_lowerOne_252 : decode prog_1_method_26_code 252 = .ok (.iconst 0, 1) := by decide +kernel
theorem d_x_lowerOne_253 : decode prog_1_method_26_code 253 = .ok (.iconst 1, 1) := by decide +kernel
theorem d_x_lowerOne_254 : decode prog_1_method_26_code 254 = .ok (.invokevirtual 233, 3) := by decide +kernel
theorem d_x_lowerOne_257 : decode prog_1_method_26_code 257 = .ok (.goto 8, 3) := by decide +kernel
theorem d_x_lowerOne_260 : decode prog_1_method_26_code 260 = .ok (.aload_n 0, 1) := by decide +kernel
theorem d_x_lowerOne_261 : decode prog_1_method_26_code 261 = .ok (.iload_n 1, 1) := by decide +kernel
theorem d_x_lowerOne_262 : decode prog_1_method_26_code 262 = .ok (.invokevirtual 237, 3) := by decide +kernel
theorem d_x_lowerOne_265 : decode prog_1_method_26_code 265 = .ok (.return_, 1) := by decide +kernel
theorem kc_x_lowerOne (d : Nat) : Kw (m_w (mi_x_lowerOne d )) := ⟨(in_t3 (List.mem_of_getElem? (i := 202) rfl)), rfl⟩
theorem mv_x_lowerOne (d : Nat) : MV (mi_x_lowerOne d ) "GuardedMoves" 1 := ⟨kw_681, ks_39, kc_x_lowerOne d , kw_1, ⟨⟨(by show ("GuardedMoves" : String) ≠ "java/lang/invoke/MethodHandle"; decide), (by show ("GuardedMoves" : String) ≠ "java/lang/invoke/VarHandle"; decide)⟩, (by show (parseMethodDescriptor "(I)V").map (fun d => d.parameters.length) = some 1; decide +kernel)⟩⟩
def mi_x_lowerAll (d : Nat) : Mi := ("GuardedMoves", prog_1_method_25_code, 4, [], none, 30 + 3 * d, 947 + 84 * d, 0, 0, ⟨"GuardedMoves", "lowerAll", "(II)V"⟩)
theorem d_x_lowerAll_0 : decode prog_1_method_25_code 0 = .ok (.iload_n 1, 1) := by decide +kernel
theorem d_x_lowerAll_1 : decode prog_1_method_25_code 1 = .ok (.istore_n 3, 1) := by decide +kernel
theorem d_x_lowerAll_2 : decode prog_1_method_25_code 2 = .ok (.iload_n 3, 1) := by decide +kernel
theorem d_x_lowerAll_3 : decode prog_1_method_25_code 3 = .ok (.iload_n 2, 1) := by decide +kernel
theorem d_x_lowerAll_4 : decode prog_1_method_25_code 4 = .ok (.if_icmp .ge 20, 3) := by decide +kernel
theorem d_x_lowerAll_7 : decode prog_1_method_25_code 7 = .ok (.aload_n 0, 1) := by decide +kernel
theorem d_x_lowerAll_8 : decode prog_1_method_25_code 8 = .ok (.iload_n 3, 1) := by decide +kernel
theorem d_x_lowerAll_9 : decode prog_1_method_25_code 9 = .ok (.invokevirtual 214, 3) := by decide +kernel
theorem d_x_lowerAll_12 : decode prog_1_method_25_code 12 = .ok (.aload_n 0, 1) := by decide +kernel
theorem d_x_lowerAll_13 : decode prog_1_method_25_code 13 = .ok (.getfield 172, 3) := by decide +kernel
theorem d_x_lowerAll_16 : decode prog_1_method_25_code 16 = .ok (.iload_n 3, 1) := by decide +kernel
theorem d_x_lowerAll_17 : decode prog_1_method_25_code 17 = .ok (.invokevirtual 217, 3) := by decide +kernel
theorem d_x_lowerAll_20 : decode prog_1_method_25_code 20 = .ok (.istore_n 3, 1) := by decide +kernel
theorem d_x_lowerAll_21 : decode prog_1_method_25_code 21 = .ok (.goto (-19), 3) := by decide +kernel
theorem d_x_lowerAll_24 : decode prog_1_method_25_code 24 = .ok (.return_, 1) := by decide +kernel
theorem kc_x_lowerAll (d : Nat) : Kw (m_w (mi_x_lowerAll d )) := ⟨(in_t3 (List.mem_of_getElem? (i := 198) rfl)), rfl⟩
theorem mv_x_lowerAll (d : Nat) : MV (mi_x_lowerAll d ) "GuardedMoves" 2 := ⟨kw_677, ks_38, kc_x_lowerAll d , kw_1, ⟨⟨(by show ("GuardedMoves" : String) ≠ "java/lang/invoke/MethodHandle"; decide), (by show ("GuardedMoves" : String) ≠ "java/lang/invoke/VarHandle"; decide)⟩, (by show (parseMethodDescriptor "(II)V").map (fun d => d.parameters.length) = some 2; decide +kernel)⟩⟩
def w_x_lowerAsk_146 (RA : Int32 → Int32 → Sg → (Sg → Prop) → Prop) (Q : Sg → Prop) (σ : Sg) : Prop := Q σ
theorem b_x_lowerAsk_146 {Δ : Ly} {G : Gm} {d : Nat} {RA : Int32 → Int32 → Sg → (Sg → Prop) → Prop} {Q : Sg → Prop} (cx : Cx Δ G (mi_x_lowerAsk d)) (hRA : ∀ (p1 : Int32) (p2 : Int32) (σ : Sg) (Q : Sg → Prop) , RA p1 p2 σ Q  → Ct (g_l G) Δ (mi_x_lowerAll d) [.ref (Δ.1 0), .int p1, .int p2] σ (qV Q) noE) : ∀ (σ : Sg), w_x_lowerAsk_146 RA Q σ → Y Δ G (mi_x_lowerAsk d) (qV Q) noE 0 0 σ 146 [] [] := by
  intro σ h
  unfold w_x_lowerAsk_146 at h
  exact y_vret cx (pc := 146) rfl d_x_lowerAsk_146 (le_b rfl) (le_b rfl) h
def w_x_lowerAsk (RA : Int32 → Int32 → Sg → (Sg → Prop) → Prop) (p1 : Int32) (σ : Sg) (Q : Sg → Prop) : Prop := w_x_test p1 18 σ (fun x1 σ2 => ∀ x3 : Int32, x3 = σ2 0 12 → (w_x_put p1 17 x1 0 0 0 σ2 (fun x4 σ5 => vp_in p1 60 ∧ (RA (p1 + 1) (σ5 44 (p1.toNatClampNeg)) σ5 (fun σ6 => vp_in p1 60 ∧ (vp_in p1 60 ∧ (((σ6 45 (p1.toNatClampNeg)) ≤ (σ6 44 (p1.toNatClampNeg)) → (vp_in x3 3000 ∧ (w_x_lowerAsk_146 RA Q (up σ6 15 (x3.toNatClampNeg) (σ6 0 12))))) ∧ (¬ (σ6 45 (p1.toNatClampNeg)) ≤ (σ6 44 (p1.toNatClampNeg)) → (∀ x7 : Int32, x7 = σ6 0 12 → (w_x_put p1 16 0 0 0 0 σ6 (fun x8 σ9 => vp_in x3 3000 ∧ (vp_in p1 60 ∧ (vp_in p1 60 ∧ (RA (σ9 44 (p1.toNatClampNeg)) (σ9 45 (p1.toNatClampNeg)) (up σ9 15 (x3.toNatClampNeg) (σ9 0 12)) (fun σ10 => vp_in x7 3000 ∧ (w_x_lowerAsk_146 RA Q (up σ10 14 (x7.toNatClampNeg) (σ10 0 12))))))))))))))))))
theorem b_x_lowerAsk {Δ : Ly} {G : Gm} {d : Nat} {RA : Int32 → Int32 → Sg → (Sg → Prop) → Prop} {Q : Sg → Prop} (cx : Cx Δ G (mi_x_lowerAsk d)) (hRA : ∀ (p1 : Int32) (p2 : Int32) (σ : Sg) (Q : Sg → Prop) , RA p1 p2 σ Q  → Ct (g_l G) Δ (mi_x_lowerAll d) [.ref (Δ.1 0), .int p1, .int p2] σ (qV Q) noE) (p1 : Int32) (σ : Sg) (h : w_x_lowerAsk RA p1 σ Q) : Y Δ G (mi_x_lowerAsk d) (qV Q) noE 0 0 σ 0 [(0, .ref (Δ.1 0)), (1, .int p1)] [] := by
  unfold w_x_lowerAsk at h
  refine y_aload_n cx (pc := 0) d_x_lowerAsk_0 rfl 0 rfl ?_
  refine y_iload_n cx (pc := 1) d_x_lowerAsk_1 rfl 1 rfl ?_
  refine y_aload_n cx (pc := 2) d_x_lowerAsk_2 rfl 0 rfl ?_
  refine y_get cx (pc := 3) (j := 16) (v := .ref (Δ.1 35)) (le_b rfl) ck_GM kw_413 (le_b rfl) (gf_0_16 Δ _) d_x_lowerAsk_3 ?_
  refine y_iconst cx (pc := 6) ic_0 d_x_lowerAsk_6 ?_
  refine y_aaldK cx (pc := 7) 0 (base := 18) ⟨(le_b rfl), fun _ => rfl⟩ (vp_dec _ _ (by decide)) (by decide) d_x_lowerAsk_7 ?_
  refine y_vI cx (pc := 8) (st := []) [.int p1, .ref (Δ.1 18)] (c_x_test cx.fl Δ p1 18 _ _ h) mv_x_test kw_627 (oc_0 Δ) ck_GM rfl (le_b rfl) (by show 4 + 1 ≤ 30 + 3 * d + 1; omega) (by show 12 + (5 + 11) + (110) ≤ 947 + 84 * d + 27; omega) (le_b rfl) (le_b rfl) d_x_lowerAsk_8 (fun x1 σ2 h => ?_) (fun x σ2 h => yt_no h)
  refine y_istore_n (lv' := [(2, .int x1), (0, .ref (Δ.1 0)), (1, .int p1)]) cx (pc := 11) d_x_lowerAsk_11 rfl (le_b rfl) rfl ?_
  refine y_aload_n cx (pc := 12) d_x_lowerAsk_12 rfl 1 rfl ?_
  refine y_get cx (pc := 13) (j := 12) (v := .int (σ2 0 12)) (le_b rfl) ck_GM kw_409 (le_b rfl) (gf_0_12 Δ _) d_x_lowerAsk_13 ?_
  refine y_topi (fun x3 ex3 => ?_)
  replace h := h x3 ex3
  refine y_istore_n (lv' := [(3, .int x3), (2, .int x1), (0, .ref (Δ.1 0)), (1, .int p1)]) cx (pc := 16) d_x_lowerAsk_16 rfl (le_b rfl) rfl ?_
  refine y_aload_n cx (pc := 17) d_x_lowerAsk_17 rfl 2 rfl ?_
  refine y_iload_n cx (pc := 18) d_x_lowerAsk_18 rfl 3 rfl ?_
  refine y_bipush cx (pc := 19) bp_17 d_x_lowerAsk_19 ?_
  refine y_iload_n cx (pc := 21) d_x_lowerAsk_21 rfl 1 rfl ?_
  refine y_iconst cx (pc := 22) ic_0 d_x_lowerAsk_22 ?_
  refine y_iconst cx (pc := 23) ic_0 d_x_lowerAsk_23 ?_
  refine y_iconst cx (pc := 24) ic_0 d_x_lowerAsk_24 ?_
  refine y_vI cx (pc := 25) (st := []) [.int p1, .int 17, .int x1, .int 0, .int 0, .int 0] (c_x_put cx.fl Δ p1 17 x1 0 0 0 _ _ h) mv_x_put kw_647 (oc_0 Δ) ck_GM rfl (le_b rfl) (by show 0 + 1 ≤ 30 + 3 * d + 1; omega) (by show 12 + (7 + 11) + (0) ≤ 947 + 84 * d + 27; omega) (le_b rfl) (le_b rfl) d_x_lowerAsk_25 (fun x4 σ5 h => ?_) (fun x σ5 h => yt_no h)
  refine y_pop cx (pc := 28) rfl d_x_lowerAsk_28 ?_
  refine y_aload_n cx (pc := 29) d_x_lowerAsk_29 rfl 2 rfl ?_
  refine y_iload_n cx (pc := 30) d_x_lowerAsk_30 rfl 3 rfl ?_
  refine y_iconst cx (pc := 31) ic_1 d_x_lowerAsk_31 ?_
  refine y_iadd cx (pc := 32) d_x_lowerAsk_32 ?_
  refine y_aload_n cx (pc := 33) d_x_lowerAsk_33 rfl 2 rfl ?_
  refine y_get cx (pc := 34) (j := 0) (v := .ref (Δ.1 1)) (le_b rfl) ck_GM kw_397 (le_b rfl) (gf_0_0 Δ _) d_x_lowerAsk_34 ?_
  refine y_getN cx (pc := 37) (j := 9) (v := .ref (Δ.1 44)) (le_b rfl) ck_Tx kw_274 (le_b rfl) (gf_1_9 Δ _) d_x_lowerAsk_37 ?_
  refine y_iload_n cx (pc := 40) d_x_lowerAsk_40 rfl 3 rfl ?_
  obtain ⟨h0, h⟩ := h
  refine y_iald cx (pc := 41) ⟨(le_b rfl), fun _ => rfl⟩ h0 d_x_lowerAsk_41 ?_
  refine y_vV cx (pc := 42) (st := []) [.int (p1 + 1), .int (σ5 44 (p1.toNatClampNeg))] (hRA (p1 + 1) (σ5 44 (p1.toNatClampNeg)) _ _ h) (mv_x_lowerAll d) kw_675 (oc_0 Δ) ck_GM rfl (le_b rfl) (by show 30 + 3 * d + 1 ≤ 30 + 3 * d + 1; omega) (by show 12 + (4 + 11) + (947 + 84 * d) ≤ 947 + 84 * d + 27; omega) (le_b rfl) (le_b rfl) d_x_lowerAsk_42 (fun σ6 h => ?_) (fun x σ6 h => yt_no h)
  refine y_aload_n cx (pc := 45) d_x_lowerAsk_45 rfl 2 rfl ?_
  refine y_get cx (pc := 46) (j := 0) (v := .ref (Δ.1 1)) (le_b rfl) ck_GM kw_397 (le_b rfl) (gf_0_0 Δ _) d_x_lowerAsk_46 ?_
  refine y_getN cx (pc := 49) (j := 10) (v := .ref (Δ.1 45)) (le_b rfl) ck_Tx kw_276 (le_b rfl) (gf_1_10 Δ _) d_x_lowerAsk_49 ?_
  refine y_iload_n cx (pc := 52) d_x_lowerAsk_52 rfl 3 rfl ?_
  obtain ⟨h0, h⟩ := h
  refine y_iald cx (pc := 53) ⟨(le_b rfl), fun _ => rfl⟩ h0 d_x_lowerAsk_53 ?_
  refine y_aload_n cx (pc := 54) d_x_lowerAsk_54 rfl 2 rfl ?_
  refine y_get cx (pc := 55) (j := 0) (v := .ref (Δ.1 1)) (le_b rfl) ck_GM kw_397 (le_b rfl) (gf_0_0 Δ _) d_x_lowerAsk_55 ?_
  refine y_getN cx (pc := 58) (j := 9) (v := .ref (Δ.1 44)) (le_b rfl) ck_Tx kw_274 (le_b rfl) (gf_1_9 Δ _) d_x_lowerAsk_58 ?_
  refine y_iload_n cx (pc := 61) d_x_lowerAsk_61 rfl 3 rfl ?_
  obtain ⟨h0, h⟩ := h
  refine y_iald cx (pc := 62) ⟨(le_b rfl), fun _ => rfl⟩ h0 d_x_lowerAsk_62 ?_
  refine y_icmp_le cx (pc := 63) (tgt := 134) d_x_lowerAsk_63 (by decide) (fun hc => ?_) (fun hc => ?_)
  · replace h := h.1 hc
    refine y_aload_n cx (pc := 134) d_x_lowerAsk_134 rfl 2 rfl ?_
    refine y_get cx (pc := 135) (j := 10) (v := .ref (Δ.1 34)) (le_b rfl) ck_GM kw_407 (le_b rfl) (gf_0_10 Δ _) d_x_lowerAsk_135 ?_
    refine y_iconst cx (pc := 138) ic_1 d_x_lowerAsk_138 ?_
    refine y_aaldK cx (pc := 139) 1 (base := 14) ⟨(le_b rfl), fun _ => rfl⟩ (vp_dec _ _ (by decide)) (by decide) d_x_lowerAsk_139 ?_
    refine y_iload_n cx (pc := 140) d_x_lowerAsk_140 rfl 0 rfl ?_
    refine y_aload_n cx (pc := 141) d_x_lowerAsk_141 rfl 2 rfl ?_
    refine y_get cx (pc := 142) (j := 12) (v := .int (σ6 0 12)) (le_b rfl) ck_GM kw_409 (le_b rfl) (gf_0_12 Δ _) d_x_lowerAsk_142 ?_
    obtain ⟨h0, h⟩ := h
    refine y_iast cx (pc := 145) ⟨(le_b rfl), fun _ => rfl⟩ h0 d_x_lowerAsk_145 ?_
    refine y_sub [] rfl ?_
    exact b_x_lowerAsk_146 cx hRA (up σ6 15 (x3.toNatClampNeg) (σ6 0 12)) h
  · replace h := h.2 hc
    refine y_aload_n cx (pc := 66) d_x_lowerAsk_66 rfl 2 rfl ?_
    refine y_get cx (pc := 67) (j := 12) (v := .int (σ6 0 12)) (le_b rfl) ck_GM kw_409 (le_b rfl) (gf_0_12 Δ _) d_x_lowerAsk_67 ?_
    refine y_topi (fun x7 ex7 => ?_)
    replace h := h x7 ex7
    refine y_istore (lv' := [(4, .int x7), (3, .int x3), (2, .int x1), (0, .ref (Δ.1 0)), (1, .int p1)]) cx (pc := 70) d_x_lowerAsk_70 (le_b rfl) rfl ?_
    refine y_aload_n cx (pc := 72) d_x_lowerAsk_72 rfl 3 rfl ?_
    refine y_iload_n cx (pc := 73) d_x_lowerAsk_73 rfl 4 rfl ?_
    refine y_bipush cx (pc := 74) bp_16 d_x_lowerAsk_74 ?_
    refine y_iconst cx (pc := 76) ic_0 d_x_lowerAsk_76 ?_
    refine y_iconst cx (pc := 77) ic_0 d_x_lowerAsk_77 ?_
    refine y_iconst cx (pc := 78) ic_0 d_x_lowerAsk_78 ?_
    refine y_iconst cx (pc := 79) ic_0 d_x_lowerAsk_79 ?_
    refine y_vI cx (pc := 80) (st := []) [.int p1, .int 16, .int 0, .int 0, .int 0, .int 0] (c_x_put cx.fl Δ p1 16 0 0 0 0 _ _ h) mv_x_put kw_647 (oc_0 Δ) ck_GM rfl (le_b rfl) (by show 0 + 1 ≤ 30 + 3 * d + 1; omega) (by show 12 + (7 + 11) + (0) ≤ 947 + 84 * d + 27; omega) (le_b rfl) (le_b rfl) d_x_lowerAsk_80 (fun x8 σ9 h => ?_) (fun x σ9 h => yt_no h)
    refine y_pop cx (pc := 83) rfl d_x_lowerAsk_83 ?_
    refine y_aload_n cx (pc := 84) d_x_lowerAsk_84 rfl 3 rfl ?_
    refine y_get cx (pc := 85) (j := 10) (v := .ref (Δ.1 34)) (le_b rfl) ck_GM kw_407 (le_b rfl) (gf_0_10 Δ _) d_x_lowerAsk_85 ?_
    refine y_iconst cx (pc := 88) ic_1 d_x_lowerAsk_88 ?_
    refine y_aaldK cx (pc := 89) 1 (base := 14) ⟨(le_b rfl), fun _ => rfl⟩ (vp_dec _ _ (by decide)) (by decide) d_x_lowerAsk_89 ?_
    refine y_iload_n cx (pc := 90) d_x_lowerAsk_90 rfl 1 rfl ?_
    refine y_aload_n cx (pc := 91) d_x_lowerAsk_91 rfl 3 rfl ?_
    refine y_get cx (pc := 92) (j := 12) (v := .int (σ9 0 12)) (le_b rfl) ck_GM kw_409 (le_b rfl) (gf_0_12 Δ _) d_x_lowerAsk_92 ?_
    obtain ⟨h0, h⟩ := h
    refine y_iast cx (pc := 95) ⟨(le_b rfl), fun _ => rfl⟩ h0 d_x_lowerAsk_95 ?_
    refine y_aload_n cx (pc := 96) d_x_lowerAsk_96 rfl 3 rfl ?_
    refine y_aload_n cx (pc := 97) d_x_lowerAsk_97 rfl 3 rfl ?_
    refine y_get cx (pc := 98) (j := 0) (v := .ref (Δ.1 1)) (le_b rfl) ck_GM kw_397 (le_b rfl) (gf_0_0 Δ _) d_x_lowerAsk_98 ?_
    refine y_getN cx (pc := 101) (j := 9) (v := .ref (Δ.1 44)) (le_b rfl) ck_Tx kw_274 (le_b rfl) (gf_1_9 Δ _) d_x_lowerAsk_101 ?_
    refine y_iload_n cx (pc := 104) d_x_lowerAsk_104 rfl 4 rfl ?_
    obtain ⟨h0, h⟩ := h
    refine y_iald cx (pc := 105) ⟨(le_b rfl), fun _ => rfl⟩ h0 d_x_lowerAsk_105 ?_
    refine y_aload_n cx (pc := 106) d_x_lowerAsk_106 rfl 3 rfl ?_
    refine y_get cx (pc := 107) (j := 0) (v := .ref (Δ.1 1)) (le_b rfl) ck_GM kw_397 (le_b rfl) (gf_0_0 Δ _) d_x_lowerAsk_107 ?_
    refine y_getN cx (pc := 110) (j := 10) (v := .ref (Δ.1 45)) (le_b rfl) ck_Tx kw_276 (le_b rfl) (gf_1_10 Δ _) d_x_lowerAsk_110 ?_
    refine y_iload_n cx (pc := 113) d_x_lowerAsk_113 rfl 4 rfl ?_
    obtain ⟨h0, h⟩ := h
    refine y_iald cx (pc := 114) ⟨(le_b rfl), fun _ => rfl⟩ h0 d_x_lowerAsk_114 ?_
    refine y_vV cx (pc := 115) (st := []) [.int (σ9 44 (p1.toNatClampNeg)), .int (σ9 45 (p1.toNatClampNeg))] (hRA (σ9 44 (p1.toNatClampNeg)) (σ9 45 (p1.toNatClampNeg)) _ _ h) (mv_x_lowerAll d) kw_675 (oc_0 Δ) ck_GM rfl (le_b rfl) (by show 30 + 3 * d + 1 ≤ 30 + 3 * d + 1; omega) (by show 12 + (4 + 11) + (947 + 84 * d) ≤ 947 + 84 * d + 27; omega) (le_b rfl) (le_b rfl) d_x_lowerAsk_115 (fun σ10 h => ?_) (fun x σ10 h => yt_no h)
    refine y_aload_n cx (pc := 118) d_x_lowerAsk_118 rfl 3 rfl ?_
    refine y_get cx (pc := 119) (j := 10) (v := .ref (Δ.1 34)) (le_b rfl) ck_GM kw_407 (le_b rfl) (gf_0_10 Δ _) d_x_lowerAsk_119 ?_
    refine y_iconst cx (pc := 122) ic_0 d_x_lowerAsk_122 ?_
    refine y_aaldK cx (pc := 123) 0 (base := 14) ⟨(le_b rfl), fun _ => rfl⟩ (vp_dec _ _ (by decide)) (by decide) d_x_lowerAsk_123 ?_
    refine y_iload cx (pc := 124) d_x_lowerAsk_124 0 rfl ?_
    refine y_aload_n cx (pc := 126) d_x_lowerAsk_126 rfl 3 rfl ?_
    refine y_get cx (pc := 127) (j := 12) (v := .int (σ10 0 12)) (le_b rfl) ck_GM kw_409 (le_b rfl) (gf_0_12 Δ _) d_x_lowerAsk_127 ?_
    obtain ⟨h0, h⟩ := h
    refine y_iast cx (pc := 130) ⟨(le_b rfl), fun _ => rfl⟩ h0 d_x_lowerAsk_130 ?_
    refine y_goto cx (pc := 131) (tgt := 146) d_x_lowerAsk_131 (by decide) ?_
    refine y_sub [] rfl ?_
    exact b_x_lowerAsk_146 cx hRA (up σ10 14 (x7.toNatClampNeg) (σ10 0 12)) h
theorem c_x_lowerAsk {l : Launch} (hfl : l.flags = flags0) (Δ : Ly) (RA : Int32 → Int32 → Sg → (Sg → Prop) → Prop) (d : Nat) (hRA : ∀ (p1 : Int32) (p2 : Int32) (σ : Sg) (Q : Sg → Prop) , RA p1 p2 σ Q  → Ct l Δ (mi_x_lowerAll d) [.ref (Δ.1 0), .int p1, .int p2] σ (qV Q) noE) (p1 : Int32) (σ : Sg) (Q : Sg → Prop) (h : w_x_lowerAsk RA p1 σ Q) : Ct l Δ (mi_x_lowerAsk d) [.ref (Δ.1 0), .int p1] σ (qV Q) noE :=
  Ct.of hfl (by show plainFor ⟨"GuardedMoves", "lowerAsk", "(I)V"⟩ = true; decide +kernel) rfl (le_b rfl) (fun G hl cx => by subst hl; exact b_x_lowerAsk cx hRA p1 σ h)
def w_x_lowerOne_265 (RA : Int32 → Int32 → Sg → (Sg → Prop) → Prop) (Q : Sg → Prop) (σ : Sg) : Prop := Q σ
theorem b_x_lowerOne_265 {Δ : Ly} {G : Gm} {d : Nat} {RA : Int32 → Int32 → Sg → (Sg → Prop) → Prop} {Q : Sg → Prop} (cx : Cx Δ G (mi_x_lowerOne d)) (hRA : ∀ (p1 : Int32) (p2 : Int32) (σ : Sg) (Q : Sg → Prop) , RA p1 p2 σ Q  → Ct (g_l G) Δ (mi_x_lowerAll d) [.ref (Δ.1 0), .int p1, .int p2] σ (qV Q) noE) : ∀ (σ : Sg), w_x_lowerOne_265 RA Q σ → Y Δ G (mi_x_lowerOne d) (qV Q) noE 0 0 σ 265 [] [] := by
  intro σ h
  unfold w_x_lowerOne_265 at h
  exact y_vret cx (pc := 265) rfl d_x_lowerOne_265 (le_b rfl) (le_b rfl) h
def w_x_lowerOne (RA : Int32 → Int32 → Sg → (Sg → Prop) → Prop) (p1 : Int32) (σ : Sg) (Q : Sg → Prop) : Prop := vp_in p1 60 ∧ (∀ x1 : Int32, x1 = σ 38 (p1.toNatClampNeg) → (vp_in p1 60 ∧ (((σ 36 (p1.toNatClampNeg)) = 0 → (vp_in p1 60 ∧ ((¬ (σ 40 (p1.toNatClampNeg)) = (-1) → (vp_in p1 60 ∧ (w_x_put p1 1 x1 (σ 40 (p1.toNatClampNeg)) 0 0 σ (fun x2 σ3 => w_x_lowerOne_265 RA Q σ3)))) ∧ ((σ 40 (p1.toNatClampNeg)) = (-1) → (vp_in p1 60 ∧ (w_x_put p1 0 x1 (σ 41 (p1.toNatClampNeg)) 0 0 σ (fun x4 σ5 => w_x_lowerOne_265 RA Q σ5))))))) ∧ (¬ (σ 36 (p1.toNatClampNeg)) = 0 → (((σ 36 (p1.toNatClampNeg)) = 1 → (w_x_first_IAI p1 18 σ (fun x6 σ7 => w_x_second_IAI p1 18 σ7 (fun x8 σ9 => vp_in p1 60 ∧ (w_x_put p1 (2 + (σ9 39 (p1.toNatClampNeg))) x1 x6 x8 0 σ9 (fun x10 σ11 => w_x_lowerOne_265 RA Q σ11)))))) ∧ (¬ (σ 36 (p1.toNatClampNeg)) = 1 → (((σ 36 (p1.toNatClampNeg)) = 2 → (w_x_first_IAI p1 18 σ (fun x12 σ13 => w_x_put p1 14 x1 x12 0 0 σ13 (fun x14 σ15 => w_x_lowerOne_265 RA Q σ15)))) ∧ (¬ (σ 36 (p1.toNatClampNeg)) = 2 → (((σ 36 (p1.toNatClampNeg)) = 3 → (w_x_first_IAI p1 18 σ (fun x16 σ17 => w_x_second_IAI p1 18 σ17 (fun x18 σ19 => w_x_put p1 15 x16 x18 0 0 σ19 (fun x20 σ21 => w_x_lowerOne_265 RA Q σ21))))) ∧ (¬ (σ 36 (p1.toNatClampNeg)) = 3 → (((σ 36 (p1.toNatClampNeg)) = 4 → (w_x_first_IAI p1 18 σ (fun x22 σ23 => w_x_put p1 18 x22 0 0 0 σ23 (fun x24 σ25 => w_x_lowerOne_265 RA Q σ25)))) ∧ (¬ (σ 36 (p1.toNatClampNeg)) = 4 → (vp_in p1 60 ∧ (((σ 8 (p1.toNatClampNeg)) = 0 → (w_x_lowerAsk RA p1 σ (fun σ26 => w_x_lowerOne_265 RA Q σ26))) ∧ (¬ (σ 8 (p1.toNatClampNeg)) = 0 → (w_x_convert 8 p1 (-1) 0 1 σ (fun σ27 => w_x_lowerOne_265 RA Q σ27)))))))))))))))))
theorem b_x_lowerOne {Δ : Ly} {G : Gm} {d : Nat} {RA : Int32 → Int32 → Sg → (Sg → Prop) → Prop} {Q : Sg → Prop} (cx : Cx Δ G (mi_x_lowerOne d)) (hRA : ∀ (p1 : Int32) (p2 : Int32) (σ : Sg) (Q : Sg → Prop) , RA p1 p2 σ Q  → Ct (g_l G) Δ (mi_x_lowerAll d) [.ref (Δ.1 0), .int p1, .int p2] σ (qV Q) noE) (p1 : Int32) (σ : Sg) (h : w_x_lowerOne RA p1 σ Q) : Y Δ G (mi_x_lowerOne d) (qV Q) noE 0 0 σ 0 [(0, .ref (Δ.1 0)), (1, .int p1)] [] := by
  unfold w_x_lowerOne at h
  refine y_aload_n cx (pc := 0) d_x_lowerOne_0 rfl 0 rfl ?_
  refine y_get cx (pc := 1) (j := 16) (v := .ref (Δ.1 35)) (le_b rfl) ck_GM kw_413 (le_b rfl) (gf_0_16 Δ _) d_x_lowerOne_1 ?_
  refine y_iconst cx (pc := 4) ic_0 d_x_lowerOne_4 ?_
  refine y_aaldK cx (pc := 5) 0 (base := 18) ⟨(le_b rfl), fun _ => rfl⟩ (vp_dec _ _ (by decide)) (by decide) d_x_lowerOne_5 ?_
  refine y_astore_n (lv' := [(2, .ref (Δ.1 18)), (0, .ref (Δ.1 0)), (1, .int p1)]) cx (pc := 6) d_x_lowerOne_6 rfl (le_b rfl) rfl ?_
  refine y_aload_n cx (pc := 7) d_x_lowerOne_7 rfl 1 rfl ?_
  refine y_get cx (pc := 8) (j := 0) (v := .ref (Δ.1 1)) (le_b rfl) ck_GM kw_397 (le_b rfl) (gf_0_0 Δ _) d_x_lowerOne_8 ?_
  refine y_getN cx (pc := 11) (j := 3) (v := .ref (Δ.1 38)) (le_b rfl) ck_Tx kw_262 (le_b rfl) (gf_1_3 Δ _) d_x_lowerOne_11 ?_
  refine y_iload_n cx (pc := 14) d_x_lowerOne_14 rfl 2 rfl ?_
  obtain ⟨h0, h⟩ := h
  refine y_iald cx (pc := 15) ⟨(le_b rfl), fun _ => rfl⟩ h0 d_x_lowerOne_15 ?_
  refine y_topi (fun x1 ex1 => ?_)
  replace h := h x1 ex1
  refine y_istore_n (lv' := [(3, .int x1), (2, .ref (Δ.1 18)), (0, .ref (Δ.1 0)), (1, .int p1)]) cx (pc := 16) d_x_lowerOne_16 rfl (le_b rfl) rfl ?_
  refine y_aload_n cx (pc := 17) d_x_lowerOne_17 rfl 2 rfl ?_
  refine y_get cx (pc := 18) (j := 0) (v := .ref (Δ.1 1)) (le_b rfl) ck_GM kw_397 (le_b rfl) (gf_0_0 Δ _) d_x_lowerOne_18 ?_
  refine y_getN cx (pc := 21) (j := 1) (v := .ref (Δ.1 36)) (le_b rfl) ck_Tx kw_258 (le_b rfl) (gf_1_1 Δ _) d_x_lowerOne_21 ?_
  refine y_iload_n cx (pc := 24) d_x_lowerOne_24 rfl 3 rfl ?_
  obtain ⟨h0, h⟩ := h
  refine y_iald cx (pc := 25) ⟨(le_b rfl), fun _ => rfl⟩ h0 d_x_lowerOne_25 ?_
  by_cases hc0 : (σ 36 (p1.toNatClampNeg)) = 0
  · replace h := h.1 hc0
    refine y_tIn cx (pc := 26) (tgt := 60) (c := 0) d_x_lowerOne_26 hc0 (by decide) (by decide) rfl (by decide) ?_
    refine y_aload_n cx (pc := 60) d_x_lowerOne_60 rfl 2 rfl ?_
    refine y_get cx (pc := 61) (j := 0) (v := .ref (Δ.1 1)) (le_b rfl) ck_GM kw_397 (le_b rfl) (gf_0_0 Δ _) d_x_lowerOne_61 ?_
    refine y_getN cx (pc := 64) (j := 5) (v := .ref (Δ.1 40)) (le_b rfl) ck_Tx kw_266 (le_b rfl) (gf_1_5 Δ _) d_x_lowerOne_64 ?_
    refine y_iload_n cx (pc := 67) d_x_lowerOne_67 rfl 3 rfl ?_
    obtain ⟨h0, h⟩ := h
    refine y_iald cx (pc := 68) ⟨(le_b rfl), fun _ => rfl⟩ h0 d_x_lowerOne_68 ?_
    refine y_iconst cx (pc := 69) ic_m1 d_x_lowerOne_69 ?_
    refine y_icmp_ne cx (pc := 70) (tgt := 95) d_x_lowerOne_70 (by decide) (fun hc => ?_) (fun hc => ?_)
    · replace h := h.1 hc
      refine y_aload_n cx (pc := 95) d_x_lowerOne_95 rfl 2 rfl ?_
      refine y_iload_n cx (pc := 96) d_x_lowerOne_96 rfl 3 rfl ?_
      refine y_iconst cx (pc := 97) ic_1 d_x_lowerOne_97 ?_
      refine y_iload_n cx (pc := 98) d_x_lowerOne_98 rfl 0 rfl ?_
      refine y_aload_n cx (pc := 99) d_x_lowerOne_99 rfl 2 rfl ?_
      refine y_get cx (pc := 100) (j := 0) (v := .ref (Δ.1 1)) (le_b rfl) ck_GM kw_397 (le_b rfl) (gf_0_0 Δ _) d_x_lowerOne_100 ?_
      refine y_getN cx (pc := 103) (j := 5) (v := .ref (Δ.1 40)) (le_b rfl) ck_Tx kw_266 (le_b rfl) (gf_1_5 Δ _) d_x_lowerOne_103 ?_
      refine y_iload_n cx (pc := 106) d_x_lowerOne_106 rfl 3 rfl ?_
      obtain ⟨h0, h⟩ := h
      refine y_iald cx (pc := 107) ⟨(le_b rfl), fun _ => rfl⟩ h0 d_x_lowerOne_107 ?_
      refine y_iconst cx (pc := 108) ic_0 d_x_lowerOne_108 ?_
      refine y_iconst cx (pc := 109) ic_0 d_x_lowerOne_109 ?_
      refine y_vI cx (pc := 110) (st := []) [.int p1, .int 1, .int x1, .int (σ 40 (p1.toNatClampNeg)), .int 0, .int 0] (c_x_put cx.fl Δ p1 1 x1 (σ 40 (p1.toNatClampNeg)) 0 0 _ _ h) mv_x_put kw_647 (oc_0 Δ) ck_GM rfl (le_b rfl) (by show 0 + 1 ≤ 30 + 3 * d + 2; omega) (by show 12 + (7 + 11) + (0) ≤ 947 + 84 * d + 55; omega) (le_b rfl) (le_b rfl) d_x_lowerOne_110 (fun x2 σ3 h => ?_) (fun x σ3 h => yt_no h)
      refine y_pop cx (pc := 113) rfl d_x_lowerOne_113 ?_
      refine y_goto cx (pc := 114) (tgt := 265) d_x_lowerOne_114 (by decide) ?_
      refine y_sub [] rfl ?_
      exact b_x_lowerOne_265 cx hRA σ3 h
    · replace h := h.2 hc
      refine y_aload_n cx (pc := 73) d_x_lowerOne_73 rfl 2 rfl ?_
      refine y_iload_n cx (pc := 74) d_x_lowerOne_74 rfl 3 rfl ?_
      refine y_iconst cx (pc := 75) ic_0 d_x_lowerOne_75 ?_
      refine y_iload_n cx (pc := 76) d_x_lowerOne_76 rfl 0 rfl ?_
      refine y_aload_n cx (pc := 77) d_x_lowerOne_77 rfl 2 rfl ?_
      refine y_get cx (pc := 78) (j := 0) (v := .ref (Δ.1 1)) (le_b rfl) ck_GM kw_397 (le_b rfl) (gf_0_0 Δ _) d_x_lowerOne_78 ?_
      refine y_getN cx (pc := 81) (j := 6) (v := .ref (Δ.1 41)) (le_b rfl) ck_Tx kw_268 (le_b rfl) (gf_1_6 Δ _) d_x_lowerOne_81 ?_
      refine y_iload_n cx (pc := 84) d_x_lowerOne_84 rfl 3 rfl ?_
      obtain ⟨h0, h⟩ := h
      refine y_iald cx (pc := 85) ⟨(le_b rfl), fun _ => rfl⟩ h0 d_x_lowerOne_85 ?_
      refine y_iconst cx (pc := 86) ic_0 d_x_lowerOne_86 ?_
      refine y_iconst cx (pc := 87) ic_0 d_x_lowerOne_87 ?_
      refine y_vI cx (pc := 88) (st := []) [.int p1, .int 0, .int x1, .int (σ 41 (p1.toNatClampNeg)), .int 0, .int 0] (c_x_put cx.fl Δ p1 0 x1 (σ 41 (p1.toNatClampNeg)) 0 0 _ _ h) mv_x_put kw_647 (oc_0 Δ) ck_GM rfl (le_b rfl) (by show 0 + 1 ≤ 30 + 3 * d + 2; omega) (by show 12 + (7 + 11) + (0) ≤ 947 + 84 * d + 55; omega) (le_b rfl) (le_b rfl) d_x_lowerOne_88 (fun x4 σ5 h => ?_) (fun x σ5 h => yt_no h)
      refine y_pop cx (pc := 91) rfl d_x_lowerOne_91 ?_
      refine y_goto cx (pc := 92) (tgt := 265) d_x_lowerOne_92 (by decide) ?_
      refine y_sub [] rfl ?_
      exact b_x_lowerOne_265 cx hRA σ5 h
  replace h := h.2 hc0
  by_cases hc1 : (σ 36 (p1.toNatClampNeg)) = 1
  · replace h := h.1 hc1
    refine y_tIn cx (pc := 26) (tgt := 117) (c := 1) d_x_lowerOne_26 hc1 (by decide) (by decide) rfl (by decide) ?_
    refine y_aload_n cx (pc := 117) d_x_lowerOne_117 rfl 2 rfl ?_
    refine y_iload_n cx (pc := 118) d_x_lowerOne_118 rfl 3 rfl ?_
    refine y_aload_n cx (pc := 119) d_x_lowerOne_119 rfl 1 rfl ?_
    refine y_vI cx (pc := 120) (st := []) [.int p1, .ref (Δ.1 18)] (c_x_first_IAI cx.fl Δ p1 18 _ _ h) mv_x_first_IAI kw_631 (oc_0 Δ) ck_GM rfl (le_b rfl) (by show 3 + 1 ≤ 30 + 3 * d + 2; omega) (by show 12 + (3 + 11) + (84) ≤ 947 + 84 * d + 55; omega) (le_b rfl) (le_b rfl) d_x_lowerOne_120 (fun x6 σ7 h => ?_) (fun x σ7 h => yt_no h)
    refine y_istore (lv' := [(4, .int x6), (3, .int x1), (2, .ref (Δ.1 18)), (0, .ref (Δ.1 0)), (1, .int p1)]) cx (pc := 123) d_x_lowerOne_123 (le_b rfl) rfl ?_
    refine y_aload_n cx (pc := 125) d_x_lowerOne_125 rfl 3 rfl ?_
    refine y_iload_n cx (pc := 126) d_x_lowerOne_126 rfl 4 rfl ?_
    refine y_aload_n cx (pc := 127) d_x_lowerOne_127 rfl 2 rfl ?_
    refine y_vI cx (pc := 128) (st := []) [.int p1, .ref (Δ.1 18)] (c_x_second_IAI cx.fl Δ p1 18 _ _ h) mv_x_second_IAI kw_651 (oc_0 Δ) ck_GM rfl (le_b rfl) (by show 3 + 1 ≤ 30 + 3 * d + 2; omega) (by show 12 + (3 + 11) + (84) ≤ 947 + 84 * d + 55; omega) (le_b rfl) (le_b rfl) d_x_lowerOne_128 (fun x8 σ9 h => ?_) (fun x σ9 h => yt_no h)
    refine y_istore (lv' := [(5, .int x8), (4, .int x6), (3, .int x1), (2, .ref (Δ.1 18)), (0, .ref (Δ.1 0)), (1, .int p1)]) cx (pc := 131) d_x_lowerOne_131 (le_b rfl) rfl ?_
    refine y_aload_n cx (pc := 133) d_x_lowerOne_133 rfl 4 rfl ?_
    refine y_iload_n cx (pc := 134) d_x_lowerOne_134 rfl 5 rfl ?_
    refine y_iconst cx (pc := 135) ic_2 d_x_lowerOne_135 ?_
    refine y_aload_n cx (pc := 136) d_x_lowerOne_136 rfl 4 rfl ?_
    refine y_get cx (pc := 137) (j := 0) (v := .ref (Δ.1 1)) (le_b rfl) ck_GM kw_397 (le_b rfl) (gf_0_0 Δ _) d_x_lowerOne_137 ?_
    refine y_getN cx (pc := 140) (j := 4) (v := .ref (Δ.1 39)) (le_b rfl) ck_Tx kw_264 (le_b rfl) (gf_1_4 Δ _) d_x_lowerOne_140 ?_
    refine y_iload_n cx (pc := 143) d_x_lowerOne_143 rfl 5 rfl ?_
    obtain ⟨h0, h⟩ := h
    refine y_iald cx (pc := 144) ⟨(le_b rfl), fun _ => rfl⟩ h0 d_x_lowerOne_144 ?_
    refine y_iadd cx (pc := 145) d_x_lowerOne_145 ?_
    refine y_iload_n cx (pc := 146) d_x_lowerOne_146 rfl 2 rfl ?_
    refine y_iload cx (pc := 147) d_x_lowerOne_147 1 rfl ?_
    refine y_iload cx (pc := 149) d_x_lowerOne_149 0 rfl ?_
    refine y_iconst cx (pc := 151) ic_0 d_x_lowerOne_151 ?_
    refine y_vI cx (pc := 152) (st := []) [.int p1, .int (2 + (σ9 39 (p1.toNatClampNeg))), .int x1, .int x6, .int x8, .int 0] (c_x_put cx.fl Δ p1 (2 + (σ9 39 (p1.toNatClampNeg))) x1 x6 x8 0 _ _ h) mv_x_put kw_647 (oc_0 Δ) ck_GM rfl (le_b rfl) (by show 0 + 1 ≤ 30 + 3 * d + 2; omega) (by show 12 + (7 + 11) + (0) ≤ 947 + 84 * d + 55; omega) (le_b rfl) (le_b rfl) d_x_lowerOne_152 (fun x10 σ11 h => ?_) (fun x σ11 h => yt_no h)
    refine y_pop cx (pc := 155) rfl d_x_lowerOne_155 ?_
    refine y_goto cx (pc := 156) (tgt := 265) d_x_lowerOne_156 (by decide) ?_
    refine y_sub [] rfl ?_
    exact b_x_lowerOne_265 cx hRA σ11 h
  replace h := h.2 hc1
  by_cases hc2 : (σ 36 (p1.toNatClampNeg)) = 2
  · replace h := h.1 hc2
    refine y_tIn cx (pc := 26) (tgt := 159) (c := 2) d_x_lowerOne_26 hc2 (by decide) (by decide) rfl (by decide) ?_
    refine y_aload_n cx (pc := 159) d_x_lowerOne_159 rfl 2 rfl ?_
    refine y_iload_n cx (pc := 160) d_x_lowerOne_160 rfl 3 rfl ?_
    refine y_aload_n cx (pc := 161) d_x_lowerOne_161 rfl 1 rfl ?_
    refine y_vI cx (pc := 162) (st := []) [.int p1, .ref (Δ.1 18)] (c_x_first_IAI cx.fl Δ p1 18 _ _ h) mv_x_first_IAI kw_631 (oc_0 Δ) ck_GM rfl (le_b rfl) (by show 3 + 1 ≤ 30 + 3 * d + 2; omega) (by show 12 + (3 + 11) + (84) ≤ 947 + 84 * d + 55; omega) (le_b rfl) (le_b rfl) d_x_lowerOne_162 (fun x12 σ13 h => ?_) (fun x σ13 h => yt_no h)
    refine y_istore (lv' := [(4, .int x12), (3, .int x1), (2, .ref (Δ.1 18)), (0, .ref (Δ.1 0)), (1, .int p1)]) cx (pc := 165) d_x_lowerOne_165 (le_b rfl) rfl ?_
    refine y_aload_n cx (pc := 167) d_x_lowerOne_167 rfl 3 rfl ?_
    refine y_iload_n cx (pc := 168) d_x_lowerOne_168 rfl 4 rfl ?_
    refine y_bipush cx (pc := 169) bp_14 d_x_lowerOne_169 ?_
    refine y_iload_n cx (pc := 171) d_x_lowerOne_171 rfl 1 rfl ?_
    refine y_iload cx (pc := 172) d_x_lowerOne_172 0 rfl ?_
    refine y_iconst cx (pc := 174) ic_0 d_x_lowerOne_174 ?_
    refine y_iconst cx (pc := 175) ic_0 d_x_lowerOne_175 ?_
    refine y_vI cx (pc := 176) (st := []) [.int p1, .int 14, .int x1, .int x12, .int 0, .int 0] (c_x_put cx.fl Δ p1 14 x1 x12 0 0 _ _ h) mv_x_put kw_647 (oc_0 Δ) ck_GM rfl (le_b rfl) (by show 0 + 1 ≤ 30 + 3 * d + 2; omega) (by show 12 + (7 + 11) + (0) ≤ 947 + 84 * d + 55; omega) (le_b rfl) (le_b rfl) d_x_lowerOne_176 (fun x14 σ15 h => ?_) (fun x σ15 h => yt_no h)
    refine y_pop cx (pc := 179) rfl d_x_lowerOne_179 ?_
    refine y_goto cx (pc := 180) (tgt := 265) d_x_lowerOne_180 (by decide) ?_
    refine y_sub [] rfl ?_
    exact b_x_lowerOne_265 cx hRA σ15 h
  replace h := h.2 hc2
  by_cases hc3 : (σ 36 (p1.toNatClampNeg)) = 3
  · replace h := h.1 hc3
    refine y_tIn cx (pc := 26) (tgt := 183) (c := 3) d_x_lowerOne_26 hc3 (by decide) (by decide) rfl (by decide) ?_
    refine y_aload_n cx (pc := 183) d_x_lowerOne_183 rfl 2 rfl ?_
    refine y_iload_n cx (pc := 184) d_x_lowerOne_184 rfl 3 rfl ?_
    refine y_aload_n cx (pc := 185) d_x_lowerOne_185 rfl 1 rfl ?_
    refine y_vI cx (pc := 186) (st := []) [.int p1, .ref (Δ.1 18)] (c_x_first_IAI cx.fl Δ p1 18 _ _ h) mv_x_first_IAI kw_631 (oc_0 Δ) ck_GM rfl (le_b rfl) (by show 3 + 1 ≤ 30 + 3 * d + 2; omega) (by show 12 + (3 + 11) + (84) ≤ 947 + 84 * d + 55; omega) (le_b rfl) (le_b rfl) d_x_lowerOne_186 (fun x16 σ17 h => ?_) (fun x σ17 h => yt_no h)
    refine y_istore (lv' := [(4, .int x16), (3, .int x1), (2, .ref (Δ.1 18)), (0, .ref (Δ.1 0)), (1, .int p1)]) cx (pc := 189) d_x_lowerOne_189 (le_b rfl) rfl ?_
    refine y_aload_n cx (pc := 191) d_x_lowerOne_191 rfl 3 rfl ?_
    refine y_iload_n cx (pc := 192) d_x_lowerOne_192 rfl 4 rfl ?_
    refine y_aload_n cx (pc := 193) d_x_lowerOne_193 rfl 2 rfl ?_
    refine y_vI cx (pc := 194) (st := []) [.int p1, .ref (Δ.1 18)] (c_x_second_IAI cx.fl Δ p1 18 _ _ h) mv_x_second_IAI kw_651 (oc_0 Δ) ck_GM rfl (le_b rfl) (by show 3 + 1 ≤ 30 + 3 * d + 2; omega) (by show 12 + (3 + 11) + (84) ≤ 947 + 84 * d + 55; omega) (le_b rfl) (le_b rfl) d_x_lowerOne_194 (fun x18 σ19 h => ?_) (fun x σ19 h => yt_no h)
    refine y_istore (lv' := [(5, .int x18), (4, .int x16), (3, .int x1), (2, .ref (Δ.1 18)), (0, .ref (Δ.1 0)), (1, .int p1)]) cx (pc := 197) d_x_lowerOne_197 (le_b rfl) rfl ?_
    refine y_aload_n cx (pc := 199) d_x_lowerOne_199 rfl 4 rfl ?_
    refine y_iload_n cx (pc := 200) d_x_lowerOne_200 rfl 5 rfl ?_
    refine y_bipush cx (pc := 201) bp_15 d_x_lowerOne_201 ?_
    refine y_iload cx (pc := 203) d_x_lowerOne_203 1 rfl ?_
    refine y_iload cx (pc := 205) d_x_lowerOne_205 0 rfl ?_
    refine y_iconst cx (pc := 207) ic_0 d_x_lowerOne_207 ?_
    refine y_iconst cx (pc := 208) ic_0 d_x_lowerOne_208 ?_
    refine y_vI cx (pc := 209) (st := []) [.int p1, .int 15, .int x16, .int x18, .int 0, .int 0] (c_x_put cx.fl Δ p1 15 x16 x18 0 0 _ _ h) mv_x_put kw_647 (oc_0 Δ) ck_GM rfl (le_b rfl) (by show 0 + 1 ≤ 30 + 3 * d + 2; omega) (by show 12 + (7 + 11) + (0) ≤ 947 + 84 * d + 55; omega) (le_b rfl) (le_b rfl) d_x_lowerOne_209 (fun x20 σ21 h => ?_) (fun x σ21 h => yt_no h)
    refine y_pop cx (pc := 212) rfl d_x_lowerOne_212 ?_
    refine y_goto cx (pc := 213) (tgt := 265) d_x_lowerOne_213 (by decide) ?_
    refine y_sub [] rfl ?_
    exact b_x_lowerOne_265 cx hRA σ21 h
  replace h := h.2 hc3
  by_cases hc4 : (σ 36 (p1.toNatClampNeg)) = 4
  · replace h := h.1 hc4
    refine y_tIn cx (pc := 26) (tgt := 216) (c := 4) d_x_lowerOne_26 hc4 (by decide) (by decide) rfl (by decide) ?_
    refine y_aload_n cx (pc := 216) d_x_lowerOne_216 rfl 2 rfl ?_
    refine y_iload_n cx (pc := 217) d_x_lowerOne_217 rfl 3 rfl ?_
    refine y_aload_n cx (pc := 218) d_x_lowerOne_218 rfl 1 rfl ?_
    refine y_vI cx (pc := 219) (st := []) [.int p1, .ref (Δ.1 18)] (c_x_first_IAI cx.fl Δ p1 18 _ _ h) mv_x_first_IAI kw_631 (oc_0 Δ) ck_GM rfl (le_b rfl) (by show 3 + 1 ≤ 30 + 3 * d + 2; omega) (by show 12 + (3 + 11) + (84) ≤ 947 + 84 * d + 55; omega) (le_b rfl) (le_b rfl) d_x_lowerOne_219 (fun x22 σ23 h => ?_) (fun x σ23 h => yt_no h)
    refine y_istore (lv' := [(4, .int x22), (3, .int x1), (2, .ref (Δ.1 18)), (0, .ref (Δ.1 0)), (1, .int p1)]) cx (pc := 222) d_x_lowerOne_222 (le_b rfl) rfl ?_
    refine y_aload_n cx (pc := 224) d_x_lowerOne_224 rfl 3 rfl ?_
    refine y_iload_n cx (pc := 225) d_x_lowerOne_225 rfl 4 rfl ?_
    refine y_bipush cx (pc := 226) bp_18 d_x_lowerOne_226 ?_
    refine y_iload cx (pc := 228) d_x_lowerOne_228 0 rfl ?_
    refine y_iconst cx (pc := 230) ic_0 d_x_lowerOne_230 ?_
    refine y_iconst cx (pc := 231) ic_0 d_x_lowerOne_231 ?_
    refine y_iconst cx (pc := 232) ic_0 d_x_lowerOne_232 ?_
    refine y_vI cx (pc := 233) (st := []) [.int p1, .int 18, .int x22, .int 0, .int 0, .int 0] (c_x_put cx.fl Δ p1 18 x22 0 0 0 _ _ h) mv_x_put kw_647 (oc_0 Δ) ck_GM rfl (le_b rfl) (by show 0 + 1 ≤ 30 + 3 * d + 2; omega) (by show 12 + (7 + 11) + (0) ≤ 947 + 84 * d + 55; omega) (le_b rfl) (le_b rfl) d_x_lowerOne_233 (fun x24 σ25 h => ?_) (fun x σ25 h => yt_no h)
    refine y_pop cx (pc := 236) rfl d_x_lowerOne_236 ?_
    refine y_goto cx (pc := 237) (tgt := 265) d_x_lowerOne_237 (by decide) ?_
    refine y_sub [] rfl ?_
    exact b_x_lowerOne_265 cx hRA σ25 h
  replace h := h.2 hc4
  refine y_tOut cx (pc := 26) (tgt := 240) d_x_lowerOne_26 (by have z0 := lv_neT hc0 (show (0 : Int32).toInt = 0 from rfl); have z1 := lv_neT hc1 (show (1 : Int32).toInt = 1 from rfl); have z2 := lv_neT hc2 (show (2 : Int32).toInt = 2 from rfl); have z3 := lv_neT hc3 (show (3 : Int32).toInt = 3 from rfl); have z4 := lv_neT hc4 (show (4 : Int32).toInt = 4 from rfl); omega) (by decide) ?_
  refine y_aload_n cx (pc := 240) d_x_lowerOne_240 rfl 2 rfl ?_
  refine y_get cx (pc := 241) (j := 15) (v := .ref (Δ.1 8)) (le_b rfl) ck_GM kw_412 (le_b rfl) (gf_0_15 Δ _) d_x_lowerOne_241 ?_
  refine y_iload_n cx (pc := 244) d_x_lowerOne_244 rfl 3 rfl ?_
  obtain ⟨h0, h⟩ := h
  refine y_zald cx (pc := 245) ⟨(le_b rfl), fun _ => rfl⟩ h0 d_x_lowerOne_245 ?_
  refine y_if_eq cx (pc := 246) (tgt := 260) d_x_lowerOne_246 (by decide) (fun hc => ?_) (fun hc => ?_)
  · replace h := h.1 hc
    refine y_aload_n cx (pc := 260) d_x_lowerOne_260 rfl 2 rfl ?_
    refine y_iload_n cx (pc := 261) d_x_lowerOne_261 rfl 3 rfl ?_
    refine y_vV cx (pc := 262) (st := []) [.int p1] (c_x_lowerAsk cx.fl Δ RA d hRA p1 _ _ h) (mv_x_lowerAsk d) kw_683 (oc_0 Δ) ck_GM rfl (le_b rfl) (by show 30 + 3 * d + 1 + 1 ≤ 30 + 3 * d + 2; omega) (by show 12 + (5 + 11) + (947 + 84 * d + 27) ≤ 947 + 84 * d + 55; omega) (le_b rfl) (le_b rfl) d_x_lowerOne_262 (fun σ26 h => ?_) (fun x σ26 h => yt_no h)
    refine y_sub [] rfl ?_
    exact b_x_lowerOne_265 cx hRA σ26 h
  · replace h := h.2 hc
    refine y_aload_n cx (pc := 249) d_x_lowerOne_249 rfl 2 rfl ?_
    refine y_iload_n cx (pc := 250) d_x_lowerOne_250 rfl 3 rfl ?_
    refine y_iconst cx (pc := 251) ic_m1 d_x_lowerOne_251 ?_
    refine y_iconst cx (pc := 252) ic_0 d_x_lowerOne_252 ?_
    refine y_iconst cx (pc := 253) ic_1 d_x_lowerOne_253 ?_
    refine y_vV cx (pc := 254) (st := []) [.int p1, .int (-1), .int 0, .int 1] (c_x_convert cx.fl Δ 8 p1 (-1) 0 1 _ _ h) (mv_x_convert 8) kw_623 (oc_0 Δ) ck_GM rfl (le_b rfl) (by show 5 + 3 * 8 + 1 ≤ 30 + 3 * d + 2; omega) (by show 12 + (10 + 11) + (138 + 97 * 8) ≤ 947 + 84 * d + 55; omega) (le_b rfl) (le_b rfl) d_x_lowerOne_254 (fun σ27 h => ?_) (fun x σ27 h => yt_no h)
    refine y_goto cx (pc := 257) (tgt := 265) d_x_lowerOne_257 (by decide) ?_
    refine y_sub [] rfl ?_
    exact b_x_lowerOne_265 cx hRA σ27 h
theorem c_x_lowerOne {l : Launch} (hfl : l.flags = flags0) (Δ : Ly) (RA : Int32 → Int32 → Sg → (Sg → Prop) → Prop) (d : Nat) (hRA : ∀ (p1 : Int32) (p2 : Int32) (σ : Sg) (Q : Sg → Prop) , RA p1 p2 σ Q  → Ct l Δ (mi_x_lowerAll d) [.ref (Δ.1 0), .int p1, .int p2] σ (qV Q) noE) (p1 : Int32) (σ : Sg) (Q : Sg → Prop) (h : w_x_lowerOne RA p1 σ Q) : Ct l Δ (mi_x_lowerOne d) [.ref (Δ.1 0), .int p1] σ (qV Q) noE :=
  Ct.of hfl (by show plainFor ⟨"GuardedMoves", "lowerOne", "(I)V"⟩ = true; decide +kernel) rfl (le_b rfl) (fun G hl cx => by subst hl; exact b_x_lowerOne cx hRA p1 σ h)
def w_x_lowerAll_2 (RA : Int32 → Int32 → Sg → (Sg → Prop) → Prop) (Q : Sg → Prop) : Nat → Int32 → Int32 → Sg → Prop
  | 0, _, _, _ => False
  | n + 1, v2, v3, σ => (v2 ≤ v3 → (Q σ)) ∧ (¬ v2 ≤ v3 → (w_x_lowerOne RA v3 σ (fun σ1 => w_t_next v3 σ1 (fun x2 σ3 => (w_x_lowerAll_2 RA Q n) v2 x2 σ3))))
theorem b_x_lowerAll_2 {Δ : Ly} {G : Gm} {d : Nat} {RA : Int32 → Int32 → Sg → (Sg → Prop) → Prop} {Q : Sg → Prop} (cx : Cx Δ G (mi_x_lowerAll (d + 1))) (hRA : ∀ (p1 : Int32) (p2 : Int32) (σ : Sg) (Q : Sg → Prop) , RA p1 p2 σ Q  → Ct (g_l G) Δ (mi_x_lowerAll d) [.ref (Δ.1 0), .int p1, .int p2] σ (qV Q) noE) : ∀ (n : Nat) (v2 : Int32) (v3 : Int32) (σ : Sg), w_x_lowerAll_2 RA Q n v2 v3 σ → Y Δ G (mi_x_lowerAll (d + 1)) (qV Q) noE 0 0 σ 2 [(0, .ref (Δ.1 0)), (2, .int v2), (3, .int v3)] [] := by
  intro n
  induction n with
  | zero => intro v2 v3 σ h; exact h.elim
  | succ n ih =>
    intro v2 v3 σ h
    unfold w_x_lowerAll_2 at h
    refine y_iload_n cx (pc := 2) d_x_lowerAll_2 rfl 2 rfl ?_
    refine y_iload_n cx (pc := 3) d_x_lowerAll_3 rfl 1 rfl ?_
    refine y_icmp_ge cx (pc := 4) (tgt := 24) d_x_lowerAll_4 (by decide) (fun hc => ?_) (fun hc => ?_)
    · replace h := h.1 hc
      exact y_vret cx (pc := 24) rfl d_x_lowerAll_24 (le_b rfl) (le_b rfl) h
    · replace h := h.2 hc
      refine y_aload_n cx (pc := 7) d_x_lowerAll_7 rfl 0 rfl ?_
      refine y_iload_n cx (pc := 8) d_x_lowerAll_8 rfl 2 rfl ?_
      refine y_vV cx (pc := 9) (st := []) [.int v3] (c_x_lowerOne cx.fl Δ RA d hRA v3 _ _ h) (mv_x_lowerOne d) kw_679 (oc_0 Δ) ck_GM rfl (le_b rfl) (by show 30 + 3 * d + 2 + 1 ≤ 30 + 3 * (d + 1); omega) (by show 12 + (6 + 11) + (947 + 84 * d + 55) ≤ 947 + 84 * (d + 1); omega) (le_b rfl) (le_b rfl) d_x_lowerAll_9 (fun σ1 h => ?_) (fun x σ1 h => yt_no h)
      refine y_aload_n cx (pc := 12) d_x_lowerAll_12 rfl 0 rfl ?_
      refine y_get cx (pc := 13) (j := 0) (v := .ref (Δ.1 1)) (le_b rfl) ck_GM kw_397 (le_b rfl) (gf_0_0 Δ _) d_x_lowerAll_13 ?_
      refine y_iload_n cx (pc := 16) d_x_lowerAll_16 rfl 2 rfl ?_
      refine y_vI cx (pc := 17) (st := []) [.int v3] (c_t_next cx.fl Δ v3 _ _ h) mv_t_next kw_238 (oc_1 Δ) ck_Tx rfl (le_b rfl) (by show 0 + 1 ≤ 30 + 3 * (d + 1); omega) (by show 12 + (2 + 11) + (0) ≤ 947 + 84 * (d + 1); omega) (le_b rfl) (le_b rfl) d_x_lowerAll_17 (fun x2 σ3 h => ?_) (fun x σ3 h => yt_no h)
      refine y_istore_n (lv' := [(3, .int x2), (0, .ref (Δ.1 0)), (2, .int v2)]) cx (pc := 20) d_x_lowerAll_20 rfl (le_b rfl) rfl ?_
      refine y_goto cx (pc := 21) (tgt := 2) d_x_lowerAll_21 (by decide) ?_
      refine y_sub [1, 2, 0] rfl ?_
      exact ih v2 x2 σ3 h
def w_x_lowerAll_s (RA : Int32 → Int32 → Sg → (Sg → Prop) → Prop) (p1 : Int32) (p2 : Int32) (σ : Sg) (Q : Sg → Prop) : Prop := ∃ q2, w_x_lowerAll_2 RA Q q2 p2 p1 σ
def w_x_lowerAll : Nat → Int32 → Int32 → Sg → (Sg → Prop) → Prop
  | 0, _, _, _, _ => False
  | d + 1, p1, p2, σ, Q => w_x_lowerAll_s (w_x_lowerAll d) p1 p2 σ Q
theorem b_x_lowerAll {Δ : Ly} {G : Gm} {d : Nat} {RA : Int32 → Int32 → Sg → (Sg → Prop) → Prop} {Q : Sg → Prop} (cx : Cx Δ G (mi_x_lowerAll (d + 1))) (hRA : ∀ (p1 : Int32) (p2 : Int32) (σ : Sg) (Q : Sg → Prop) , RA p1 p2 σ Q  → Ct (g_l G) Δ (mi_x_lowerAll d) [.ref (Δ.1 0), .int p1, .int p2] σ (qV Q) noE) (p1 : Int32) (p2 : Int32) (σ : Sg) (h : w_x_lowerAll_s RA p1 p2 σ Q) : Y Δ G (mi_x_lowerAll (d + 1)) (qV Q) noE 0 0 σ 0 [(0, .ref (Δ.1 0)), (1, .int p1), (2, .int p2)] [] := by
  unfold w_x_lowerAll_s at h
  refine y_iload_n cx (pc := 0) d_x_lowerAll_0 rfl 1 rfl ?_
  refine y_istore_n (lv' := [(3, .int p1), (0, .ref (Δ.1 0)), (1, .int p1), (2, .int p2)]) cx (pc := 1) d_x_lowerAll_1 rfl (le_b rfl) rfl ?_
  refine y_sub [1, 3, 0] rfl ?_
  obtain ⟨n, h⟩ := h
  exact b_x_lowerAll_2 cx hRA n p2 p1 σ h
theorem c_x_lowerAll {l : Launch} (hfl : l.flags = flags0) (Δ : Ly) : ∀ (d : Nat) (p1 : Int32) (p2 : Int32) (σ : Sg) (Q : Sg → Prop) (_ : w_x_lowerAll d p1 p2 σ Q), Ct l Δ (mi_x_lowerAll d) [.ref (Δ.1 0), .int p1, .int p2] σ (qV Q) noE := by
  intro d
  induction d with
  | zero => intro p1 p2 σ Q h; exact h.elim
  | succ d ih =>
    intro p1 p2 σ Q h
    refine Ct.of hfl (by show plainFor ⟨"GuardedMoves", "lowerAll", "(II)V"⟩ = true; decide +kernel) rfl (le_b rfl) (fun G hl cx => ?_)
    subst hl
    exact b_x_lowerAll cx ih p1 p2 σ h

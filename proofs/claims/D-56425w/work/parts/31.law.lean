/-! the law's cases, by program (gen/decl.py) -/
set_option maxRecDepth 100000
abbrev KC : Nat := 12
abbrev KS : Nat := 260
def tl_K (K : tc_E → tc_S → mm_S → Prop) (p : Program) (l : Launch) (e : Env) (s : State) (m : MethodId) (b : Nat) (below : List Frame) (meth : Method) (c : Code) (cells slots : Nat) (Q : State → Prop) (i : Int32) (E0 : tc_E) : Prop := ∀ (E : tc_E) (S : tc_S) (M : mm_S) (H : Heap) (locs : List Loc) (ls : Array Slot), K E S M → tc_sim E0 E → tl_m E → tc_ok (tm E M) S H → va_S (fun q => eb E ≤ q) s.heap H locs → lv_has ls 9 [(0, .ref b), (1, .ref (ea E (0, 0))), (2, .ref (ea E (20, 0))), (3, .ref (ea E (22, 0))), (4, .ref (ea E (23, 0))), (5, .int i)] → W p l e room_1 s m #[.ref b] below meth c H locs (cells + KC) (slots + KS) Q (F0 m 2100 ls [])
theorem lw_le {cells slots : Nat} (h : cells + 12 ≤ 1203072 ∧ slots + 260 ≤ 5394730) {a b : Nat} (ha : a ≤ 12 := by decide) (hb : b ≤ 260 := by decide) : cells + a ≤ room_1.cells ∧ slots + b ≤ room_1.slots := ⟨by show cells + a ≤ 1203072; omega, by show slots + b ≤ 5394730; omega⟩
theorem lw_le0 {cells slots : Nat} (h : cells + 12 ≤ 1203072 ∧ slots + 260 ≤ 5394730) : cells ≤ room_1.cells ∧ slots ≤ room_1.slots := ⟨by show cells ≤ 1203072; omega, by show slots ≤ 5394730; omega⟩
def wl_c0 (L : Nat) (xs : Nat → Int32) (K : tc_E → tc_S → mm_S → Prop) (i : Int32) (E0 : tc_E) (s0 : tc_S) (m0 : mm_S) : Prop := (vp_in (i + 1) L ∧ ∀ v2, v2 = xs (i + 1).toNatClampNeg → ww_X0_addGain (tm E0 m0) (fun r3 E9 S5 => ∃ E4, E9 = tm E4 m0 ∧ tl_same E0 E4 ∧ tl_m E4 ∧ (vp_in (i + 1) L ∧ ∀ v7, v7 = xs (i + 1).toNatClampNeg → wp_X6_addGain (fun r8 M9 => wp_X6_thrown (fun r10 M11 => ((r10 = r3 → ((¬ r3 = 0 → K E4 S5 M11) ∧ (r3 = 0 → ((22, 0) ∈ eL E4 ∧ ∃ f14, ew E4 (22, 0) = .inl (ec E4 2, 1, .inr (.inl f14)) ∧ (((lg_cmp (f14 (0 : Int32).toNatClampNeg) r8.toInt64) = 0 → K E4 S5 M11) ∧ (¬ (lg_cmp (f14 (0 : Int32).toNatClampNeg) r8.toInt64) = 0 → False)))))) ∧ (¬ r10 = r3 → False)))  M9) v7 m0)) v2 s0)
set_option maxHeartbeats 4000000 in
theorem tl_c0 {p : Program} {l : Launch} {e : Env} {s : State} {m : MethodId} {b L : Nat} {xs : Nat → Int32} {below : List Frame} {meth : Method} {c : Code} {cells slots : Nat} {Q : State → Prop} {K : tc_E → tc_S → mm_S → Prop} {i : Int32} {E0 : tc_E} {s0 : tc_S} {m0 : mm_S} {H : Heap} {locs : List Loc} {ls : Array Slot} (hl0 : l.stackTraces = false) (C : tc_C p m c code 9 s #[.ref b] RX0 E0) (hX : va_X b L xs s s.heap) (hbl : b < s.heap.size) (hbA : ∀ q : Nat, ¬ eb E0 ≤ b) (hcr : cells + 12 ≤ 1203072 ∧ slots + 260 ≤ 5394730) (hm : tl_m E0) (hH : tc_ok (tm E0 m0) s0 H) (hS : va_S (fun q => eb E0 ≤ q) s.heap H locs) (hl : lv_has ls 9 [(0, .ref b), (1, .ref (ea E0 (0, 0))), (2, .ref (ea E0 (20, 0))), (3, .ref (ea E0 (22, 0))), (4, .ref (ea E0 (23, 0))), (5, .int i)]) (hK : tl_K K p l e s m b below meth c cells slots Q i E0) (hk : wl_c0 L xs K i E0 s0 m0) : W p l e room_1 s m #[.ref b] below meth c H locs cells slots Q (F0 m 212 ls []) := by
  unfold wl_c0 at hk
  have hsim := tc_sim.rf E0
  refine lv_aload_n C.hx C.hb dL_law_212 rfl (lv_at hl 1 rfl) ?_
  refine lv_aload_n C.hx C.hb dL_law_213 rfl (lv_at hl 0 rfl) ?_
  refine lv_iload C.hx C.hb dL_law_214 (lv_at hl 5 rfl) ?_
  refine lv_iconst (v := 1) C.hx C.hb dL_law_216 (by decide) ?_
  refine lv_iadd C.hx C.hb dL_law_217 ?_
  obtain ⟨h1, hk⟩ := hk
  refine va_sld C.hx C.hb hX hbl (hbA 0) hS h1 dL_law_218 ?_
  refine lv_topi (fun v2 ev2 => ?_)
  have hk := hk v2 ev2
  refine lv_aload_n C.hx C.hb dL_law_219 rfl (lv_at hl 3 rfl) ?_
  refine tl_w (As := [.ref (ea E0 (0, 0)), .int v2, .ref (ea E0 (22, 0))]) (rest := []) C hH hS (t_X0_addGain l hl0 hk) (vx_cwSW 3 C.hts (lw_SW q719 q720 q52 q721) rfl rfl rfl (by decide +kernel) ⟨Nat.le_of_ble_eq_true rfl, Nat.le_of_ble_eq_true rfl⟩) rfl hl.1 rfl (lv_room (Nat.le_of_ble_eq_true rfl)) dL_law_220 ⟨by show cells + 7 ≤ 1203072; omega, by show slots + 150 ≤ 5394730; omega⟩ (fun r3 E9 S5 H locs hk hsm hH hS => ?_)
  obtain ⟨E4, rfl, hsa, hm, hk⟩ := hk
  have hsim2 : tc_sim E0 E4 := hsm
  have C := C.sim hsim2
  rw [← hsim2.1] at hS
  have hsim := hsim.trans hsim2
  have hbA : ∀ q : Nat, ¬ eb E4 ≤ b := fun _ => by rw [hsim2.1]; exact hbA 0
  have hl : lv_has ls 9 [(0, .ref b), (1, .ref (ea E4 (0, 0))), (2, .ref (ea E4 (20, 0))), (3, .ref (ea E4 (22, 0))), (4, .ref (ea E4 (23, 0))), (5, .int i)] := by rw [hsa.1, hsa.2.1, hsa.2.2.1, hsa.2.2.2]; exact hl
  refine W.eq (g2 := F0 m 223 ls [.int r3]) rfl ?_
  refine lv_istore (lv' := [(6, .int r3), (0, .ref b), (1, .ref (ea E4 (0, 0))), (2, .ref (ea E4 (20, 0))), (3, .ref (ea E4 (22, 0))), (4, .ref (ea E4 (23, 0))), (5, .int i)]) C.hx C.hb dL_law_223 hl (by decide) rfl (fun ls hl => ?_)
  refine lv_aload_n C.hx C.hb dL_law_225 rfl (lv_at hl 3 rfl) ?_
  refine lv_aload_n C.hx C.hb dL_law_226 rfl (lv_at hl 1 rfl) ?_
  refine lv_iload C.hx C.hb dL_law_227 (lv_at hl 6 rfl) ?_
  refine lv_iconst (v := 1) C.hx C.hb dL_law_229 (by decide) ?_
  refine lv_iadd C.hx C.hb dL_law_230 ?_
  obtain ⟨h6, hk⟩ := hk
  refine va_sld C.hx C.hb hX hbl (hbA 0) hS h6 dL_law_231 ?_
  refine lv_topi (fun v7 ev7 => ?_)
  have hk := hk v7 ev7
  refine tl_i (As := [.int v7]) (rest := []) C hH hm hS (t_X6_addGain l hk) (cwV 1 C.hts (lw_V q1325 q1326 q1327 q65 q1328) rfl rfl rfl (by decide +kernel) ⟨Nat.le_of_ble_eq_true rfl, Nat.le_of_ble_eq_true rfl⟩) rfl hl.1 rfl (lv_room (Nat.le_of_ble_eq_true rfl)) dL_law_232 (lw_le hcr) (fun r8 M9 H locs hk hH hS => ?_)
  refine W.eq (g2 := F0 m 235 ls [.int r8]) rfl ?_
  refine lv_istore (lv' := [(7, .int r8), (6, .int r3), (0, .ref b), (1, .ref (ea E4 (0, 0))), (2, .ref (ea E4 (20, 0))), (3, .ref (ea E4 (22, 0))), (4, .ref (ea E4 (23, 0))), (5, .int i)]) C.hx C.hb dL_law_235 hl (by decide) rfl (fun ls hl => ?_)
  refine lv_aload_n C.hx C.hb dL_law_237 rfl (lv_at hl 4 rfl) ?_
  refine tl_i (As := []) (rest := []) C hH hm hS (t_X6_thrown l hk) (cwV 0 C.hts (lw_V q1321 q1322 q1323 q65 q1324) rfl rfl rfl (by decide +kernel) ⟨Nat.le_of_ble_eq_true rfl, Nat.le_of_ble_eq_true rfl⟩) rfl hl.1 rfl (lv_room (Nat.le_of_ble_eq_true rfl)) dL_law_238 (lw_le hcr) (fun r10 M11 H locs hk hH hS => ?_)
  refine W.eq (g2 := F0 m 241 ls [.int r10]) rfl ?_
  refine lv_iload C.hx C.hb dL_law_241 (lv_at hl 1 rfl) ?_
  refine lv_icmp_eq (tgt := 248) C.hx C.hb dL_law_243 (by decide) (fun c12 => ?_) (fun c12 => ?_)
  · have hk := hk.1 c12
    refine lv_iload C.hx C.hb dL_law_248 (lv_at hl 1 rfl) ?_
    refine lv_if_ne (tgt := 265) C.hx C.hb dL_law_250 (by decide) (fun c13 => ?_) (fun c13 => ?_)
    · have hk := hk.1 c13
      refine lv_goto (tgt := 2100) C.hx C.hb dL_law_265 (by decide) ?_
      refine W.widen (k := cells + KC) (n := slots + KS) (by show cells + 7 ≤ cells + 12; omega) (by show slots + 150 ≤ slots + 260; omega) ?_
      exact hK E4 S5 M11 _ _ _ hk hsim hm hH hS (lv_sub hl [2, 3, 4, 5, 6, 7] rfl)
    · have hk := hk.2 c13
      refine lv_aload_n C.hx C.hb dL_law_253 rfl (lv_at hl 5 rfl) ?_
      refine lv_iconst (v := 0) C.hx C.hb dL_law_254 (by decide) ?_
      obtain ⟨h15, f14, h16, hk⟩ := hk
      refine tl_lald C hH h15 h16 dL_law_255 ?_
      refine lv_iload C.hx C.hb dL_law_256 (lv_at hl 0 rfl) ?_
      refine lv_i2l C.hx C.hb dL_law_258 rfl ?_
      refine W.lcmp C.hx C.hb dL_law_259 ?_
      refine lv_if_eq (tgt := 265) C.hx C.hb dL_law_260 (by decide) (fun c17 => ?_) (fun c17 => ?_)
      · have hk := hk.1 c17
        refine lv_goto (tgt := 2100) C.hx C.hb dL_law_265 (by decide) ?_
        refine W.widen (k := cells + KC) (n := slots + KS) (by show cells + 7 ≤ cells + 12; omega) (by show slots + 150 ≤ slots + 260; omega) ?_
        exact hK E4 S5 M11 _ _ _ hk hsim hm hH hS (lv_sub hl [2, 3, 4, 5, 6, 7] rfl)
      · have hk := hk.2 c17
        refine lv_iconst (v := 0) C.hx C.hb dL_law_263 (by decide) ?_
        exact hk.elim
  · have hk := hk.2 c12
    refine lv_iconst (v := 0) C.hx C.hb dL_law_246 (by decide) ?_
    exact hk.elim
def wl_c1 (L : Nat) (xs : Nat → Int32) (K : tc_E → tc_S → mm_S → Prop) (i : Int32) (E0 : tc_E) (s0 : tc_S) (m0 : mm_S) : Prop := (vp_in (i + 1) L ∧ ∀ v2, v2 = xs (i + 1).toNatClampNeg → (vp_in (i + 2) L ∧ ∀ v4, v4 = xs (i + 2).toNatClampNeg → ww_X0_addDelay (tm E0 m0) (fun r5 E9 S7 => ∃ E6, E9 = tm E6 m0 ∧ tl_same E0 E6 ∧ tl_m E6 ∧ (vp_in (i + 1) L ∧ ∀ v9, v9 = xs (i + 1).toNatClampNeg → (vp_in (i + 2) L ∧ ∀ v11, v11 = xs (i + 2).toNatClampNeg → wp_X6_addDelay (fun r12 M13 => wp_X6_thrown (fun r14 M15 => ((r14 = r5 → ((¬ r5 = 0 → K E6 S7 M15) ∧ (r5 = 0 → ((22, 0) ∈ eL E6 ∧ ∃ f18, ew E6 (22, 0) = .inl (ec E6 2, 1, .inr (.inl f18)) ∧ (((lg_cmp (f18 (0 : Int32).toNatClampNeg) r12.toInt64) = 0 → K E6 S7 M15) ∧ (¬ (lg_cmp (f18 (0 : Int32).toNatClampNeg) r12.toInt64) = 0 → False)))))) ∧ (¬ r14 = r5 → False)))  M13) v9 v11 m0))) v2 v4 s0))
set_option maxHeartbeats 4000000 in
theorem tl_c1 {p : Program} {l : Launch} {e : Env} {s : State} {m : MethodId} {b L : Nat} {xs : Nat → Int32} {below : List Frame} {meth : Method} {c : Code} {cells slots : Nat} {Q : State → Prop} {K : tc_E → tc_S → mm_S → Prop} {i : Int32} {E0 : tc_E} {s0 : tc_S} {m0 : mm_S} {H : Heap} {locs : List Loc} {ls : Array Slot} (hl0 : l.stackTraces = false) (C : tc_C p m c code 9 s #[.ref b] RX0 E0) (hX : va_X b L xs s s.heap) (hbl : b < s.heap.size) (hbA : ∀ q : Nat, ¬ eb E0 ≤ b) (hcr : cells + 12 ≤ 1203072 ∧ slots + 260 ≤ 5394730) (hm : tl_m E0) (hH : tc_ok (tm E0 m0) s0 H) (hS : va_S (fun q => eb E0 ≤ q) s.heap H locs) (hl : lv_has ls 9 [(0, .ref b), (1, .ref (ea E0 (0, 0))), (2, .ref (ea E0 (20, 0))), (3, .ref (ea E0 (22, 0))), (4, .ref (ea E0 (23, 0))), (5, .int i)]) (hK : tl_K K p l e s m b below meth c cells slots Q i E0) (hk : wl_c1 L xs K i E0 s0 m0) : W p l e room_1 s m #[.ref b] below meth c H locs cells slots Q (F0 m 268 ls []) := by
  unfold wl_c1 at hk
  have hsim := tc_sim.rf E0
  refine lv_aload_n C.hx C.hb dL_law_268 rfl (lv_at hl 1 rfl) ?_
  refine lv_aload_n C.hx C.hb dL_law_269 rfl (lv_at hl 0 rfl) ?_
  refine lv_iload C.hx C.hb dL_law_270 (lv_at hl 5 rfl) ?_
  refine lv_iconst (v := 1) C.hx C.hb dL_law_272 (by decide) ?_
  refine lv_iadd C.hx C.hb dL_law_273 ?_
  obtain ⟨h1, hk⟩ := hk
  refine va_sld C.hx C.hb hX hbl (hbA 0) hS h1 dL_law_274 ?_
  refine lv_topi (fun v2 ev2 => ?_)
  have hk := hk v2 ev2
  refine lv_aload_n C.hx C.hb dL_law_275 rfl (lv_at hl 0 rfl) ?_
  refine lv_iload C.hx C.hb dL_law_276 (lv_at hl 5 rfl) ?_
  refine lv_iconst (v := 2) C.hx C.hb dL_law_278 (by decide) ?_
  refine lv_iadd C.hx C.hb dL_law_279 ?_
  obtain ⟨h3, hk⟩ := hk
  refine va_sld C.hx C.hb hX hbl (hbA 0) hS h3 dL_law_280 ?_
  refine lv_topi (fun v4 ev4 => ?_)
  have hk := hk v4 ev4
  refine lv_aload_n C.hx C.hb dL_law_281 rfl (lv_at hl 3 rfl) ?_
  refine tl_w (As := [.ref (ea E0 (0, 0)), .int v2, .int v4, .ref (ea E0 (22, 0))]) (rest := []) C hH hS (t_X0_addDelay l hl0 hk) (vx_cwSW 4 C.hts (lw_SW q785 q786 q52 q787) rfl rfl rfl (by decide +kernel) ⟨Nat.le_of_ble_eq_true rfl, Nat.le_of_ble_eq_true rfl⟩) rfl hl.1 rfl (lv_room (Nat.le_of_ble_eq_true rfl)) dL_law_282 ⟨by show cells + 7 ≤ 1203072; omega, by show slots + 212 ≤ 5394730; omega⟩ (fun r5 E9 S7 H locs hk hsm hH hS => ?_)
  obtain ⟨E6, rfl, hsa, hm, hk⟩ := hk
  have hsim2 : tc_sim E0 E6 := hsm
  have C := C.sim hsim2
  rw [← hsim2.1] at hS
  have hsim := hsim.trans hsim2
  have hbA : ∀ q : Nat, ¬ eb E6 ≤ b := fun _ => by rw [hsim2.1]; exact hbA 0
  have hl : lv_has ls 9 [(0, .ref b), (1, .ref (ea E6 (0, 0))), (2, .ref (ea E6 (20, 0))), (3, .ref (ea E6 (22, 0))), (4, .ref (ea E6 (23, 0))), (5, .int i)] := by rw [hsa.1, hsa.2.1, hsa.2.2.1, hsa.2.2.2]; exact hl
  refine W.eq (g2 := F0 m 285 ls [.int r5]) rfl ?_
  refine lv_istore (lv' := [(6, .int r5), (0, .ref b), (1, .ref (ea E6 (0, 0))), (2, .ref (ea E6 (20, 0))), (3, .ref (ea E6 (22, 0))), (4, .ref (ea E6 (23, 0))), (5, .int i)]) C.hx C.hb dL_law_285 hl (by decide) rfl (fun ls hl => ?_)
  refine lv_aload_n C.hx C.hb dL_law_287 rfl (lv_at hl 3 rfl) ?_
  refine lv_aload_n C.hx C.hb dL_law_288 rfl (lv_at hl 1 rfl) ?_
  refine lv_iload C.hx C.hb dL_law_289 (lv_at hl 6 rfl) ?_
  refine lv_iconst (v := 1) C.hx C.hb dL_law_291 (by decide) ?_
  refine lv_iadd C.hx C.hb dL_law_292 ?_
  obtain ⟨h8, hk⟩ := hk
  refine va_sld C.hx C.hb hX hbl (hbA 0) hS h8 dL_law_293 ?_
  refine lv_topi (fun v9 ev9 => ?_)
  have hk := hk v9 ev9
  refine lv_aload_n C.hx C.hb dL_law_294 rfl (lv_at hl 1 rfl) ?_
  refine lv_iload C.hx C.hb dL_law_295 (lv_at hl 6 rfl) ?_
  refine lv_iconst (v := 2) C.hx C.hb dL_law_297 (by decide) ?_
  refine lv_iadd C.hx C.hb dL_law_298 ?_
  obtain ⟨h10, hk⟩ := hk
  refine va_sld C.hx C.hb hX hbl (hbA 0) hS h10 dL_law_299 ?_
  refine lv_topi (fun v11 ev11 => ?_)
  have hk := hk v11 ev11
  refine tl_i (As := [.int v9, .int v11]) (rest := []) C hH hm hS (t_X6_addDelay l hk) (cwV 2 C.hts (lw_V q1340 q1341 q1342 q65 q1343) rfl rfl rfl (by decide +kernel) ⟨Nat.le_of_ble_eq_true rfl, Nat.le_of_ble_eq_true rfl⟩) rfl hl.1 rfl (lv_room (Nat.le_of_ble_eq_true rfl)) dL_law_300 (lw_le hcr) (fun r12 M13 H locs hk hH hS => ?_)
  refine W.eq (g2 := F0 m 303 ls [.int r12]) rfl ?_
  refine lv_istore (lv' := [(7, .int r12), (6, .int r5), (0, .ref b), (1, .ref (ea E6 (0, 0))), (2, .ref (ea E6 (20, 0))), (3, .ref (ea E6 (22, 0))), (4, .ref (ea E6 (23, 0))), (5, .int i)]) C.hx C.hb dL_law_303 hl (by decide) rfl (fun ls hl => ?_)
  refine lv_aload_n C.hx C.hb dL_law_305 rfl (lv_at hl 4 rfl) ?_
  refine tl_i (As := []) (rest := []) C hH hm hS (t_X6_thrown l hk) (cwV 0 C.hts (lw_V q1321 q1322 q1323 q65 q1324) rfl rfl rfl (by decide +kernel) ⟨Nat.le_of_ble_eq_true rfl, Nat.le_of_ble_eq_true rfl⟩) rfl hl.1 rfl (lv_room (Nat.le_of_ble_eq_true rfl)) dL_law_306 (lw_le hcr) (fun r14 M15 H locs hk hH hS => ?_)
  refine W.eq (g2 := F0 m 309 ls [.int r14]) rfl ?_
  refine lv_iload C.hx C.hb dL_law_309 (lv_at hl 1 rfl) ?_
  refine lv_icmp_eq (tgt := 316) C.hx C.hb dL_law_311 (by decide) (fun c16 => ?_) (fun c16 => ?_)
  · have hk := hk.1 c16
    refine lv_iload C.hx C.hb dL_law_316 (lv_at hl 1 rfl) ?_
    refine lv_if_ne (tgt := 333) C.hx C.hb dL_law_318 (by decide) (fun c17 => ?_) (fun c17 => ?_)
    · have hk := hk.1 c17
      refine lv_goto (tgt := 2100) C.hx C.hb dL_law_333 (by decide) ?_
      refine W.widen (k := cells + KC) (n := slots + KS) (by show cells + 7 ≤ cells + 12; omega) (by show slots + 212 ≤ slots + 260; omega) ?_
      exact hK E6 S7 M15 _ _ _ hk hsim hm hH hS (lv_sub hl [2, 3, 4, 5, 6, 7] rfl)
    · have hk := hk.2 c17
      refine lv_aload_n C.hx C.hb dL_law_321 rfl (lv_at hl 5 rfl) ?_
      refine lv_iconst (v := 0) C.hx C.hb dL_law_322 (by decide) ?_
      obtain ⟨h19, f18, h20, hk⟩ := hk
      refine tl_lald C hH h19 h20 dL_law_323 ?_
      refine lv_iload C.hx C.hb dL_law_324 (lv_at hl 0 rfl) ?_
      refine lv_i2l C.hx C.hb dL_law_326 rfl ?_
      refine W.lcmp C.hx C.hb dL_law_327 ?_
      refine lv_if_eq (tgt := 333) C.hx C.hb dL_law_328 (by decide) (fun c21 => ?_) (fun c21 => ?_)
      · have hk := hk.1 c21
        refine lv_goto (tgt := 2100) C.hx C.hb dL_law_333 (by decide) ?_
        refine W.widen (k := cells + KC) (n := slots + KS) (by show cells + 7 ≤ cells + 12; omega) (by show slots + 212 ≤ slots + 260; omega) ?_
        exact hK E6 S7 M15 _ _ _ hk hsim hm hH hS (lv_sub hl [2, 3, 4, 5, 6, 7] rfl)
      · have hk := hk.2 c21
        refine lv_iconst (v := 0) C.hx C.hb dL_law_331 (by decide) ?_
        exact hk.elim
  · have hk := hk.2 c16
    refine lv_iconst (v := 0) C.hx C.hb dL_law_314 (by decide) ?_
    exact hk.elim
def wl_c2 (L : Nat) (xs : Nat → Int32) (K : tc_E → tc_S → mm_S → Prop) (i : Int32) (E0 : tc_E) (s0 : tc_S) (m0 : mm_S) : Prop := (vp_in (i + 1) L ∧ ∀ v2, v2 = xs (i + 1).toNatClampNeg → (vp_in (i + 2) L ∧ ∀ v4, v4 = xs (i + 2).toNatClampNeg → (vp_in (i + 3) L ∧ ∀ v6, v6 = xs (i + 3).toNatClampNeg → ww_X0_addFilter (tm E0 m0) (fun r7 E9 S9 => ∃ E8, E9 = tm E8 m0 ∧ tl_same E0 E8 ∧ tl_m E8 ∧ (vp_in (i + 1) L ∧ ∀ v11, v11 = xs (i + 1).toNatClampNeg → (vp_in (i + 2) L ∧ ∀ v13, v13 = xs (i + 2).toNatClampNeg → (vp_in (i + 3) L ∧ ∀ v15, v15 = xs (i + 3).toNatClampNeg → wp_X6_addFilter (fun r16 M17 => wp_X6_thrown (fun r18 M19 => ((r18 = r7 → ((¬ r7 = 0 → K E8 S9 M19) ∧ (r7 = 0 → ((22, 0) ∈ eL E8 ∧ ∃ f22, ew E8 (22, 0) = .inl (ec E8 2, 1, .inr (.inl f22)) ∧ (((lg_cmp (f22 (0 : Int32).toNatClampNeg) r16.toInt64) = 0 → K E8 S9 M19) ∧ (¬ (lg_cmp (f22 (0 : Int32).toNatClampNeg) r16.toInt64) = 0 → False)))))) ∧ (¬ r18 = r7 → False)))  M17) v11 v13 v15 m0)))) v2 v4 v6 s0)))
set_option maxHeartbeats 4000000 in
theorem tl_c2 {p : Program} {l : Launch} {e : Env} {s : State} {m : MethodId} {b L : Nat} {xs : Nat → Int32} {below : List Frame} {meth : Method} {c : Code} {cells slots : Nat} {Q : State → Prop} {K : tc_E → tc_S → mm_S → Prop} {i : Int32} {E0 : tc_E} {s0 : tc_S} {m0 : mm_S} {H : Heap} {locs : List Loc} {ls : Array Slot} (hl0 : l.stackTraces = false) (C : tc_C p m c code 9 s #[.ref b] RX0 E0) (hX : va_X b L xs s s.heap) (hbl : b < s.heap.size) (hbA : ∀ q : Nat, ¬ eb E0 ≤ b) (hcr : cells + 12 ≤ 1203072 ∧ slots + 260 ≤ 5394730) (hm : tl_m E0) (hH : tc_ok (tm E0 m0) s0 H) (hS : va_S (fun q => eb E0 ≤ q) s.heap H locs) (hl : lv_has ls 9 [(0, .ref b), (1, .ref (ea E0 (0, 0))), (2, .ref (ea E0 (20, 0))), (3, .ref (ea E0 (22, 0))), (4, .ref (ea E0 (23, 0))), (5, .int i)]) (hK : tl_K K p l e s m b below meth c cells slots Q i E0) (hk : wl_c2 L xs K i E0 s0 m0) : W p l e room_1 s m #[.ref b] below meth c H locs cells slots Q (F0 m 336 ls []) := by
  unfold wl_c2 at hk
  have hsim := tc_sim.rf E0
  refine lv_aload_n C.hx C.hb dL_law_336 rfl (lv_at hl 1 rfl) ?_
  refine lv_aload_n C.hx C.hb dL_law_337 rfl (lv_at hl 0 rfl) ?_
  refine lv_iload C.hx C.hb dL_law_338 (lv_at hl 5 rfl) ?_
  refine lv_iconst (v := 1) C.hx C.hb dL_law_340 (by decide) ?_
  refine lv_iadd C.hx C.hb dL_law_341 ?_
  obtain ⟨h1, hk⟩ := hk
  refine va_sld C.hx C.hb hX hbl (hbA 0) hS h1 dL_law_342 ?_
  refine lv_topi (fun v2 ev2 => ?_)
  have hk := hk v2 ev2
  refine lv_aload_n C.hx C.hb dL_law_343 rfl (lv_at hl 0 rfl) ?_
  refine lv_iload C.hx C.hb dL_law_344 (lv_at hl 5 rfl) ?_
  refine lv_iconst (v := 2) C.hx C.hb dL_law_346 (by decide) ?_
  refine lv_iadd C.hx C.hb dL_law_347 ?_
  obtain ⟨h3, hk⟩ := hk
  refine va_sld C.hx C.hb hX hbl (hbA 0) hS h3 dL_law_348 ?_
  refine lv_topi (fun v4 ev4 => ?_)
  have hk := hk v4 ev4
  refine lv_aload_n C.hx C.hb dL_law_349 rfl (lv_at hl 0 rfl) ?_
  refine lv_iload C.hx C.hb dL_law_350 (lv_at hl 5 rfl) ?_
  refine lv_iconst (v := 3) C.hx C.hb dL_law_352 (by decide) ?_
  refine lv_iadd C.hx C.hb dL_law_353 ?_
  obtain ⟨h5, hk⟩ := hk
  refine va_sld C.hx C.hb hX hbl (hbA 0) hS h5 dL_law_354 ?_
  refine lv_topi (fun v6 ev6 => ?_)
  have hk := hk v6 ev6
  refine lv_aload_n C.hx C.hb dL_law_355 rfl (lv_at hl 3 rfl) ?_
  refine tl_w (As := [.ref (ea E0 (0, 0)), .int v2, .int v4, .int v6, .ref (ea E0 (22, 0))]) (rest := []) C hH hS (t_X0_addFilter l hl0 hk) (vx_cwSW 5 C.hts (lw_SW q813 q814 q52 q815) rfl rfl rfl (by decide +kernel) ⟨Nat.le_of_ble_eq_true rfl, Nat.le_of_ble_eq_true rfl⟩) rfl hl.1 rfl (lv_room (Nat.le_of_ble_eq_true rfl)) dL_law_356 ⟨by show cells + 8 ≤ 1203072; omega, by show slots + 155 ≤ 5394730; omega⟩ (fun r7 E9 S9 H locs hk hsm hH hS => ?_)
  obtain ⟨E8, rfl, hsa, hm, hk⟩ := hk
  have hsim2 : tc_sim E0 E8 := hsm
  have C := C.sim hsim2
  rw [← hsim2.1] at hS
  have hsim := hsim.trans hsim2
  have hbA : ∀ q : Nat, ¬ eb E8 ≤ b := fun _ => by rw [hsim2.1]; exact hbA 0
  have hl : lv_has ls 9 [(0, .ref b), (1, .ref (ea E8 (0, 0))), (2, .ref (ea E8 (20, 0))), (3, .ref (ea E8 (22, 0))), (4, .ref (ea E8 (23, 0))), (5, .int i)] := by rw [hsa.1, hsa.2.1, hsa.2.2.1, hsa.2.2.2]; exact hl
  refine W.eq (g2 := F0 m 359 ls [.int r7]) rfl ?_
  refine lv_istore (lv' := [(6, .int r7), (0, .ref b), (1, .ref (ea E8 (0, 0))), (2, .ref (ea E8 (20, 0))), (3, .ref (ea E8 (22, 0))), (4, .ref (ea E8 (23, 0))), (5, .int i)]) C.hx C.hb dL_law_359 hl (by decide) rfl (fun ls hl => ?_)
  refine lv_aload_n C.hx C.hb dL_law_361 rfl (lv_at hl 3 rfl) ?_
  refine lv_aload_n C.hx C.hb dL_law_362 rfl (lv_at hl 1 rfl) ?_
  refine lv_iload C.hx C.hb dL_law_363 (lv_at hl 6 rfl) ?_
  refine lv_iconst (v := 1) C.hx C.hb dL_law_365 (by decide) ?_
  refine lv_iadd C.hx C.hb dL_law_366 ?_
  obtain ⟨h10, hk⟩ := hk
  refine va_sld C.hx C.hb hX hbl (hbA 0) hS h10 dL_law_367 ?_
  refine lv_topi (fun v11 ev11 => ?_)
  have hk := hk v11 ev11
  refine lv_aload_n C.hx C.hb dL_law_368 rfl (lv_at hl 1 rfl) ?_
  refine lv_iload C.hx C.hb dL_law_369 (lv_at hl 6 rfl) ?_
  refine lv_iconst (v := 2) C.hx C.hb dL_law_371 (by decide) ?_
  refine lv_iadd C.hx C.hb dL_law_372 ?_
  obtain ⟨h12, hk⟩ := hk
  refine va_sld C.hx C.hb hX hbl (hbA 0) hS h12 dL_law_373 ?_
  refine lv_topi (fun v13 ev13 => ?_)
  have hk := hk v13 ev13
  refine lv_aload_n C.hx C.hb dL_law_374 rfl (lv_at hl 1 rfl) ?_
  refine lv_iload C.hx C.hb dL_law_375 (lv_at hl 6 rfl) ?_
  refine lv_iconst (v := 3) C.hx C.hb dL_law_377 (by decide) ?_
  refine lv_iadd C.hx C.hb dL_law_378 ?_
  obtain ⟨h14, hk⟩ := hk
  refine va_sld C.hx C.hb hX hbl (hbA 0) hS h14 dL_law_379 ?_
  refine lv_topi (fun v15 ev15 => ?_)
  have hk := hk v15 ev15
  refine tl_i (As := [.int v11, .int v13, .int v15]) (rest := []) C hH hm hS (t_X6_addFilter l hk) (cwV 3 C.hts (lw_V q1344 q1345 q1346 q65 q1347) rfl rfl rfl (by decide +kernel) ⟨Nat.le_of_ble_eq_true rfl, Nat.le_of_ble_eq_true rfl⟩) rfl hl.1 rfl (lv_room (Nat.le_of_ble_eq_true rfl)) dL_law_380 (lw_le hcr) (fun r16 M17 H locs hk hH hS => ?_)
  refine W.eq (g2 := F0 m 383 ls [.int r16]) rfl ?_
  refine lv_istore (lv' := [(7, .int r16), (6, .int r7), (0, .ref b), (1, .ref (ea E8 (0, 0))), (2, .ref (ea E8 (20, 0))), (3, .ref (ea E8 (22, 0))), (4, .ref (ea E8 (23, 0))), (5, .int i)]) C.hx C.hb dL_law_383 hl (by decide) rfl (fun ls hl => ?_)
  refine lv_aload_n C.hx C.hb dL_law_385 rfl (lv_at hl 4 rfl) ?_
  refine tl_i (As := []) (rest := []) C hH hm hS (t_X6_thrown l hk) (cwV 0 C.hts (lw_V q1321 q1322 q1323 q65 q1324) rfl rfl rfl (by decide +kernel) ⟨Nat.le_of_ble_eq_true rfl, Nat.le_of_ble_eq_true rfl⟩) rfl hl.1 rfl (lv_room (Nat.le_of_ble_eq_true rfl)) dL_law_386 (lw_le hcr) (fun r18 M19 H locs hk hH hS => ?_)
  refine W.eq (g2 := F0 m 389 ls [.int r18]) rfl ?_
  refine lv_iload C.hx C.hb dL_law_389 (lv_at hl 1 rfl) ?_
  refine lv_icmp_eq (tgt := 396) C.hx C.hb dL_law_391 (by decide) (fun c20 => ?_) (fun c20 => ?_)
  · have hk := hk.1 c20
    refine lv_iload C.hx C.hb dL_law_396 (lv_at hl 1 rfl) ?_
    refine lv_if_ne (tgt := 413) C.hx C.hb dL_law_398 (by decide) (fun c21 => ?_) (fun c21 => ?_)
    · have hk := hk.1 c21
      refine lv_goto (tgt := 2100) C.hx C.hb dL_law_413 (by decide) ?_
      refine W.widen (k := cells + KC) (n := slots + KS) (by show cells + 8 ≤ cells + 12; omega) (by show slots + 155 ≤ slots + 260; omega) ?_
      exact hK E8 S9 M19 _ _ _ hk hsim hm hH hS (lv_sub hl [2, 3, 4, 5, 6, 7] rfl)
    · have hk := hk.2 c21
      refine lv_aload_n C.hx C.hb dL_law_401 rfl (lv_at hl 5 rfl) ?_
      refine lv_iconst (v := 0) C.hx C.hb dL_law_402 (by decide) ?_
      obtain ⟨h23, f22, h24, hk⟩ := hk
      refine tl_lald C hH h23 h24 dL_law_403 ?_
      refine lv_iload C.hx C.hb dL_law_404 (lv_at hl 0 rfl) ?_
      refine lv_i2l C.hx C.hb dL_law_406 rfl ?_
      refine W.lcmp C.hx C.hb dL_law_407 ?_
      refine lv_if_eq (tgt := 413) C.hx C.hb dL_law_408 (by decide) (fun c25 => ?_) (fun c25 => ?_)
      · have hk := hk.1 c25
        refine lv_goto (tgt := 2100) C.hx C.hb dL_law_413 (by decide) ?_
        refine W.widen (k := cells + KC) (n := slots + KS) (by show cells + 8 ≤ cells + 12; omega) (by show slots + 155 ≤ slots + 260; omega) ?_
        exact hK E8 S9 M19 _ _ _ hk hsim hm hH hS (lv_sub hl [2, 3, 4, 5, 6, 7] rfl)
      · have hk := hk.2 c25
        refine lv_iconst (v := 0) C.hx C.hb dL_law_411 (by decide) ?_
        exact hk.elim
  · have hk := hk.2 c20
    refine lv_iconst (v := 0) C.hx C.hb dL_law_394 (by decide) ?_
    exact hk.elim
def wl_c3 (L : Nat) (xs : Nat → Int32) (K : tc_E → tc_S → mm_S → Prop) (i : Int32) (E0 : tc_E) (s0 : tc_S) (m0 : mm_S) : Prop := (vp_in (i + 1) L ∧ ∀ v2, v2 = xs (i + 1).toNatClampNeg → ww_X0_addBus (tm E0 m0) (fun r3 E9 S5 => ∃ E4, E9 = tm E4 m0 ∧ tl_same E0 E4 ∧ tl_m E4 ∧ (vp_in (i + 1) L ∧ ∀ v7, v7 = xs (i + 1).toNatClampNeg → wp_X6_addBus (fun r8 M9 => wp_X6_thrown (fun r10 M11 => ((r10 = r3 → ((¬ r3 = 0 → K E4 S5 M11) ∧ (r3 = 0 → ((22, 0) ∈ eL E4 ∧ ∃ f14, ew E4 (22, 0) = .inl (ec E4 2, 1, .inr (.inl f14)) ∧ (((lg_cmp (f14 (0 : Int32).toNatClampNeg) r8.toInt64) = 0 → K E4 S5 M11) ∧ (¬ (lg_cmp (f14 (0 : Int32).toNatClampNeg) r8.toInt64) = 0 → False)))))) ∧ (¬ r10 = r3 → False)))  M9) v7 m0)) v2 s0)
set_option maxHeartbeats 4000000 in
theorem tl_c3 {p : Program} {l : Launch} {e : Env} {s : State} {m : MethodId} {b L : Nat} {xs : Nat → Int32} {below : List Frame} {meth : Method} {c : Code} {cells slots : Nat} {Q : State → Prop} {K : tc_E → tc_S → mm_S → Prop} {i : Int32} {E0 : tc_E} {s0 : tc_S} {m0 : mm_S} {H : Heap} {locs : List Loc} {ls : Array Slot} (hl0 : l.stackTraces = false) (C : tc_C p m c code 9 s #[.ref b] RX0 E0) (hX : va_X b L xs s s.heap) (hbl : b < s.heap.size) (hbA : ∀ q : Nat, ¬ eb E0 ≤ b) (hcr : cells + 12 ≤ 1203072 ∧ slots + 260 ≤ 5394730) (hm : tl_m E0) (hH : tc_ok (tm E0 m0) s0 H) (hS : va_S (fun q => eb E0 ≤ q) s.heap H locs) (hl : lv_has ls 9 [(0, .ref b), (1, .ref (ea E0 (0, 0))), (2, .ref (ea E0 (20, 0))), (3, .ref (ea E0 (22, 0))), (4, .ref (ea E0 (23, 0))), (5, .int i)]) (hK : tl_K K p l e s m b below meth c cells slots Q i E0) (hk : wl_c3 L xs K i E0 s0 m0) : W p l e room_1 s m #[.ref b] below meth c H locs cells slots Q (F0 m 416 ls []) := by
  unfold wl_c3 at hk
  have hsim := tc_sim.rf E0
  refine lv_aload_n C.hx C.hb dL_law_416 rfl (lv_at hl 1 rfl) ?_
  refine lv_aload_n C.hx C.hb dL_law_417 rfl (lv_at hl 0 rfl) ?_
  refine lv_iload C.hx C.hb dL_law_418 (lv_at hl 5 rfl) ?_
  refine lv_iconst (v := 1) C.hx C.hb dL_law_420 (by decide) ?_
  refine lv_iadd C.hx C.hb dL_law_421 ?_
  obtain ⟨h1, hk⟩ := hk
  refine va_sld C.hx C.hb hX hbl (hbA 0) hS h1 dL_law_422 ?_
  refine lv_topi (fun v2 ev2 => ?_)
  have hk := hk v2 ev2
  refine lv_aload_n C.hx C.hb dL_law_423 rfl (lv_at hl 3 rfl) ?_
  refine tl_w (As := [.ref (ea E0 (0, 0)), .int v2, .ref (ea E0 (22, 0))]) (rest := []) C hH hS (t_X0_addBus l hl0 hk) (vx_cwSW 3 C.hts (lw_SW q839 q840 q52 q841) rfl rfl rfl (by decide +kernel) ⟨Nat.le_of_ble_eq_true rfl, Nat.le_of_ble_eq_true rfl⟩) rfl hl.1 rfl (lv_room (Nat.le_of_ble_eq_true rfl)) dL_law_424 ⟨by show cells + 7 ≤ 1203072; omega, by show slots + 150 ≤ 5394730; omega⟩ (fun r3 E9 S5 H locs hk hsm hH hS => ?_)
  obtain ⟨E4, rfl, hsa, hm, hk⟩ := hk
  have hsim2 : tc_sim E0 E4 := hsm
  have C := C.sim hsim2
  rw [← hsim2.1] at hS
  have hsim := hsim.trans hsim2
  have hbA : ∀ q : Nat, ¬ eb E4 ≤ b := fun _ => by rw [hsim2.1]; exact hbA 0
  have hl : lv_has ls 9 [(0, .ref b), (1, .ref (ea E4 (0, 0))), (2, .ref (ea E4 (20, 0))), (3, .ref (ea E4 (22, 0))), (4, .ref (ea E4 (23, 0))), (5, .int i)] := by rw [hsa.1, hsa.2.1, hsa.2.2.1, hsa.2.2.2]; exact hl
  refine W.eq (g2 := F0 m 427 ls [.int r3]) rfl ?_
  refine lv_istore (lv' := [(6, .int r3), (0, .ref b), (1, .ref (ea E4 (0, 0))), (2, .ref (ea E4 (20, 0))), (3, .ref (ea E4 (22, 0))), (4, .ref (ea E4 (23, 0))), (5, .int i)]) C.hx C.hb dL_law_427 hl (by decide) rfl (fun ls hl => ?_)
  refine lv_aload_n C.hx C.hb dL_law_429 rfl (lv_at hl 3 rfl) ?_
  refine lv_aload_n C.hx C.hb dL_law_430 rfl (lv_at hl 1 rfl) ?_
  refine lv_iload C.hx C.hb dL_law_431 (lv_at hl 6 rfl) ?_
  refine lv_iconst (v := 1) C.hx C.hb dL_law_433 (by decide) ?_
  refine lv_iadd C.hx C.hb dL_law_434 ?_
  obtain ⟨h6, hk⟩ := hk
  refine va_sld C.hx C.hb hX hbl (hbA 0) hS h6 dL_law_435 ?_
  refine lv_topi (fun v7 ev7 => ?_)
  have hk := hk v7 ev7
  refine tl_i (As := [.int v7]) (rest := []) C hH hm hS (t_X6_addBus l hk) (cwV 1 C.hts (lw_V q1348 q1349 q1350 q65 q1351) rfl rfl rfl (by decide +kernel) ⟨Nat.le_of_ble_eq_true rfl, Nat.le_of_ble_eq_true rfl⟩) rfl hl.1 rfl (lv_room (Nat.le_of_ble_eq_true rfl)) dL_law_436 (lw_le hcr) (fun r8 M9 H locs hk hH hS => ?_)
  refine W.eq (g2 := F0 m 439 ls [.int r8]) rfl ?_
  refine lv_istore (lv' := [(7, .int r8), (6, .int r3), (0, .ref b), (1, .ref (ea E4 (0, 0))), (2, .ref (ea E4 (20, 0))), (3, .ref (ea E4 (22, 0))), (4, .ref (ea E4 (23, 0))), (5, .int i)]) C.hx C.hb dL_law_439 hl (by decide) rfl (fun ls hl => ?_)
  refine lv_aload_n C.hx C.hb dL_law_441 rfl (lv_at hl 4 rfl) ?_
  refine tl_i (As := []) (rest := []) C hH hm hS (t_X6_thrown l hk) (cwV 0 C.hts (lw_V q1321 q1322 q1323 q65 q1324) rfl rfl rfl (by decide +kernel) ⟨Nat.le_of_ble_eq_true rfl, Nat.le_of_ble_eq_true rfl⟩) rfl hl.1 rfl (lv_room (Nat.le_of_ble_eq_true rfl)) dL_law_442 (lw_le hcr) (fun r10 M11 H locs hk hH hS => ?_)
  refine W.eq (g2 := F0 m 445 ls [.int r10]) rfl ?_
  refine lv_iload C.hx C.hb dL_law_445 (lv_at hl 1 rfl) ?_
  refine lv_icmp_eq (tgt := 452) C.hx C.hb dL_law_447 (by decide) (fun c12 => ?_) (fun c12 => ?_)
  · have hk := hk.1 c12
    refine lv_iload C.hx C.hb dL_law_452 (lv_at hl 1 rfl) ?_
    refine lv_if_ne (tgt := 469) C.hx C.hb dL_law_454 (by decide) (fun c13 => ?_) (fun c13 => ?_)
    · have hk := hk.1 c13
      refine lv_goto (tgt := 2100) C.hx C.hb dL_law_469 (by decide) ?_
      refine W.widen (k := cells + KC) (n := slots + KS) (by show cells + 7 ≤ cells + 12; omega) (by show slots + 150 ≤ slots + 260; omega) ?_
      exact hK E4 S5 M11 _ _ _ hk hsim hm hH hS (lv_sub hl [2, 3, 4, 5, 6, 7] rfl)
    · have hk := hk.2 c13
      refine lv_aload_n C.hx C.hb dL_law_457 rfl (lv_at hl 5 rfl) ?_
      refine lv_iconst (v := 0) C.hx C.hb dL_law_458 (by decide) ?_
      obtain ⟨h15, f14, h16, hk⟩ := hk
      refine tl_lald C hH h15 h16 dL_law_459 ?_
      refine lv_iload C.hx C.hb dL_law_460 (lv_at hl 0 rfl) ?_
      refine lv_i2l C.hx C.hb dL_law_462 rfl ?_
      refine W.lcmp C.hx C.hb dL_law_463 ?_
      refine lv_if_eq (tgt := 469) C.hx C.hb dL_law_464 (by decide) (fun c17 => ?_) (fun c17 => ?_)
      · have hk := hk.1 c17
        refine lv_goto (tgt := 2100) C.hx C.hb dL_law_469 (by decide) ?_
        refine W.widen (k := cells + KC) (n := slots + KS) (by show cells + 7 ≤ cells + 12; omega) (by show slots + 150 ≤ slots + 260; omega) ?_
        exact hK E4 S5 M11 _ _ _ hk hsim hm hH hS (lv_sub hl [2, 3, 4, 5, 6, 7] rfl)
      · have hk := hk.2 c17
        refine lv_iconst (v := 0) C.hx C.hb dL_law_467 (by decide) ?_
        exact hk.elim
  · have hk := hk.2 c12
    refine lv_iconst (v := 0) C.hx C.hb dL_law_450 (by decide) ?_
    exact hk.elim
def wl_c4 (L : Nat) (xs : Nat → Int32) (K : tc_E → tc_S → mm_S → Prop) (i : Int32) (E0 : tc_E) (s0 : tc_S) (m0 : mm_S) : Prop := (vp_in (i + 1) L ∧ ∀ v2, v2 = xs (i + 1).toNatClampNeg → (vp_in (i + 2) L ∧ ∀ v4, v4 = xs (i + 2).toNatClampNeg → (vp_in (i + 3) L ∧ ∀ v6, v6 = xs (i + 3).toNatClampNeg → ww_X0_connect (tm E0 m0) (fun r7 E9 S9 => ∃ E8, E9 = tm E8 m0 ∧ tl_same E0 E8 ∧ tl_m E8 ∧ (vp_in (i + 1) L ∧ ∀ v11, v11 = xs (i + 1).toNatClampNeg → (vp_in (i + 2) L ∧ ∀ v13, v13 = xs (i + 2).toNatClampNeg → (vp_in (i + 3) L ∧ ∀ v15, v15 = xs (i + 3).toNatClampNeg → wp_X6_connect (fun r16 M17 => wp_X6_thrown (fun r18 M19 => ((r18 = r7 → ((¬ r7 = 0 → K E8 S9 M19) ∧ (r7 = 0 → ((22, 0) ∈ eL E8 ∧ ∃ f22, ew E8 (22, 0) = .inl (ec E8 2, 1, .inr (.inl f22)) ∧ (((lg_cmp (f22 (0 : Int32).toNatClampNeg) r16.toInt64) = 0 → K E8 S9 M19) ∧ (¬ (lg_cmp (f22 (0 : Int32).toNatClampNeg) r16.toInt64) = 0 → False)))))) ∧ (¬ r18 = r7 → False)))  M17) v11 v13 v15 m0)))) v2 v4 v6 s0)))
set_option maxHeartbeats 4000000 in
theorem tl_c4 {p : Program} {l : Launch} {e : Env} {s : State} {m : MethodId} {b L : Nat} {xs : Nat → Int32} {below : List Frame} {meth : Method} {c : Code} {cells slots : Nat} {Q : State → Prop} {K : tc_E → tc_S → mm_S → Prop} {i : Int32} {E0 : tc_E} {s0 : tc_S} {m0 : mm_S} {H : Heap} {locs : List Loc} {ls : Array Slot} (hl0 : l.stackTraces = false) (C : tc_C p m c code 9 s #[.ref b] RX0 E0) (hX : va_X b L xs s s.heap) (hbl : b < s.heap.size) (hbA : ∀ q : Nat, ¬ eb E0 ≤ b) (hcr : cells + 12 ≤ 1203072 ∧ slots + 260 ≤ 5394730) (hm : tl_m E0) (hH : tc_ok (tm E0 m0) s0 H) (hS : va_S (fun q => eb E0 ≤ q) s.heap H locs) (hl : lv_has ls 9 [(0, .ref b), (1, .ref (ea E0 (0, 0))), (2, .ref (ea E0 (20, 0))), (3, .ref (ea E0 (22, 0))), (4, .ref (ea E0 (23, 0))), (5, .int i)]) (hK : tl_K K p l e s m b below meth c cells slots Q i E0) (hk : wl_c4 L xs K i E0 s0 m0) : W p l e room_1 s m #[.ref b] below meth c H locs cells slots Q (F0 m 472 ls []) := by
  unfold wl_c4 at hk
  have hsim := tc_sim.rf E0
  refine lv_aload_n C.hx C.hb dL_law_472 rfl (lv_at hl 1 rfl) ?_
  refine lv_aload_n C.hx C.hb dL_law_473 rfl (lv_at hl 0 rfl) ?_
  refine lv_iload C.hx C.hb dL_law_474 (lv_at hl 5 rfl) ?_
  refine lv_iconst (v := 1) C.hx C.hb dL_law_476 (by decide) ?_
  refine lv_iadd C.hx C.hb dL_law_477 ?_
  obtain ⟨h1, hk⟩ := hk
  refine va_sld C.hx C.hb hX hbl (hbA 0) hS h1 dL_law_478 ?_
  refine lv_topi (fun v2 ev2 => ?_)
  have hk := hk v2 ev2
  refine lv_aload_n C.hx C.hb dL_law_479 rfl (lv_at hl 0 rfl) ?_
  refine lv_iload C.hx C.hb dL_law_480 (lv_at hl 5 rfl) ?_
  refine lv_iconst (v := 2) C.hx C.hb dL_law_482 (by decide) ?_
  refine lv_iadd C.hx C.hb dL_law_483 ?_
  obtain ⟨h3, hk⟩ := hk
  refine va_sld C.hx C.hb hX hbl (hbA 0) hS h3 dL_law_484 ?_
  refine lv_topi (fun v4 ev4 => ?_)
  have hk := hk v4 ev4
  refine lv_aload_n C.hx C.hb dL_law_485 rfl (lv_at hl 0 rfl) ?_
  refine lv_iload C.hx C.hb dL_law_486 (lv_at hl 5 rfl) ?_
  refine lv_iconst (v := 3) C.hx C.hb dL_law_488 (by decide) ?_
  refine lv_iadd C.hx C.hb dL_law_489 ?_
  obtain ⟨h5, hk⟩ := hk
  refine va_sld C.hx C.hb hX hbl (hbA 0) hS h5 dL_law_490 ?_
  refine lv_topi (fun v6 ev6 => ?_)
  have hk := hk v6 ev6
  refine lv_aload_n C.hx C.hb dL_law_491 rfl (lv_at hl 3 rfl) ?_
  refine tl_w (As := [.ref (ea E0 (0, 0)), .int v2, .int v4, .int v6, .ref (ea E0 (22, 0))]) (rest := []) C hH hS (t_X0_connect l hl0 hk) (vx_cwSW 5 C.hts (lw_SW q865 q866 q52 q867) rfl rfl rfl (by decide +kernel) ⟨Nat.le_of_ble_eq_true rfl, Nat.le_of_ble_eq_true rfl⟩) rfl hl.1 rfl (lv_room (Nat.le_of_ble_eq_true rfl)) dL_law_492 ⟨by show cells + 6 ≤ 1203072; omega, by show slots + 36 ≤ 5394730; omega⟩ (fun r7 E9 S9 H locs hk hsm hH hS => ?_)
  obtain ⟨E8, rfl, hsa, hm, hk⟩ := hk
  have hsim2 : tc_sim E0 E8 := hsm
  have C := C.sim hsim2
  rw [← hsim2.1] at hS
  have hsim := hsim.trans hsim2
  have hbA : ∀ q : Nat, ¬ eb E8 ≤ b := fun _ => by rw [hsim2.1]; exact hbA 0
  have hl : lv_has ls 9 [(0, .ref b), (1, .ref (ea E8 (0, 0))), (2, .ref (ea E8 (20, 0))), (3, .ref (ea E8 (22, 0))), (4, .ref (ea E8 (23, 0))), (5, .int i)] := by rw [hsa.1, hsa.2.1, hsa.2.2.1, hsa.2.2.2]; exact hl
  refine W.eq (g2 := F0 m 495 ls [.int r7]) rfl ?_
  refine lv_istore (lv' := [(6, .int r7), (0, .ref b), (1, .ref (ea E8 (0, 0))), (2, .ref (ea E8 (20, 0))), (3, .ref (ea E8 (22, 0))), (4, .ref (ea E8 (23, 0))), (5, .int i)]) C.hx C.hb dL_law_495 hl (by decide) rfl (fun ls hl => ?_)
  refine lv_aload_n C.hx C.hb dL_law_497 rfl (lv_at hl 3 rfl) ?_
  refine lv_aload_n C.hx C.hb dL_law_498 rfl (lv_at hl 1 rfl) ?_
  refine lv_iload C.hx C.hb dL_law_499 (lv_at hl 6 rfl) ?_
  refine lv_iconst (v := 1) C.hx C.hb dL_law_501 (by decide) ?_
  refine lv_iadd C.hx C.hb dL_law_502 ?_
  obtain ⟨h10, hk⟩ := hk
  refine va_sld C.hx C.hb hX hbl (hbA 0) hS h10 dL_law_503 ?_
  refine lv_topi (fun v11 ev11 => ?_)
  have hk := hk v11 ev11
  refine lv_aload_n C.hx C.hb dL_law_504 rfl (lv_at hl 1 rfl) ?_
  refine lv_iload C.hx C.hb dL_law_505 (lv_at hl 6 rfl) ?_
  refine lv_iconst (v := 2) C.hx C.hb dL_law_507 (by decide) ?_
  refine lv_iadd C.hx C.hb dL_law_508 ?_
  obtain ⟨h12, hk⟩ := hk
  refine va_sld C.hx C.hb hX hbl (hbA 0) hS h12 dL_law_509 ?_
  refine lv_topi (fun v13 ev13 => ?_)
  have hk := hk v13 ev13
  refine lv_aload_n C.hx C.hb dL_law_510 rfl (lv_at hl 1 rfl) ?_
  refine lv_iload C.hx C.hb dL_law_511 (lv_at hl 6 rfl) ?_
  refine lv_iconst (v := 3) C.hx C.hb dL_law_513 (by decide) ?_
  refine lv_iadd C.hx C.hb dL_law_514 ?_
  obtain ⟨h14, hk⟩ := hk
  refine va_sld C.hx C.hb hX hbl (hbA 0) hS h14 dL_law_515 ?_
  refine lv_topi (fun v15 ev15 => ?_)
  have hk := hk v15 ev15
  refine tl_i (As := [.int v11, .int v13, .int v15]) (rest := []) C hH hm hS (t_X6_connect l hk) (cwV 3 C.hts (lw_V q1352 q1353 q1354 q65 q1355) rfl rfl rfl (by decide +kernel) ⟨Nat.le_of_ble_eq_true rfl, Nat.le_of_ble_eq_true rfl⟩) rfl hl.1 rfl (lv_room (Nat.le_of_ble_eq_true rfl)) dL_law_516 (lw_le hcr) (fun r16 M17 H locs hk hH hS => ?_)
  refine W.eq (g2 := F0 m 519 ls [.int r16]) rfl ?_
  refine lv_istore (lv' := [(7, .int r16), (6, .int r7), (0, .ref b), (1, .ref (ea E8 (0, 0))), (2, .ref (ea E8 (20, 0))), (3, .ref (ea E8 (22, 0))), (4, .ref (ea E8 (23, 0))), (5, .int i)]) C.hx C.hb dL_law_519 hl (by decide) rfl (fun ls hl => ?_)
  refine lv_aload_n C.hx C.hb dL_law_521 rfl (lv_at hl 4 rfl) ?_
  refine tl_i (As := []) (rest := []) C hH hm hS (t_X6_thrown l hk) (cwV 0 C.hts (lw_V q1321 q1322 q1323 q65 q1324) rfl rfl rfl (by decide +kernel) ⟨Nat.le_of_ble_eq_true rfl, Nat.le_of_ble_eq_true rfl⟩) rfl hl.1 rfl (lv_room (Nat.le_of_ble_eq_true rfl)) dL_law_522 (lw_le hcr) (fun r18 M19 H locs hk hH hS => ?_)
  refine W.eq (g2 := F0 m 525 ls [.int r18]) rfl ?_
  refine lv_iload C.hx C.hb dL_law_525 (lv_at hl 1 rfl) ?_
  refine lv_icmp_eq (tgt := 532) C.hx C.hb dL_law_527 (by decide) (fun c20 => ?_) (fun c20 => ?_)
  · have hk := hk.1 c20
    refine lv_iload C.hx C.hb dL_law_532 (lv_at hl 1 rfl) ?_
    refine lv_if_ne (tgt := 549) C.hx C.hb dL_law_534 (by decide) (fun c21 => ?_) (fun c21 => ?_)
    · have hk := hk.1 c21
      refine lv_goto (tgt := 2100) C.hx C.hb dL_law_549 (by decide) ?_
      refine W.widen (k := cells + KC) (n := slots + KS) (by show cells + 6 ≤ cells + 12; omega) (by show slots + 36 ≤ slots + 260; omega) ?_
      exact hK E8 S9 M19 _ _ _ hk hsim hm hH hS (lv_sub hl [2, 3, 4, 5, 6, 7] rfl)
    · have hk := hk.2 c21
      refine lv_aload_n C.hx C.hb dL_law_537 rfl (lv_at hl 5 rfl) ?_
      refine lv_iconst (v := 0) C.hx C.hb dL_law_538 (by decide) ?_
      obtain ⟨h23, f22, h24, hk⟩ := hk
      refine tl_lald C hH h23 h24 dL_law_539 ?_
      refine lv_iload C.hx C.hb dL_law_540 (lv_at hl 0 rfl) ?_
      refine lv_i2l C.hx C.hb dL_law_542 rfl ?_
      refine W.lcmp C.hx C.hb dL_law_543 ?_
      refine lv_if_eq (tgt := 549) C.hx C.hb dL_law_544 (by decide) (fun c25 => ?_) (fun c25 => ?_)
      · have hk := hk.1 c25
        refine lv_goto (tgt := 2100) C.hx C.hb dL_law_549 (by decide) ?_
        refine W.widen (k := cells + KC) (n := slots + KS) (by show cells + 6 ≤ cells + 12; omega) (by show slots + 36 ≤ slots + 260; omega) ?_
        exact hK E8 S9 M19 _ _ _ hk hsim hm hH hS (lv_sub hl [2, 3, 4, 5, 6, 7] rfl)
      · have hk := hk.2 c25
        refine lv_iconst (v := 0) C.hx C.hb dL_law_547 (by decide) ?_
        exact hk.elim
  · have hk := hk.2 c20
    refine lv_iconst (v := 0) C.hx C.hb dL_law_530 (by decide) ?_
    exact hk.elim
def wl_c5 (L : Nat) (xs : Nat → Int32) (K : tc_E → tc_S → mm_S → Prop) (i : Int32) (E0 : tc_E) (s0 : tc_S) (m0 : mm_S) : Prop := (vp_in (i + 1) L ∧ ∀ v2, v2 = xs (i + 1).toNatClampNeg → (vp_in (i + 2) L ∧ ∀ v4, v4 = xs (i + 2).toNatClampNeg → ww_X0_disconnect (tm E0 m0) (fun r5 E9 S7 => ∃ E6, E9 = tm E6 m0 ∧ tl_same E0 E6 ∧ tl_m E6 ∧ (vp_in (i + 1) L ∧ ∀ v9, v9 = xs (i + 1).toNatClampNeg → (vp_in (i + 2) L ∧ ∀ v11, v11 = xs (i + 2).toNatClampNeg → wp_X6_disconnect (fun r12 M13 => wp_X6_thrown (fun r14 M15 => ((r14 = r5 → ((¬ r5 = 0 → K E6 S7 M15) ∧ (r5 = 0 → ((22, 0) ∈ eL E6 ∧ ∃ f18, ew E6 (22, 0) = .inl (ec E6 2, 1, .inr (.inl f18)) ∧ (((lg_cmp (f18 (0 : Int32).toNatClampNeg) r12.toInt64) = 0 → K E6 S7 M15) ∧ (¬ (lg_cmp (f18 (0 : Int32).toNatClampNeg) r12.toInt64) = 0 → False)))))) ∧ (¬ r14 = r5 → False)))  M13) v9 v11 m0))) v2 v4 s0))
set_option maxHeartbeats 4000000 in
theorem tl_c5 {p : Program} {l : Launch} {e : Env} {s : State} {m : MethodId} {b L : Nat} {xs : Nat → Int32} {below : List Frame} {meth : Method} {c : Code} {cells slots : Nat} {Q : State → Prop} {K : tc_E → tc_S → mm_S → Prop} {i : Int32} {E0 : tc_E} {s0 : tc_S} {m0 : mm_S} {H : Heap} {locs : List Loc} {ls : Array Slot} (hl0 : l.stackTraces = false) (C : tc_C p m c code 9 s #[.ref b] RX0 E0) (hX : va_X b L xs s s.heap) (hbl : b < s.heap.size) (hbA : ∀ q : Nat, ¬ eb E0 ≤ b) (hcr : cells + 12 ≤ 1203072 ∧ slots + 260 ≤ 5394730) (hm : tl_m E0) (hH : tc_ok (tm E0 m0) s0 H) (hS : va_S (fun q => eb E0 ≤ q) s.heap H locs) (hl : lv_has ls 9 [(0, .ref b), (1, .ref (ea E0 (0, 0))), (2, .ref (ea E0 (20, 0))), (3, .ref (ea E0 (22, 0))), (4, .ref (ea E0 (23, 0))), (5, .int i)]) (hK : tl_K K p l e s m b below meth c cells slots Q i E0) (hk : wl_c5 L xs K i E0 s0 m0) : W p l e room_1 s m #[.ref b] below meth c H locs cells slots Q (F0 m 552 ls []) := by
  unfold wl_c5 at hk
  have hsim := tc_sim.rf E0
  refine lv_aload_n C.hx C.hb dL_law_552 rfl (lv_at hl 1 rfl) ?_
  refine lv_aload_n C.hx C.hb dL_law_553 rfl (lv_at hl 0 rfl) ?_
  refine lv_iload C.hx C.hb dL_law_554 (lv_at hl 5 rfl) ?_
  refine lv_iconst (v := 1) C.hx C.hb dL_law_556 (by decide) ?_
  refine lv_iadd C.hx C.hb dL_law_557 ?_
  obtain ⟨h1, hk⟩ := hk
  refine va_sld C.hx C.hb hX hbl (hbA 0) hS h1 dL_law_558 ?_
  refine lv_topi (fun v2 ev2 => ?_)
  have hk := hk v2 ev2
  refine lv_aload_n C.hx C.hb dL_law_559 rfl (lv_at hl 0 rfl) ?_
  refine lv_iload C.hx C.hb dL_law_560 (lv_at hl 5 rfl) ?_
  refine lv_iconst (v := 2) C.hx C.hb dL_law_562 (by decide) ?_
  refine lv_iadd C.hx C.hb dL_law_563 ?_
  obtain ⟨h3, hk⟩ := hk
  refine va_sld C.hx C.hb hX hbl (hbA 0) hS h3 dL_law_564 ?_
  refine lv_topi (fun v4 ev4 => ?_)
  have hk := hk v4 ev4
  refine lv_aload_n C.hx C.hb dL_law_565 rfl (lv_at hl 3 rfl) ?_
  refine tl_w (As := [.ref (ea E0 (0, 0)), .int v2, .int v4, .ref (ea E0 (22, 0))]) (rest := []) C hH hS (t_X0_disconnect l hl0 hk) (vx_cwSW 4 C.hts (lw_SW q976 q977 q52 q978) rfl rfl rfl (by decide +kernel) ⟨Nat.le_of_ble_eq_true rfl, Nat.le_of_ble_eq_true rfl⟩) rfl hl.1 rfl (lv_room (Nat.le_of_ble_eq_true rfl)) dL_law_566 ⟨by show cells + 3 ≤ 1203072; omega, by show slots + 18 ≤ 5394730; omega⟩ (fun r5 E9 S7 H locs hk hsm hH hS => ?_)
  obtain ⟨E6, rfl, hsa, hm, hk⟩ := hk
  have hsim2 : tc_sim E0 E6 := hsm
  have C := C.sim hsim2
  rw [← hsim2.1] at hS
  have hsim := hsim.trans hsim2
  have hbA : ∀ q : Nat, ¬ eb E6 ≤ b := fun _ => by rw [hsim2.1]; exact hbA 0
  have hl : lv_has ls 9 [(0, .ref b), (1, .ref (ea E6 (0, 0))), (2, .ref (ea E6 (20, 0))), (3, .ref (ea E6 (22, 0))), (4, .ref (ea E6 (23, 0))), (5, .int i)] := by rw [hsa.1, hsa.2.1, hsa.2.2.1, hsa.2.2.2]; exact hl
  refine W.eq (g2 := F0 m 569 ls [.int r5]) rfl ?_
  refine lv_istore (lv' := [(6, .int r5), (0, .ref b), (1, .ref (ea E6 (0, 0))), (2, .ref (ea E6 (20, 0))), (3, .ref (ea E6 (22, 0))), (4, .ref (ea E6 (23, 0))), (5, .int i)]) C.hx C.hb dL_law_569 hl (by decide) rfl (fun ls hl => ?_)
  refine lv_aload_n C.hx C.hb dL_law_571 rfl (lv_at hl 3 rfl) ?_
  refine lv_aload_n C.hx C.hb dL_law_572 rfl (lv_at hl 1 rfl) ?_
  refine lv_iload C.hx C.hb dL_law_573 (lv_at hl 6 rfl) ?_
  refine lv_iconst (v := 1) C.hx C.hb dL_law_575 (by decide) ?_
  refine lv_iadd C.hx C.hb dL_law_576 ?_
  obtain ⟨h8, hk⟩ := hk
  refine va_sld C.hx C.hb hX hbl (hbA 0) hS h8 dL_law_577 ?_
  refine lv_topi (fun v9 ev9 => ?_)
  have hk := hk v9 ev9
  refine lv_aload_n C.hx C.hb dL_law_578 rfl (lv_at hl 1 rfl) ?_
  refine lv_iload C.hx C.hb dL_law_579 (lv_at hl 6 rfl) ?_
  refine lv_iconst (v := 2) C.hx C.hb dL_law_581 (by decide) ?_
  refine lv_iadd C.hx C.hb dL_law_582 ?_
  obtain ⟨h10, hk⟩ := hk
  refine va_sld C.hx C.hb hX hbl (hbA 0) hS h10 dL_law_583 ?_
  refine lv_topi (fun v11 ev11 => ?_)
  have hk := hk v11 ev11
  refine tl_i (As := [.int v9, .int v11]) (rest := []) C hH hm hS (t_X6_disconnect l hk) (cwV 2 C.hts (lw_V q1368 q1369 q1370 q65 q1371) rfl rfl rfl (by decide +kernel) ⟨Nat.le_of_ble_eq_true rfl, Nat.le_of_ble_eq_true rfl⟩) rfl hl.1 rfl (lv_room (Nat.le_of_ble_eq_true rfl)) dL_law_584 (lw_le hcr) (fun r12 M13 H locs hk hH hS => ?_)
  refine W.eq (g2 := F0 m 587 ls [.int r12]) rfl ?_
  refine lv_istore (lv' := [(7, .int r12), (6, .int r5), (0, .ref b), (1, .ref (ea E6 (0, 0))), (2, .ref (ea E6 (20, 0))), (3, .ref (ea E6 (22, 0))), (4, .ref (ea E6 (23, 0))), (5, .int i)]) C.hx C.hb dL_law_587 hl (by decide) rfl (fun ls hl => ?_)
  refine lv_aload_n C.hx C.hb dL_law_589 rfl (lv_at hl 4 rfl) ?_
  refine tl_i (As := []) (rest := []) C hH hm hS (t_X6_thrown l hk) (cwV 0 C.hts (lw_V q1321 q1322 q1323 q65 q1324) rfl rfl rfl (by decide +kernel) ⟨Nat.le_of_ble_eq_true rfl, Nat.le_of_ble_eq_true rfl⟩) rfl hl.1 rfl (lv_room (Nat.le_of_ble_eq_true rfl)) dL_law_590 (lw_le hcr) (fun r14 M15 H locs hk hH hS => ?_)
  refine W.eq (g2 := F0 m 593 ls [.int r14]) rfl ?_
  refine lv_iload C.hx C.hb dL_law_593 (lv_at hl 1 rfl) ?_
  refine lv_icmp_eq (tgt := 600) C.hx C.hb dL_law_595 (by decide) (fun c16 => ?_) (fun c16 => ?_)
  · have hk := hk.1 c16
    refine lv_iload C.hx C.hb dL_law_600 (lv_at hl 1 rfl) ?_
    refine lv_if_ne (tgt := 617) C.hx C.hb dL_law_602 (by decide) (fun c17 => ?_) (fun c17 => ?_)
    · have hk := hk.1 c17
      refine lv_goto (tgt := 2100) C.hx C.hb dL_law_617 (by decide) ?_
      refine W.widen (k := cells + KC) (n := slots + KS) (by show cells + 3 ≤ cells + 12; omega) (by show slots + 18 ≤ slots + 260; omega) ?_
      exact hK E6 S7 M15 _ _ _ hk hsim hm hH hS (lv_sub hl [2, 3, 4, 5, 6, 7] rfl)
    · have hk := hk.2 c17
      refine lv_aload_n C.hx C.hb dL_law_605 rfl (lv_at hl 5 rfl) ?_
      refine lv_iconst (v := 0) C.hx C.hb dL_law_606 (by decide) ?_
      obtain ⟨h19, f18, h20, hk⟩ := hk
      refine tl_lald C hH h19 h20 dL_law_607 ?_
      refine lv_iload C.hx C.hb dL_law_608 (lv_at hl 0 rfl) ?_
      refine lv_i2l C.hx C.hb dL_law_610 rfl ?_
      refine W.lcmp C.hx C.hb dL_law_611 ?_
      refine lv_if_eq (tgt := 617) C.hx C.hb dL_law_612 (by decide) (fun c21 => ?_) (fun c21 => ?_)
      · have hk := hk.1 c21
        refine lv_goto (tgt := 2100) C.hx C.hb dL_law_617 (by decide) ?_
        refine W.widen (k := cells + KC) (n := slots + KS) (by show cells + 3 ≤ cells + 12; omega) (by show slots + 18 ≤ slots + 260; omega) ?_
        exact hK E6 S7 M15 _ _ _ hk hsim hm hH hS (lv_sub hl [2, 3, 4, 5, 6, 7] rfl)
      · have hk := hk.2 c21
        refine lv_iconst (v := 0) C.hx C.hb dL_law_615 (by decide) ?_
        exact hk.elim
  · have hk := hk.2 c16
    refine lv_iconst (v := 0) C.hx C.hb dL_law_598 (by decide) ?_
    exact hk.elim
def wl_c6 (L : Nat) (xs : Nat → Int32) (K : tc_E → tc_S → mm_S → Prop) (i : Int32) (E0 : tc_E) (s0 : tc_S) (m0 : mm_S) : Prop := (vp_in (i + 1) L ∧ ∀ v2, v2 = xs (i + 1).toNatClampNeg → (vp_in (i + 2) L ∧ ∀ v4, v4 = xs (i + 2).toNatClampNeg → ww_X0_setGain (tm E0 m0) (fun r5 E9 S7 => ∃ E6, E9 = tm E6 m0 ∧ tl_same E0 E6 ∧ tl_m E6 ∧ (vp_in (i + 1) L ∧ ∀ v9, v9 = xs (i + 1).toNatClampNeg → (vp_in (i + 2) L ∧ ∀ v11, v11 = xs (i + 2).toNatClampNeg → wp_X6_setGain (fun r12 M13 => wp_X6_thrown (fun r14 M15 => ((r14 = r5 → ((¬ r5 = 0 → K E6 S7 M15) ∧ (r5 = 0 → ((22, 0) ∈ eL E6 ∧ ∃ f18, ew E6 (22, 0) = .inl (ec E6 2, 1, .inr (.inl f18)) ∧ (((lg_cmp (f18 (0 : Int32).toNatClampNeg) r12.toInt64) = 0 → K E6 S7 M15) ∧ (¬ (lg_cmp (f18 (0 : Int32).toNatClampNeg) r12.toInt64) = 0 → False)))))) ∧ (¬ r14 = r5 → False)))  M13) v9 v11 m0))) v2 v4 s0))
set_option maxHeartbeats 4000000 in
theorem tl_c6 {p : Program} {l : Launch} {e : Env} {s : State} {m : MethodId} {b L : Nat} {xs : Nat → Int32} {below : List Frame} {meth : Method} {c : Code} {cells slots : Nat} {Q : State → Prop} {K : tc_E → tc_S → mm_S → Prop} {i : Int32} {E0 : tc_E} {s0 : tc_S} {m0 : mm_S} {H : Heap} {locs : List Loc} {ls : Array Slot} (hl0 : l.stackTraces = false) (C : tc_C p m c code 9 s #[.ref b] RX0 E0) (hX : va_X b L xs s s.heap) (hbl : b < s.heap.size) (hbA : ∀ q : Nat, ¬ eb E0 ≤ b) (hcr : cells + 12 ≤ 1203072 ∧ slots + 260 ≤ 5394730) (hm : tl_m E0) (hH : tc_ok (tm E0 m0) s0 H) (hS : va_S (fun q => eb E0 ≤ q) s.heap H locs) (hl : lv_has ls 9 [(0, .ref b), (1, .ref (ea E0 (0, 0))), (2, .ref (ea E0 (20, 0))), (3, .ref (ea E0 (22, 0))), (4, .ref (ea E0 (23, 0))), (5, .int i)]) (hK : tl_K K p l e s m b below meth c cells slots Q i E0) (hk : wl_c6 L xs K i E0 s0 m0) : W p l e room_1 s m #[.ref b] below meth c H locs cells slots Q (F0 m 620 ls []) := by
  unfold wl_c6 at hk
  have hsim := tc_sim.rf E0
  refine lv_aload_n C.hx C.hb dL_law_620 rfl (lv_at hl 1 rfl) ?_
  refine lv_aload_n C.hx C.hb dL_law_621 rfl (lv_at hl 0 rfl) ?_
  refine lv_iload C.hx C.hb dL_law_622 (lv_at hl 5 rfl) ?_
  refine lv_iconst (v := 1) C.hx C.hb dL_law_624 (by decide) ?_
  refine lv_iadd C.hx C.hb dL_law_625 ?_
  obtain ⟨h1, hk⟩ := hk
  refine va_sld C.hx C.hb hX hbl (hbA 0) hS h1 dL_law_626 ?_
  refine lv_topi (fun v2 ev2 => ?_)
  have hk := hk v2 ev2
  refine lv_aload_n C.hx C.hb dL_law_627 rfl (lv_at hl 0 rfl) ?_
  refine lv_iload C.hx C.hb dL_law_628 (lv_at hl 5 rfl) ?_
  refine lv_iconst (v := 2) C.hx C.hb dL_law_630 (by decide) ?_
  refine lv_iadd C.hx C.hb dL_law_631 ?_
  obtain ⟨h3, hk⟩ := hk
  refine va_sld C.hx C.hb hX hbl (hbA 0) hS h3 dL_law_632 ?_
  refine lv_topi (fun v4 ev4 => ?_)
  have hk := hk v4 ev4
  refine lv_aload_n C.hx C.hb dL_law_633 rfl (lv_at hl 3 rfl) ?_
  refine tl_w (As := [.ref (ea E0 (0, 0)), .int v2, .int v4, .ref (ea E0 (22, 0))]) (rest := []) C hH hS (t_X0_setGain l hl0 hk) (vx_cwSW 4 C.hts (lw_SW q1008 q1009 q52 q1010) rfl rfl rfl (by decide +kernel) ⟨Nat.le_of_ble_eq_true rfl, Nat.le_of_ble_eq_true rfl⟩) rfl hl.1 rfl (lv_room (Nat.le_of_ble_eq_true rfl)) dL_law_634 ⟨by show cells + 2 ≤ 1203072; omega, by show slots + 12 ≤ 5394730; omega⟩ (fun r5 E9 S7 H locs hk hsm hH hS => ?_)
  obtain ⟨E6, rfl, hsa, hm, hk⟩ := hk
  have hsim2 : tc_sim E0 E6 := hsm
  have C := C.sim hsim2
  rw [← hsim2.1] at hS
  have hsim := hsim.trans hsim2
  have hbA : ∀ q : Nat, ¬ eb E6 ≤ b := fun _ => by rw [hsim2.1]; exact hbA 0
  have hl : lv_has ls 9 [(0, .ref b), (1, .ref (ea E6 (0, 0))), (2, .ref (ea E6 (20, 0))), (3, .ref (ea E6 (22, 0))), (4, .ref (ea E6 (23, 0))), (5, .int i)] := by rw [hsa.1, hsa.2.1, hsa.2.2.1, hsa.2.2.2]; exact hl
  refine W.eq (g2 := F0 m 637 ls [.int r5]) rfl ?_
  refine lv_istore (lv' := [(6, .int r5), (0, .ref b), (1, .ref (ea E6 (0, 0))), (2, .ref (ea E6 (20, 0))), (3, .ref (ea E6 (22, 0))), (4, .ref (ea E6 (23, 0))), (5, .int i)]) C.hx C.hb dL_law_637 hl (by decide) rfl (fun ls hl => ?_)
  refine lv_aload_n C.hx C.hb dL_law_639 rfl (lv_at hl 3 rfl) ?_
  refine lv_aload_n C.hx C.hb dL_law_640 rfl (lv_at hl 1 rfl) ?_
  refine lv_iload C.hx C.hb dL_law_641 (lv_at hl 6 rfl) ?_
  refine lv_iconst (v := 1) C.hx C.hb dL_law_643 (by decide) ?_
  refine lv_iadd C.hx C.hb dL_law_644 ?_
  obtain ⟨h8, hk⟩ := hk
  refine va_sld C.hx C.hb hX hbl (hbA 0) hS h8 dL_law_645 ?_
  refine lv_topi (fun v9 ev9 => ?_)
  have hk := hk v9 ev9
  refine lv_aload_n C.hx C.hb dL_law_646 rfl (lv_at hl 1 rfl) ?_
  refine lv_iload C.hx C.hb dL_law_647 (lv_at hl 6 rfl) ?_
  refine lv_iconst (v := 2) C.hx C.hb dL_law_649 (by decide) ?_
  refine lv_iadd C.hx C.hb dL_law_650 ?_
  obtain ⟨h10, hk⟩ := hk
  refine va_sld C.hx C.hb hX hbl (hbA 0) hS h10 dL_law_651 ?_
  refine lv_topi (fun v11 ev11 => ?_)
  have hk := hk v11 ev11
  refine tl_i (As := [.int v9, .int v11]) (rest := []) C hH hm hS (t_X6_setGain l hk) (cwV 2 C.hts (lw_V q1372 q1373 q1374 q65 q1375) rfl rfl rfl (by decide +kernel) ⟨Nat.le_of_ble_eq_true rfl, Nat.le_of_ble_eq_true rfl⟩) rfl hl.1 rfl (lv_room (Nat.le_of_ble_eq_true rfl)) dL_law_652 (lw_le hcr) (fun r12 M13 H locs hk hH hS => ?_)
  refine W.eq (g2 := F0 m 655 ls [.int r12]) rfl ?_
  refine lv_istore (lv' := [(7, .int r12), (6, .int r5), (0, .ref b), (1, .ref (ea E6 (0, 0))), (2, .ref (ea E6 (20, 0))), (3, .ref (ea E6 (22, 0))), (4, .ref (ea E6 (23, 0))), (5, .int i)]) C.hx C.hb dL_law_655 hl (by decide) rfl (fun ls hl => ?_)
  refine lv_aload_n C.hx C.hb dL_law_657 rfl (lv_at hl 4 rfl) ?_
  refine tl_i (As := []) (rest := []) C hH hm hS (t_X6_thrown l hk) (cwV 0 C.hts (lw_V q1321 q1322 q1323 q65 q1324) rfl rfl rfl (by decide +kernel) ⟨Nat.le_of_ble_eq_true rfl, Nat.le_of_ble_eq_true rfl⟩) rfl hl.1 rfl (lv_room (Nat.le_of_ble_eq_true rfl)) dL_law_658 (lw_le hcr) (fun r14 M15 H locs hk hH hS => ?_)
  refine W.eq (g2 := F0 m 661 ls [.int r14]) rfl ?_
  refine lv_iload C.hx C.hb dL_law_661 (lv_at hl 1 rfl) ?_
  refine lv_icmp_eq (tgt := 668) C.hx C.hb dL_law_663 (by decide) (fun c16 => ?_) (fun c16 => ?_)
  · have hk := hk.1 c16
    refine lv_iload C.hx C.hb dL_law_668 (lv_at hl 1 rfl) ?_
    refine lv_if_ne (tgt := 685) C.hx C.hb dL_law_670 (by decide) (fun c17 => ?_) (fun c17 => ?_)
    · have hk := hk.1 c17
      refine lv_goto (tgt := 2100) C.hx C.hb dL_law_685 (by decide) ?_
      refine W.widen (k := cells + KC) (n := slots + KS) (by show cells + 2 ≤ cells + 12; omega) (by show slots + 12 ≤ slots + 260; omega) ?_
      exact hK E6 S7 M15 _ _ _ hk hsim hm hH hS (lv_sub hl [2, 3, 4, 5, 6, 7] rfl)
    · have hk := hk.2 c17
      refine lv_aload_n C.hx C.hb dL_law_673 rfl (lv_at hl 5 rfl) ?_
      refine lv_iconst (v := 0) C.hx C.hb dL_law_674 (by decide) ?_
      obtain ⟨h19, f18, h20, hk⟩ := hk
      refine tl_lald C hH h19 h20 dL_law_675 ?_
      refine lv_iload C.hx C.hb dL_law_676 (lv_at hl 0 rfl) ?_
      refine lv_i2l C.hx C.hb dL_law_678 rfl ?_
      refine W.lcmp C.hx C.hb dL_law_679 ?_
      refine lv_if_eq (tgt := 685) C.hx C.hb dL_law_680 (by decide) (fun c21 => ?_) (fun c21 => ?_)
      · have hk := hk.1 c21
        refine lv_goto (tgt := 2100) C.hx C.hb dL_law_685 (by decide) ?_
        refine W.widen (k := cells + KC) (n := slots + KS) (by show cells + 2 ≤ cells + 12; omega) (by show slots + 12 ≤ slots + 260; omega) ?_
        exact hK E6 S7 M15 _ _ _ hk hsim hm hH hS (lv_sub hl [2, 3, 4, 5, 6, 7] rfl)
      · have hk := hk.2 c21
        refine lv_iconst (v := 0) C.hx C.hb dL_law_683 (by decide) ?_
        exact hk.elim
  · have hk := hk.2 c16
    refine lv_iconst (v := 0) C.hx C.hb dL_law_666 (by decide) ?_
    exact hk.elim
def wl_c7 (L : Nat) (xs : Nat → Int32) (K : tc_E → tc_S → mm_S → Prop) (i : Int32) (E0 : tc_E) (s0 : tc_S) (m0 : mm_S) : Prop := (vp_in (i + 1) L ∧ ∀ v2, v2 = xs (i + 1).toNatClampNeg → ww_X0_setOutput (tm E0 m0) (fun r3 E9 S5 => ∃ E4, E9 = tm E4 m0 ∧ tl_same E0 E4 ∧ tl_m E4 ∧ (vp_in (i + 1) L ∧ ∀ v7, v7 = xs (i + 1).toNatClampNeg → wp_X6_setOutput (fun r8 M9 => wp_X6_thrown (fun r10 M11 => ((r10 = r3 → ((¬ r3 = 0 → K E4 S5 M11) ∧ (r3 = 0 → ((22, 0) ∈ eL E4 ∧ ∃ f14, ew E4 (22, 0) = .inl (ec E4 2, 1, .inr (.inl f14)) ∧ (((lg_cmp (f14 (0 : Int32).toNatClampNeg) r8.toInt64) = 0 → K E4 S5 M11) ∧ (¬ (lg_cmp (f14 (0 : Int32).toNatClampNeg) r8.toInt64) = 0 → False)))))) ∧ (¬ r10 = r3 → False)))  M9) v7 m0)) v2 s0)
set_option maxHeartbeats 4000000 in
theorem tl_c7 {p : Program} {l : Launch} {e : Env} {s : State} {m : MethodId} {b L : Nat} {xs : Nat → Int32} {below : List Frame} {meth : Method} {c : Code} {cells slots : Nat} {Q : State → Prop} {K : tc_E → tc_S → mm_S → Prop} {i : Int32} {E0 : tc_E} {s0 : tc_S} {m0 : mm_S} {H : Heap} {locs : List Loc} {ls : Array Slot} (hl0 : l.stackTraces = false) (C : tc_C p m c code 9 s #[.ref b] RX0 E0) (hX : va_X b L xs s s.heap) (hbl : b < s.heap.size) (hbA : ∀ q : Nat, ¬ eb E0 ≤ b) (hcr : cells + 12 ≤ 1203072 ∧ slots + 260 ≤ 5394730) (hm : tl_m E0) (hH : tc_ok (tm E0 m0) s0 H) (hS : va_S (fun q => eb E0 ≤ q) s.heap H locs) (hl : lv_has ls 9 [(0, .ref b), (1, .ref (ea E0 (0, 0))), (2, .ref (ea E0 (20, 0))), (3, .ref (ea E0 (22, 0))), (4, .ref (ea E0 (23, 0))), (5, .int i)]) (hK : tl_K K p l e s m b below meth c cells slots Q i E0) (hk : wl_c7 L xs K i E0 s0 m0) : W p l e room_1 s m #[.ref b] below meth c H locs cells slots Q (F0 m 688 ls []) := by
  unfold wl_c7 at hk
  have hsim := tc_sim.rf E0
  refine lv_aload_n C.hx C.hb dL_law_688 rfl (lv_at hl 1 rfl) ?_
  refine lv_aload_n C.hx C.hb dL_law_689 rfl (lv_at hl 0 rfl) ?_
  refine lv_iload C.hx C.hb dL_law_690 (lv_at hl 5 rfl) ?_
  refine lv_iconst (v := 1) C.hx C.hb dL_law_692 (by decide) ?_
  refine lv_iadd C.hx C.hb dL_law_693 ?_
  obtain ⟨h1, hk⟩ := hk
  refine va_sld C.hx C.hb hX hbl (hbA 0) hS h1 dL_law_694 ?_
  refine lv_topi (fun v2 ev2 => ?_)
  have hk := hk v2 ev2
  refine lv_aload_n C.hx C.hb dL_law_695 rfl (lv_at hl 3 rfl) ?_
  refine tl_w (As := [.ref (ea E0 (0, 0)), .int v2, .ref (ea E0 (22, 0))]) (rest := []) C hH hS (t_X0_setOutput l hl0 hk) (vx_cwSW 3 C.hts (lw_SW q1015 q1016 q52 q1017) rfl rfl rfl (by decide +kernel) ⟨Nat.le_of_ble_eq_true rfl, Nat.le_of_ble_eq_true rfl⟩) rfl hl.1 rfl (lv_room (Nat.le_of_ble_eq_true rfl)) dL_law_696 ⟨by show cells + 1 ≤ 1203072; omega, by show slots + 6 ≤ 5394730; omega⟩ (fun r3 E9 S5 H locs hk hsm hH hS => ?_)
  obtain ⟨E4, rfl, hsa, hm, hk⟩ := hk
  have hsim2 : tc_sim E0 E4 := hsm
  have C := C.sim hsim2
  rw [← hsim2.1] at hS
  have hsim := hsim.trans hsim2
  have hbA : ∀ q : Nat, ¬ eb E4 ≤ b := fun _ => by rw [hsim2.1]; exact hbA 0
  have hl : lv_has ls 9 [(0, .ref b), (1, .ref (ea E4 (0, 0))), (2, .ref (ea E4 (20, 0))), (3, .ref (ea E4 (22, 0))), (4, .ref (ea E4 (23, 0))), (5, .int i)] := by rw [hsa.1, hsa.2.1, hsa.2.2.1, hsa.2.2.2]; exact hl
  refine W.eq (g2 := F0 m 699 ls [.int r3]) rfl ?_
  refine lv_istore (lv' := [(6, .int r3), (0, .ref b), (1, .ref (ea E4 (0, 0))), (2, .ref (ea E4 (20, 0))), (3, .ref (ea E4 (22, 0))), (4, .ref (ea E4 (23, 0))), (5, .int i)]) C.hx C.hb dL_law_699 hl (by decide) rfl (fun ls hl => ?_)
  refine lv_aload_n C.hx C.hb dL_law_701 rfl (lv_at hl 3 rfl) ?_
  refine lv_aload_n C.hx C.hb dL_law_702 rfl (lv_at hl 1 rfl) ?_
  refine lv_iload C.hx C.hb dL_law_703 (lv_at hl 6 rfl) ?_
  refine lv_iconst (v := 1) C.hx C.hb dL_law_705 (by decide) ?_
  refine lv_iadd C.hx C.hb dL_law_706 ?_
  obtain ⟨h6, hk⟩ := hk
  refine va_sld C.hx C.hb hX hbl (hbA 0) hS h6 dL_law_707 ?_
  refine lv_topi (fun v7 ev7 => ?_)
  have hk := hk v7 ev7
  refine tl_i (As := [.int v7]) (rest := []) C hH hm hS (t_X6_setOutput l hk) (cwV 1 C.hts (lw_V q1376 q1377 q1378 q65 q1379) rfl rfl rfl (by decide +kernel) ⟨Nat.le_of_ble_eq_true rfl, Nat.le_of_ble_eq_true rfl⟩) rfl hl.1 rfl (lv_room (Nat.le_of_ble_eq_true rfl)) dL_law_708 (lw_le hcr) (fun r8 M9 H locs hk hH hS => ?_)
  refine W.eq (g2 := F0 m 711 ls [.int r8]) rfl ?_
  refine lv_istore (lv' := [(7, .int r8), (6, .int r3), (0, .ref b), (1, .ref (ea E4 (0, 0))), (2, .ref (ea E4 (20, 0))), (3, .ref (ea E4 (22, 0))), (4, .ref (ea E4 (23, 0))), (5, .int i)]) C.hx C.hb dL_law_711 hl (by decide) rfl (fun ls hl => ?_)
  refine lv_aload_n C.hx C.hb dL_law_713 rfl (lv_at hl 4 rfl) ?_
  refine tl_i (As := []) (rest := []) C hH hm hS (t_X6_thrown l hk) (cwV 0 C.hts (lw_V q1321 q1322 q1323 q65 q1324) rfl rfl rfl (by decide +kernel) ⟨Nat.le_of_ble_eq_true rfl, Nat.le_of_ble_eq_true rfl⟩) rfl hl.1 rfl (lv_room (Nat.le_of_ble_eq_true rfl)) dL_law_714 (lw_le hcr) (fun r10 M11 H locs hk hH hS => ?_)
  refine W.eq (g2 := F0 m 717 ls [.int r10]) rfl ?_
  refine lv_iload C.hx C.hb dL_law_717 (lv_at hl 1 rfl) ?_
  refine lv_icmp_eq (tgt := 724) C.hx C.hb dL_law_719 (by decide) (fun c12 => ?_) (fun c12 => ?_)
  · have hk := hk.1 c12
    refine lv_iload C.hx C.hb dL_law_724 (lv_at hl 1 rfl) ?_
    refine lv_if_ne (tgt := 741) C.hx C.hb dL_law_726 (by decide) (fun c13 => ?_) (fun c13 => ?_)
    · have hk := hk.1 c13
      refine lv_goto (tgt := 2100) C.hx C.hb dL_law_741 (by decide) ?_
      refine W.widen (k := cells + KC) (n := slots + KS) (by show cells + 1 ≤ cells + 12; omega) (by show slots + 6 ≤ slots + 260; omega) ?_
      exact hK E4 S5 M11 _ _ _ hk hsim hm hH hS (lv_sub hl [2, 3, 4, 5, 6, 7] rfl)
    · have hk := hk.2 c13
      refine lv_aload_n C.hx C.hb dL_law_729 rfl (lv_at hl 5 rfl) ?_
      refine lv_iconst (v := 0) C.hx C.hb dL_law_730 (by decide) ?_
      obtain ⟨h15, f14, h16, hk⟩ := hk
      refine tl_lald C hH h15 h16 dL_law_731 ?_
      refine lv_iload C.hx C.hb dL_law_732 (lv_at hl 0 rfl) ?_
      refine lv_i2l C.hx C.hb dL_law_734 rfl ?_
      refine W.lcmp C.hx C.hb dL_law_735 ?_
      refine lv_if_eq (tgt := 741) C.hx C.hb dL_law_736 (by decide) (fun c17 => ?_) (fun c17 => ?_)
      · have hk := hk.1 c17
        refine lv_goto (tgt := 2100) C.hx C.hb dL_law_741 (by decide) ?_
        refine W.widen (k := cells + KC) (n := slots + KS) (by show cells + 1 ≤ cells + 12; omega) (by show slots + 6 ≤ slots + 260; omega) ?_
        exact hK E4 S5 M11 _ _ _ hk hsim hm hH hS (lv_sub hl [2, 3, 4, 5, 6, 7] rfl)
      · have hk := hk.2 c17
        refine lv_iconst (v := 0) C.hx C.hb dL_law_739 (by decide) ?_
        exact hk.elim
  · have hk := hk.2 c12
    refine lv_iconst (v := 0) C.hx C.hb dL_law_722 (by decide) ?_
    exact hk.elim
def wl_c8 (L : Nat) (xs : Nat → Int32) (K : tc_E → tc_S → mm_S → Prop) (i : Int32) (E0 : tc_E) (s0 : tc_S) (m0 : mm_S) : Prop := wp_X1_nodes (tm E0 m0) (fun r1 S2 => wp_X6_nodes (fun r3 M4 => ((r1 = r3 → K E0 S2 M4) ∧ (¬ r1 = r3 → False)))  m0)  s0
set_option maxHeartbeats 4000000 in
theorem tl_c8 {p : Program} {l : Launch} {e : Env} {s : State} {m : MethodId} {b L : Nat} {xs : Nat → Int32} {below : List Frame} {meth : Method} {c : Code} {cells slots : Nat} {Q : State → Prop} {K : tc_E → tc_S → mm_S → Prop} {i : Int32} {E0 : tc_E} {s0 : tc_S} {m0 : mm_S} {H : Heap} {locs : List Loc} {ls : Array Slot} (hl0 : l.stackTraces = false) (C : tc_C p m c code 9 s #[.ref b] RX0 E0) (hX : va_X b L xs s s.heap) (hbl : b < s.heap.size) (hbA : ∀ q : Nat, ¬ eb E0 ≤ b) (hcr : cells + 12 ≤ 1203072 ∧ slots + 260 ≤ 5394730) (hm : tl_m E0) (hH : tc_ok (tm E0 m0) s0 H) (hS : va_S (fun q => eb E0 ≤ q) s.heap H locs) (hl : lv_has ls 9 [(0, .ref b), (1, .ref (ea E0 (0, 0))), (2, .ref (ea E0 (20, 0))), (3, .ref (ea E0 (22, 0))), (4, .ref (ea E0 (23, 0))), (5, .int i)]) (hK : tl_K K p l e s m b below meth c cells slots Q i E0) (hk : wl_c8 L xs K i E0 s0 m0) : W p l e room_1 s m #[.ref b] below meth c H locs cells slots Q (F0 m 744 ls []) := by
  unfold wl_c8 at hk
  have hsim := tc_sim.rf E0
  refine lv_aload_n C.hx C.hb dL_law_744 rfl (lv_at hl 1 rfl) ?_
  refine tc_run (tc_rV (As := []) (rest := []) (L := (0, 0)) (ci := 0) (fs := tc_gfs (tm E0 m0) s0) (q := (RX1, TX1, 13)) (C.sim (tm_sim E0 m0)) hH.g rfl rfl (t_X1_nodes l hk) (cwV 0 C.hts (lw_V q356 q357 q358 q53 q359) rfl rfl rfl (by decide +kernel) ⟨Nat.le_of_ble_eq_true rfl, Nat.le_of_ble_eq_true rfl⟩) hH hS rfl hl.1 rfl (lv_room (Nat.le_of_ble_eq_true rfl)) dL_law_745 (lw_le0 hcr)) hS (fun r1 S2 H locs hk hH hS => ?_)
  refine W.eq (g2 := F0 m 748 ls [.int r1]) rfl ?_
  refine lv_aload_n C.hx C.hb dL_law_748 rfl (lv_at hl 2 rfl) ?_
  refine tl_i (As := []) (rest := [.int r1]) C hH hm hS (t_X6_nodes l hk) (cwV 0 C.hts (lw_V q1384 q1385 q1386 q65 q1387) rfl rfl rfl (by decide +kernel) ⟨Nat.le_of_ble_eq_true rfl, Nat.le_of_ble_eq_true rfl⟩) rfl hl.1 rfl (lv_room (Nat.le_of_ble_eq_true rfl)) dL_law_749 (lw_le0 hcr) (fun r3 M4 H locs hk hH hS => ?_)
  refine W.eq (g2 := F0 m 752 ls [.int r3, .int r1]) rfl ?_
  refine lv_icmp_eq (tgt := 2100) C.hx C.hb dL_law_752 (by decide) (fun c5 => ?_) (fun c5 => ?_)
  · have hk := hk.1 c5
    refine W.widen (k := cells + KC) (n := slots + KS) (by show cells ≤ cells + 12; omega) (by show slots ≤ slots + 260; omega) ?_
    exact hK E0 S2 M4 _ _ _ hk hsim hm hH hS (lv_sub hl [0, 1, 2, 3, 4, 5] rfl)
  · have hk := hk.2 c5
    refine lv_iconst (v := 0) C.hx C.hb dL_law_755 (by decide) ?_
    exact hk.elim
def wl_c9 (L : Nat) (xs : Nat → Int32) (K : tc_E → tc_S → mm_S → Prop) (i : Int32) (E0 : tc_E) (s0 : tc_S) (m0 : mm_S) : Prop := (vp_in (i + 1) L ∧ ∀ v2, v2 = xs (i + 1).toNatClampNeg → ww_X0_kindOf (tm E0 m0) (fun r3 E9 S5 => ∃ E4, E9 = tm E4 m0 ∧ tl_same E0 E4 ∧ tl_m E4 ∧ (vp_in (i + 1) L ∧ ∀ v7, v7 = xs (i + 1).toNatClampNeg → wp_X6_kindOf (fun r8 M9 => wp_X6_thrown (fun r10 M11 => ((r10 = r3 → ((¬ r3 = 0 → K E4 S5 M11) ∧ (r3 = 0 → ((22, 0) ∈ eL E4 ∧ ∃ f14, ew E4 (22, 0) = .inl (ec E4 2, 1, .inr (.inl f14)) ∧ (((lg_cmp (f14 (0 : Int32).toNatClampNeg) r8.toInt64) = 0 → K E4 S5 M11) ∧ (¬ (lg_cmp (f14 (0 : Int32).toNatClampNeg) r8.toInt64) = 0 → False)))))) ∧ (¬ r10 = r3 → False)))  M9) v7 m0)) v2 s0)
set_option maxHeartbeats 4000000 in
theorem tl_c9 {p : Program} {l : Launch} {e : Env} {s : State} {m : MethodId} {b L : Nat} {xs : Nat → Int32} {below : List Frame} {meth : Method} {c : Code} {cells slots : Nat} {Q : State → Prop} {K : tc_E → tc_S → mm_S → Prop} {i : Int32} {E0 : tc_E} {s0 : tc_S} {m0 : mm_S} {H : Heap} {locs : List Loc} {ls : Array Slot} (hl0 : l.stackTraces = false) (C : tc_C p m c code 9 s #[.ref b] RX0 E0) (hX : va_X b L xs s s.heap) (hbl : b < s.heap.size) (hbA : ∀ q : Nat, ¬ eb E0 ≤ b) (hcr : cells + 12 ≤ 1203072 ∧ slots + 260 ≤ 5394730) (hm : tl_m E0) (hH : tc_ok (tm E0 m0) s0 H) (hS : va_S (fun q => eb E0 ≤ q) s.heap H locs) (hl : lv_has ls 9 [(0, .ref b), (1, .ref (ea E0 (0, 0))), (2, .ref (ea E0 (20, 0))), (3, .ref (ea E0 (22, 0))), (4, .ref (ea E0 (23, 0))), (5, .int i)]) (hK : tl_K K p l e s m b below meth c cells slots Q i E0) (hk : wl_c9 L xs K i E0 s0 m0) : W p l e room_1 s m #[.ref b] below meth c H locs cells slots Q (F0 m 757 ls []) := by
  unfold wl_c9 at hk
  have hsim := tc_sim.rf E0
  refine lv_aload_n C.hx C.hb dL_law_757 rfl (lv_at hl 1 rfl) ?_
  refine lv_aload_n C.hx C.hb dL_law_758 rfl (lv_at hl 0 rfl) ?_
  refine lv_iload C.hx C.hb dL_law_759 (lv_at hl 5 rfl) ?_
  refine lv_iconst (v := 1) C.hx C.hb dL_law_761 (by decide) ?_
  refine lv_iadd C.hx C.hb dL_law_762 ?_
  obtain ⟨h1, hk⟩ := hk
  refine va_sld C.hx C.hb hX hbl (hbA 0) hS h1 dL_law_763 ?_
  refine lv_topi (fun v2 ev2 => ?_)
  have hk := hk v2 ev2
  refine lv_aload_n C.hx C.hb dL_law_764 rfl (lv_at hl 3 rfl) ?_
  refine tl_w (As := [.ref (ea E0 (0, 0)), .int v2, .ref (ea E0 (22, 0))]) (rest := []) C hH hS (t_X0_kindOf l hl0 hk) (vx_cwSW 3 C.hts (lw_SW q1022 q1023 q52 q1024) rfl rfl rfl (by decide +kernel) ⟨Nat.le_of_ble_eq_true rfl, Nat.le_of_ble_eq_true rfl⟩) rfl hl.1 rfl (lv_room (Nat.le_of_ble_eq_true rfl)) dL_law_765 ⟨by show cells + 1 ≤ 1203072; omega, by show slots + 6 ≤ 5394730; omega⟩ (fun r3 E9 S5 H locs hk hsm hH hS => ?_)
  obtain ⟨E4, rfl, hsa, hm, hk⟩ := hk
  have hsim2 : tc_sim E0 E4 := hsm
  have C := C.sim hsim2
  rw [← hsim2.1] at hS
  have hsim := hsim.trans hsim2
  have hbA : ∀ q : Nat, ¬ eb E4 ≤ b := fun _ => by rw [hsim2.1]; exact hbA 0
  have hl : lv_has ls 9 [(0, .ref b), (1, .ref (ea E4 (0, 0))), (2, .ref (ea E4 (20, 0))), (3, .ref (ea E4 (22, 0))), (4, .ref (ea E4 (23, 0))), (5, .int i)] := by rw [hsa.1, hsa.2.1, hsa.2.2.1, hsa.2.2.2]; exact hl
  refine W.eq (g2 := F0 m 768 ls [.int r3]) rfl ?_
  refine lv_istore (lv' := [(6, .int r3), (0, .ref b), (1, .ref (ea E4 (0, 0))), (2, .ref (ea E4 (20, 0))), (3, .ref (ea E4 (22, 0))), (4, .ref (ea E4 (23, 0))), (5, .int i)]) C.hx C.hb dL_law_768 hl (by decide) rfl (fun ls hl => ?_)
  refine lv_aload_n C.hx C.hb dL_law_770 rfl (lv_at hl 3 rfl) ?_
  refine lv_aload_n C.hx C.hb dL_law_771 rfl (lv_at hl 1 rfl) ?_
  refine lv_iload C.hx C.hb dL_law_772 (lv_at hl 6 rfl) ?_
  refine lv_iconst (v := 1) C.hx C.hb dL_law_774 (by decide) ?_
  refine lv_iadd C.hx C.hb dL_law_775 ?_
  obtain ⟨h6, hk⟩ := hk
  refine va_sld C.hx C.hb hX hbl (hbA 0) hS h6 dL_law_776 ?_
  refine lv_topi (fun v7 ev7 => ?_)
  have hk := hk v7 ev7
  refine tl_i (As := [.int v7]) (rest := []) C hH hm hS (t_X6_kindOf l hk) (cwV 1 C.hts (lw_V q1392 q1393 q1394 q65 q1395) rfl rfl rfl (by decide +kernel) ⟨Nat.le_of_ble_eq_true rfl, Nat.le_of_ble_eq_true rfl⟩) rfl hl.1 rfl (lv_room (Nat.le_of_ble_eq_true rfl)) dL_law_777 (lw_le hcr) (fun r8 M9 H locs hk hH hS => ?_)
  refine W.eq (g2 := F0 m 780 ls [.int r8]) rfl ?_
  refine lv_istore (lv' := [(7, .int r8), (6, .int r3), (0, .ref b), (1, .ref (ea E4 (0, 0))), (2, .ref (ea E4 (20, 0))), (3, .ref (ea E4 (22, 0))), (4, .ref (ea E4 (23, 0))), (5, .int i)]) C.hx C.hb dL_law_780 hl (by decide) rfl (fun ls hl => ?_)
  refine lv_aload_n C.hx C.hb dL_law_782 rfl (lv_at hl 4 rfl) ?_
  refine tl_i (As := []) (rest := []) C hH hm hS (t_X6_thrown l hk) (cwV 0 C.hts (lw_V q1321 q1322 q1323 q65 q1324) rfl rfl rfl (by decide +kernel) ⟨Nat.le_of_ble_eq_true rfl, Nat.le_of_ble_eq_true rfl⟩) rfl hl.1 rfl (lv_room (Nat.le_of_ble_eq_true rfl)) dL_law_783 (lw_le hcr) (fun r10 M11 H locs hk hH hS => ?_)
  refine W.eq (g2 := F0 m 786 ls [.int r10]) rfl ?_
  refine lv_iload C.hx C.hb dL_law_786 (lv_at hl 1 rfl) ?_
  refine lv_icmp_eq (tgt := 793) C.hx C.hb dL_law_788 (by decide) (fun c12 => ?_) (fun c12 => ?_)
  · have hk := hk.1 c12
    refine lv_iload C.hx C.hb dL_law_793 (lv_at hl 1 rfl) ?_
    refine lv_if_ne (tgt := 810) C.hx C.hb dL_law_795 (by decide) (fun c13 => ?_) (fun c13 => ?_)
    · have hk := hk.1 c13
      refine lv_goto (tgt := 2100) C.hx C.hb dL_law_810 (by decide) ?_
      refine W.widen (k := cells + KC) (n := slots + KS) (by show cells + 1 ≤ cells + 12; omega) (by show slots + 6 ≤ slots + 260; omega) ?_
      exact hK E4 S5 M11 _ _ _ hk hsim hm hH hS (lv_sub hl [2, 3, 4, 5, 6, 7] rfl)
    · have hk := hk.2 c13
      refine lv_aload_n C.hx C.hb dL_law_798 rfl (lv_at hl 5 rfl) ?_
      refine lv_iconst (v := 0) C.hx C.hb dL_law_799 (by decide) ?_
      obtain ⟨h15, f14, h16, hk⟩ := hk
      refine tl_lald C hH h15 h16 dL_law_800 ?_
      refine lv_iload C.hx C.hb dL_law_801 (lv_at hl 0 rfl) ?_
      refine lv_i2l C.hx C.hb dL_law_803 rfl ?_
      refine W.lcmp C.hx C.hb dL_law_804 ?_
      refine lv_if_eq (tgt := 810) C.hx C.hb dL_law_805 (by decide) (fun c17 => ?_) (fun c17 => ?_)
      · have hk := hk.1 c17
        refine lv_goto (tgt := 2100) C.hx C.hb dL_law_810 (by decide) ?_
        refine W.widen (k := cells + KC) (n := slots + KS) (by show cells + 1 ≤ cells + 12; omega) (by show slots + 6 ≤ slots + 260; omega) ?_
        exact hK E4 S5 M11 _ _ _ hk hsim hm hH hS (lv_sub hl [2, 3, 4, 5, 6, 7] rfl)
      · have hk := hk.2 c17
        refine lv_iconst (v := 0) C.hx C.hb dL_law_808 (by decide) ?_
        exact hk.elim
  · have hk := hk.2 c12
    refine lv_iconst (v := 0) C.hx C.hb dL_law_791 (by decide) ?_
    exact hk.elim
def wl_c10 (L : Nat) (xs : Nat → Int32) (K : tc_E → tc_S → mm_S → Prop) (i : Int32) (E0 : tc_E) (s0 : tc_S) (m0 : mm_S) : Prop := (vp_in (i + 1) L ∧ ∀ v2, v2 = xs (i + 1).toNatClampNeg → ww_X0_wires (tm E0 m0) (fun r3 E9 S5 => ∃ E4, E9 = tm E4 m0 ∧ tl_same E0 E4 ∧ tl_m E4 ∧ (vp_in (i + 1) L ∧ ∀ v7, v7 = xs (i + 1).toNatClampNeg → wp_X6_wires (fun r8 M9 => wp_X6_thrown (fun r10 M11 => ((r10 = r3 → ((¬ r3 = 0 → K E4 S5 M11) ∧ (r3 = 0 → ((22, 0) ∈ eL E4 ∧ ∃ f14, ew E4 (22, 0) = .inl (ec E4 2, 1, .inr (.inl f14)) ∧ (((lg_cmp (f14 (0 : Int32).toNatClampNeg) r8.toInt64) = 0 → K E4 S5 M11) ∧ (¬ (lg_cmp (f14 (0 : Int32).toNatClampNeg) r8.toInt64) = 0 → False)))))) ∧ (¬ r10 = r3 → False)))  M9) v7 m0)) v2 s0)
set_option maxHeartbeats 4000000 in
theorem tl_c10 {p : Program} {l : Launch} {e : Env} {s : State} {m : MethodId} {b L : Nat} {xs : Nat → Int32} {below : List Frame} {meth : Method} {c : Code} {cells slots : Nat} {Q : State → Prop} {K : tc_E → tc_S → mm_S → Prop} {i : Int32} {E0 : tc_E} {s0 : tc_S} {m0 : mm_S} {H : Heap} {locs : List Loc} {ls : Array Slot} (hl0 : l.stackTraces = false) (C : tc_C p m c code 9 s #[.ref b] RX0 E0) (hX : va_X b L xs s s.heap) (hbl : b < s.heap.size) (hbA : ∀ q : Nat, ¬ eb E0 ≤ b) (hcr : cells + 12 ≤ 1203072 ∧ slots + 260 ≤ 5394730) (hm : tl_m E0) (hH : tc_ok (tm E0 m0) s0 H) (hS : va_S (fun q => eb E0 ≤ q) s.heap H locs) (hl : lv_has ls 9 [(0, .ref b), (1, .ref (ea E0 (0, 0))), (2, .ref (ea E0 (20, 0))), (3, .ref (ea E0 (22, 0))), (4, .ref (ea E0 (23, 0))), (5, .int i)]) (hK : tl_K K p l e s m b below meth c cells slots Q i E0) (hk : wl_c10 L xs K i E0 s0 m0) : W p l e room_1 s m #[.ref b] below meth c H locs cells slots Q (F0 m 813 ls []) := by
  unfold wl_c10 at hk
  have hsim := tc_sim.rf E0
  refine lv_aload_n C.hx C.hb dL_law_813 rfl (lv_at hl 1 rfl) ?_
  refine lv_aload_n C.hx C.hb dL_law_814 rfl (lv_at hl 0 rfl) ?_
  refine lv_iload C.hx C.hb dL_law_815 (lv_at hl 5 rfl) ?_
  refine lv_iconst (v := 1) C.hx C.hb dL_law_817 (by decide) ?_
  refine lv_iadd C.hx C.hb dL_law_818 ?_
  obtain ⟨h1, hk⟩ := hk
  refine va_sld C.hx C.hb hX hbl (hbA 0) hS h1 dL_law_819 ?_
  refine lv_topi (fun v2 ev2 => ?_)
  have hk := hk v2 ev2
  refine lv_aload_n C.hx C.hb dL_law_820 rfl (lv_at hl 3 rfl) ?_
  refine tl_w (As := [.ref (ea E0 (0, 0)), .int v2, .ref (ea E0 (22, 0))]) (rest := []) C hH hS (t_X0_wires l hl0 hk) (vx_cwSW 3 C.hts (lw_SW q1029 q1030 q52 q1031) rfl rfl rfl (by decide +kernel) ⟨Nat.le_of_ble_eq_true rfl, Nat.le_of_ble_eq_true rfl⟩) rfl hl.1 rfl (lv_room (Nat.le_of_ble_eq_true rfl)) dL_law_821 ⟨by show cells + 1 ≤ 1203072; omega, by show slots + 6 ≤ 5394730; omega⟩ (fun r3 E9 S5 H locs hk hsm hH hS => ?_)
  obtain ⟨E4, rfl, hsa, hm, hk⟩ := hk
  have hsim2 : tc_sim E0 E4 := hsm
  have C := C.sim hsim2
  rw [← hsim2.1] at hS
  have hsim := hsim.trans hsim2
  have hbA : ∀ q : Nat, ¬ eb E4 ≤ b := fun _ => by rw [hsim2.1]; exact hbA 0
  have hl : lv_has ls 9 [(0, .ref b), (1, .ref (ea E4 (0, 0))), (2, .ref (ea E4 (20, 0))), (3, .ref (ea E4 (22, 0))), (4, .ref (ea E4 (23, 0))), (5, .int i)] := by rw [hsa.1, hsa.2.1, hsa.2.2.1, hsa.2.2.2]; exact hl
  refine W.eq (g2 := F0 m 824 ls [.int r3]) rfl ?_
  refine lv_istore (lv' := [(6, .int r3), (0, .ref b), (1, .ref (ea E4 (0, 0))), (2, .ref (ea E4 (20, 0))), (3, .ref (ea E4 (22, 0))), (4, .ref (ea E4 (23, 0))), (5, .int i)]) C.hx C.hb dL_law_824 hl (by decide) rfl (fun ls hl => ?_)
  refine lv_aload_n C.hx C.hb dL_law_826 rfl (lv_at hl 3 rfl) ?_
  refine lv_aload_n C.hx C.hb dL_law_827 rfl (lv_at hl 1 rfl) ?_
  refine lv_iload C.hx C.hb dL_law_828 (lv_at hl 6 rfl) ?_
  refine lv_iconst (v := 1) C.hx C.hb dL_law_830 (by decide) ?_
  refine lv_iadd C.hx C.hb dL_law_831 ?_
  obtain ⟨h6, hk⟩ := hk
  refine va_sld C.hx C.hb hX hbl (hbA 0) hS h6 dL_law_832 ?_
  refine lv_topi (fun v7 ev7 => ?_)
  have hk := hk v7 ev7
  refine tl_i (As := [.int v7]) (rest := []) C hH hm hS (t_X6_wires l hk) (cwV 1 C.hts (lw_V q1396 q1397 q1398 q65 q1399) rfl rfl rfl (by decide +kernel) ⟨Nat.le_of_ble_eq_true rfl, Nat.le_of_ble_eq_true rfl⟩) rfl hl.1 rfl (lv_room (Nat.le_of_ble_eq_true rfl)) dL_law_833 (lw_le hcr) (fun r8 M9 H locs hk hH hS => ?_)
  refine W.eq (g2 := F0 m 836 ls [.int r8]) rfl ?_
  refine lv_istore (lv' := [(7, .int r8), (6, .int r3), (0, .ref b), (1, .ref (ea E4 (0, 0))), (2, .ref (ea E4 (20, 0))), (3, .ref (ea E4 (22, 0))), (4, .ref (ea E4 (23, 0))), (5, .int i)]) C.hx C.hb dL_law_836 hl (by decide) rfl (fun ls hl => ?_)
  refine lv_aload_n C.hx C.hb dL_law_838 rfl (lv_at hl 4 rfl) ?_
  refine tl_i (As := []) (rest := []) C hH hm hS (t_X6_thrown l hk) (cwV 0 C.hts (lw_V q1321 q1322 q1323 q65 q1324) rfl rfl rfl (by decide +kernel) ⟨Nat.le_of_ble_eq_true rfl, Nat.le_of_ble_eq_true rfl⟩) rfl hl.1 rfl (lv_room (Nat.le_of_ble_eq_true rfl)) dL_law_839 (lw_le hcr) (fun r10 M11 H locs hk hH hS => ?_)
  refine W.eq (g2 := F0 m 842 ls [.int r10]) rfl ?_
  refine lv_iload C.hx C.hb dL_law_842 (lv_at hl 1 rfl) ?_
  refine lv_icmp_eq (tgt := 849) C.hx C.hb dL_law_844 (by decide) (fun c12 => ?_) (fun c12 => ?_)
  · have hk := hk.1 c12
    refine lv_iload C.hx C.hb dL_law_849 (lv_at hl 1 rfl) ?_
    refine lv_if_ne (tgt := 866) C.hx C.hb dL_law_851 (by decide) (fun c13 => ?_) (fun c13 => ?_)
    · have hk := hk.1 c13
      refine lv_goto (tgt := 2100) C.hx C.hb dL_law_866 (by decide) ?_
      refine W.widen (k := cells + KC) (n := slots + KS) (by show cells + 1 ≤ cells + 12; omega) (by show slots + 6 ≤ slots + 260; omega) ?_
      exact hK E4 S5 M11 _ _ _ hk hsim hm hH hS (lv_sub hl [2, 3, 4, 5, 6, 7] rfl)
    · have hk := hk.2 c13
      refine lv_aload_n C.hx C.hb dL_law_854 rfl (lv_at hl 5 rfl) ?_
      refine lv_iconst (v := 0) C.hx C.hb dL_law_855 (by decide) ?_
      obtain ⟨h15, f14, h16, hk⟩ := hk
      refine tl_lald C hH h15 h16 dL_law_856 ?_
      refine lv_iload C.hx C.hb dL_law_857 (lv_at hl 0 rfl) ?_
      refine lv_i2l C.hx C.hb dL_law_859 rfl ?_
      refine W.lcmp C.hx C.hb dL_law_860 ?_
      refine lv_if_eq (tgt := 866) C.hx C.hb dL_law_861 (by decide) (fun c17 => ?_) (fun c17 => ?_)
      · have hk := hk.1 c17
        refine lv_goto (tgt := 2100) C.hx C.hb dL_law_866 (by decide) ?_
        refine W.widen (k := cells + KC) (n := slots + KS) (by show cells + 1 ≤ cells + 12; omega) (by show slots + 6 ≤ slots + 260; omega) ?_
        exact hK E4 S5 M11 _ _ _ hk hsim hm hH hS (lv_sub hl [2, 3, 4, 5, 6, 7] rfl)
      · have hk := hk.2 c17
        refine lv_iconst (v := 0) C.hx C.hb dL_law_864 (by decide) ?_
        exact hk.elim
  · have hk := hk.2 c12
    refine lv_iconst (v := 0) C.hx C.hb dL_law_847 (by decide) ?_
    exact hk.elim
def wl_c11 (L : Nat) (xs : Nat → Int32) (K : tc_E → tc_S → mm_S → Prop) (i : Int32) (E0 : tc_E) (s0 : tc_S) (m0 : mm_S) : Prop := (vp_in (i + 1) L ∧ ∀ v2, v2 = xs (i + 1).toNatClampNeg → (vp_in (i + 2) L ∧ ∀ v4, v4 = xs (i + 2).toNatClampNeg → ww_X0_wireFrom (tm E0 m0) (fun r5 E9 S7 => ∃ E6, E9 = tm E6 m0 ∧ tl_same E0 E6 ∧ tl_m E6 ∧ (vp_in (i + 1) L ∧ ∀ v9, v9 = xs (i + 1).toNatClampNeg → (vp_in (i + 2) L ∧ ∀ v11, v11 = xs (i + 2).toNatClampNeg → wp_X6_wireFrom (fun r12 M13 => wp_X6_thrown (fun r14 M15 => ((r14 = r5 → ((¬ r5 = 0 → K E6 S7 M15) ∧ (r5 = 0 → ((22, 0) ∈ eL E6 ∧ ∃ f18, ew E6 (22, 0) = .inl (ec E6 2, 1, .inr (.inl f18)) ∧ (((lg_cmp (f18 (0 : Int32).toNatClampNeg) r12.toInt64) = 0 → K E6 S7 M15) ∧ (¬ (lg_cmp (f18 (0 : Int32).toNatClampNeg) r12.toInt64) = 0 → False)))))) ∧ (¬ r14 = r5 → False)))  M13) v9 v11 m0))) v2 v4 s0))
set_option maxHeartbeats 4000000 in
theorem tl_c11 {p : Program} {l : Launch} {e : Env} {s : State} {m : MethodId} {b L : Nat} {xs : Nat → Int32} {below : List Frame} {meth : Method} {c : Code} {cells slots : Nat} {Q : State → Prop} {K : tc_E → tc_S → mm_S → Prop} {i : Int32} {E0 : tc_E} {s0 : tc_S} {m0 : mm_S} {H : Heap} {locs : List Loc} {ls : Array Slot} (hl0 : l.stackTraces = false) (C : tc_C p m c code 9 s #[.ref b] RX0 E0) (hX : va_X b L xs s s.heap) (hbl : b < s.heap.size) (hbA : ∀ q : Nat, ¬ eb E0 ≤ b) (hcr : cells + 12 ≤ 1203072 ∧ slots + 260 ≤ 5394730) (hm : tl_m E0) (hH : tc_ok (tm E0 m0) s0 H) (hS : va_S (fun q => eb E0 ≤ q) s.heap H locs) (hl : lv_has ls 9 [(0, .ref b), (1, .ref (ea E0 (0, 0))), (2, .ref (ea E0 (20, 0))), (3, .ref (ea E0 (22, 0))), (4, .ref (ea E0 (23, 0))), (5, .int i)]) (hK : tl_K K p l e s m b below meth c cells slots Q i E0) (hk : wl_c11 L xs K i E0 s0 m0) : W p l e room_1 s m #[.ref b] below meth c H locs cells slots Q (F0 m 869 ls []) := by
  unfold wl_c11 at hk
  have hsim := tc_sim.rf E0
  refine lv_aload_n C.hx C.hb dL_law_869 rfl (lv_at hl 1 rfl) ?_
  refine lv_aload_n C.hx C.hb dL_law_870 rfl (lv_at hl 0 rfl) ?_
  refine lv_iload C.hx C.hb dL_law_871 (lv_at hl 5 rfl) ?_
  refine lv_iconst (v := 1) C.hx C.hb dL_law_873 (by decide) ?_
  refine lv_iadd C.hx C.hb dL_law_874 ?_
  obtain ⟨h1, hk⟩ := hk
  refine va_sld C.hx C.hb hX hbl (hbA 0) hS h1 dL_law_875 ?_
  refine lv_topi (fun v2 ev2 => ?_)
  have hk := hk v2 ev2
  refine lv_aload_n C.hx C.hb dL_law_876 rfl (lv_at hl 0 rfl) ?_
  refine lv_iload C.hx C.hb dL_law_877 (lv_at hl 5 rfl) ?_
  refine lv_iconst (v := 2) C.hx C.hb dL_law_879 (by decide) ?_
  refine lv_iadd C.hx C.hb dL_law_880 ?_
  obtain ⟨h3, hk⟩ := hk
  refine va_sld C.hx C.hb hX hbl (hbA 0) hS h3 dL_law_881 ?_
  refine lv_topi (fun v4 ev4 => ?_)
  have hk := hk v4 ev4
  refine lv_aload_n C.hx C.hb dL_law_882 rfl (lv_at hl 3 rfl) ?_
  refine tl_w (As := [.ref (ea E0 (0, 0)), .int v2, .int v4, .ref (ea E0 (22, 0))]) (rest := []) C hH hS (t_X0_wireFrom l hl0 hk) (vx_cwSW 4 C.hts (lw_SW q1036 q1037 q52 q1038) rfl rfl rfl (by decide +kernel) ⟨Nat.le_of_ble_eq_true rfl, Nat.le_of_ble_eq_true rfl⟩) rfl hl.1 rfl (lv_room (Nat.le_of_ble_eq_true rfl)) dL_law_883 ⟨by show cells + 2 ≤ 1203072; omega, by show slots + 12 ≤ 5394730; omega⟩ (fun r5 E9 S7 H locs hk hsm hH hS => ?_)
  obtain ⟨E6, rfl, hsa, hm, hk⟩ := hk
  have hsim2 : tc_sim E0 E6 := hsm
  have C := C.sim hsim2
  rw [← hsim2.1] at hS
  have hsim := hsim.trans hsim2
  have hbA : ∀ q : Nat, ¬ eb E6 ≤ b := fun _ => by rw [hsim2.1]; exact hbA 0
  have hl : lv_has ls 9 [(0, .ref b), (1, .ref (ea E6 (0, 0))), (2, .ref (ea E6 (20, 0))), (3, .ref (ea E6 (22, 0))), (4, .ref (ea E6 (23, 0))), (5, .int i)] := by rw [hsa.1, hsa.2.1, hsa.2.2.1, hsa.2.2.2]; exact hl
  refine W.eq (g2 := F0 m 886 ls [.int r5]) rfl ?_
  refine lv_istore (lv' := [(6, .int r5), (0, .ref b), (1, .ref (ea E6 (0, 0))), (2, .ref (ea E6 (20, 0))), (3, .ref (ea E6 (22, 0))), (4, .ref (ea E6 (23, 0))), (5, .int i)]) C.hx C.hb dL_law_886 hl (by decide) rfl (fun ls hl => ?_)
  refine lv_aload_n C.hx C.hb dL_law_888 rfl (lv_at hl 3 rfl) ?_
  refine lv_aload_n C.hx C.hb dL_law_889 rfl (lv_at hl 1 rfl) ?_
  refine lv_iload C.hx C.hb dL_law_890 (lv_at hl 6 rfl) ?_
  refine lv_iconst (v := 1) C.hx C.hb dL_law_892 (by decide) ?_
  refine lv_iadd C.hx C.hb dL_law_893 ?_
  obtain ⟨h8, hk⟩ := hk
  refine va_sld C.hx C.hb hX hbl (hbA 0) hS h8 dL_law_894 ?_
  refine lv_topi (fun v9 ev9 => ?_)
  have hk := hk v9 ev9
  refine lv_aload_n C.hx C.hb dL_law_895 rfl (lv_at hl 1 rfl) ?_
  refine lv_iload C.hx C.hb dL_law_896 (lv_at hl 6 rfl) ?_
  refine lv_iconst (v := 2) C.hx C.hb dL_law_898 (by decide) ?_
  refine lv_iadd C.hx C.hb dL_law_899 ?_
  obtain ⟨h10, hk⟩ := hk
  refine va_sld C.hx C.hb hX hbl (hbA 0) hS h10 dL_law_900 ?_
  refine lv_topi (fun v11 ev11 => ?_)
  have hk := hk v11 ev11
  refine tl_i (As := [.int v9, .int v11]) (rest := []) C hH hm hS (t_X6_wireFrom l hk) (cwV 2 C.hts (lw_V q1400 q1401 q1402 q65 q1403) rfl rfl rfl (by decide +kernel) ⟨Nat.le_of_ble_eq_true rfl, Nat.le_of_ble_eq_true rfl⟩) rfl hl.1 rfl (lv_room (Nat.le_of_ble_eq_true rfl)) dL_law_901 (lw_le hcr) (fun r12 M13 H locs hk hH hS => ?_)
  refine W.eq (g2 := F0 m 904 ls [.int r12]) rfl ?_
  refine lv_istore (lv' := [(7, .int r12), (6, .int r5), (0, .ref b), (1, .ref (ea E6 (0, 0))), (2, .ref (ea E6 (20, 0))), (3, .ref (ea E6 (22, 0))), (4, .ref (ea E6 (23, 0))), (5, .int i)]) C.hx C.hb dL_law_904 hl (by decide) rfl (fun ls hl => ?_)
  refine lv_aload_n C.hx C.hb dL_law_906 rfl (lv_at hl 4 rfl) ?_
  refine tl_i (As := []) (rest := []) C hH hm hS (t_X6_thrown l hk) (cwV 0 C.hts (lw_V q1321 q1322 q1323 q65 q1324) rfl rfl rfl (by decide +kernel) ⟨Nat.le_of_ble_eq_true rfl, Nat.le_of_ble_eq_true rfl⟩) rfl hl.1 rfl (lv_room (Nat.le_of_ble_eq_true rfl)) dL_law_907 (lw_le hcr) (fun r14 M15 H locs hk hH hS => ?_)
  refine W.eq (g2 := F0 m 910 ls [.int r14]) rfl ?_
  refine lv_iload C.hx C.hb dL_law_910 (lv_at hl 1 rfl) ?_
  refine lv_icmp_eq (tgt := 917) C.hx C.hb dL_law_912 (by decide) (fun c16 => ?_) (fun c16 => ?_)
  · have hk := hk.1 c16
    refine lv_iload C.hx C.hb dL_law_917 (lv_at hl 1 rfl) ?_
    refine lv_if_ne (tgt := 934) C.hx C.hb dL_law_919 (by decide) (fun c17 => ?_) (fun c17 => ?_)
    · have hk := hk.1 c17
      refine lv_goto (tgt := 2100) C.hx C.hb dL_law_934 (by decide) ?_
      refine W.widen (k := cells + KC) (n := slots + KS) (by show cells + 2 ≤ cells + 12; omega) (by show slots + 12 ≤ slots + 260; omega) ?_
      exact hK E6 S7 M15 _ _ _ hk hsim hm hH hS (lv_sub hl [2, 3, 4, 5, 6, 7] rfl)
    · have hk := hk.2 c17
      refine lv_aload_n C.hx C.hb dL_law_922 rfl (lv_at hl 5 rfl) ?_
      refine lv_iconst (v := 0) C.hx C.hb dL_law_923 (by decide) ?_
      obtain ⟨h19, f18, h20, hk⟩ := hk
      refine tl_lald C hH h19 h20 dL_law_924 ?_
      refine lv_iload C.hx C.hb dL_law_925 (lv_at hl 0 rfl) ?_
      refine lv_i2l C.hx C.hb dL_law_927 rfl ?_
      refine W.lcmp C.hx C.hb dL_law_928 ?_
      refine lv_if_eq (tgt := 934) C.hx C.hb dL_law_929 (by decide) (fun c21 => ?_) (fun c21 => ?_)
      · have hk := hk.1 c21
        refine lv_goto (tgt := 2100) C.hx C.hb dL_law_934 (by decide) ?_
        refine W.widen (k := cells + KC) (n := slots + KS) (by show cells + 2 ≤ cells + 12; omega) (by show slots + 12 ≤ slots + 260; omega) ?_
        exact hK E6 S7 M15 _ _ _ hk hsim hm hH hS (lv_sub hl [2, 3, 4, 5, 6, 7] rfl)
      · have hk := hk.2 c21
        refine lv_iconst (v := 0) C.hx C.hb dL_law_932 (by decide) ?_
        exact hk.elim
  · have hk := hk.2 c16
    refine lv_iconst (v := 0) C.hx C.hb dL_law_915 (by decide) ?_
    exact hk.elim
def wl_c12 (L : Nat) (xs : Nat → Int32) (K : tc_E → tc_S → mm_S → Prop) (i : Int32) (E0 : tc_E) (s0 : tc_S) (m0 : mm_S) : Prop := (vp_in (i + 1) L ∧ ∀ v2, v2 = xs (i + 1).toNatClampNeg → (vp_in (i + 2) L ∧ ∀ v4, v4 = xs (i + 2).toNatClampNeg → ww_X0_wirePercent (tm E0 m0) (fun r5 E9 S7 => ∃ E6, E9 = tm E6 m0 ∧ tl_same E0 E6 ∧ tl_m E6 ∧ (vp_in (i + 1) L ∧ ∀ v9, v9 = xs (i + 1).toNatClampNeg → (vp_in (i + 2) L ∧ ∀ v11, v11 = xs (i + 2).toNatClampNeg → wp_X6_wirePercent (fun r12 M13 => wp_X6_thrown (fun r14 M15 => ((r14 = r5 → ((¬ r5 = 0 → K E6 S7 M15) ∧ (r5 = 0 → ((22, 0) ∈ eL E6 ∧ ∃ f18, ew E6 (22, 0) = .inl (ec E6 2, 1, .inr (.inl f18)) ∧ (((lg_cmp (f18 (0 : Int32).toNatClampNeg) r12.toInt64) = 0 → K E6 S7 M15) ∧ (¬ (lg_cmp (f18 (0 : Int32).toNatClampNeg) r12.toInt64) = 0 → False)))))) ∧ (¬ r14 = r5 → False)))  M13) v9 v11 m0))) v2 v4 s0))
set_option maxHeartbeats 4000000 in
theorem tl_c12 {p : Program} {l : Launch} {e : Env} {s : State} {m : MethodId} {b L : Nat} {xs : Nat → Int32} {below : List Frame} {meth : Method} {c : Code} {cells slots : Nat} {Q : State → Prop} {K : tc_E → tc_S → mm_S → Prop} {i : Int32} {E0 : tc_E} {s0 : tc_S} {m0 : mm_S} {H : Heap} {locs : List Loc} {ls : Array Slot} (hl0 : l.stackTraces = false) (C : tc_C p m c code 9 s #[.ref b] RX0 E0) (hX : va_X b L xs s s.heap) (hbl : b < s.heap.size) (hbA : ∀ q : Nat, ¬ eb E0 ≤ b) (hcr : cells + 12 ≤ 1203072 ∧ slots + 260 ≤ 5394730) (hm : tl_m E0) (hH : tc_ok (tm E0 m0) s0 H) (hS : va_S (fun q => eb E0 ≤ q) s.heap H locs) (hl : lv_has ls 9 [(0, .ref b), (1, .ref (ea E0 (0, 0))), (2, .ref (ea E0 (20, 0))), (3, .ref (ea E0 (22, 0))), (4, .ref (ea E0 (23, 0))), (5, .int i)]) (hK : tl_K K p l e s m b below meth c cells slots Q i E0) (hk : wl_c12 L xs K i E0 s0 m0) : W p l e room_1 s m #[.ref b] below meth c H locs cells slots Q (F0 m 937 ls []) := by
  unfold wl_c12 at hk
  have hsim := tc_sim.rf E0
  refine lv_aload_n C.hx C.hb dL_law_937 rfl (lv_at hl 1 rfl) ?_
  refine lv_aload_n C.hx C.hb dL_law_938 rfl (lv_at hl 0 rfl) ?_
  refine lv_iload C.hx C.hb dL_law_939 (lv_at hl 5 rfl) ?_
  refine lv_iconst (v := 1) C.hx C.hb dL_law_941 (by decide) ?_
  refine lv_iadd C.hx C.hb dL_law_942 ?_
  obtain ⟨h1, hk⟩ := hk
  refine va_sld C.hx C.hb hX hbl (hbA 0) hS h1 dL_law_943 ?_
  refine lv_topi (fun v2 ev2 => ?_)
  have hk := hk v2 ev2
  refine lv_aload_n C.hx C.hb dL_law_944 rfl (lv_at hl 0 rfl) ?_
  refine lv_iload C.hx C.hb dL_law_945 (lv_at hl 5 rfl) ?_
  refine lv_iconst (v := 2) C.hx C.hb dL_law_947 (by decide) ?_
  refine lv_iadd C.hx C.hb dL_law_948 ?_
  obtain ⟨h3, hk⟩ := hk
  refine va_sld C.hx C.hb hX hbl (hbA 0) hS h3 dL_law_949 ?_
  refine lv_topi (fun v4 ev4 => ?_)
  have hk := hk v4 ev4
  refine lv_aload_n C.hx C.hb dL_law_950 rfl (lv_at hl 3 rfl) ?_
  refine tl_w (As := [.ref (ea E0 (0, 0)), .int v2, .int v4, .ref (ea E0 (22, 0))]) (rest := []) C hH hS (t_X0_wirePercent l hl0 hk) (vx_cwSW 4 C.hts (lw_SW q1047 q1048 q52 q1049) rfl rfl rfl (by decide +kernel) ⟨Nat.le_of_ble_eq_true rfl, Nat.le_of_ble_eq_true rfl⟩) rfl hl.1 rfl (lv_room (Nat.le_of_ble_eq_true rfl)) dL_law_951 ⟨by show cells + 2 ≤ 1203072; omega, by show slots + 12 ≤ 5394730; omega⟩ (fun r5 E9 S7 H locs hk hsm hH hS => ?_)
  obtain ⟨E6, rfl, hsa, hm, hk⟩ := hk
  have hsim2 : tc_sim E0 E6 := hsm
  have C := C.sim hsim2
  rw [← hsim2.1] at hS
  have hsim := hsim.trans hsim2
  have hbA : ∀ q : Nat, ¬ eb E6 ≤ b := fun _ => by rw [hsim2.1]; exact hbA 0
  have hl : lv_has ls 9 [(0, .ref b), (1, .ref (ea E6 (0, 0))), (2, .ref (ea E6 (20, 0))), (3, .ref (ea E6 (22, 0))), (4, .ref (ea E6 (23, 0))), (5, .int i)] := by rw [hsa.1, hsa.2.1, hsa.2.2.1, hsa.2.2.2]; exact hl
  refine W.eq (g2 := F0 m 954 ls [.int r5]) rfl ?_
  refine lv_istore (lv' := [(6, .int r5), (0, .ref b), (1, .ref (ea E6 (0, 0))), (2, .ref (ea E6 (20, 0))), (3, .ref (ea E6 (22, 0))), (4, .ref (ea E6 (23, 0))), (5, .int i)]) C.hx C.hb dL_law_954 hl (by decide) rfl (fun ls hl => ?_)
  refine lv_aload_n C.hx C.hb dL_law_956 rfl (lv_at hl 3 rfl) ?_
  refine lv_aload_n C.hx C.hb dL_law_957 rfl (lv_at hl 1 rfl) ?_
  refine lv_iload C.hx C.hb dL_law_958 (lv_at hl 6 rfl) ?_
  refine lv_iconst (v := 1) C.hx C.hb dL_law_960 (by decide) ?_
  refine lv_iadd C.hx C.hb dL_law_961 ?_
  obtain ⟨h8, hk⟩ := hk
  refine va_sld C.hx C.hb hX hbl (hbA 0) hS h8 dL_law_962 ?_
  refine lv_topi (fun v9 ev9 => ?_)
  have hk := hk v9 ev9
  refine lv_aload_n C.hx C.hb dL_law_963 rfl (lv_at hl 1 rfl) ?_
  refine lv_iload C.hx C.hb dL_law_964 (lv_at hl 6 rfl) ?_
  refine lv_iconst (v := 2) C.hx C.hb dL_law_966 (by decide) ?_
  refine lv_iadd C.hx C.hb dL_law_967 ?_
  obtain ⟨h10, hk⟩ := hk
  refine va_sld C.hx C.hb hX hbl (hbA 0) hS h10 dL_law_968 ?_
  refine lv_topi (fun v11 ev11 => ?_)
  have hk := hk v11 ev11
  refine tl_i (As := [.int v9, .int v11]) (rest := []) C hH hm hS (t_X6_wirePercent l hk) (cwV 2 C.hts (lw_V q1408 q1409 q1410 q65 q1411) rfl rfl rfl (by decide +kernel) ⟨Nat.le_of_ble_eq_true rfl, Nat.le_of_ble_eq_true rfl⟩) rfl hl.1 rfl (lv_room (Nat.le_of_ble_eq_true rfl)) dL_law_969 (lw_le hcr) (fun r12 M13 H locs hk hH hS => ?_)
  refine W.eq (g2 := F0 m 972 ls [.int r12]) rfl ?_
  refine lv_istore (lv' := [(7, .int r12), (6, .int r5), (0, .ref b), (1, .ref (ea E6 (0, 0))), (2, .ref (ea E6 (20, 0))), (3, .ref (ea E6 (22, 0))), (4, .ref (ea E6 (23, 0))), (5, .int i)]) C.hx C.hb dL_law_972 hl (by decide) rfl (fun ls hl => ?_)
  refine lv_aload_n C.hx C.hb dL_law_974 rfl (lv_at hl 4 rfl) ?_
  refine tl_i (As := []) (rest := []) C hH hm hS (t_X6_thrown l hk) (cwV 0 C.hts (lw_V q1321 q1322 q1323 q65 q1324) rfl rfl rfl (by decide +kernel) ⟨Nat.le_of_ble_eq_true rfl, Nat.le_of_ble_eq_true rfl⟩) rfl hl.1 rfl (lv_room (Nat.le_of_ble_eq_true rfl)) dL_law_975 (lw_le hcr) (fun r14 M15 H locs hk hH hS => ?_)
  refine W.eq (g2 := F0 m 978 ls [.int r14]) rfl ?_
  refine lv_iload C.hx C.hb dL_law_978 (lv_at hl 1 rfl) ?_
  refine lv_icmp_eq (tgt := 985) C.hx C.hb dL_law_980 (by decide) (fun c16 => ?_) (fun c16 => ?_)
  · have hk := hk.1 c16
    refine lv_iload C.hx C.hb dL_law_985 (lv_at hl 1 rfl) ?_
    refine lv_if_ne (tgt := 1002) C.hx C.hb dL_law_987 (by decide) (fun c17 => ?_) (fun c17 => ?_)
    · have hk := hk.1 c17
      refine lv_goto (tgt := 2100) C.hx C.hb dL_law_1002 (by decide) ?_
      refine W.widen (k := cells + KC) (n := slots + KS) (by show cells + 2 ≤ cells + 12; omega) (by show slots + 12 ≤ slots + 260; omega) ?_
      exact hK E6 S7 M15 _ _ _ hk hsim hm hH hS (lv_sub hl [2, 3, 4, 5, 6, 7] rfl)
    · have hk := hk.2 c17
      refine lv_aload_n C.hx C.hb dL_law_990 rfl (lv_at hl 5 rfl) ?_
      refine lv_iconst (v := 0) C.hx C.hb dL_law_991 (by decide) ?_
      obtain ⟨h19, f18, h20, hk⟩ := hk
      refine tl_lald C hH h19 h20 dL_law_992 ?_
      refine lv_iload C.hx C.hb dL_law_993 (lv_at hl 0 rfl) ?_
      refine lv_i2l C.hx C.hb dL_law_995 rfl ?_
      refine W.lcmp C.hx C.hb dL_law_996 ?_
      refine lv_if_eq (tgt := 1002) C.hx C.hb dL_law_997 (by decide) (fun c21 => ?_) (fun c21 => ?_)
      · have hk := hk.1 c21
        refine lv_goto (tgt := 2100) C.hx C.hb dL_law_1002 (by decide) ?_
        refine W.widen (k := cells + KC) (n := slots + KS) (by show cells + 2 ≤ cells + 12; omega) (by show slots + 12 ≤ slots + 260; omega) ?_
        exact hK E6 S7 M15 _ _ _ hk hsim hm hH hS (lv_sub hl [2, 3, 4, 5, 6, 7] rfl)
      · have hk := hk.2 c21
        refine lv_iconst (v := 0) C.hx C.hb dL_law_1000 (by decide) ?_
        exact hk.elim
  · have hk := hk.2 c16
    refine lv_iconst (v := 0) C.hx C.hb dL_law_983 (by decide) ?_
    exact hk.elim
def wl_c13 (L : Nat) (xs : Nat → Int32) (K : tc_E → tc_S → mm_S → Prop) (i : Int32) (E0 : tc_E) (s0 : tc_S) (m0 : mm_S) : Prop := (vp_in (i + 1) L ∧ ∀ v2, v2 = xs (i + 1).toNatClampNeg → ww_X0_nodeAt (tm E0 m0) (fun r3 E9 S5 => ∃ E4, E9 = tm E4 m0 ∧ tl_same E0 E4 ∧ tl_m E4 ∧ (vp_in (i + 1) L ∧ ∀ v7, v7 = xs (i + 1).toNatClampNeg → wp_X6_nodeAt (fun r8 M9 => wp_X6_thrown (fun r10 M11 => ((r10 = r3 → ((¬ r3 = 0 → K E4 S5 M11) ∧ (r3 = 0 → ((22, 0) ∈ eL E4 ∧ ∃ f14, ew E4 (22, 0) = .inl (ec E4 2, 1, .inr (.inl f14)) ∧ (((lg_cmp (f14 (0 : Int32).toNatClampNeg) r8.toInt64) = 0 → K E4 S5 M11) ∧ (¬ (lg_cmp (f14 (0 : Int32).toNatClampNeg) r8.toInt64) = 0 → False)))))) ∧ (¬ r10 = r3 → False)))  M9) v7 m0)) v2 s0)
set_option maxHeartbeats 4000000 in
theorem tl_c13 {p : Program} {l : Launch} {e : Env} {s : State} {m : MethodId} {b L : Nat} {xs : Nat → Int32} {below : List Frame} {meth : Method} {c : Code} {cells slots : Nat} {Q : State → Prop} {K : tc_E → tc_S → mm_S → Prop} {i : Int32} {E0 : tc_E} {s0 : tc_S} {m0 : mm_S} {H : Heap} {locs : List Loc} {ls : Array Slot} (hl0 : l.stackTraces = false) (C : tc_C p m c code 9 s #[.ref b] RX0 E0) (hX : va_X b L xs s s.heap) (hbl : b < s.heap.size) (hbA : ∀ q : Nat, ¬ eb E0 ≤ b) (hcr : cells + 12 ≤ 1203072 ∧ slots + 260 ≤ 5394730) (hm : tl_m E0) (hH : tc_ok (tm E0 m0) s0 H) (hS : va_S (fun q => eb E0 ≤ q) s.heap H locs) (hl : lv_has ls 9 [(0, .ref b), (1, .ref (ea E0 (0, 0))), (2, .ref (ea E0 (20, 0))), (3, .ref (ea E0 (22, 0))), (4, .ref (ea E0 (23, 0))), (5, .int i)]) (hK : tl_K K p l e s m b below meth c cells slots Q i E0) (hk : wl_c13 L xs K i E0 s0 m0) : W p l e room_1 s m #[.ref b] below meth c H locs cells slots Q (F0 m 1005 ls []) := by
  unfold wl_c13 at hk
  have hsim := tc_sim.rf E0
  refine lv_aload_n C.hx C.hb dL_law_1005 rfl (lv_at hl 1 rfl) ?_
  refine lv_aload_n C.hx C.hb dL_law_1006 rfl (lv_at hl 0 rfl) ?_
  refine lv_iload C.hx C.hb dL_law_1007 (lv_at hl 5 rfl) ?_
  refine lv_iconst (v := 1) C.hx C.hb dL_law_1009 (by decide) ?_
  refine lv_iadd C.hx C.hb dL_law_1010 ?_
  obtain ⟨h1, hk⟩ := hk
  refine va_sld C.hx C.hb hX hbl (hbA 0) hS h1 dL_law_1011 ?_
  refine lv_topi (fun v2 ev2 => ?_)
  have hk := hk v2 ev2
  refine lv_aload_n C.hx C.hb dL_law_1012 rfl (lv_at hl 3 rfl) ?_
  refine tl_w (As := [.ref (ea E0 (0, 0)), .int v2, .ref (ea E0 (22, 0))]) (rest := []) C hH hS (t_X0_nodeAt l hl0 hk) (vx_cwSW 3 C.hts (lw_SW q1054 q1055 q52 q1056) rfl rfl rfl (by decide +kernel) ⟨Nat.le_of_ble_eq_true rfl, Nat.le_of_ble_eq_true rfl⟩) rfl hl.1 rfl (lv_room (Nat.le_of_ble_eq_true rfl)) dL_law_1013 ⟨by show cells + 1 ≤ 1203072; omega, by show slots + 6 ≤ 5394730; omega⟩ (fun r3 E9 S5 H locs hk hsm hH hS => ?_)
  obtain ⟨E4, rfl, hsa, hm, hk⟩ := hk
  have hsim2 : tc_sim E0 E4 := hsm
  have C := C.sim hsim2
  rw [← hsim2.1] at hS
  have hsim := hsim.trans hsim2
  have hbA : ∀ q : Nat, ¬ eb E4 ≤ b := fun _ => by rw [hsim2.1]; exact hbA 0
  have hl : lv_has ls 9 [(0, .ref b), (1, .ref (ea E4 (0, 0))), (2, .ref (ea E4 (20, 0))), (3, .ref (ea E4 (22, 0))), (4, .ref (ea E4 (23, 0))), (5, .int i)] := by rw [hsa.1, hsa.2.1, hsa.2.2.1, hsa.2.2.2]; exact hl
  refine W.eq (g2 := F0 m 1016 ls [.int r3]) rfl ?_
  refine lv_istore (lv' := [(6, .int r3), (0, .ref b), (1, .ref (ea E4 (0, 0))), (2, .ref (ea E4 (20, 0))), (3, .ref (ea E4 (22, 0))), (4, .ref (ea E4 (23, 0))), (5, .int i)]) C.hx C.hb dL_law_1016 hl (by decide) rfl (fun ls hl => ?_)
  refine lv_aload_n C.hx C.hb dL_law_1018 rfl (lv_at hl 3 rfl) ?_
  refine lv_aload_n C.hx C.hb dL_law_1019 rfl (lv_at hl 1 rfl) ?_
  refine lv_iload C.hx C.hb dL_law_1020 (lv_at hl 6 rfl) ?_
  refine lv_iconst (v := 1) C.hx C.hb dL_law_1022 (by decide) ?_
  refine lv_iadd C.hx C.hb dL_law_1023 ?_
  obtain ⟨h6, hk⟩ := hk
  refine va_sld C.hx C.hb hX hbl (hbA 0) hS h6 dL_law_1024 ?_
  refine lv_topi (fun v7 ev7 => ?_)
  have hk := hk v7 ev7
  refine tl_i (As := [.int v7]) (rest := []) C hH hm hS (t_X6_nodeAt l hk) (cwV 1 C.hts (lw_V q1412 q1413 q1414 q65 q1415) rfl rfl rfl (by decide +kernel) ⟨Nat.le_of_ble_eq_true rfl, Nat.le_of_ble_eq_true rfl⟩) rfl hl.1 rfl (lv_room (Nat.le_of_ble_eq_true rfl)) dL_law_1025 (lw_le hcr) (fun r8 M9 H locs hk hH hS => ?_)
  refine W.eq (g2 := F0 m 1028 ls [.int r8]) rfl ?_
  refine lv_istore (lv' := [(7, .int r8), (6, .int r3), (0, .ref b), (1, .ref (ea E4 (0, 0))), (2, .ref (ea E4 (20, 0))), (3, .ref (ea E4 (22, 0))), (4, .ref (ea E4 (23, 0))), (5, .int i)]) C.hx C.hb dL_law_1028 hl (by decide) rfl (fun ls hl => ?_)
  refine lv_aload_n C.hx C.hb dL_law_1030 rfl (lv_at hl 4 rfl) ?_
  refine tl_i (As := []) (rest := []) C hH hm hS (t_X6_thrown l hk) (cwV 0 C.hts (lw_V q1321 q1322 q1323 q65 q1324) rfl rfl rfl (by decide +kernel) ⟨Nat.le_of_ble_eq_true rfl, Nat.le_of_ble_eq_true rfl⟩) rfl hl.1 rfl (lv_room (Nat.le_of_ble_eq_true rfl)) dL_law_1031 (lw_le hcr) (fun r10 M11 H locs hk hH hS => ?_)
  refine W.eq (g2 := F0 m 1034 ls [.int r10]) rfl ?_
  refine lv_iload C.hx C.hb dL_law_1034 (lv_at hl 1 rfl) ?_
  refine lv_icmp_eq (tgt := 1041) C.hx C.hb dL_law_1036 (by decide) (fun c12 => ?_) (fun c12 => ?_)
  · have hk := hk.1 c12
    refine lv_iload C.hx C.hb dL_law_1041 (lv_at hl 1 rfl) ?_
    refine lv_if_ne (tgt := 1058) C.hx C.hb dL_law_1043 (by decide) (fun c13 => ?_) (fun c13 => ?_)
    · have hk := hk.1 c13
      refine lv_goto (tgt := 2100) C.hx C.hb dL_law_1058 (by decide) ?_
      refine W.widen (k := cells + KC) (n := slots + KS) (by show cells + 1 ≤ cells + 12; omega) (by show slots + 6 ≤ slots + 260; omega) ?_
      exact hK E4 S5 M11 _ _ _ hk hsim hm hH hS (lv_sub hl [2, 3, 4, 5, 6, 7] rfl)
    · have hk := hk.2 c13
      refine lv_aload_n C.hx C.hb dL_law_1046 rfl (lv_at hl 5 rfl) ?_
      refine lv_iconst (v := 0) C.hx C.hb dL_law_1047 (by decide) ?_
      obtain ⟨h15, f14, h16, hk⟩ := hk
      refine tl_lald C hH h15 h16 dL_law_1048 ?_
      refine lv_iload C.hx C.hb dL_law_1049 (lv_at hl 0 rfl) ?_
      refine lv_i2l C.hx C.hb dL_law_1051 rfl ?_
      refine W.lcmp C.hx C.hb dL_law_1052 ?_
      refine lv_if_eq (tgt := 1058) C.hx C.hb dL_law_1053 (by decide) (fun c17 => ?_) (fun c17 => ?_)
      · have hk := hk.1 c17
        refine lv_goto (tgt := 2100) C.hx C.hb dL_law_1058 (by decide) ?_
        refine W.widen (k := cells + KC) (n := slots + KS) (by show cells + 1 ≤ cells + 12; omega) (by show slots + 6 ≤ slots + 260; omega) ?_
        exact hK E4 S5 M11 _ _ _ hk hsim hm hH hS (lv_sub hl [2, 3, 4, 5, 6, 7] rfl)
      · have hk := hk.2 c17
        refine lv_iconst (v := 0) C.hx C.hb dL_law_1056 (by decide) ?_
        exact hk.elim
  · have hk := hk.2 c12
    refine lv_iconst (v := 0) C.hx C.hb dL_law_1039 (by decide) ?_
    exact hk.elim
def wl_c14 (L : Nat) (xs : Nat → Int32) (K : tc_E → tc_S → mm_S → Prop) (i : Int32) (E0 : tc_E) (s0 : tc_S) (m0 : mm_S) : Prop := wp_X1_longestBlock (tm E0 m0) (fun r1 S2 => wp_X6_longestBlock (fun r3 M4 => ((r1 = r3 → K E0 S2 M4) ∧ (¬ r1 = r3 → False)))  m0)  s0
set_option maxHeartbeats 4000000 in
theorem tl_c14 {p : Program} {l : Launch} {e : Env} {s : State} {m : MethodId} {b L : Nat} {xs : Nat → Int32} {below : List Frame} {meth : Method} {c : Code} {cells slots : Nat} {Q : State → Prop} {K : tc_E → tc_S → mm_S → Prop} {i : Int32} {E0 : tc_E} {s0 : tc_S} {m0 : mm_S} {H : Heap} {locs : List Loc} {ls : Array Slot} (hl0 : l.stackTraces = false) (C : tc_C p m c code 9 s #[.ref b] RX0 E0) (hX : va_X b L xs s s.heap) (hbl : b < s.heap.size) (hbA : ∀ q : Nat, ¬ eb E0 ≤ b) (hcr : cells + 12 ≤ 1203072 ∧ slots + 260 ≤ 5394730) (hm : tl_m E0) (hH : tc_ok (tm E0 m0) s0 H) (hS : va_S (fun q => eb E0 ≤ q) s.heap H locs) (hl : lv_has ls 9 [(0, .ref b), (1, .ref (ea E0 (0, 0))), (2, .ref (ea E0 (20, 0))), (3, .ref (ea E0 (22, 0))), (4, .ref (ea E0 (23, 0))), (5, .int i)]) (hK : tl_K K p l e s m b below meth c cells slots Q i E0) (hk : wl_c14 L xs K i E0 s0 m0) : W p l e room_1 s m #[.ref b] below meth c H locs cells slots Q (F0 m 1061 ls []) := by
  unfold wl_c14 at hk
  have hsim := tc_sim.rf E0
  refine lv_aload_n C.hx C.hb dL_law_1061 rfl (lv_at hl 1 rfl) ?_
  refine tc_run (tc_rV (As := []) (rest := []) (L := (0, 0)) (ci := 0) (fs := tc_gfs (tm E0 m0) s0) (q := (RX1, TX1, 13)) (C.sim (tm_sim E0 m0)) hH.g rfl rfl (t_X1_longestBlock l hk) (cwV 0 C.hts (lw_V q364 q365 q366 q53 q367) rfl rfl rfl (by decide +kernel) ⟨Nat.le_of_ble_eq_true rfl, Nat.le_of_ble_eq_true rfl⟩) hH hS rfl hl.1 rfl (lv_room (Nat.le_of_ble_eq_true rfl)) dL_law_1062 (lw_le0 hcr)) hS (fun r1 S2 H locs hk hH hS => ?_)
  refine W.eq (g2 := F0 m 1065 ls [.int r1]) rfl ?_
  refine lv_aload_n C.hx C.hb dL_law_1065 rfl (lv_at hl 2 rfl) ?_
  refine tl_i (As := []) (rest := [.int r1]) C hH hm hS (t_X6_longestBlock l hk) (cwV 0 C.hts (lw_V q1416 q1417 q1418 q65 q1419) rfl rfl rfl (by decide +kernel) ⟨Nat.le_of_ble_eq_true rfl, Nat.le_of_ble_eq_true rfl⟩) rfl hl.1 rfl (lv_room (Nat.le_of_ble_eq_true rfl)) dL_law_1066 (lw_le0 hcr) (fun r3 M4 H locs hk hH hS => ?_)
  refine W.eq (g2 := F0 m 1069 ls [.int r3, .int r1]) rfl ?_
  refine lv_icmp_eq (tgt := 2100) C.hx C.hb dL_law_1069 (by decide) (fun c5 => ?_) (fun c5 => ?_)
  · have hk := hk.1 c5
    refine W.widen (k := cells + KC) (n := slots + KS) (by show cells ≤ cells + 12; omega) (by show slots ≤ slots + 260; omega) ?_
    exact hK E0 S2 M4 _ _ _ hk hsim hm hH hS (lv_sub hl [0, 1, 2, 3, 4, 5] rfl)
  · have hk := hk.2 c5
    refine lv_iconst (v := 0) C.hx C.hb dL_law_1072 (by decide) ?_
    exact hk.elim
def wl_c15 (L : Nat) (xs : Nat → Int32) (K : tc_E → tc_S → mm_S → Prop) (i : Int32) (E0 : tc_E) (s0 : tc_S) (m0 : mm_S) : Prop := (vp_in (i + 1) L ∧ ∀ v2, v2 = xs (i + 1).toNatClampNeg → ww_X0_setWave (tm E0 m0) (fun r3 E9 S5 => ∃ E4, E9 = tm E4 m0 ∧ tl_same E0 E4 ∧ tl_m E4 ∧ (vp_in (i + 1) L ∧ ∀ v7, v7 = xs (i + 1).toNatClampNeg → wp_X6_setWave (fun r8 M9 => wp_X6_thrown (fun r10 M11 => ((r10 = r3 → ((¬ r3 = 0 → K E4 S5 M11) ∧ (r3 = 0 → ((22, 0) ∈ eL E4 ∧ ∃ f14, ew E4 (22, 0) = .inl (ec E4 2, 1, .inr (.inl f14)) ∧ (((lg_cmp (f14 (0 : Int32).toNatClampNeg) r8.toInt64) = 0 → K E4 S5 M11) ∧ (¬ (lg_cmp (f14 (0 : Int32).toNatClampNeg) r8.toInt64) = 0 → False)))))) ∧ (¬ r10 = r3 → False)))  M9) ((v7.toUInt32 % 65536).toInt32) m0)) ((v2.toUInt32 % 65536).toInt32) s0)
set_option maxHeartbeats 4000000 in
theorem tl_c15 {p : Program} {l : Launch} {e : Env} {s : State} {m : MethodId} {b L : Nat} {xs : Nat → Int32} {below : List Frame} {meth : Method} {c : Code} {cells slots : Nat} {Q : State → Prop} {K : tc_E → tc_S → mm_S → Prop} {i : Int32} {E0 : tc_E} {s0 : tc_S} {m0 : mm_S} {H : Heap} {locs : List Loc} {ls : Array Slot} (hl0 : l.stackTraces = false) (C : tc_C p m c code 9 s #[.ref b] RX0 E0) (hX : va_X b L xs s s.heap) (hbl : b < s.heap.size) (hbA : ∀ q : Nat, ¬ eb E0 ≤ b) (hcr : cells + 12 ≤ 1203072 ∧ slots + 260 ≤ 5394730) (hm : tl_m E0) (hH : tc_ok (tm E0 m0) s0 H) (hS : va_S (fun q => eb E0 ≤ q) s.heap H locs) (hl : lv_has ls 9 [(0, .ref b), (1, .ref (ea E0 (0, 0))), (2, .ref (ea E0 (20, 0))), (3, .ref (ea E0 (22, 0))), (4, .ref (ea E0 (23, 0))), (5, .int i)]) (hK : tl_K K p l e s m b below meth c cells slots Q i E0) (hk : wl_c15 L xs K i E0 s0 m0) : W p l e room_1 s m #[.ref b] below meth c H locs cells slots Q (F0 m 1074 ls []) := by
  unfold wl_c15 at hk
  have hsim := tc_sim.rf E0
  refine lv_aload_n C.hx C.hb dL_law_1074 rfl (lv_at hl 1 rfl) ?_
  refine lv_aload_n C.hx C.hb dL_law_1075 rfl (lv_at hl 0 rfl) ?_
  refine lv_iload C.hx C.hb dL_law_1076 (lv_at hl 5 rfl) ?_
  refine lv_iconst (v := 1) C.hx C.hb dL_law_1078 (by decide) ?_
  refine lv_iadd C.hx C.hb dL_law_1079 ?_
  obtain ⟨h1, hk⟩ := hk
  refine va_sld C.hx C.hb hX hbl (hbA 0) hS h1 dL_law_1080 ?_
  refine lv_topi (fun v2 ev2 => ?_)
  have hk := hk v2 ev2
  refine lv_i2c C.hx C.hb dL_law_1081 rfl ?_
  refine lv_aload_n C.hx C.hb dL_law_1082 rfl (lv_at hl 3 rfl) ?_
  refine tl_w (As := [.ref (ea E0 (0, 0)), .int ((v2.toUInt32 % 65536).toInt32), .ref (ea E0 (22, 0))]) (rest := []) C hH hS (t_X0_setWave l hl0 hk) (vx_cwSW 3 C.hts (lw_SW q1061 q1062 q52 q1063) rfl rfl rfl (by decide +kernel) ⟨Nat.le_of_ble_eq_true rfl, Nat.le_of_ble_eq_true rfl⟩) rfl hl.1 rfl (lv_room (Nat.le_of_ble_eq_true rfl)) dL_law_1083 ⟨by show cells + 1 ≤ 1203072; omega, by show slots + 6 ≤ 5394730; omega⟩ (fun r3 E9 S5 H locs hk hsm hH hS => ?_)
  obtain ⟨E4, rfl, hsa, hm, hk⟩ := hk
  have hsim2 : tc_sim E0 E4 := hsm
  have C := C.sim hsim2
  rw [← hsim2.1] at hS
  have hsim := hsim.trans hsim2
  have hbA : ∀ q : Nat, ¬ eb E4 ≤ b := fun _ => by rw [hsim2.1]; exact hbA 0
  have hl : lv_has ls 9 [(0, .ref b), (1, .ref (ea E4 (0, 0))), (2, .ref (ea E4 (20, 0))), (3, .ref (ea E4 (22, 0))), (4, .ref (ea E4 (23, 0))), (5, .int i)] := by rw [hsa.1, hsa.2.1, hsa.2.2.1, hsa.2.2.2]; exact hl
  refine W.eq (g2 := F0 m 1086 ls [.int r3]) rfl ?_
  refine lv_istore (lv' := [(6, .int r3), (0, .ref b), (1, .ref (ea E4 (0, 0))), (2, .ref (ea E4 (20, 0))), (3, .ref (ea E4 (22, 0))), (4, .ref (ea E4 (23, 0))), (5, .int i)]) C.hx C.hb dL_law_1086 hl (by decide) rfl (fun ls hl => ?_)
  refine lv_aload_n C.hx C.hb dL_law_1088 rfl (lv_at hl 3 rfl) ?_
  refine lv_aload_n C.hx C.hb dL_law_1089 rfl (lv_at hl 1 rfl) ?_
  refine lv_iload C.hx C.hb dL_law_1090 (lv_at hl 6 rfl) ?_
  refine lv_iconst (v := 1) C.hx C.hb dL_law_1092 (by decide) ?_
  refine lv_iadd C.hx C.hb dL_law_1093 ?_
  obtain ⟨h6, hk⟩ := hk
  refine va_sld C.hx C.hb hX hbl (hbA 0) hS h6 dL_law_1094 ?_
  refine lv_topi (fun v7 ev7 => ?_)
  have hk := hk v7 ev7
  refine lv_i2c C.hx C.hb dL_law_1095 rfl ?_
  refine tl_i (As := [.int ((v7.toUInt32 % 65536).toInt32)]) (rest := []) C hH hm hS (t_X6_setWave l hk) (cwV 1 C.hts (lw_V q1420 q1421 q1422 q65 q1423) rfl rfl rfl (by decide +kernel) ⟨Nat.le_of_ble_eq_true rfl, Nat.le_of_ble_eq_true rfl⟩) rfl hl.1 rfl (lv_room (Nat.le_of_ble_eq_true rfl)) dL_law_1096 (lw_le hcr) (fun r8 M9 H locs hk hH hS => ?_)
  refine W.eq (g2 := F0 m 1099 ls [.int r8]) rfl ?_
  refine lv_istore (lv' := [(7, .int r8), (6, .int r3), (0, .ref b), (1, .ref (ea E4 (0, 0))), (2, .ref (ea E4 (20, 0))), (3, .ref (ea E4 (22, 0))), (4, .ref (ea E4 (23, 0))), (5, .int i)]) C.hx C.hb dL_law_1099 hl (by decide) rfl (fun ls hl => ?_)
  refine lv_aload_n C.hx C.hb dL_law_1101 rfl (lv_at hl 4 rfl) ?_
  refine tl_i (As := []) (rest := []) C hH hm hS (t_X6_thrown l hk) (cwV 0 C.hts (lw_V q1321 q1322 q1323 q65 q1324) rfl rfl rfl (by decide +kernel) ⟨Nat.le_of_ble_eq_true rfl, Nat.le_of_ble_eq_true rfl⟩) rfl hl.1 rfl (lv_room (Nat.le_of_ble_eq_true rfl)) dL_law_1102 (lw_le hcr) (fun r10 M11 H locs hk hH hS => ?_)
  refine W.eq (g2 := F0 m 1105 ls [.int r10]) rfl ?_
  refine lv_iload C.hx C.hb dL_law_1105 (lv_at hl 1 rfl) ?_
  refine lv_icmp_eq (tgt := 1112) C.hx C.hb dL_law_1107 (by decide) (fun c12 => ?_) (fun c12 => ?_)
  · have hk := hk.1 c12
    refine lv_iload C.hx C.hb dL_law_1112 (lv_at hl 1 rfl) ?_
    refine lv_if_ne (tgt := 1129) C.hx C.hb dL_law_1114 (by decide) (fun c13 => ?_) (fun c13 => ?_)
    · have hk := hk.1 c13
      refine lv_goto (tgt := 2100) C.hx C.hb dL_law_1129 (by decide) ?_
      refine W.widen (k := cells + KC) (n := slots + KS) (by show cells + 1 ≤ cells + 12; omega) (by show slots + 6 ≤ slots + 260; omega) ?_
      exact hK E4 S5 M11 _ _ _ hk hsim hm hH hS (lv_sub hl [2, 3, 4, 5, 6, 7] rfl)
    · have hk := hk.2 c13
      refine lv_aload_n C.hx C.hb dL_law_1117 rfl (lv_at hl 5 rfl) ?_
      refine lv_iconst (v := 0) C.hx C.hb dL_law_1118 (by decide) ?_
      obtain ⟨h15, f14, h16, hk⟩ := hk
      refine tl_lald C hH h15 h16 dL_law_1119 ?_
      refine lv_iload C.hx C.hb dL_law_1120 (lv_at hl 0 rfl) ?_
      refine lv_i2l C.hx C.hb dL_law_1122 rfl ?_
      refine W.lcmp C.hx C.hb dL_law_1123 ?_
      refine lv_if_eq (tgt := 1129) C.hx C.hb dL_law_1124 (by decide) (fun c17 => ?_) (fun c17 => ?_)
      · have hk := hk.1 c17
        refine lv_goto (tgt := 2100) C.hx C.hb dL_law_1129 (by decide) ?_
        refine W.widen (k := cells + KC) (n := slots + KS) (by show cells + 1 ≤ cells + 12; omega) (by show slots + 6 ≤ slots + 260; omega) ?_
        exact hK E4 S5 M11 _ _ _ hk hsim hm hH hS (lv_sub hl [2, 3, 4, 5, 6, 7] rfl)
      · have hk := hk.2 c17
        refine lv_iconst (v := 0) C.hx C.hb dL_law_1127 (by decide) ?_
        exact hk.elim
  · have hk := hk.2 c12
    refine lv_iconst (v := 0) C.hx C.hb dL_law_1110 (by decide) ?_
    exact hk.elim
def wl_c16 (L : Nat) (xs : Nat → Int32) (K : tc_E → tc_S → mm_S → Prop) (i : Int32) (E0 : tc_E) (s0 : tc_S) (m0 : mm_S) : Prop := (vp_in (i + 1) L ∧ ∀ v2, v2 = xs (i + 1).toNatClampNeg → (vp_in (i + 2) L ∧ ∀ v4, v4 = xs (i + 2).toNatClampNeg → (vp_in (i + 3) L ∧ ∀ v6, v6 = xs (i + 3).toNatClampNeg → (vp_in (i + 4) L ∧ ∀ v8, v8 = xs (i + 4).toNatClampNeg → ww_X0_setEnvelope (tm E0 m0) (fun r9 E9 S11 => ∃ E10, E9 = tm E10 m0 ∧ tl_same E0 E10 ∧ tl_m E10 ∧ (vp_in (i + 1) L ∧ ∀ v13, v13 = xs (i + 1).toNatClampNeg → (vp_in (i + 2) L ∧ ∀ v15, v15 = xs (i + 2).toNatClampNeg → (vp_in (i + 3) L ∧ ∀ v17, v17 = xs (i + 3).toNatClampNeg → (vp_in (i + 4) L ∧ ∀ v19, v19 = xs (i + 4).toNatClampNeg → wp_X6_setEnvelope (fun r20 M21 => wp_X6_thrown (fun r22 M23 => ((r22 = r9 → ((¬ r9 = 0 → K E10 S11 M23) ∧ (r9 = 0 → ((22, 0) ∈ eL E10 ∧ ∃ f26, ew E10 (22, 0) = .inl (ec E10 2, 1, .inr (.inl f26)) ∧ (((lg_cmp (f26 (0 : Int32).toNatClampNeg) r20.toInt64) = 0 → K E10 S11 M23) ∧ (¬ (lg_cmp (f26 (0 : Int32).toNatClampNeg) r20.toInt64) = 0 → False)))))) ∧ (¬ r22 = r9 → False)))  M21) v13 v15 v17 v19 m0))))) v2 v4 v6 v8 s0))))
set_option maxHeartbeats 4000000 in
theorem tl_c16 {p : Program} {l : Launch} {e : Env} {s : State} {m : MethodId} {b L : Nat} {xs : Nat → Int32} {below : List Frame} {meth : Method} {c : Code} {cells slots : Nat} {Q : State → Prop} {K : tc_E → tc_S → mm_S → Prop} {i : Int32} {E0 : tc_E} {s0 : tc_S} {m0 : mm_S} {H : Heap} {locs : List Loc} {ls : Array Slot} (hl0 : l.stackTraces = false) (C : tc_C p m c code 9 s #[.ref b] RX0 E0) (hX : va_X b L xs s s.heap) (hbl : b < s.heap.size) (hbA : ∀ q : Nat, ¬ eb E0 ≤ b) (hcr : cells + 12 ≤ 1203072 ∧ slots + 260 ≤ 5394730) (hm : tl_m E0) (hH : tc_ok (tm E0 m0) s0 H) (hS : va_S (fun q => eb E0 ≤ q) s.heap H locs) (hl : lv_has ls 9 [(0, .ref b), (1, .ref (ea E0 (0, 0))), (2, .ref (ea E0 (20, 0))), (3, .ref (ea E0 (22, 0))), (4, .ref (ea E0 (23, 0))), (5, .int i)]) (hK : tl_K K p l e s m b below meth c cells slots Q i E0) (hk : wl_c16 L xs K i E0 s0 m0) : W p l e room_1 s m #[.ref b] below meth c H locs cells slots Q (F0 m 1132 ls []) := by
  unfold wl_c16 at hk
  have hsim := tc_sim.rf E0
  refine lv_aload_n C.hx C.hb dL_law_1132 rfl (lv_at hl 1 rfl) ?_
  refine lv_aload_n C.hx C.hb dL_law_1133 rfl (lv_at hl 0 rfl) ?_
  refine lv_iload C.hx C.hb dL_law_1134 (lv_at hl 5 rfl) ?_
  refine lv_iconst (v := 1) C.hx C.hb dL_law_1136 (by decide) ?_
  refine lv_iadd C.hx C.hb dL_law_1137 ?_
  obtain ⟨h1, hk⟩ := hk
  refine va_sld C.hx C.hb hX hbl (hbA 0) hS h1 dL_law_1138 ?_
  refine lv_topi (fun v2 ev2 => ?_)
  have hk := hk v2 ev2
  refine lv_aload_n C.hx C.hb dL_law_1139 rfl (lv_at hl 0 rfl) ?_
  refine lv_iload C.hx C.hb dL_law_1140 (lv_at hl 5 rfl) ?_
  refine lv_iconst (v := 2) C.hx C.hb dL_law_1142 (by decide) ?_
  refine lv_iadd C.hx C.hb dL_law_1143 ?_
  obtain ⟨h3, hk⟩ := hk
  refine va_sld C.hx C.hb hX hbl (hbA 0) hS h3 dL_law_1144 ?_
  refine lv_topi (fun v4 ev4 => ?_)
  have hk := hk v4 ev4
  refine lv_aload_n C.hx C.hb dL_law_1145 rfl (lv_at hl 0 rfl) ?_
  refine lv_iload C.hx C.hb dL_law_1146 (lv_at hl 5 rfl) ?_
  refine lv_iconst (v := 3) C.hx C.hb dL_law_1148 (by decide) ?_
  refine lv_iadd C.hx C.hb dL_law_1149 ?_
  obtain ⟨h5, hk⟩ := hk
  refine va_sld C.hx C.hb hX hbl (hbA 0) hS h5 dL_law_1150 ?_
  refine lv_topi (fun v6 ev6 => ?_)
  have hk := hk v6 ev6
  refine lv_aload_n C.hx C.hb dL_law_1151 rfl (lv_at hl 0 rfl) ?_
  refine lv_iload C.hx C.hb dL_law_1152 (lv_at hl 5 rfl) ?_
  refine lv_iconst (v := 4) C.hx C.hb dL_law_1154 (by decide) ?_
  refine lv_iadd C.hx C.hb dL_law_1155 ?_
  obtain ⟨h7, hk⟩ := hk
  refine va_sld C.hx C.hb hX hbl (hbA 0) hS h7 dL_law_1156 ?_
  refine lv_topi (fun v8 ev8 => ?_)
  have hk := hk v8 ev8
  refine lv_aload_n C.hx C.hb dL_law_1157 rfl (lv_at hl 3 rfl) ?_
  refine tl_w (As := [.ref (ea E0 (0, 0)), .int v2, .int v4, .int v6, .int v8, .ref (ea E0 (22, 0))]) (rest := []) C hH hS (t_X0_setEnvelope l hl0 hk) (vx_cwSW 6 C.hts (lw_SW q1068 q1069 q52 q1070) rfl rfl rfl (by decide +kernel) ⟨Nat.le_of_ble_eq_true rfl, Nat.le_of_ble_eq_true rfl⟩) rfl hl.1 rfl (lv_room (Nat.le_of_ble_eq_true rfl)) dL_law_1158 ⟨by show cells + 2 ≤ 1203072; omega, by show slots + 10 ≤ 5394730; omega⟩ (fun r9 E9 S11 H locs hk hsm hH hS => ?_)
  obtain ⟨E10, rfl, hsa, hm, hk⟩ := hk
  have hsim2 : tc_sim E0 E10 := hsm
  have C := C.sim hsim2
  rw [← hsim2.1] at hS
  have hsim := hsim.trans hsim2
  have hbA : ∀ q : Nat, ¬ eb E10 ≤ b := fun _ => by rw [hsim2.1]; exact hbA 0
  have hl : lv_has ls 9 [(0, .ref b), (1, .ref (ea E10 (0, 0))), (2, .ref (ea E10 (20, 0))), (3, .ref (ea E10 (22, 0))), (4, .ref (ea E10 (23, 0))), (5, .int i)] := by rw [hsa.1, hsa.2.1, hsa.2.2.1, hsa.2.2.2]; exact hl
  refine W.eq (g2 := F0 m 1161 ls [.int r9]) rfl ?_
  refine lv_istore (lv' := [(6, .int r9), (0, .ref b), (1, .ref (ea E10 (0, 0))), (2, .ref (ea E10 (20, 0))), (3, .ref (ea E10 (22, 0))), (4, .ref (ea E10 (23, 0))), (5, .int i)]) C.hx C.hb dL_law_1161 hl (by decide) rfl (fun ls hl => ?_)
  refine lv_aload_n C.hx C.hb dL_law_1163 rfl (lv_at hl 3 rfl) ?_
  refine lv_aload_n C.hx C.hb dL_law_1164 rfl (lv_at hl 1 rfl) ?_
  refine lv_iload C.hx C.hb dL_law_1165 (lv_at hl 6 rfl) ?_
  refine lv_iconst (v := 1) C.hx C.hb dL_law_1167 (by decide) ?_
  refine lv_iadd C.hx C.hb dL_law_1168 ?_
  obtain ⟨h12, hk⟩ := hk
  refine va_sld C.hx C.hb hX hbl (hbA 0) hS h12 dL_law_1169 ?_
  refine lv_topi (fun v13 ev13 => ?_)
  have hk := hk v13 ev13
  refine lv_aload_n C.hx C.hb dL_law_1170 rfl (lv_at hl 1 rfl) ?_
  refine lv_iload C.hx C.hb dL_law_1171 (lv_at hl 6 rfl) ?_
  refine lv_iconst (v := 2) C.hx C.hb dL_law_1173 (by decide) ?_
  refine lv_iadd C.hx C.hb dL_law_1174 ?_
  obtain ⟨h14, hk⟩ := hk
  refine va_sld C.hx C.hb hX hbl (hbA 0) hS h14 dL_law_1175 ?_
  refine lv_topi (fun v15 ev15 => ?_)
  have hk := hk v15 ev15
  refine lv_aload_n C.hx C.hb dL_law_1176 rfl (lv_at hl 1 rfl) ?_
  refine lv_iload C.hx C.hb dL_law_1177 (lv_at hl 6 rfl) ?_
  refine lv_iconst (v := 3) C.hx C.hb dL_law_1179 (by decide) ?_
  refine lv_iadd C.hx C.hb dL_law_1180 ?_
  obtain ⟨h16, hk⟩ := hk
  refine va_sld C.hx C.hb hX hbl (hbA 0) hS h16 dL_law_1181 ?_
  refine lv_topi (fun v17 ev17 => ?_)
  have hk := hk v17 ev17
  refine lv_aload_n C.hx C.hb dL_law_1182 rfl (lv_at hl 1 rfl) ?_
  refine lv_iload C.hx C.hb dL_law_1183 (lv_at hl 6 rfl) ?_
  refine lv_iconst (v := 4) C.hx C.hb dL_law_1185 (by decide) ?_
  refine lv_iadd C.hx C.hb dL_law_1186 ?_
  obtain ⟨h18, hk⟩ := hk
  refine va_sld C.hx C.hb hX hbl (hbA 0) hS h18 dL_law_1187 ?_
  refine lv_topi (fun v19 ev19 => ?_)
  have hk := hk v19 ev19
  refine tl_i (As := [.int v13, .int v15, .int v17, .int v19]) (rest := []) C hH hm hS (t_X6_setEnvelope l hk) (cwV 4 C.hts (lw_V q1424 q1425 q1426 q65 q1427) rfl rfl rfl (by decide +kernel) ⟨Nat.le_of_ble_eq_true rfl, Nat.le_of_ble_eq_true rfl⟩) rfl hl.1 rfl (lv_room (Nat.le_of_ble_eq_true rfl)) dL_law_1188 (lw_le hcr) (fun r20 M21 H locs hk hH hS => ?_)
  refine W.eq (g2 := F0 m 1191 ls [.int r20]) rfl ?_
  refine lv_istore (lv' := [(7, .int r20), (6, .int r9), (0, .ref b), (1, .ref (ea E10 (0, 0))), (2, .ref (ea E10 (20, 0))), (3, .ref (ea E10 (22, 0))), (4, .ref (ea E10 (23, 0))), (5, .int i)]) C.hx C.hb dL_law_1191 hl (by decide) rfl (fun ls hl => ?_)
  refine lv_aload_n C.hx C.hb dL_law_1193 rfl (lv_at hl 4 rfl) ?_
  refine tl_i (As := []) (rest := []) C hH hm hS (t_X6_thrown l hk) (cwV 0 C.hts (lw_V q1321 q1322 q1323 q65 q1324) rfl rfl rfl (by decide +kernel) ⟨Nat.le_of_ble_eq_true rfl, Nat.le_of_ble_eq_true rfl⟩) rfl hl.1 rfl (lv_room (Nat.le_of_ble_eq_true rfl)) dL_law_1194 (lw_le hcr) (fun r22 M23 H locs hk hH hS => ?_)
  refine W.eq (g2 := F0 m 1197 ls [.int r22]) rfl ?_
  refine lv_iload C.hx C.hb dL_law_1197 (lv_at hl 1 rfl) ?_
  refine lv_icmp_eq (tgt := 1204) C.hx C.hb dL_law_1199 (by decide) (fun c24 => ?_) (fun c24 => ?_)
  · have hk := hk.1 c24
    refine lv_iload C.hx C.hb dL_law_1204 (lv_at hl 1 rfl) ?_
    refine lv_if_ne (tgt := 1221) C.hx C.hb dL_law_1206 (by decide) (fun c25 => ?_) (fun c25 => ?_)
    · have hk := hk.1 c25
      refine lv_goto (tgt := 2100) C.hx C.hb dL_law_1221 (by decide) ?_
      refine W.widen (k := cells + KC) (n := slots + KS) (by show cells + 2 ≤ cells + 12; omega) (by show slots + 10 ≤ slots + 260; omega) ?_
      exact hK E10 S11 M23 _ _ _ hk hsim hm hH hS (lv_sub hl [2, 3, 4, 5, 6, 7] rfl)
    · have hk := hk.2 c25
      refine lv_aload_n C.hx C.hb dL_law_1209 rfl (lv_at hl 5 rfl) ?_
      refine lv_iconst (v := 0) C.hx C.hb dL_law_1210 (by decide) ?_
      obtain ⟨h27, f26, h28, hk⟩ := hk
      refine tl_lald C hH h27 h28 dL_law_1211 ?_
      refine lv_iload C.hx C.hb dL_law_1212 (lv_at hl 0 rfl) ?_
      refine lv_i2l C.hx C.hb dL_law_1214 rfl ?_
      refine W.lcmp C.hx C.hb dL_law_1215 ?_
      refine lv_if_eq (tgt := 1221) C.hx C.hb dL_law_1216 (by decide) (fun c29 => ?_) (fun c29 => ?_)
      · have hk := hk.1 c29
        refine lv_goto (tgt := 2100) C.hx C.hb dL_law_1221 (by decide) ?_
        refine W.widen (k := cells + KC) (n := slots + KS) (by show cells + 2 ≤ cells + 12; omega) (by show slots + 10 ≤ slots + 260; omega) ?_
        exact hK E10 S11 M23 _ _ _ hk hsim hm hH hS (lv_sub hl [2, 3, 4, 5, 6, 7] rfl)
      · have hk := hk.2 c29
        refine lv_iconst (v := 0) C.hx C.hb dL_law_1219 (by decide) ?_
        exact hk.elim
  · have hk := hk.2 c24
    refine lv_iconst (v := 0) C.hx C.hb dL_law_1202 (by decide) ?_
    exact hk.elim
def wl_c17 (L : Nat) (xs : Nat → Int32) (K : tc_E → tc_S → mm_S → Prop) (i : Int32) (E0 : tc_E) (s0 : tc_S) (m0 : mm_S) : Prop := (vp_in (i + 1) L ∧ ∀ v2, v2 = xs (i + 1).toNatClampNeg → (vp_in (i + 2) L ∧ ∀ v4, v4 = xs (i + 2).toNatClampNeg → ww_X0_begin (tm E0 m0) (fun r5 E9 S7 => ∃ E6, E9 = tm E6 m0 ∧ tl_same E0 E6 ∧ tl_m E6 ∧ (vp_in (i + 1) L ∧ ∀ v9, v9 = xs (i + 1).toNatClampNeg → (vp_in (i + 2) L ∧ ∀ v11, v11 = xs (i + 2).toNatClampNeg → wp_X6_begin (fun r12 M13 => wp_X6_thrown (fun r14 M15 => ((r14 = r5 → ((¬ r5 = 0 → K E6 S7 M15) ∧ (r5 = 0 → ((22, 0) ∈ eL E6 ∧ ∃ f18, ew E6 (22, 0) = .inl (ec E6 2, 1, .inr (.inl f18)) ∧ (((lg_cmp (f18 (0 : Int32).toNatClampNeg) r12.toInt64) = 0 → K E6 S7 M15) ∧ (¬ (lg_cmp (f18 (0 : Int32).toNatClampNeg) r12.toInt64) = 0 → False)))))) ∧ (¬ r14 = r5 → False)))  M13) v9 v11 m0))) v2 v4 s0))
set_option maxHeartbeats 4000000 in
theorem tl_c17 {p : Program} {l : Launch} {e : Env} {s : State} {m : MethodId} {b L : Nat} {xs : Nat → Int32} {below : List Frame} {meth : Method} {c : Code} {cells slots : Nat} {Q : State → Prop} {K : tc_E → tc_S → mm_S → Prop} {i : Int32} {E0 : tc_E} {s0 : tc_S} {m0 : mm_S} {H : Heap} {locs : List Loc} {ls : Array Slot} (hl0 : l.stackTraces = false) (C : tc_C p m c code 9 s #[.ref b] RX0 E0) (hX : va_X b L xs s s.heap) (hbl : b < s.heap.size) (hbA : ∀ q : Nat, ¬ eb E0 ≤ b) (hcr : cells + 12 ≤ 1203072 ∧ slots + 260 ≤ 5394730) (hm : tl_m E0) (hH : tc_ok (tm E0 m0) s0 H) (hS : va_S (fun q => eb E0 ≤ q) s.heap H locs) (hl : lv_has ls 9 [(0, .ref b), (1, .ref (ea E0 (0, 0))), (2, .ref (ea E0 (20, 0))), (3, .ref (ea E0 (22, 0))), (4, .ref (ea E0 (23, 0))), (5, .int i)]) (hK : tl_K K p l e s m b below meth c cells slots Q i E0) (hk : wl_c17 L xs K i E0 s0 m0) : W p l e room_1 s m #[.ref b] below meth c H locs cells slots Q (F0 m 1224 ls []) := by
  unfold wl_c17 at hk
  have hsim := tc_sim.rf E0
  refine lv_aload_n C.hx C.hb dL_law_1224 rfl (lv_at hl 1 rfl) ?_
  refine lv_aload_n C.hx C.hb dL_law_1225 rfl (lv_at hl 0 rfl) ?_
  refine lv_iload C.hx C.hb dL_law_1226 (lv_at hl 5 rfl) ?_
  refine lv_iconst (v := 1) C.hx C.hb dL_law_1228 (by decide) ?_
  refine lv_iadd C.hx C.hb dL_law_1229 ?_
  obtain ⟨h1, hk⟩ := hk
  refine va_sld C.hx C.hb hX hbl (hbA 0) hS h1 dL_law_1230 ?_
  refine lv_topi (fun v2 ev2 => ?_)
  have hk := hk v2 ev2
  refine lv_aload_n C.hx C.hb dL_law_1231 rfl (lv_at hl 0 rfl) ?_
  refine lv_iload C.hx C.hb dL_law_1232 (lv_at hl 5 rfl) ?_
  refine lv_iconst (v := 2) C.hx C.hb dL_law_1234 (by decide) ?_
  refine lv_iadd C.hx C.hb dL_law_1235 ?_
  obtain ⟨h3, hk⟩ := hk
  refine va_sld C.hx C.hb hX hbl (hbA 0) hS h3 dL_law_1236 ?_
  refine lv_topi (fun v4 ev4 => ?_)
  have hk := hk v4 ev4
  refine lv_aload_n C.hx C.hb dL_law_1237 rfl (lv_at hl 3 rfl) ?_
  refine tl_w (As := [.ref (ea E0 (0, 0)), .int v2, .int v4, .ref (ea E0 (22, 0))]) (rest := []) C hH hS (t_X0_begin l hl0 hk) (vx_cwSW 4 C.hts (lw_SW q1077 q1078 q52 q1079) rfl rfl rfl (by decide +kernel) ⟨Nat.le_of_ble_eq_true rfl, Nat.le_of_ble_eq_true rfl⟩) rfl hl.1 rfl (lv_room (Nat.le_of_ble_eq_true rfl)) dL_law_1238 ⟨by show cells + 1 ≤ 1203072; omega, by show slots + 6 ≤ 5394730; omega⟩ (fun r5 E9 S7 H locs hk hsm hH hS => ?_)
  obtain ⟨E6, rfl, hsa, hm, hk⟩ := hk
  have hsim2 : tc_sim E0 E6 := hsm
  have C := C.sim hsim2
  rw [← hsim2.1] at hS
  have hsim := hsim.trans hsim2
  have hbA : ∀ q : Nat, ¬ eb E6 ≤ b := fun _ => by rw [hsim2.1]; exact hbA 0
  have hl : lv_has ls 9 [(0, .ref b), (1, .ref (ea E6 (0, 0))), (2, .ref (ea E6 (20, 0))), (3, .ref (ea E6 (22, 0))), (4, .ref (ea E6 (23, 0))), (5, .int i)] := by rw [hsa.1, hsa.2.1, hsa.2.2.1, hsa.2.2.2]; exact hl
  refine W.eq (g2 := F0 m 1241 ls [.int r5]) rfl ?_
  refine lv_istore (lv' := [(6, .int r5), (0, .ref b), (1, .ref (ea E6 (0, 0))), (2, .ref (ea E6 (20, 0))), (3, .ref (ea E6 (22, 0))), (4, .ref (ea E6 (23, 0))), (5, .int i)]) C.hx C.hb dL_law_1241 hl (by decide) rfl (fun ls hl => ?_)
  refine lv_aload_n C.hx C.hb dL_law_1243 rfl (lv_at hl 3 rfl) ?_
  refine lv_aload_n C.hx C.hb dL_law_1244 rfl (lv_at hl 1 rfl) ?_
  refine lv_iload C.hx C.hb dL_law_1245 (lv_at hl 6 rfl) ?_
  refine lv_iconst (v := 1) C.hx C.hb dL_law_1247 (by decide) ?_
  refine lv_iadd C.hx C.hb dL_law_1248 ?_
  obtain ⟨h8, hk⟩ := hk
  refine va_sld C.hx C.hb hX hbl (hbA 0) hS h8 dL_law_1249 ?_
  refine lv_topi (fun v9 ev9 => ?_)
  have hk := hk v9 ev9
  refine lv_aload_n C.hx C.hb dL_law_1250 rfl (lv_at hl 1 rfl) ?_
  refine lv_iload C.hx C.hb dL_law_1251 (lv_at hl 6 rfl) ?_
  refine lv_iconst (v := 2) C.hx C.hb dL_law_1253 (by decide) ?_
  refine lv_iadd C.hx C.hb dL_law_1254 ?_
  obtain ⟨h10, hk⟩ := hk
  refine va_sld C.hx C.hb hX hbl (hbA 0) hS h10 dL_law_1255 ?_
  refine lv_topi (fun v11 ev11 => ?_)
  have hk := hk v11 ev11
  refine tl_i (As := [.int v9, .int v11]) (rest := []) C hH hm hS (t_X6_begin l hk) (cwV 2 C.hts (lw_V q1428 q1429 q1430 q65 q1431) rfl rfl rfl (by decide +kernel) ⟨Nat.le_of_ble_eq_true rfl, Nat.le_of_ble_eq_true rfl⟩) rfl hl.1 rfl (lv_room (Nat.le_of_ble_eq_true rfl)) dL_law_1256 (lw_le hcr) (fun r12 M13 H locs hk hH hS => ?_)
  refine W.eq (g2 := F0 m 1259 ls [.int r12]) rfl ?_
  refine lv_istore (lv' := [(7, .int r12), (6, .int r5), (0, .ref b), (1, .ref (ea E6 (0, 0))), (2, .ref (ea E6 (20, 0))), (3, .ref (ea E6 (22, 0))), (4, .ref (ea E6 (23, 0))), (5, .int i)]) C.hx C.hb dL_law_1259 hl (by decide) rfl (fun ls hl => ?_)
  refine lv_aload_n C.hx C.hb dL_law_1261 rfl (lv_at hl 4 rfl) ?_
  refine tl_i (As := []) (rest := []) C hH hm hS (t_X6_thrown l hk) (cwV 0 C.hts (lw_V q1321 q1322 q1323 q65 q1324) rfl rfl rfl (by decide +kernel) ⟨Nat.le_of_ble_eq_true rfl, Nat.le_of_ble_eq_true rfl⟩) rfl hl.1 rfl (lv_room (Nat.le_of_ble_eq_true rfl)) dL_law_1262 (lw_le hcr) (fun r14 M15 H locs hk hH hS => ?_)
  refine W.eq (g2 := F0 m 1265 ls [.int r14]) rfl ?_
  refine lv_iload C.hx C.hb dL_law_1265 (lv_at hl 1 rfl) ?_
  refine lv_icmp_eq (tgt := 1272) C.hx C.hb dL_law_1267 (by decide) (fun c16 => ?_) (fun c16 => ?_)
  · have hk := hk.1 c16
    refine lv_iload C.hx C.hb dL_law_1272 (lv_at hl 1 rfl) ?_
    refine lv_if_ne (tgt := 1289) C.hx C.hb dL_law_1274 (by decide) (fun c17 => ?_) (fun c17 => ?_)
    · have hk := hk.1 c17
      refine lv_goto (tgt := 2100) C.hx C.hb dL_law_1289 (by decide) ?_
      refine W.widen (k := cells + KC) (n := slots + KS) (by show cells + 1 ≤ cells + 12; omega) (by show slots + 6 ≤ slots + 260; omega) ?_
      exact hK E6 S7 M15 _ _ _ hk hsim hm hH hS (lv_sub hl [2, 3, 4, 5, 6, 7] rfl)
    · have hk := hk.2 c17
      refine lv_aload_n C.hx C.hb dL_law_1277 rfl (lv_at hl 5 rfl) ?_
      refine lv_iconst (v := 0) C.hx C.hb dL_law_1278 (by decide) ?_
      obtain ⟨h19, f18, h20, hk⟩ := hk
      refine tl_lald C hH h19 h20 dL_law_1279 ?_
      refine lv_iload C.hx C.hb dL_law_1280 (lv_at hl 0 rfl) ?_
      refine lv_i2l C.hx C.hb dL_law_1282 rfl ?_
      refine W.lcmp C.hx C.hb dL_law_1283 ?_
      refine lv_if_eq (tgt := 1289) C.hx C.hb dL_law_1284 (by decide) (fun c21 => ?_) (fun c21 => ?_)
      · have hk := hk.1 c21
        refine lv_goto (tgt := 2100) C.hx C.hb dL_law_1289 (by decide) ?_
        refine W.widen (k := cells + KC) (n := slots + KS) (by show cells + 1 ≤ cells + 12; omega) (by show slots + 6 ≤ slots + 260; omega) ?_
        exact hK E6 S7 M15 _ _ _ hk hsim hm hH hS (lv_sub hl [2, 3, 4, 5, 6, 7] rfl)
      · have hk := hk.2 c21
        refine lv_iconst (v := 0) C.hx C.hb dL_law_1287 (by decide) ?_
        exact hk.elim
  · have hk := hk.2 c16
    refine lv_iconst (v := 0) C.hx C.hb dL_law_1270 (by decide) ?_
    exact hk.elim
def wl_c18 (L : Nat) (xs : Nat → Int32) (K : tc_E → tc_S → mm_S → Prop) (i : Int32) (E0 : tc_E) (s0 : tc_S) (m0 : mm_S) : Prop := (vp_in (i + 1) L ∧ ∀ v2, v2 = xs (i + 1).toNatClampNeg → ww_X0_end (tm E0 m0) (fun r3 E9 S5 => ∃ E4, E9 = tm E4 m0 ∧ tl_same E0 E4 ∧ tl_m E4 ∧ (vp_in (i + 1) L ∧ ∀ v7, v7 = xs (i + 1).toNatClampNeg → wp_X6_end (fun r8 M9 => wp_X6_thrown (fun r10 M11 => ((r10 = r3 → ((¬ r3 = 0 → K E4 S5 M11) ∧ (r3 = 0 → ((22, 0) ∈ eL E4 ∧ ∃ f14, ew E4 (22, 0) = .inl (ec E4 2, 1, .inr (.inl f14)) ∧ (((lg_cmp (f14 (0 : Int32).toNatClampNeg) r8.toInt64) = 0 → K E4 S5 M11) ∧ (¬ (lg_cmp (f14 (0 : Int32).toNatClampNeg) r8.toInt64) = 0 → False)))))) ∧ (¬ r10 = r3 → False)))  M9) v7 m0)) v2 s0)
set_option maxHeartbeats 4000000 in
theorem tl_c18 {p : Program} {l : Launch} {e : Env} {s : State} {m : MethodId} {b L : Nat} {xs : Nat → Int32} {below : List Frame} {meth : Method} {c : Code} {cells slots : Nat} {Q : State → Prop} {K : tc_E → tc_S → mm_S → Prop} {i : Int32} {E0 : tc_E} {s0 : tc_S} {m0 : mm_S} {H : Heap} {locs : List Loc} {ls : Array Slot} (hl0 : l.stackTraces = false) (C : tc_C p m c code 9 s #[.ref b] RX0 E0) (hX : va_X b L xs s s.heap) (hbl : b < s.heap.size) (hbA : ∀ q : Nat, ¬ eb E0 ≤ b) (hcr : cells + 12 ≤ 1203072 ∧ slots + 260 ≤ 5394730) (hm : tl_m E0) (hH : tc_ok (tm E0 m0) s0 H) (hS : va_S (fun q => eb E0 ≤ q) s.heap H locs) (hl : lv_has ls 9 [(0, .ref b), (1, .ref (ea E0 (0, 0))), (2, .ref (ea E0 (20, 0))), (3, .ref (ea E0 (22, 0))), (4, .ref (ea E0 (23, 0))), (5, .int i)]) (hK : tl_K K p l e s m b below meth c cells slots Q i E0) (hk : wl_c18 L xs K i E0 s0 m0) : W p l e room_1 s m #[.ref b] below meth c H locs cells slots Q (F0 m 1292 ls []) := by
  unfold wl_c18 at hk
  have hsim := tc_sim.rf E0
  refine lv_aload_n C.hx C.hb dL_law_1292 rfl (lv_at hl 1 rfl) ?_
  refine lv_aload_n C.hx C.hb dL_law_1293 rfl (lv_at hl 0 rfl) ?_
  refine lv_iload C.hx C.hb dL_law_1294 (lv_at hl 5 rfl) ?_
  refine lv_iconst (v := 1) C.hx C.hb dL_law_1296 (by decide) ?_
  refine lv_iadd C.hx C.hb dL_law_1297 ?_
  obtain ⟨h1, hk⟩ := hk
  refine va_sld C.hx C.hb hX hbl (hbA 0) hS h1 dL_law_1298 ?_
  refine lv_topi (fun v2 ev2 => ?_)
  have hk := hk v2 ev2
  refine lv_aload_n C.hx C.hb dL_law_1299 rfl (lv_at hl 3 rfl) ?_
  refine tl_w (As := [.ref (ea E0 (0, 0)), .int v2, .ref (ea E0 (22, 0))]) (rest := []) C hH hS (t_X0_end l hl0 hk) (vx_cwSW 3 C.hts (lw_SW q1115 q1116 q52 q1117) rfl rfl rfl (by decide +kernel) ⟨Nat.le_of_ble_eq_true rfl, Nat.le_of_ble_eq_true rfl⟩) rfl hl.1 rfl (lv_room (Nat.le_of_ble_eq_true rfl)) dL_law_1300 ⟨by show cells + 3 ≤ 1203072; omega, by show slots + 13 ≤ 5394730; omega⟩ (fun r3 E9 S5 H locs hk hsm hH hS => ?_)
  obtain ⟨E4, rfl, hsa, hm, hk⟩ := hk
  have hsim2 : tc_sim E0 E4 := hsm
  have C := C.sim hsim2
  rw [← hsim2.1] at hS
  have hsim := hsim.trans hsim2
  have hbA : ∀ q : Nat, ¬ eb E4 ≤ b := fun _ => by rw [hsim2.1]; exact hbA 0
  have hl : lv_has ls 9 [(0, .ref b), (1, .ref (ea E4 (0, 0))), (2, .ref (ea E4 (20, 0))), (3, .ref (ea E4 (22, 0))), (4, .ref (ea E4 (23, 0))), (5, .int i)] := by rw [hsa.1, hsa.2.1, hsa.2.2.1, hsa.2.2.2]; exact hl
  refine W.eq (g2 := F0 m 1303 ls [.int r3]) rfl ?_
  refine lv_istore (lv' := [(6, .int r3), (0, .ref b), (1, .ref (ea E4 (0, 0))), (2, .ref (ea E4 (20, 0))), (3, .ref (ea E4 (22, 0))), (4, .ref (ea E4 (23, 0))), (5, .int i)]) C.hx C.hb dL_law_1303 hl (by decide) rfl (fun ls hl => ?_)
  refine lv_aload_n C.hx C.hb dL_law_1305 rfl (lv_at hl 3 rfl) ?_
  refine lv_aload_n C.hx C.hb dL_law_1306 rfl (lv_at hl 1 rfl) ?_
  refine lv_iload C.hx C.hb dL_law_1307 (lv_at hl 6 rfl) ?_
  refine lv_iconst (v := 1) C.hx C.hb dL_law_1309 (by decide) ?_
  refine lv_iadd C.hx C.hb dL_law_1310 ?_
  obtain ⟨h6, hk⟩ := hk
  refine va_sld C.hx C.hb hX hbl (hbA 0) hS h6 dL_law_1311 ?_
  refine lv_topi (fun v7 ev7 => ?_)
  have hk := hk v7 ev7
  refine tl_i (As := [.int v7]) (rest := []) C hH hm hS (t_X6_end l hk) (cwV 1 C.hts (lw_V q1452 q1453 q1454 q65 q1455) rfl rfl rfl (by decide +kernel) ⟨Nat.le_of_ble_eq_true rfl, Nat.le_of_ble_eq_true rfl⟩) rfl hl.1 rfl (lv_room (Nat.le_of_ble_eq_true rfl)) dL_law_1312 (lw_le hcr) (fun r8 M9 H locs hk hH hS => ?_)
  refine W.eq (g2 := F0 m 1315 ls [.int r8]) rfl ?_
  refine lv_istore (lv' := [(7, .int r8), (6, .int r3), (0, .ref b), (1, .ref (ea E4 (0, 0))), (2, .ref (ea E4 (20, 0))), (3, .ref (ea E4 (22, 0))), (4, .ref (ea E4 (23, 0))), (5, .int i)]) C.hx C.hb dL_law_1315 hl (by decide) rfl (fun ls hl => ?_)
  refine lv_aload_n C.hx C.hb dL_law_1317 rfl (lv_at hl 4 rfl) ?_
  refine tl_i (As := []) (rest := []) C hH hm hS (t_X6_thrown l hk) (cwV 0 C.hts (lw_V q1321 q1322 q1323 q65 q1324) rfl rfl rfl (by decide +kernel) ⟨Nat.le_of_ble_eq_true rfl, Nat.le_of_ble_eq_true rfl⟩) rfl hl.1 rfl (lv_room (Nat.le_of_ble_eq_true rfl)) dL_law_1318 (lw_le hcr) (fun r10 M11 H locs hk hH hS => ?_)
  refine W.eq (g2 := F0 m 1321 ls [.int r10]) rfl ?_
  refine lv_iload C.hx C.hb dL_law_1321 (lv_at hl 1 rfl) ?_
  refine lv_icmp_eq (tgt := 1328) C.hx C.hb dL_law_1323 (by decide) (fun c12 => ?_) (fun c12 => ?_)
  · have hk := hk.1 c12
    refine lv_iload C.hx C.hb dL_law_1328 (lv_at hl 1 rfl) ?_
    refine lv_if_ne (tgt := 1345) C.hx C.hb dL_law_1330 (by decide) (fun c13 => ?_) (fun c13 => ?_)
    · have hk := hk.1 c13
      refine lv_goto (tgt := 2100) C.hx C.hb dL_law_1345 (by decide) ?_
      refine W.widen (k := cells + KC) (n := slots + KS) (by show cells + 3 ≤ cells + 12; omega) (by show slots + 13 ≤ slots + 260; omega) ?_
      exact hK E4 S5 M11 _ _ _ hk hsim hm hH hS (lv_sub hl [2, 3, 4, 5, 6, 7] rfl)
    · have hk := hk.2 c13
      refine lv_aload_n C.hx C.hb dL_law_1333 rfl (lv_at hl 5 rfl) ?_
      refine lv_iconst (v := 0) C.hx C.hb dL_law_1334 (by decide) ?_
      obtain ⟨h15, f14, h16, hk⟩ := hk
      refine tl_lald C hH h15 h16 dL_law_1335 ?_
      refine lv_iload C.hx C.hb dL_law_1336 (lv_at hl 0 rfl) ?_
      refine lv_i2l C.hx C.hb dL_law_1338 rfl ?_
      refine W.lcmp C.hx C.hb dL_law_1339 ?_
      refine lv_if_eq (tgt := 1345) C.hx C.hb dL_law_1340 (by decide) (fun c17 => ?_) (fun c17 => ?_)
      · have hk := hk.1 c17
        refine lv_goto (tgt := 2100) C.hx C.hb dL_law_1345 (by decide) ?_
        refine W.widen (k := cells + KC) (n := slots + KS) (by show cells + 3 ≤ cells + 12; omega) (by show slots + 13 ≤ slots + 260; omega) ?_
        exact hK E4 S5 M11 _ _ _ hk hsim hm hH hS (lv_sub hl [2, 3, 4, 5, 6, 7] rfl)
      · have hk := hk.2 c17
        refine lv_iconst (v := 0) C.hx C.hb dL_law_1343 (by decide) ?_
        exact hk.elim
  · have hk := hk.2 c12
    refine lv_iconst (v := 0) C.hx C.hb dL_law_1326 (by decide) ?_
    exact hk.elim
def wl_c19 (L : Nat) (xs : Nat → Int32) (K : tc_E → tc_S → mm_S → Prop) (i : Int32) (E0 : tc_E) (s0 : tc_S) (m0 : mm_S) : Prop := wp_X1_endAll (tm E0 m0) (fun r1 S2 => wp_X6_endAll (fun r3 M4 => ((r1 = r3 → K E0 S2 M4) ∧ (¬ r1 = r3 → False)))  m0)  s0
set_option maxHeartbeats 4000000 in
theorem tl_c19 {p : Program} {l : Launch} {e : Env} {s : State} {m : MethodId} {b L : Nat} {xs : Nat → Int32} {below : List Frame} {meth : Method} {c : Code} {cells slots : Nat} {Q : State → Prop} {K : tc_E → tc_S → mm_S → Prop} {i : Int32} {E0 : tc_E} {s0 : tc_S} {m0 : mm_S} {H : Heap} {locs : List Loc} {ls : Array Slot} (hl0 : l.stackTraces = false) (C : tc_C p m c code 9 s #[.ref b] RX0 E0) (hX : va_X b L xs s s.heap) (hbl : b < s.heap.size) (hbA : ∀ q : Nat, ¬ eb E0 ≤ b) (hcr : cells + 12 ≤ 1203072 ∧ slots + 260 ≤ 5394730) (hm : tl_m E0) (hH : tc_ok (tm E0 m0) s0 H) (hS : va_S (fun q => eb E0 ≤ q) s.heap H locs) (hl : lv_has ls 9 [(0, .ref b), (1, .ref (ea E0 (0, 0))), (2, .ref (ea E0 (20, 0))), (3, .ref (ea E0 (22, 0))), (4, .ref (ea E0 (23, 0))), (5, .int i)]) (hK : tl_K K p l e s m b below meth c cells slots Q i E0) (hk : wl_c19 L xs K i E0 s0 m0) : W p l e room_1 s m #[.ref b] below meth c H locs cells slots Q (F0 m 1348 ls []) := by
  unfold wl_c19 at hk
  have hsim := tc_sim.rf E0
  refine lv_aload_n C.hx C.hb dL_law_1348 rfl (lv_at hl 1 rfl) ?_
  refine tc_run (tc_rV (As := []) (rest := []) (L := (0, 0)) (ci := 0) (fs := tc_gfs (tm E0 m0) s0) (q := (RX1, TX1, 13)) (C.sim (tm_sim E0 m0)) hH.g rfl rfl (t_X1_endAll l hk) (cwV 0 C.hts (lw_V q396 q397 q398 q53 q399) rfl rfl rfl (by decide +kernel) ⟨Nat.le_of_ble_eq_true rfl, Nat.le_of_ble_eq_true rfl⟩) hH hS rfl hl.1 rfl (lv_room (Nat.le_of_ble_eq_true rfl)) dL_law_1349 (lw_le0 hcr)) hS (fun r1 S2 H locs hk hH hS => ?_)
  refine W.eq (g2 := F0 m 1352 ls [.int r1]) rfl ?_
  refine lv_aload_n C.hx C.hb dL_law_1352 rfl (lv_at hl 2 rfl) ?_
  refine tl_i (As := []) (rest := [.int r1]) C hH hm hS (t_X6_endAll l hk) (cwV 0 C.hts (lw_V q1468 q1469 q1470 q65 q1471) rfl rfl rfl (by decide +kernel) ⟨Nat.le_of_ble_eq_true rfl, Nat.le_of_ble_eq_true rfl⟩) rfl hl.1 rfl (lv_room (Nat.le_of_ble_eq_true rfl)) dL_law_1353 (lw_le0 hcr) (fun r3 M4 H locs hk hH hS => ?_)
  refine W.eq (g2 := F0 m 1356 ls [.int r3, .int r1]) rfl ?_
  refine lv_icmp_eq (tgt := 2100) C.hx C.hb dL_law_1356 (by decide) (fun c5 => ?_) (fun c5 => ?_)
  · have hk := hk.1 c5
    refine W.widen (k := cells + KC) (n := slots + KS) (by show cells ≤ cells + 12; omega) (by show slots ≤ slots + 260; omega) ?_
    exact hK E0 S2 M4 _ _ _ hk hsim hm hH hS (lv_sub hl [0, 1, 2, 3, 4, 5] rfl)
  · have hk := hk.2 c5
    refine lv_iconst (v := 0) C.hx C.hb dL_law_1359 (by decide) ?_
    exact hk.elim
def wl_c20 (L : Nat) (xs : Nat → Int32) (K : tc_E → tc_S → mm_S → Prop) (i : Int32) (E0 : tc_E) (s0 : tc_S) (m0 : mm_S) : Prop := wp_X1_sounding (tm E0 m0) (fun r1 S2 => wp_X6_sounding (fun r3 M4 => ((r1 = r3 → K E0 S2 M4) ∧ (¬ r1 = r3 → False)))  m0)  s0
set_option maxHeartbeats 4000000 in
theorem tl_c20 {p : Program} {l : Launch} {e : Env} {s : State} {m : MethodId} {b L : Nat} {xs : Nat → Int32} {below : List Frame} {meth : Method} {c : Code} {cells slots : Nat} {Q : State → Prop} {K : tc_E → tc_S → mm_S → Prop} {i : Int32} {E0 : tc_E} {s0 : tc_S} {m0 : mm_S} {H : Heap} {locs : List Loc} {ls : Array Slot} (hl0 : l.stackTraces = false) (C : tc_C p m c code 9 s #[.ref b] RX0 E0) (hX : va_X b L xs s s.heap) (hbl : b < s.heap.size) (hbA : ∀ q : Nat, ¬ eb E0 ≤ b) (hcr : cells + 12 ≤ 1203072 ∧ slots + 260 ≤ 5394730) (hm : tl_m E0) (hH : tc_ok (tm E0 m0) s0 H) (hS : va_S (fun q => eb E0 ≤ q) s.heap H locs) (hl : lv_has ls 9 [(0, .ref b), (1, .ref (ea E0 (0, 0))), (2, .ref (ea E0 (20, 0))), (3, .ref (ea E0 (22, 0))), (4, .ref (ea E0 (23, 0))), (5, .int i)]) (hK : tl_K K p l e s m b below meth c cells slots Q i E0) (hk : wl_c20 L xs K i E0 s0 m0) : W p l e room_1 s m #[.ref b] below meth c H locs cells slots Q (F0 m 1361 ls []) := by
  unfold wl_c20 at hk
  have hsim := tc_sim.rf E0
  refine lv_aload_n C.hx C.hb dL_law_1361 rfl (lv_at hl 1 rfl) ?_
  refine tc_run (tc_rV (As := []) (rest := []) (L := (0, 0)) (ci := 0) (fs := tc_gfs (tm E0 m0) s0) (q := (RX1, TX1, 13)) (C.sim (tm_sim E0 m0)) hH.g rfl rfl (t_X1_sounding l hk) (cwV 0 C.hts (lw_V q408 q409 q410 q53 q411) rfl rfl rfl (by decide +kernel) ⟨Nat.le_of_ble_eq_true rfl, Nat.le_of_ble_eq_true rfl⟩) hH hS rfl hl.1 rfl (lv_room (Nat.le_of_ble_eq_true rfl)) dL_law_1362 (lw_le0 hcr)) hS (fun r1 S2 H locs hk hH hS => ?_)
  refine W.eq (g2 := F0 m 1365 ls [.int r1]) rfl ?_
  refine lv_aload_n C.hx C.hb dL_law_1365 rfl (lv_at hl 2 rfl) ?_
  refine tl_i (As := []) (rest := [.int r1]) C hH hm hS (t_X6_sounding l hk) (cwV 0 C.hts (lw_V q1472 q1473 q1474 q65 q1475) rfl rfl rfl (by decide +kernel) ⟨Nat.le_of_ble_eq_true rfl, Nat.le_of_ble_eq_true rfl⟩) rfl hl.1 rfl (lv_room (Nat.le_of_ble_eq_true rfl)) dL_law_1366 (lw_le0 hcr) (fun r3 M4 H locs hk hH hS => ?_)
  refine W.eq (g2 := F0 m 1369 ls [.int r3, .int r1]) rfl ?_
  refine lv_icmp_eq (tgt := 2100) C.hx C.hb dL_law_1369 (by decide) (fun c5 => ?_) (fun c5 => ?_)
  · have hk := hk.1 c5
    refine W.widen (k := cells + KC) (n := slots + KS) (by show cells ≤ cells + 12; omega) (by show slots ≤ slots + 260; omega) ?_
    exact hK E0 S2 M4 _ _ _ hk hsim hm hH hS (lv_sub hl [0, 1, 2, 3, 4, 5] rfl)
  · have hk := hk.2 c5
    refine lv_iconst (v := 0) C.hx C.hb dL_law_1372 (by decide) ?_
    exact hk.elim
def wl_c21 (L : Nat) (xs : Nat → Int32) (K : tc_E → tc_S → mm_S → Prop) (i : Int32) (E0 : tc_E) (s0 : tc_S) (m0 : mm_S) : Prop := (vp_in (i + 1) L ∧ ∀ v2, v2 = xs (i + 1).toNatClampNeg → ww_X0_stateOf (tm E0 m0) (fun r3 E9 S5 => ∃ E4, E9 = tm E4 m0 ∧ tl_same E0 E4 ∧ tl_m E4 ∧ (vp_in (i + 1) L ∧ ∀ v7, v7 = xs (i + 1).toNatClampNeg → wp_X6_stateOf (fun r8 M9 => wp_X6_thrown (fun r10 M11 => ((r10 = r3 → ((¬ r3 = 0 → K E4 S5 M11) ∧ (r3 = 0 → ((22, 0) ∈ eL E4 ∧ ∃ f14, ew E4 (22, 0) = .inl (ec E4 2, 1, .inr (.inl f14)) ∧ (((lg_cmp (f14 (0 : Int32).toNatClampNeg) r8.toInt64) = 0 → K E4 S5 M11) ∧ (¬ (lg_cmp (f14 (0 : Int32).toNatClampNeg) r8.toInt64) = 0 → False)))))) ∧ (¬ r10 = r3 → False)))  M9) v7 m0)) v2 s0)
set_option maxHeartbeats 4000000 in
theorem tl_c21 {p : Program} {l : Launch} {e : Env} {s : State} {m : MethodId} {b L : Nat} {xs : Nat → Int32} {below : List Frame} {meth : Method} {c : Code} {cells slots : Nat} {Q : State → Prop} {K : tc_E → tc_S → mm_S → Prop} {i : Int32} {E0 : tc_E} {s0 : tc_S} {m0 : mm_S} {H : Heap} {locs : List Loc} {ls : Array Slot} (hl0 : l.stackTraces = false) (C : tc_C p m c code 9 s #[.ref b] RX0 E0) (hX : va_X b L xs s s.heap) (hbl : b < s.heap.size) (hbA : ∀ q : Nat, ¬ eb E0 ≤ b) (hcr : cells + 12 ≤ 1203072 ∧ slots + 260 ≤ 5394730) (hm : tl_m E0) (hH : tc_ok (tm E0 m0) s0 H) (hS : va_S (fun q => eb E0 ≤ q) s.heap H locs) (hl : lv_has ls 9 [(0, .ref b), (1, .ref (ea E0 (0, 0))), (2, .ref (ea E0 (20, 0))), (3, .ref (ea E0 (22, 0))), (4, .ref (ea E0 (23, 0))), (5, .int i)]) (hK : tl_K K p l e s m b below meth c cells slots Q i E0) (hk : wl_c21 L xs K i E0 s0 m0) : W p l e room_1 s m #[.ref b] below meth c H locs cells slots Q (F0 m 1374 ls []) := by
  unfold wl_c21 at hk
  have hsim := tc_sim.rf E0
  refine lv_aload_n C.hx C.hb dL_law_1374 rfl (lv_at hl 1 rfl) ?_
  refine lv_aload_n C.hx C.hb dL_law_1375 rfl (lv_at hl 0 rfl) ?_
  refine lv_iload C.hx C.hb dL_law_1376 (lv_at hl 5 rfl) ?_
  refine lv_iconst (v := 1) C.hx C.hb dL_law_1378 (by decide) ?_
  refine lv_iadd C.hx C.hb dL_law_1379 ?_
  obtain ⟨h1, hk⟩ := hk
  refine va_sld C.hx C.hb hX hbl (hbA 0) hS h1 dL_law_1380 ?_
  refine lv_topi (fun v2 ev2 => ?_)
  have hk := hk v2 ev2
  refine lv_aload_n C.hx C.hb dL_law_1381 rfl (lv_at hl 3 rfl) ?_
  refine tl_w (As := [.ref (ea E0 (0, 0)), .int v2, .ref (ea E0 (22, 0))]) (rest := []) C hH hS (t_X0_stateOf l hl0 hk) (vx_cwSW 3 C.hts (lw_SW q1124 q1125 q52 q1126) rfl rfl rfl (by decide +kernel) ⟨Nat.le_of_ble_eq_true rfl, Nat.le_of_ble_eq_true rfl⟩) rfl hl.1 rfl (lv_room (Nat.le_of_ble_eq_true rfl)) dL_law_1382 ⟨by show cells + 1 ≤ 1203072; omega, by show slots + 6 ≤ 5394730; omega⟩ (fun r3 E9 S5 H locs hk hsm hH hS => ?_)
  obtain ⟨E4, rfl, hsa, hm, hk⟩ := hk
  have hsim2 : tc_sim E0 E4 := hsm
  have C := C.sim hsim2
  rw [← hsim2.1] at hS
  have hsim := hsim.trans hsim2
  have hbA : ∀ q : Nat, ¬ eb E4 ≤ b := fun _ => by rw [hsim2.1]; exact hbA 0
  have hl : lv_has ls 9 [(0, .ref b), (1, .ref (ea E4 (0, 0))), (2, .ref (ea E4 (20, 0))), (3, .ref (ea E4 (22, 0))), (4, .ref (ea E4 (23, 0))), (5, .int i)] := by rw [hsa.1, hsa.2.1, hsa.2.2.1, hsa.2.2.2]; exact hl
  refine W.eq (g2 := F0 m 1385 ls [.int r3]) rfl ?_
  refine lv_istore (lv' := [(6, .int r3), (0, .ref b), (1, .ref (ea E4 (0, 0))), (2, .ref (ea E4 (20, 0))), (3, .ref (ea E4 (22, 0))), (4, .ref (ea E4 (23, 0))), (5, .int i)]) C.hx C.hb dL_law_1385 hl (by decide) rfl (fun ls hl => ?_)
  refine lv_aload_n C.hx C.hb dL_law_1387 rfl (lv_at hl 3 rfl) ?_
  refine lv_aload_n C.hx C.hb dL_law_1388 rfl (lv_at hl 1 rfl) ?_
  refine lv_iload C.hx C.hb dL_law_1389 (lv_at hl 6 rfl) ?_
  refine lv_iconst (v := 1) C.hx C.hb dL_law_1391 (by decide) ?_
  refine lv_iadd C.hx C.hb dL_law_1392 ?_
  obtain ⟨h6, hk⟩ := hk
  refine va_sld C.hx C.hb hX hbl (hbA 0) hS h6 dL_law_1393 ?_
  refine lv_topi (fun v7 ev7 => ?_)
  have hk := hk v7 ev7
  refine tl_i (As := [.int v7]) (rest := []) C hH hm hS (t_X6_stateOf l hk) (cwV 1 C.hts (lw_V q1476 q1477 q1478 q65 q1479) rfl rfl rfl (by decide +kernel) ⟨Nat.le_of_ble_eq_true rfl, Nat.le_of_ble_eq_true rfl⟩) rfl hl.1 rfl (lv_room (Nat.le_of_ble_eq_true rfl)) dL_law_1394 (lw_le hcr) (fun r8 M9 H locs hk hH hS => ?_)
  refine W.eq (g2 := F0 m 1397 ls [.int r8]) rfl ?_
  refine lv_istore (lv' := [(7, .int r8), (6, .int r3), (0, .ref b), (1, .ref (ea E4 (0, 0))), (2, .ref (ea E4 (20, 0))), (3, .ref (ea E4 (22, 0))), (4, .ref (ea E4 (23, 0))), (5, .int i)]) C.hx C.hb dL_law_1397 hl (by decide) rfl (fun ls hl => ?_)
  refine lv_aload_n C.hx C.hb dL_law_1399 rfl (lv_at hl 4 rfl) ?_
  refine tl_i (As := []) (rest := []) C hH hm hS (t_X6_thrown l hk) (cwV 0 C.hts (lw_V q1321 q1322 q1323 q65 q1324) rfl rfl rfl (by decide +kernel) ⟨Nat.le_of_ble_eq_true rfl, Nat.le_of_ble_eq_true rfl⟩) rfl hl.1 rfl (lv_room (Nat.le_of_ble_eq_true rfl)) dL_law_1400 (lw_le hcr) (fun r10 M11 H locs hk hH hS => ?_)
  refine W.eq (g2 := F0 m 1403 ls [.int r10]) rfl ?_
  refine lv_iload C.hx C.hb dL_law_1403 (lv_at hl 1 rfl) ?_
  refine lv_icmp_eq (tgt := 1410) C.hx C.hb dL_law_1405 (by decide) (fun c12 => ?_) (fun c12 => ?_)
  · have hk := hk.1 c12
    refine lv_iload C.hx C.hb dL_law_1410 (lv_at hl 1 rfl) ?_
    refine lv_if_ne (tgt := 1427) C.hx C.hb dL_law_1412 (by decide) (fun c13 => ?_) (fun c13 => ?_)
    · have hk := hk.1 c13
      refine lv_goto (tgt := 2100) C.hx C.hb dL_law_1427 (by decide) ?_
      refine W.widen (k := cells + KC) (n := slots + KS) (by show cells + 1 ≤ cells + 12; omega) (by show slots + 6 ≤ slots + 260; omega) ?_
      exact hK E4 S5 M11 _ _ _ hk hsim hm hH hS (lv_sub hl [2, 3, 4, 5, 6, 7] rfl)
    · have hk := hk.2 c13
      refine lv_aload_n C.hx C.hb dL_law_1415 rfl (lv_at hl 5 rfl) ?_
      refine lv_iconst (v := 0) C.hx C.hb dL_law_1416 (by decide) ?_
      obtain ⟨h15, f14, h16, hk⟩ := hk
      refine tl_lald C hH h15 h16 dL_law_1417 ?_
      refine lv_iload C.hx C.hb dL_law_1418 (lv_at hl 0 rfl) ?_
      refine lv_i2l C.hx C.hb dL_law_1420 rfl ?_
      refine W.lcmp C.hx C.hb dL_law_1421 ?_
      refine lv_if_eq (tgt := 1427) C.hx C.hb dL_law_1422 (by decide) (fun c17 => ?_) (fun c17 => ?_)
      · have hk := hk.1 c17
        refine lv_goto (tgt := 2100) C.hx C.hb dL_law_1427 (by decide) ?_
        refine W.widen (k := cells + KC) (n := slots + KS) (by show cells + 1 ≤ cells + 12; omega) (by show slots + 6 ≤ slots + 260; omega) ?_
        exact hK E4 S5 M11 _ _ _ hk hsim hm hH hS (lv_sub hl [2, 3, 4, 5, 6, 7] rfl)
      · have hk := hk.2 c17
        refine lv_iconst (v := 0) C.hx C.hb dL_law_1425 (by decide) ?_
        exact hk.elim
  · have hk := hk.2 c12
    refine lv_iconst (v := 0) C.hx C.hb dL_law_1408 (by decide) ?_
    exact hk.elim
def wl_c22 (L : Nat) (xs : Nat → Int32) (K : tc_E → tc_S → mm_S → Prop) (i : Int32) (E0 : tc_E) (s0 : tc_S) (m0 : mm_S) : Prop := (vp_in (i + 1) L ∧ ∀ v2, v2 = xs (i + 1).toNatClampNeg → ww_X0_keyOf (tm E0 m0) (fun r3 E9 S5 => ∃ E4, E9 = tm E4 m0 ∧ tl_same E0 E4 ∧ tl_m E4 ∧ (vp_in (i + 1) L ∧ ∀ v7, v7 = xs (i + 1).toNatClampNeg → wp_X6_keyOf (fun r8 M9 => wp_X6_thrown (fun r10 M11 => ((r10 = r3 → ((¬ r3 = 0 → K E4 S5 M11) ∧ (r3 = 0 → ((22, 0) ∈ eL E4 ∧ ∃ f14, ew E4 (22, 0) = .inl (ec E4 2, 1, .inr (.inl f14)) ∧ (((lg_cmp (f14 (0 : Int32).toNatClampNeg) r8.toInt64) = 0 → K E4 S5 M11) ∧ (¬ (lg_cmp (f14 (0 : Int32).toNatClampNeg) r8.toInt64) = 0 → False)))))) ∧ (¬ r10 = r3 → False)))  M9) v7 m0)) v2 s0)
set_option maxHeartbeats 4000000 in
theorem tl_c22 {p : Program} {l : Launch} {e : Env} {s : State} {m : MethodId} {b L : Nat} {xs : Nat → Int32} {below : List Frame} {meth : Method} {c : Code} {cells slots : Nat} {Q : State → Prop} {K : tc_E → tc_S → mm_S → Prop} {i : Int32} {E0 : tc_E} {s0 : tc_S} {m0 : mm_S} {H : Heap} {locs : List Loc} {ls : Array Slot} (hl0 : l.stackTraces = false) (C : tc_C p m c code 9 s #[.ref b] RX0 E0) (hX : va_X b L xs s s.heap) (hbl : b < s.heap.size) (hbA : ∀ q : Nat, ¬ eb E0 ≤ b) (hcr : cells + 12 ≤ 1203072 ∧ slots + 260 ≤ 5394730) (hm : tl_m E0) (hH : tc_ok (tm E0 m0) s0 H) (hS : va_S (fun q => eb E0 ≤ q) s.heap H locs) (hl : lv_has ls 9 [(0, .ref b), (1, .ref (ea E0 (0, 0))), (2, .ref (ea E0 (20, 0))), (3, .ref (ea E0 (22, 0))), (4, .ref (ea E0 (23, 0))), (5, .int i)]) (hK : tl_K K p l e s m b below meth c cells slots Q i E0) (hk : wl_c22 L xs K i E0 s0 m0) : W p l e room_1 s m #[.ref b] below meth c H locs cells slots Q (F0 m 1430 ls []) := by
  unfold wl_c22 at hk
  have hsim := tc_sim.rf E0
  refine lv_aload_n C.hx C.hb dL_law_1430 rfl (lv_at hl 1 rfl) ?_
  refine lv_aload_n C.hx C.hb dL_law_1431 rfl (lv_at hl 0 rfl) ?_
  refine lv_iload C.hx C.hb dL_law_1432 (lv_at hl 5 rfl) ?_
  refine lv_iconst (v := 1) C.hx C.hb dL_law_1434 (by decide) ?_
  refine lv_iadd C.hx C.hb dL_law_1435 ?_
  obtain ⟨h1, hk⟩ := hk
  refine va_sld C.hx C.hb hX hbl (hbA 0) hS h1 dL_law_1436 ?_
  refine lv_topi (fun v2 ev2 => ?_)
  have hk := hk v2 ev2
  refine lv_aload_n C.hx C.hb dL_law_1437 rfl (lv_at hl 3 rfl) ?_
  refine tl_w (As := [.ref (ea E0 (0, 0)), .int v2, .ref (ea E0 (22, 0))]) (rest := []) C hH hS (t_X0_keyOf l hl0 hk) (vx_cwSW 3 C.hts (lw_SW q1136 q1137 q52 q1138) rfl rfl rfl (by decide +kernel) ⟨Nat.le_of_ble_eq_true rfl, Nat.le_of_ble_eq_true rfl⟩) rfl hl.1 rfl (lv_room (Nat.le_of_ble_eq_true rfl)) dL_law_1438 ⟨by show cells + 2 ≤ 1203072; omega, by show slots + 12 ≤ 5394730; omega⟩ (fun r3 E9 S5 H locs hk hsm hH hS => ?_)
  obtain ⟨E4, rfl, hsa, hm, hk⟩ := hk
  have hsim2 : tc_sim E0 E4 := hsm
  have C := C.sim hsim2
  rw [← hsim2.1] at hS
  have hsim := hsim.trans hsim2
  have hbA : ∀ q : Nat, ¬ eb E4 ≤ b := fun _ => by rw [hsim2.1]; exact hbA 0
  have hl : lv_has ls 9 [(0, .ref b), (1, .ref (ea E4 (0, 0))), (2, .ref (ea E4 (20, 0))), (3, .ref (ea E4 (22, 0))), (4, .ref (ea E4 (23, 0))), (5, .int i)] := by rw [hsa.1, hsa.2.1, hsa.2.2.1, hsa.2.2.2]; exact hl
  refine W.eq (g2 := F0 m 1441 ls [.int r3]) rfl ?_
  refine lv_istore (lv' := [(6, .int r3), (0, .ref b), (1, .ref (ea E4 (0, 0))), (2, .ref (ea E4 (20, 0))), (3, .ref (ea E4 (22, 0))), (4, .ref (ea E4 (23, 0))), (5, .int i)]) C.hx C.hb dL_law_1441 hl (by decide) rfl (fun ls hl => ?_)
  refine lv_aload_n C.hx C.hb dL_law_1443 rfl (lv_at hl 3 rfl) ?_
  refine lv_aload_n C.hx C.hb dL_law_1444 rfl (lv_at hl 1 rfl) ?_
  refine lv_iload C.hx C.hb dL_law_1445 (lv_at hl 6 rfl) ?_
  refine lv_iconst (v := 1) C.hx C.hb dL_law_1447 (by decide) ?_
  refine lv_iadd C.hx C.hb dL_law_1448 ?_
  obtain ⟨h6, hk⟩ := hk
  refine va_sld C.hx C.hb hX hbl (hbA 0) hS h6 dL_law_1449 ?_
  refine lv_topi (fun v7 ev7 => ?_)
  have hk := hk v7 ev7
  refine tl_i (As := [.int v7]) (rest := []) C hH hm hS (t_X6_keyOf l hk) (cwV 1 C.hts (lw_V q1483 q1484 q1485 q65 q1486) rfl rfl rfl (by decide +kernel) ⟨Nat.le_of_ble_eq_true rfl, Nat.le_of_ble_eq_true rfl⟩) rfl hl.1 rfl (lv_room (Nat.le_of_ble_eq_true rfl)) dL_law_1450 (lw_le hcr) (fun r8 M9 H locs hk hH hS => ?_)
  refine W.eq (g2 := F0 m 1453 ls [.int r8]) rfl ?_
  refine lv_istore (lv' := [(7, .int r8), (6, .int r3), (0, .ref b), (1, .ref (ea E4 (0, 0))), (2, .ref (ea E4 (20, 0))), (3, .ref (ea E4 (22, 0))), (4, .ref (ea E4 (23, 0))), (5, .int i)]) C.hx C.hb dL_law_1453 hl (by decide) rfl (fun ls hl => ?_)
  refine lv_aload_n C.hx C.hb dL_law_1455 rfl (lv_at hl 4 rfl) ?_
  refine tl_i (As := []) (rest := []) C hH hm hS (t_X6_thrown l hk) (cwV 0 C.hts (lw_V q1321 q1322 q1323 q65 q1324) rfl rfl rfl (by decide +kernel) ⟨Nat.le_of_ble_eq_true rfl, Nat.le_of_ble_eq_true rfl⟩) rfl hl.1 rfl (lv_room (Nat.le_of_ble_eq_true rfl)) dL_law_1456 (lw_le hcr) (fun r10 M11 H locs hk hH hS => ?_)
  refine W.eq (g2 := F0 m 1459 ls [.int r10]) rfl ?_
  refine lv_iload C.hx C.hb dL_law_1459 (lv_at hl 1 rfl) ?_
  refine lv_icmp_eq (tgt := 1466) C.hx C.hb dL_law_1461 (by decide) (fun c12 => ?_) (fun c12 => ?_)
  · have hk := hk.1 c12
    refine lv_iload C.hx C.hb dL_law_1466 (lv_at hl 1 rfl) ?_
    refine lv_if_ne (tgt := 1483) C.hx C.hb dL_law_1468 (by decide) (fun c13 => ?_) (fun c13 => ?_)
    · have hk := hk.1 c13
      refine lv_goto (tgt := 2100) C.hx C.hb dL_law_1483 (by decide) ?_
      refine W.widen (k := cells + KC) (n := slots + KS) (by show cells + 2 ≤ cells + 12; omega) (by show slots + 12 ≤ slots + 260; omega) ?_
      exact hK E4 S5 M11 _ _ _ hk hsim hm hH hS (lv_sub hl [2, 3, 4, 5, 6, 7] rfl)
    · have hk := hk.2 c13
      refine lv_aload_n C.hx C.hb dL_law_1471 rfl (lv_at hl 5 rfl) ?_
      refine lv_iconst (v := 0) C.hx C.hb dL_law_1472 (by decide) ?_
      obtain ⟨h15, f14, h16, hk⟩ := hk
      refine tl_lald C hH h15 h16 dL_law_1473 ?_
      refine lv_iload C.hx C.hb dL_law_1474 (lv_at hl 0 rfl) ?_
      refine lv_i2l C.hx C.hb dL_law_1476 rfl ?_
      refine W.lcmp C.hx C.hb dL_law_1477 ?_
      refine lv_if_eq (tgt := 1483) C.hx C.hb dL_law_1478 (by decide) (fun c17 => ?_) (fun c17 => ?_)
      · have hk := hk.1 c17
        refine lv_goto (tgt := 2100) C.hx C.hb dL_law_1483 (by decide) ?_
        refine W.widen (k := cells + KC) (n := slots + KS) (by show cells + 2 ≤ cells + 12; omega) (by show slots + 12 ≤ slots + 260; omega) ?_
        exact hK E4 S5 M11 _ _ _ hk hsim hm hH hS (lv_sub hl [2, 3, 4, 5, 6, 7] rfl)
      · have hk := hk.2 c17
        refine lv_iconst (v := 0) C.hx C.hb dL_law_1481 (by decide) ?_
        exact hk.elim
  · have hk := hk.2 c12
    refine lv_iconst (v := 0) C.hx C.hb dL_law_1464 (by decide) ?_
    exact hk.elim
def wl_c23 (L : Nat) (xs : Nat → Int32) (K : tc_E → tc_S → mm_S → Prop) (i : Int32) (E0 : tc_E) (s0 : tc_S) (m0 : mm_S) : Prop := (vp_in (i + 1) L ∧ ∀ v2, v2 = xs (i + 1).toNatClampNeg → ww_X0_levelOf (tm E0 m0) (fun r3 E9 S5 => ∃ E4, E9 = tm E4 m0 ∧ tl_same E0 E4 ∧ tl_m E4 ∧ (vp_in (i + 1) L ∧ ∀ v7, v7 = xs (i + 1).toNatClampNeg → wp_X6_levelOf (fun r8 M9 => wp_X6_thrown (fun r10 M11 => ((r10 = r3 → ((¬ r3 = 0 → K E4 S5 M11) ∧ (r3 = 0 → ((22, 0) ∈ eL E4 ∧ ∃ f14, ew E4 (22, 0) = .inl (ec E4 2, 1, .inr (.inl f14)) ∧ (((lg_cmp (f14 (0 : Int32).toNatClampNeg) r8.toInt64) = 0 → K E4 S5 M11) ∧ (¬ (lg_cmp (f14 (0 : Int32).toNatClampNeg) r8.toInt64) = 0 → False)))))) ∧ (¬ r10 = r3 → False)))  M9) v7 m0)) v2 s0)
set_option maxHeartbeats 4000000 in
theorem tl_c23 {p : Program} {l : Launch} {e : Env} {s : State} {m : MethodId} {b L : Nat} {xs : Nat → Int32} {below : List Frame} {meth : Method} {c : Code} {cells slots : Nat} {Q : State → Prop} {K : tc_E → tc_S → mm_S → Prop} {i : Int32} {E0 : tc_E} {s0 : tc_S} {m0 : mm_S} {H : Heap} {locs : List Loc} {ls : Array Slot} (hl0 : l.stackTraces = false) (C : tc_C p m c code 9 s #[.ref b] RX0 E0) (hX : va_X b L xs s s.heap) (hbl : b < s.heap.size) (hbA : ∀ q : Nat, ¬ eb E0 ≤ b) (hcr : cells + 12 ≤ 1203072 ∧ slots + 260 ≤ 5394730) (hm : tl_m E0) (hH : tc_ok (tm E0 m0) s0 H) (hS : va_S (fun q => eb E0 ≤ q) s.heap H locs) (hl : lv_has ls 9 [(0, .ref b), (1, .ref (ea E0 (0, 0))), (2, .ref (ea E0 (20, 0))), (3, .ref (ea E0 (22, 0))), (4, .ref (ea E0 (23, 0))), (5, .int i)]) (hK : tl_K K p l e s m b below meth c cells slots Q i E0) (hk : wl_c23 L xs K i E0 s0 m0) : W p l e room_1 s m #[.ref b] below meth c H locs cells slots Q (F0 m 1486 ls []) := by
  unfold wl_c23 at hk
  have hsim := tc_sim.rf E0
  refine lv_aload_n C.hx C.hb dL_law_1486 rfl (lv_at hl 1 rfl) ?_
  refine lv_aload_n C.hx C.hb dL_law_1487 rfl (lv_at hl 0 rfl) ?_
  refine lv_iload C.hx C.hb dL_law_1488 (lv_at hl 5 rfl) ?_
  refine lv_iconst (v := 1) C.hx C.hb dL_law_1490 (by decide) ?_
  refine lv_iadd C.hx C.hb dL_law_1491 ?_
  obtain ⟨h1, hk⟩ := hk
  refine va_sld C.hx C.hb hX hbl (hbA 0) hS h1 dL_law_1492 ?_
  refine lv_topi (fun v2 ev2 => ?_)
  have hk := hk v2 ev2
  refine lv_aload_n C.hx C.hb dL_law_1493 rfl (lv_at hl 3 rfl) ?_
  refine tl_w (As := [.ref (ea E0 (0, 0)), .int v2, .ref (ea E0 (22, 0))]) (rest := []) C hH hS (t_X0_levelOf l hl0 hk) (vx_cwSW 3 C.hts (lw_SW q1147 q1148 q52 q1149) rfl rfl rfl (by decide +kernel) ⟨Nat.le_of_ble_eq_true rfl, Nat.le_of_ble_eq_true rfl⟩) rfl hl.1 rfl (lv_room (Nat.le_of_ble_eq_true rfl)) dL_law_1494 ⟨by show cells + 1 ≤ 1203072; omega, by show slots + 6 ≤ 5394730; omega⟩ (fun r3 E9 S5 H locs hk hsm hH hS => ?_)
  obtain ⟨E4, rfl, hsa, hm, hk⟩ := hk
  have hsim2 : tc_sim E0 E4 := hsm
  have C := C.sim hsim2
  rw [← hsim2.1] at hS
  have hsim := hsim.trans hsim2
  have hbA : ∀ q : Nat, ¬ eb E4 ≤ b := fun _ => by rw [hsim2.1]; exact hbA 0
  have hl : lv_has ls 9 [(0, .ref b), (1, .ref (ea E4 (0, 0))), (2, .ref (ea E4 (20, 0))), (3, .ref (ea E4 (22, 0))), (4, .ref (ea E4 (23, 0))), (5, .int i)] := by rw [hsa.1, hsa.2.1, hsa.2.2.1, hsa.2.2.2]; exact hl
  refine W.eq (g2 := F0 m 1497 ls [.int r3]) rfl ?_
  refine lv_istore (lv' := [(6, .int r3), (0, .ref b), (1, .ref (ea E4 (0, 0))), (2, .ref (ea E4 (20, 0))), (3, .ref (ea E4 (22, 0))), (4, .ref (ea E4 (23, 0))), (5, .int i)]) C.hx C.hb dL_law_1497 hl (by decide) rfl (fun ls hl => ?_)
  refine lv_aload_n C.hx C.hb dL_law_1499 rfl (lv_at hl 3 rfl) ?_
  refine lv_aload_n C.hx C.hb dL_law_1500 rfl (lv_at hl 1 rfl) ?_
  refine lv_iload C.hx C.hb dL_law_1501 (lv_at hl 6 rfl) ?_
  refine lv_iconst (v := 1) C.hx C.hb dL_law_1503 (by decide) ?_
  refine lv_iadd C.hx C.hb dL_law_1504 ?_
  obtain ⟨h6, hk⟩ := hk
  refine va_sld C.hx C.hb hX hbl (hbA 0) hS h6 dL_law_1505 ?_
  refine lv_topi (fun v7 ev7 => ?_)
  have hk := hk v7 ev7
  refine tl_i (As := [.int v7]) (rest := []) C hH hm hS (t_X6_levelOf l hk) (cwV 1 C.hts (lw_V q1491 q1492 q1493 q65 q1494) rfl rfl rfl (by decide +kernel) ⟨Nat.le_of_ble_eq_true rfl, Nat.le_of_ble_eq_true rfl⟩) rfl hl.1 rfl (lv_room (Nat.le_of_ble_eq_true rfl)) dL_law_1506 (lw_le hcr) (fun r8 M9 H locs hk hH hS => ?_)
  refine W.eq (g2 := F0 m 1509 ls [.int r8]) rfl ?_
  refine lv_istore (lv' := [(7, .int r8), (6, .int r3), (0, .ref b), (1, .ref (ea E4 (0, 0))), (2, .ref (ea E4 (20, 0))), (3, .ref (ea E4 (22, 0))), (4, .ref (ea E4 (23, 0))), (5, .int i)]) C.hx C.hb dL_law_1509 hl (by decide) rfl (fun ls hl => ?_)
  refine lv_aload_n C.hx C.hb dL_law_1511 rfl (lv_at hl 4 rfl) ?_
  refine tl_i (As := []) (rest := []) C hH hm hS (t_X6_thrown l hk) (cwV 0 C.hts (lw_V q1321 q1322 q1323 q65 q1324) rfl rfl rfl (by decide +kernel) ⟨Nat.le_of_ble_eq_true rfl, Nat.le_of_ble_eq_true rfl⟩) rfl hl.1 rfl (lv_room (Nat.le_of_ble_eq_true rfl)) dL_law_1512 (lw_le hcr) (fun r10 M11 H locs hk hH hS => ?_)
  refine W.eq (g2 := F0 m 1515 ls [.int r10]) rfl ?_
  refine lv_iload C.hx C.hb dL_law_1515 (lv_at hl 1 rfl) ?_
  refine lv_icmp_eq (tgt := 1522) C.hx C.hb dL_law_1517 (by decide) (fun c12 => ?_) (fun c12 => ?_)
  · have hk := hk.1 c12
    refine lv_iload C.hx C.hb dL_law_1522 (lv_at hl 1 rfl) ?_
    refine lv_if_ne (tgt := 1539) C.hx C.hb dL_law_1524 (by decide) (fun c13 => ?_) (fun c13 => ?_)
    · have hk := hk.1 c13
      refine lv_goto (tgt := 2100) C.hx C.hb dL_law_1539 (by decide) ?_
      refine W.widen (k := cells + KC) (n := slots + KS) (by show cells + 1 ≤ cells + 12; omega) (by show slots + 6 ≤ slots + 260; omega) ?_
      exact hK E4 S5 M11 _ _ _ hk hsim hm hH hS (lv_sub hl [2, 3, 4, 5, 6, 7] rfl)
    · have hk := hk.2 c13
      refine lv_aload_n C.hx C.hb dL_law_1527 rfl (lv_at hl 5 rfl) ?_
      refine lv_iconst (v := 0) C.hx C.hb dL_law_1528 (by decide) ?_
      obtain ⟨h15, f14, h16, hk⟩ := hk
      refine tl_lald C hH h15 h16 dL_law_1529 ?_
      refine lv_iload C.hx C.hb dL_law_1530 (lv_at hl 0 rfl) ?_
      refine lv_i2l C.hx C.hb dL_law_1532 rfl ?_
      refine W.lcmp C.hx C.hb dL_law_1533 ?_
      refine lv_if_eq (tgt := 1539) C.hx C.hb dL_law_1534 (by decide) (fun c17 => ?_) (fun c17 => ?_)
      · have hk := hk.1 c17
        refine lv_goto (tgt := 2100) C.hx C.hb dL_law_1539 (by decide) ?_
        refine W.widen (k := cells + KC) (n := slots + KS) (by show cells + 1 ≤ cells + 12; omega) (by show slots + 6 ≤ slots + 260; omega) ?_
        exact hK E4 S5 M11 _ _ _ hk hsim hm hH hS (lv_sub hl [2, 3, 4, 5, 6, 7] rfl)
      · have hk := hk.2 c17
        refine lv_iconst (v := 0) C.hx C.hb dL_law_1537 (by decide) ?_
        exact hk.elim
  · have hk := hk.2 c12
    refine lv_iconst (v := 0) C.hx C.hb dL_law_1520 (by decide) ?_
    exact hk.elim
def wl_c24 (L : Nat) (xs : Nat → Int32) (K : tc_E → tc_S → mm_S → Prop) (i : Int32) (E0 : tc_E) (s0 : tc_S) (m0 : mm_S) : Prop := (vp_in (i + 1) L ∧ ∀ v2, v2 = xs (i + 1).toNatClampNeg → ww_X0_phaseOf (tm E0 m0) (fun r3 E9 S5 => ∃ E4, E9 = tm E4 m0 ∧ tl_same E0 E4 ∧ tl_m E4 ∧ (vp_in (i + 1) L ∧ ∀ v7, v7 = xs (i + 1).toNatClampNeg → wp_X6_phaseOf (fun r8 M9 => wp_X6_thrown (fun r10 M11 => ((r10 = r3 → ((¬ r3 = 0 → K E4 S5 M11) ∧ (r3 = 0 → ((22, 0) ∈ eL E4 ∧ ∃ f14, ew E4 (22, 0) = .inl (ec E4 2, 1, .inr (.inl f14)) ∧ (((lg_cmp (f14 (0 : Int32).toNatClampNeg) r8.toInt64) = 0 → K E4 S5 M11) ∧ (¬ (lg_cmp (f14 (0 : Int32).toNatClampNeg) r8.toInt64) = 0 → False)))))) ∧ (¬ r10 = r3 → False)))  M9) v7 m0)) v2 s0)
set_option maxHeartbeats 4000000 in
theorem tl_c24 {p : Program} {l : Launch} {e : Env} {s : State} {m : MethodId} {b L : Nat} {xs : Nat → Int32} {below : List Frame} {meth : Method} {c : Code} {cells slots : Nat} {Q : State → Prop} {K : tc_E → tc_S → mm_S → Prop} {i : Int32} {E0 : tc_E} {s0 : tc_S} {m0 : mm_S} {H : Heap} {locs : List Loc} {ls : Array Slot} (hl0 : l.stackTraces = false) (C : tc_C p m c code 9 s #[.ref b] RX0 E0) (hX : va_X b L xs s s.heap) (hbl : b < s.heap.size) (hbA : ∀ q : Nat, ¬ eb E0 ≤ b) (hcr : cells + 12 ≤ 1203072 ∧ slots + 260 ≤ 5394730) (hm : tl_m E0) (hH : tc_ok (tm E0 m0) s0 H) (hS : va_S (fun q => eb E0 ≤ q) s.heap H locs) (hl : lv_has ls 9 [(0, .ref b), (1, .ref (ea E0 (0, 0))), (2, .ref (ea E0 (20, 0))), (3, .ref (ea E0 (22, 0))), (4, .ref (ea E0 (23, 0))), (5, .int i)]) (hK : tl_K K p l e s m b below meth c cells slots Q i E0) (hk : wl_c24 L xs K i E0 s0 m0) : W p l e room_1 s m #[.ref b] below meth c H locs cells slots Q (F0 m 1542 ls []) := by
  unfold wl_c24 at hk
  have hsim := tc_sim.rf E0
  refine lv_aload_n C.hx C.hb dL_law_1542 rfl (lv_at hl 1 rfl) ?_
  refine lv_aload_n C.hx C.hb dL_law_1543 rfl (lv_at hl 0 rfl) ?_
  refine lv_iload C.hx C.hb dL_law_1544 (lv_at hl 5 rfl) ?_
  refine lv_iconst (v := 1) C.hx C.hb dL_law_1546 (by decide) ?_
  refine lv_iadd C.hx C.hb dL_law_1547 ?_
  obtain ⟨h1, hk⟩ := hk
  refine va_sld C.hx C.hb hX hbl (hbA 0) hS h1 dL_law_1548 ?_
  refine lv_topi (fun v2 ev2 => ?_)
  have hk := hk v2 ev2
  refine lv_aload_n C.hx C.hb dL_law_1549 rfl (lv_at hl 3 rfl) ?_
  refine tl_w (As := [.ref (ea E0 (0, 0)), .int v2, .ref (ea E0 (22, 0))]) (rest := []) C hH hS (t_X0_phaseOf l hl0 hk) (vx_cwSW 3 C.hts (lw_SW q1154 q1155 q52 q1156) rfl rfl rfl (by decide +kernel) ⟨Nat.le_of_ble_eq_true rfl, Nat.le_of_ble_eq_true rfl⟩) rfl hl.1 rfl (lv_room (Nat.le_of_ble_eq_true rfl)) dL_law_1550 ⟨by show cells + 2 ≤ 1203072; omega, by show slots + 12 ≤ 5394730; omega⟩ (fun r3 E9 S5 H locs hk hsm hH hS => ?_)
  obtain ⟨E4, rfl, hsa, hm, hk⟩ := hk
  have hsim2 : tc_sim E0 E4 := hsm
  have C := C.sim hsim2
  rw [← hsim2.1] at hS
  have hsim := hsim.trans hsim2
  have hbA : ∀ q : Nat, ¬ eb E4 ≤ b := fun _ => by rw [hsim2.1]; exact hbA 0
  have hl : lv_has ls 9 [(0, .ref b), (1, .ref (ea E4 (0, 0))), (2, .ref (ea E4 (20, 0))), (3, .ref (ea E4 (22, 0))), (4, .ref (ea E4 (23, 0))), (5, .int i)] := by rw [hsa.1, hsa.2.1, hsa.2.2.1, hsa.2.2.2]; exact hl
  refine W.eq (g2 := F0 m 1553 ls [.int r3]) rfl ?_
  refine lv_istore (lv' := [(6, .int r3), (0, .ref b), (1, .ref (ea E4 (0, 0))), (2, .ref (ea E4 (20, 0))), (3, .ref (ea E4 (22, 0))), (4, .ref (ea E4 (23, 0))), (5, .int i)]) C.hx C.hb dL_law_1553 hl (by decide) rfl (fun ls hl => ?_)
  refine lv_aload_n C.hx C.hb dL_law_1555 rfl (lv_at hl 3 rfl) ?_
  refine lv_aload_n C.hx C.hb dL_law_1556 rfl (lv_at hl 1 rfl) ?_
  refine lv_iload C.hx C.hb dL_law_1557 (lv_at hl 6 rfl) ?_
  refine lv_iconst (v := 1) C.hx C.hb dL_law_1559 (by decide) ?_
  refine lv_iadd C.hx C.hb dL_law_1560 ?_
  obtain ⟨h6, hk⟩ := hk
  refine va_sld C.hx C.hb hX hbl (hbA 0) hS h6 dL_law_1561 ?_
  refine lv_topi (fun v7 ev7 => ?_)
  have hk := hk v7 ev7
  refine tl_i (As := [.int v7]) (rest := []) C hH hm hS (t_X6_phaseOf l hk) (cwV 1 C.hts (lw_V q1495 q1496 q1497 q65 q1498) rfl rfl rfl (by decide +kernel) ⟨Nat.le_of_ble_eq_true rfl, Nat.le_of_ble_eq_true rfl⟩) rfl hl.1 rfl (lv_room (Nat.le_of_ble_eq_true rfl)) dL_law_1562 (lw_le hcr) (fun r8 M9 H locs hk hH hS => ?_)
  refine W.eq (g2 := F0 m 1565 ls [.int r8]) rfl ?_
  refine lv_istore (lv' := [(7, .int r8), (6, .int r3), (0, .ref b), (1, .ref (ea E4 (0, 0))), (2, .ref (ea E4 (20, 0))), (3, .ref (ea E4 (22, 0))), (4, .ref (ea E4 (23, 0))), (5, .int i)]) C.hx C.hb dL_law_1565 hl (by decide) rfl (fun ls hl => ?_)
  refine lv_aload_n C.hx C.hb dL_law_1567 rfl (lv_at hl 4 rfl) ?_
  refine tl_i (As := []) (rest := []) C hH hm hS (t_X6_thrown l hk) (cwV 0 C.hts (lw_V q1321 q1322 q1323 q65 q1324) rfl rfl rfl (by decide +kernel) ⟨Nat.le_of_ble_eq_true rfl, Nat.le_of_ble_eq_true rfl⟩) rfl hl.1 rfl (lv_room (Nat.le_of_ble_eq_true rfl)) dL_law_1568 (lw_le hcr) (fun r10 M11 H locs hk hH hS => ?_)
  refine W.eq (g2 := F0 m 1571 ls [.int r10]) rfl ?_
  refine lv_iload C.hx C.hb dL_law_1571 (lv_at hl 1 rfl) ?_
  refine lv_icmp_eq (tgt := 1578) C.hx C.hb dL_law_1573 (by decide) (fun c12 => ?_) (fun c12 => ?_)
  · have hk := hk.1 c12
    refine lv_iload C.hx C.hb dL_law_1578 (lv_at hl 1 rfl) ?_
    refine lv_if_ne (tgt := 1595) C.hx C.hb dL_law_1580 (by decide) (fun c13 => ?_) (fun c13 => ?_)
    · have hk := hk.1 c13
      refine lv_goto (tgt := 2100) C.hx C.hb dL_law_1595 (by decide) ?_
      refine W.widen (k := cells + KC) (n := slots + KS) (by show cells + 2 ≤ cells + 12; omega) (by show slots + 12 ≤ slots + 260; omega) ?_
      exact hK E4 S5 M11 _ _ _ hk hsim hm hH hS (lv_sub hl [2, 3, 4, 5, 6, 7] rfl)
    · have hk := hk.2 c13
      refine lv_aload_n C.hx C.hb dL_law_1583 rfl (lv_at hl 5 rfl) ?_
      refine lv_iconst (v := 0) C.hx C.hb dL_law_1584 (by decide) ?_
      obtain ⟨h15, f14, h16, hk⟩ := hk
      refine tl_lald C hH h15 h16 dL_law_1585 ?_
      refine lv_iload C.hx C.hb dL_law_1586 (lv_at hl 0 rfl) ?_
      refine lv_i2l C.hx C.hb dL_law_1588 rfl ?_
      refine W.lcmp C.hx C.hb dL_law_1589 ?_
      refine lv_if_eq (tgt := 1595) C.hx C.hb dL_law_1590 (by decide) (fun c17 => ?_) (fun c17 => ?_)
      · have hk := hk.1 c17
        refine lv_goto (tgt := 2100) C.hx C.hb dL_law_1595 (by decide) ?_
        refine W.widen (k := cells + KC) (n := slots + KS) (by show cells + 2 ≤ cells + 12; omega) (by show slots + 12 ≤ slots + 260; omega) ?_
        exact hK E4 S5 M11 _ _ _ hk hsim hm hH hS (lv_sub hl [2, 3, 4, 5, 6, 7] rfl)
      · have hk := hk.2 c17
        refine lv_iconst (v := 0) C.hx C.hb dL_law_1593 (by decide) ?_
        exact hk.elim
  · have hk := hk.2 c12
    refine lv_iconst (v := 0) C.hx C.hb dL_law_1576 (by decide) ?_
    exact hk.elim
def wl_c25 (L : Nat) (xs : Nat → Int32) (K : tc_E → tc_S → mm_S → Prop) (i : Int32) (E0 : tc_E) (s0 : tc_S) (m0 : mm_S) : Prop := wp_X1_stolen (tm E0 m0) (fun r1 S2 => wp_X6_stolen (fun r3 M4 => ((r1 = r3 → K E0 S2 M4) ∧ (¬ r1 = r3 → False)))  m0)  s0
set_option maxHeartbeats 4000000 in
theorem tl_c25 {p : Program} {l : Launch} {e : Env} {s : State} {m : MethodId} {b L : Nat} {xs : Nat → Int32} {below : List Frame} {meth : Method} {c : Code} {cells slots : Nat} {Q : State → Prop} {K : tc_E → tc_S → mm_S → Prop} {i : Int32} {E0 : tc_E} {s0 : tc_S} {m0 : mm_S} {H : Heap} {locs : List Loc} {ls : Array Slot} (hl0 : l.stackTraces = false) (C : tc_C p m c code 9 s #[.ref b] RX0 E0) (hX : va_X b L xs s s.heap) (hbl : b < s.heap.size) (hbA : ∀ q : Nat, ¬ eb E0 ≤ b) (hcr : cells + 12 ≤ 1203072 ∧ slots + 260 ≤ 5394730) (hm : tl_m E0) (hH : tc_ok (tm E0 m0) s0 H) (hS : va_S (fun q => eb E0 ≤ q) s.heap H locs) (hl : lv_has ls 9 [(0, .ref b), (1, .ref (ea E0 (0, 0))), (2, .ref (ea E0 (20, 0))), (3, .ref (ea E0 (22, 0))), (4, .ref (ea E0 (23, 0))), (5, .int i)]) (hK : tl_K K p l e s m b below meth c cells slots Q i E0) (hk : wl_c25 L xs K i E0 s0 m0) : W p l e room_1 s m #[.ref b] below meth c H locs cells slots Q (F0 m 1598 ls []) := by
  unfold wl_c25 at hk
  have hsim := tc_sim.rf E0
  refine lv_aload_n C.hx C.hb dL_law_1598 rfl (lv_at hl 1 rfl) ?_
  refine tc_run (tc_rV (As := []) (rest := []) (L := (0, 0)) (ci := 0) (fs := tc_gfs (tm E0 m0) s0) (q := (RX1, TX1, 13)) (C.sim (tm_sim E0 m0)) hH.g rfl rfl (t_X1_stolen l hk) (cwV 0 C.hts (lw_V q412 q413 q414 q53 q415) rfl rfl rfl (by decide +kernel) ⟨Nat.le_of_ble_eq_true rfl, Nat.le_of_ble_eq_true rfl⟩) hH hS rfl hl.1 rfl (lv_room (Nat.le_of_ble_eq_true rfl)) dL_law_1599 (lw_le0 hcr)) hS (fun r1 S2 H locs hk hH hS => ?_)
  refine W.eq (g2 := F0 m 1602 ls [.int r1]) rfl ?_
  refine lv_aload_n C.hx C.hb dL_law_1602 rfl (lv_at hl 2 rfl) ?_
  refine tl_i (As := []) (rest := [.int r1]) C hH hm hS (t_X6_stolen l hk) (cwV 0 C.hts (lw_V q1499 q1500 q1501 q65 q1502) rfl rfl rfl (by decide +kernel) ⟨Nat.le_of_ble_eq_true rfl, Nat.le_of_ble_eq_true rfl⟩) rfl hl.1 rfl (lv_room (Nat.le_of_ble_eq_true rfl)) dL_law_1603 (lw_le0 hcr) (fun r3 M4 H locs hk hH hS => ?_)
  refine W.eq (g2 := F0 m 1606 ls [.int r3, .int r1]) rfl ?_
  refine lv_icmp_eq (tgt := 2100) C.hx C.hb dL_law_1606 (by decide) (fun c5 => ?_) (fun c5 => ?_)
  · have hk := hk.1 c5
    refine W.widen (k := cells + KC) (n := slots + KS) (by show cells ≤ cells + 12; omega) (by show slots ≤ slots + 260; omega) ?_
    exact hK E0 S2 M4 _ _ _ hk hsim hm hH hS (lv_sub hl [0, 1, 2, 3, 4, 5] rfl)
  · have hk := hk.2 c5
    refine lv_iconst (v := 0) C.hx C.hb dL_law_1609 (by decide) ?_
    exact hk.elim
def wl_c26 (L : Nat) (xs : Nat → Int32) (K : tc_E → tc_S → mm_S → Prop) (i : Int32) (E0 : tc_E) (s0 : tc_S) (m0 : mm_S) : Prop := (vp_in (i + 1) L ∧ ∀ v2, v2 = xs (i + 1).toNatClampNeg → ww_X0_play (tm E0 m0) (fun r3 E9 S5 => ∃ E4, E9 = tm E4 m0 ∧ tl_same E0 E4 ∧ tl_m E4 ∧ (vp_in (i + 1) L ∧ ∀ v7, v7 = xs (i + 1).toNatClampNeg → wp_X6_play (fun r8 M9 => wp_X6_thrown (fun r10 M11 => ((r10 = r3 → ((¬ r3 = 0 → K E4 S5 M11) ∧ (r3 = 0 → ((22, 0) ∈ eL E4 ∧ ∃ f14, ew E4 (22, 0) = .inl (ec E4 2, 1, .inr (.inl f14)) ∧ (((lg_cmp (f14 (0 : Int32).toNatClampNeg) r8.toInt64) = 0 → K E4 S5 M11) ∧ (¬ (lg_cmp (f14 (0 : Int32).toNatClampNeg) r8.toInt64) = 0 → False)))))) ∧ (¬ r10 = r3 → False)))  M9) v7 m0)) v2 s0)
set_option maxHeartbeats 4000000 in
theorem tl_c26 {p : Program} {l : Launch} {e : Env} {s : State} {m : MethodId} {b L : Nat} {xs : Nat → Int32} {below : List Frame} {meth : Method} {c : Code} {cells slots : Nat} {Q : State → Prop} {K : tc_E → tc_S → mm_S → Prop} {i : Int32} {E0 : tc_E} {s0 : tc_S} {m0 : mm_S} {H : Heap} {locs : List Loc} {ls : Array Slot} (hl0 : l.stackTraces = false) (C : tc_C p m c code 9 s #[.ref b] RX0 E0) (hX : va_X b L xs s s.heap) (hbl : b < s.heap.size) (hbA : ∀ q : Nat, ¬ eb E0 ≤ b) (hcr : cells + 12 ≤ 1203072 ∧ slots + 260 ≤ 5394730) (hm : tl_m E0) (hH : tc_ok (tm E0 m0) s0 H) (hS : va_S (fun q => eb E0 ≤ q) s.heap H locs) (hl : lv_has ls 9 [(0, .ref b), (1, .ref (ea E0 (0, 0))), (2, .ref (ea E0 (20, 0))), (3, .ref (ea E0 (22, 0))), (4, .ref (ea E0 (23, 0))), (5, .int i)]) (hK : tl_K K p l e s m b below meth c cells slots Q i E0) (hk : wl_c26 L xs K i E0 s0 m0) : W p l e room_1 s m #[.ref b] below meth c H locs cells slots Q (F0 m 1611 ls []) := by
  unfold wl_c26 at hk
  have hsim := tc_sim.rf E0
  refine lv_aload_n C.hx C.hb dL_law_1611 rfl (lv_at hl 1 rfl) ?_
  refine lv_aload_n C.hx C.hb dL_law_1612 rfl (lv_at hl 0 rfl) ?_
  refine lv_iload C.hx C.hb dL_law_1613 (lv_at hl 5 rfl) ?_
  refine lv_iconst (v := 1) C.hx C.hb dL_law_1615 (by decide) ?_
  refine lv_iadd C.hx C.hb dL_law_1616 ?_
  obtain ⟨h1, hk⟩ := hk
  refine va_sld C.hx C.hb hX hbl (hbA 0) hS h1 dL_law_1617 ?_
  refine lv_topi (fun v2 ev2 => ?_)
  have hk := hk v2 ev2
  refine lv_aload_n C.hx C.hb dL_law_1618 rfl (lv_at hl 3 rfl) ?_
  refine tl_w (As := [.ref (ea E0 (0, 0)), .int v2, .ref (ea E0 (22, 0))]) (rest := []) C hH hS (t_X0_play l hl0 hk) (vx_cwSW 3 C.hts (lw_SW q1161 q1162 q52 q1163) rfl rfl rfl (by decide +kernel) ⟨Nat.le_of_ble_eq_true rfl, Nat.le_of_ble_eq_true rfl⟩) rfl hl.1 rfl (lv_room (Nat.le_of_ble_eq_true rfl)) dL_law_1619 ⟨by show cells + 1 ≤ 1203072; omega, by show slots + 6 ≤ 5394730; omega⟩ (fun r3 E9 S5 H locs hk hsm hH hS => ?_)
  obtain ⟨E4, rfl, hsa, hm, hk⟩ := hk
  have hsim2 : tc_sim E0 E4 := hsm
  have C := C.sim hsim2
  rw [← hsim2.1] at hS
  have hsim := hsim.trans hsim2
  have hbA : ∀ q : Nat, ¬ eb E4 ≤ b := fun _ => by rw [hsim2.1]; exact hbA 0
  have hl : lv_has ls 9 [(0, .ref b), (1, .ref (ea E4 (0, 0))), (2, .ref (ea E4 (20, 0))), (3, .ref (ea E4 (22, 0))), (4, .ref (ea E4 (23, 0))), (5, .int i)] := by rw [hsa.1, hsa.2.1, hsa.2.2.1, hsa.2.2.2]; exact hl
  refine W.eq (g2 := F0 m 1622 ls [.int r3]) rfl ?_
  refine lv_istore (lv' := [(6, .int r3), (0, .ref b), (1, .ref (ea E4 (0, 0))), (2, .ref (ea E4 (20, 0))), (3, .ref (ea E4 (22, 0))), (4, .ref (ea E4 (23, 0))), (5, .int i)]) C.hx C.hb dL_law_1622 hl (by decide) rfl (fun ls hl => ?_)
  refine lv_aload_n C.hx C.hb dL_law_1624 rfl (lv_at hl 3 rfl) ?_
  refine lv_aload_n C.hx C.hb dL_law_1625 rfl (lv_at hl 1 rfl) ?_
  refine lv_iload C.hx C.hb dL_law_1626 (lv_at hl 6 rfl) ?_
  refine lv_iconst (v := 1) C.hx C.hb dL_law_1628 (by decide) ?_
  refine lv_iadd C.hx C.hb dL_law_1629 ?_
  obtain ⟨h6, hk⟩ := hk
  refine va_sld C.hx C.hb hX hbl (hbA 0) hS h6 dL_law_1630 ?_
  refine lv_topi (fun v7 ev7 => ?_)
  have hk := hk v7 ev7
  refine tl_i (As := [.int v7]) (rest := []) C hH hm hS (t_X6_play l hk) (cwV 1 C.hts (lw_V q1503 q1504 q1505 q65 q1506) rfl rfl rfl (by decide +kernel) ⟨Nat.le_of_ble_eq_true rfl, Nat.le_of_ble_eq_true rfl⟩) rfl hl.1 rfl (lv_room (Nat.le_of_ble_eq_true rfl)) dL_law_1631 (lw_le hcr) (fun r8 M9 H locs hk hH hS => ?_)
  refine W.eq (g2 := F0 m 1634 ls [.int r8]) rfl ?_
  refine lv_istore (lv' := [(7, .int r8), (6, .int r3), (0, .ref b), (1, .ref (ea E4 (0, 0))), (2, .ref (ea E4 (20, 0))), (3, .ref (ea E4 (22, 0))), (4, .ref (ea E4 (23, 0))), (5, .int i)]) C.hx C.hb dL_law_1634 hl (by decide) rfl (fun ls hl => ?_)
  refine lv_aload_n C.hx C.hb dL_law_1636 rfl (lv_at hl 4 rfl) ?_
  refine tl_i (As := []) (rest := []) C hH hm hS (t_X6_thrown l hk) (cwV 0 C.hts (lw_V q1321 q1322 q1323 q65 q1324) rfl rfl rfl (by decide +kernel) ⟨Nat.le_of_ble_eq_true rfl, Nat.le_of_ble_eq_true rfl⟩) rfl hl.1 rfl (lv_room (Nat.le_of_ble_eq_true rfl)) dL_law_1637 (lw_le hcr) (fun r10 M11 H locs hk hH hS => ?_)
  refine W.eq (g2 := F0 m 1640 ls [.int r10]) rfl ?_
  refine lv_iload C.hx C.hb dL_law_1640 (lv_at hl 1 rfl) ?_
  refine lv_icmp_eq (tgt := 1647) C.hx C.hb dL_law_1642 (by decide) (fun c12 => ?_) (fun c12 => ?_)
  · have hk := hk.1 c12
    refine lv_iload C.hx C.hb dL_law_1647 (lv_at hl 1 rfl) ?_
    refine lv_if_ne (tgt := 1664) C.hx C.hb dL_law_1649 (by decide) (fun c13 => ?_) (fun c13 => ?_)
    · have hk := hk.1 c13
      refine lv_goto (tgt := 2100) C.hx C.hb dL_law_1664 (by decide) ?_
      refine W.widen (k := cells + KC) (n := slots + KS) (by show cells + 1 ≤ cells + 12; omega) (by show slots + 6 ≤ slots + 260; omega) ?_
      exact hK E4 S5 M11 _ _ _ hk hsim hm hH hS (lv_sub hl [2, 3, 4, 5, 6, 7] rfl)
    · have hk := hk.2 c13
      refine lv_aload_n C.hx C.hb dL_law_1652 rfl (lv_at hl 5 rfl) ?_
      refine lv_iconst (v := 0) C.hx C.hb dL_law_1653 (by decide) ?_
      obtain ⟨h15, f14, h16, hk⟩ := hk
      refine tl_lald C hH h15 h16 dL_law_1654 ?_
      refine lv_iload C.hx C.hb dL_law_1655 (lv_at hl 0 rfl) ?_
      refine lv_i2l C.hx C.hb dL_law_1657 rfl ?_
      refine W.lcmp C.hx C.hb dL_law_1658 ?_
      refine lv_if_eq (tgt := 1664) C.hx C.hb dL_law_1659 (by decide) (fun c17 => ?_) (fun c17 => ?_)
      · have hk := hk.1 c17
        refine lv_goto (tgt := 2100) C.hx C.hb dL_law_1664 (by decide) ?_
        refine W.widen (k := cells + KC) (n := slots + KS) (by show cells + 1 ≤ cells + 12; omega) (by show slots + 6 ≤ slots + 260; omega) ?_
        exact hK E4 S5 M11 _ _ _ hk hsim hm hH hS (lv_sub hl [2, 3, 4, 5, 6, 7] rfl)
      · have hk := hk.2 c17
        refine lv_iconst (v := 0) C.hx C.hb dL_law_1662 (by decide) ?_
        exact hk.elim
  · have hk := hk.2 c12
    refine lv_iconst (v := 0) C.hx C.hb dL_law_1645 (by decide) ?_
    exact hk.elim
def wl_c27 (L : Nat) (xs : Nat → Int32) (K : tc_E → tc_S → mm_S → Prop) (i : Int32) (E0 : tc_E) (s0 : tc_S) (m0 : mm_S) : Prop := wp_X1_step (tm E0 m0) (fun r1 S2 => wp_X6_step (fun r3 M4 => ((r1 = r3 → K E0 S2 M4) ∧ (¬ r1 = r3 → False)))  m0)  s0
set_option maxHeartbeats 4000000 in
theorem tl_c27 {p : Program} {l : Launch} {e : Env} {s : State} {m : MethodId} {b L : Nat} {xs : Nat → Int32} {below : List Frame} {meth : Method} {c : Code} {cells slots : Nat} {Q : State → Prop} {K : tc_E → tc_S → mm_S → Prop} {i : Int32} {E0 : tc_E} {s0 : tc_S} {m0 : mm_S} {H : Heap} {locs : List Loc} {ls : Array Slot} (hl0 : l.stackTraces = false) (C : tc_C p m c code 9 s #[.ref b] RX0 E0) (hX : va_X b L xs s s.heap) (hbl : b < s.heap.size) (hbA : ∀ q : Nat, ¬ eb E0 ≤ b) (hcr : cells + 12 ≤ 1203072 ∧ slots + 260 ≤ 5394730) (hm : tl_m E0) (hH : tc_ok (tm E0 m0) s0 H) (hS : va_S (fun q => eb E0 ≤ q) s.heap H locs) (hl : lv_has ls 9 [(0, .ref b), (1, .ref (ea E0 (0, 0))), (2, .ref (ea E0 (20, 0))), (3, .ref (ea E0 (22, 0))), (4, .ref (ea E0 (23, 0))), (5, .int i)]) (hK : tl_K K p l e s m b below meth c cells slots Q i E0) (hk : wl_c27 L xs K i E0 s0 m0) : W p l e room_1 s m #[.ref b] below meth c H locs cells slots Q (F0 m 1667 ls []) := by
  unfold wl_c27 at hk
  have hsim := tc_sim.rf E0
  refine lv_aload_n C.hx C.hb dL_law_1667 rfl (lv_at hl 1 rfl) ?_
  refine tc_run (tc_rV (As := []) (rest := []) (L := (0, 0)) (ci := 0) (fs := tc_gfs (tm E0 m0) s0) (q := (RX1, TX1, 13)) (C.sim (tm_sim E0 m0)) hH.g rfl rfl (t_X1_step l hk) (cwV 0 C.hts (lw_V q416 q417 q418 q53 q419) rfl rfl rfl (by decide +kernel) ⟨Nat.le_of_ble_eq_true rfl, Nat.le_of_ble_eq_true rfl⟩) hH hS rfl hl.1 rfl (lv_room (Nat.le_of_ble_eq_true rfl)) dL_law_1668 (lw_le0 hcr)) hS (fun r1 S2 H locs hk hH hS => ?_)
  refine W.eq (g2 := F0 m 1671 ls [.int r1]) rfl ?_
  refine lv_aload_n C.hx C.hb dL_law_1671 rfl (lv_at hl 2 rfl) ?_
  refine tl_i (As := []) (rest := [.int r1]) C hH hm hS (t_X6_step l hk) (cwV 0 C.hts (lw_V q1556 q1557 q1558 q65 q1559) rfl rfl rfl (by decide +kernel) ⟨Nat.le_of_ble_eq_true rfl, Nat.le_of_ble_eq_true rfl⟩) rfl hl.1 rfl (lv_room (Nat.le_of_ble_eq_true rfl)) dL_law_1672 (lw_le0 hcr) (fun r3 M4 H locs hk hH hS => ?_)
  refine W.eq (g2 := F0 m 1675 ls [.int r3, .int r1]) rfl ?_
  refine lv_icmp_eq (tgt := 2100) C.hx C.hb dL_law_1675 (by decide) (fun c5 => ?_) (fun c5 => ?_)
  · have hk := hk.1 c5
    refine W.widen (k := cells + KC) (n := slots + KS) (by show cells ≤ cells + 12; omega) (by show slots ≤ slots + 260; omega) ?_
    exact hK E0 S2 M4 _ _ _ hk hsim hm hH hS (lv_sub hl [0, 1, 2, 3, 4, 5] rfl)
  · have hk := hk.2 c5
    refine lv_iconst (v := 0) C.hx C.hb dL_law_1678 (by decide) ?_
    exact hk.elim
def wl_c28 (L : Nat) (xs : Nat → Int32) (K : tc_E → tc_S → mm_S → Prop) (i : Int32) (E0 : tc_E) (s0 : tc_S) (m0 : mm_S) : Prop := (vp_in (i + 1) L ∧ ∀ v2, v2 = xs (i + 1).toNatClampNeg → ww_X0_ahead (tm E0 m0) (fun r3 E9 S5 => ∃ E4, E9 = tm E4 m0 ∧ tl_same E0 E4 ∧ tl_m E4 ∧ (vp_in (i + 1) L ∧ ∀ v7, v7 = xs (i + 1).toNatClampNeg → wp_X6_ahead (fun r8 M9 => wp_X6_thrown (fun r10 M11 => ((r10 = r3 → ((¬ r3 = 0 → K E4 S5 M11) ∧ (r3 = 0 → ((22, 0) ∈ eL E4 ∧ ∃ f14, ew E4 (22, 0) = .inl (ec E4 2, 1, .inr (.inl f14)) ∧ (((lg_cmp (f14 (0 : Int32).toNatClampNeg) r8.toInt64) = 0 → K E4 S5 M11) ∧ (¬ (lg_cmp (f14 (0 : Int32).toNatClampNeg) r8.toInt64) = 0 → False)))))) ∧ (¬ r10 = r3 → False)))  M9) v7 m0)) v2 s0)
set_option maxHeartbeats 4000000 in
theorem tl_c28 {p : Program} {l : Launch} {e : Env} {s : State} {m : MethodId} {b L : Nat} {xs : Nat → Int32} {below : List Frame} {meth : Method} {c : Code} {cells slots : Nat} {Q : State → Prop} {K : tc_E → tc_S → mm_S → Prop} {i : Int32} {E0 : tc_E} {s0 : tc_S} {m0 : mm_S} {H : Heap} {locs : List Loc} {ls : Array Slot} (hl0 : l.stackTraces = false) (C : tc_C p m c code 9 s #[.ref b] RX0 E0) (hX : va_X b L xs s s.heap) (hbl : b < s.heap.size) (hbA : ∀ q : Nat, ¬ eb E0 ≤ b) (hcr : cells + 12 ≤ 1203072 ∧ slots + 260 ≤ 5394730) (hm : tl_m E0) (hH : tc_ok (tm E0 m0) s0 H) (hS : va_S (fun q => eb E0 ≤ q) s.heap H locs) (hl : lv_has ls 9 [(0, .ref b), (1, .ref (ea E0 (0, 0))), (2, .ref (ea E0 (20, 0))), (3, .ref (ea E0 (22, 0))), (4, .ref (ea E0 (23, 0))), (5, .int i)]) (hK : tl_K K p l e s m b below meth c cells slots Q i E0) (hk : wl_c28 L xs K i E0 s0 m0) : W p l e room_1 s m #[.ref b] below meth c H locs cells slots Q (F0 m 1680 ls []) := by
  unfold wl_c28 at hk
  have hsim := tc_sim.rf E0
  refine lv_aload_n C.hx C.hb dL_law_1680 rfl (lv_at hl 1 rfl) ?_
  refine lv_aload_n C.hx C.hb dL_law_1681 rfl (lv_at hl 0 rfl) ?_
  refine lv_iload C.hx C.hb dL_law_1682 (lv_at hl 5 rfl) ?_
  refine lv_iconst (v := 1) C.hx C.hb dL_law_1684 (by decide) ?_
  refine lv_iadd C.hx C.hb dL_law_1685 ?_
  obtain ⟨h1, hk⟩ := hk
  refine va_sld C.hx C.hb hX hbl (hbA 0) hS h1 dL_law_1686 ?_
  refine lv_topi (fun v2 ev2 => ?_)
  have hk := hk v2 ev2
  refine lv_aload_n C.hx C.hb dL_law_1687 rfl (lv_at hl 3 rfl) ?_
  refine tl_w (As := [.ref (ea E0 (0, 0)), .int v2, .ref (ea E0 (22, 0))]) (rest := []) C hH hS (t_X0_ahead l hl0 hk) (vx_cwSW 3 C.hts (lw_SW q1168 q1169 q52 q1170) rfl rfl rfl (by decide +kernel) ⟨Nat.le_of_ble_eq_true rfl, Nat.le_of_ble_eq_true rfl⟩) rfl hl.1 rfl (lv_room (Nat.le_of_ble_eq_true rfl)) dL_law_1688 ⟨by show cells + 1 ≤ 1203072; omega, by show slots + 6 ≤ 5394730; omega⟩ (fun r3 E9 S5 H locs hk hsm hH hS => ?_)
  obtain ⟨E4, rfl, hsa, hm, hk⟩ := hk
  have hsim2 : tc_sim E0 E4 := hsm
  have C := C.sim hsim2
  rw [← hsim2.1] at hS
  have hsim := hsim.trans hsim2
  have hbA : ∀ q : Nat, ¬ eb E4 ≤ b := fun _ => by rw [hsim2.1]; exact hbA 0
  have hl : lv_has ls 9 [(0, .ref b), (1, .ref (ea E4 (0, 0))), (2, .ref (ea E4 (20, 0))), (3, .ref (ea E4 (22, 0))), (4, .ref (ea E4 (23, 0))), (5, .int i)] := by rw [hsa.1, hsa.2.1, hsa.2.2.1, hsa.2.2.2]; exact hl
  refine W.eq (g2 := F0 m 1691 ls [.int r3]) rfl ?_
  refine lv_istore (lv' := [(6, .int r3), (0, .ref b), (1, .ref (ea E4 (0, 0))), (2, .ref (ea E4 (20, 0))), (3, .ref (ea E4 (22, 0))), (4, .ref (ea E4 (23, 0))), (5, .int i)]) C.hx C.hb dL_law_1691 hl (by decide) rfl (fun ls hl => ?_)
  refine lv_aload_n C.hx C.hb dL_law_1693 rfl (lv_at hl 3 rfl) ?_
  refine lv_aload_n C.hx C.hb dL_law_1694 rfl (lv_at hl 1 rfl) ?_
  refine lv_iload C.hx C.hb dL_law_1695 (lv_at hl 6 rfl) ?_
  refine lv_iconst (v := 1) C.hx C.hb dL_law_1697 (by decide) ?_
  refine lv_iadd C.hx C.hb dL_law_1698 ?_
  obtain ⟨h6, hk⟩ := hk
  refine va_sld C.hx C.hb hX hbl (hbA 0) hS h6 dL_law_1699 ?_
  refine lv_topi (fun v7 ev7 => ?_)
  have hk := hk v7 ev7
  refine tl_i (As := [.int v7]) (rest := []) C hH hm hS (t_X6_ahead l hk) (cwV 1 C.hts (lw_V q1560 q1561 q1562 q65 q1563) rfl rfl rfl (by decide +kernel) ⟨Nat.le_of_ble_eq_true rfl, Nat.le_of_ble_eq_true rfl⟩) rfl hl.1 rfl (lv_room (Nat.le_of_ble_eq_true rfl)) dL_law_1700 (lw_le hcr) (fun r8 M9 H locs hk hH hS => ?_)
  refine W.eq (g2 := F0 m 1703 ls [.int r8]) rfl ?_
  refine lv_istore (lv' := [(7, .int r8), (6, .int r3), (0, .ref b), (1, .ref (ea E4 (0, 0))), (2, .ref (ea E4 (20, 0))), (3, .ref (ea E4 (22, 0))), (4, .ref (ea E4 (23, 0))), (5, .int i)]) C.hx C.hb dL_law_1703 hl (by decide) rfl (fun ls hl => ?_)
  refine lv_aload_n C.hx C.hb dL_law_1705 rfl (lv_at hl 4 rfl) ?_
  refine tl_i (As := []) (rest := []) C hH hm hS (t_X6_thrown l hk) (cwV 0 C.hts (lw_V q1321 q1322 q1323 q65 q1324) rfl rfl rfl (by decide +kernel) ⟨Nat.le_of_ble_eq_true rfl, Nat.le_of_ble_eq_true rfl⟩) rfl hl.1 rfl (lv_room (Nat.le_of_ble_eq_true rfl)) dL_law_1706 (lw_le hcr) (fun r10 M11 H locs hk hH hS => ?_)
  refine W.eq (g2 := F0 m 1709 ls [.int r10]) rfl ?_
  refine lv_iload C.hx C.hb dL_law_1709 (lv_at hl 1 rfl) ?_
  refine lv_icmp_eq (tgt := 1716) C.hx C.hb dL_law_1711 (by decide) (fun c12 => ?_) (fun c12 => ?_)
  · have hk := hk.1 c12
    refine lv_iload C.hx C.hb dL_law_1716 (lv_at hl 1 rfl) ?_
    refine lv_if_ne (tgt := 1733) C.hx C.hb dL_law_1718 (by decide) (fun c13 => ?_) (fun c13 => ?_)
    · have hk := hk.1 c13
      refine lv_goto (tgt := 2100) C.hx C.hb dL_law_1733 (by decide) ?_
      refine W.widen (k := cells + KC) (n := slots + KS) (by show cells + 1 ≤ cells + 12; omega) (by show slots + 6 ≤ slots + 260; omega) ?_
      exact hK E4 S5 M11 _ _ _ hk hsim hm hH hS (lv_sub hl [2, 3, 4, 5, 6, 7] rfl)
    · have hk := hk.2 c13
      refine lv_aload_n C.hx C.hb dL_law_1721 rfl (lv_at hl 5 rfl) ?_
      refine lv_iconst (v := 0) C.hx C.hb dL_law_1722 (by decide) ?_
      obtain ⟨h15, f14, h16, hk⟩ := hk
      refine tl_lald C hH h15 h16 dL_law_1723 ?_
      refine lv_iload C.hx C.hb dL_law_1724 (lv_at hl 0 rfl) ?_
      refine lv_i2l C.hx C.hb dL_law_1726 rfl ?_
      refine W.lcmp C.hx C.hb dL_law_1727 ?_
      refine lv_if_eq (tgt := 1733) C.hx C.hb dL_law_1728 (by decide) (fun c17 => ?_) (fun c17 => ?_)
      · have hk := hk.1 c17
        refine lv_goto (tgt := 2100) C.hx C.hb dL_law_1733 (by decide) ?_
        refine W.widen (k := cells + KC) (n := slots + KS) (by show cells + 1 ≤ cells + 12; omega) (by show slots + 6 ≤ slots + 260; omega) ?_
        exact hK E4 S5 M11 _ _ _ hk hsim hm hH hS (lv_sub hl [2, 3, 4, 5, 6, 7] rfl)
      · have hk := hk.2 c17
        refine lv_iconst (v := 0) C.hx C.hb dL_law_1731 (by decide) ?_
        exact hk.elim
  · have hk := hk.2 c12
    refine lv_iconst (v := 0) C.hx C.hb dL_law_1714 (by decide) ?_
    exact hk.elim
def wl_c29 (L : Nat) (xs : Nat → Int32) (K : tc_E → tc_S → mm_S → Prop) (i : Int32) (E0 : tc_E) (s0 : tc_S) (m0 : mm_S) : Prop := (vp_in (i + 1) L ∧ ∀ v2, v2 = xs (i + 1).toNatClampNeg → (vp_in (i + 2) L ∧ ∀ v4, v4 = xs (i + 2).toNatClampNeg → ww_X0_aheadByBlocks (tm E0 m0) (fun r5 E9 S7 => ∃ E6, E9 = tm E6 m0 ∧ tl_same E0 E6 ∧ tl_m E6 ∧ (vp_in (i + 1) L ∧ ∀ v9, v9 = xs (i + 1).toNatClampNeg → (vp_in (i + 2) L ∧ ∀ v11, v11 = xs (i + 2).toNatClampNeg → wp_X6_aheadByBlocks (fun r12 M13 => wp_X6_thrown (fun r14 M15 => ((r14 = r5 → ((¬ r5 = 0 → K E6 S7 M15) ∧ (r5 = 0 → ((22, 0) ∈ eL E6 ∧ ∃ f18, ew E6 (22, 0) = .inl (ec E6 2, 1, .inr (.inl f18)) ∧ (((lg_cmp (f18 (0 : Int32).toNatClampNeg) r12.toInt64) = 0 → K E6 S7 M15) ∧ (¬ (lg_cmp (f18 (0 : Int32).toNatClampNeg) r12.toInt64) = 0 → False)))))) ∧ (¬ r14 = r5 → False)))  M13) v9 v11 m0))) v2 v4 s0))
set_option maxHeartbeats 4000000 in
theorem tl_c29 {p : Program} {l : Launch} {e : Env} {s : State} {m : MethodId} {b L : Nat} {xs : Nat → Int32} {below : List Frame} {meth : Method} {c : Code} {cells slots : Nat} {Q : State → Prop} {K : tc_E → tc_S → mm_S → Prop} {i : Int32} {E0 : tc_E} {s0 : tc_S} {m0 : mm_S} {H : Heap} {locs : List Loc} {ls : Array Slot} (hl0 : l.stackTraces = false) (C : tc_C p m c code 9 s #[.ref b] RX0 E0) (hX : va_X b L xs s s.heap) (hbl : b < s.heap.size) (hbA : ∀ q : Nat, ¬ eb E0 ≤ b) (hcr : cells + 12 ≤ 1203072 ∧ slots + 260 ≤ 5394730) (hm : tl_m E0) (hH : tc_ok (tm E0 m0) s0 H) (hS : va_S (fun q => eb E0 ≤ q) s.heap H locs) (hl : lv_has ls 9 [(0, .ref b), (1, .ref (ea E0 (0, 0))), (2, .ref (ea E0 (20, 0))), (3, .ref (ea E0 (22, 0))), (4, .ref (ea E0 (23, 0))), (5, .int i)]) (hK : tl_K K p l e s m b below meth c cells slots Q i E0) (hk : wl_c29 L xs K i E0 s0 m0) : W p l e room_1 s m #[.ref b] below meth c H locs cells slots Q (F0 m 1736 ls []) := by
  unfold wl_c29 at hk
  have hsim := tc_sim.rf E0
  refine lv_aload_n C.hx C.hb dL_law_1736 rfl (lv_at hl 1 rfl) ?_
  refine lv_aload_n C.hx C.hb dL_law_1737 rfl (lv_at hl 0 rfl) ?_
  refine lv_iload C.hx C.hb dL_law_1738 (lv_at hl 5 rfl) ?_
  refine lv_iconst (v := 1) C.hx C.hb dL_law_1740 (by decide) ?_
  refine lv_iadd C.hx C.hb dL_law_1741 ?_
  obtain ⟨h1, hk⟩ := hk
  refine va_sld C.hx C.hb hX hbl (hbA 0) hS h1 dL_law_1742 ?_
  refine lv_topi (fun v2 ev2 => ?_)
  have hk := hk v2 ev2
  refine lv_aload_n C.hx C.hb dL_law_1743 rfl (lv_at hl 0 rfl) ?_
  refine lv_iload C.hx C.hb dL_law_1744 (lv_at hl 5 rfl) ?_
  refine lv_iconst (v := 2) C.hx C.hb dL_law_1746 (by decide) ?_
  refine lv_iadd C.hx C.hb dL_law_1747 ?_
  obtain ⟨h3, hk⟩ := hk
  refine va_sld C.hx C.hb hX hbl (hbA 0) hS h3 dL_law_1748 ?_
  refine lv_topi (fun v4 ev4 => ?_)
  have hk := hk v4 ev4
  refine lv_aload_n C.hx C.hb dL_law_1749 rfl (lv_at hl 3 rfl) ?_
  refine tl_w (As := [.ref (ea E0 (0, 0)), .int v2, .int v4, .ref (ea E0 (22, 0))]) (rest := []) C hH hS (t_X0_aheadByBlocks l hl0 hk) (vx_cwSW 4 C.hts (lw_SW q1172 q1173 q52 q1174) rfl rfl rfl (by decide +kernel) ⟨Nat.le_of_ble_eq_true rfl, Nat.le_of_ble_eq_true rfl⟩) rfl hl.1 rfl (lv_room (Nat.le_of_ble_eq_true rfl)) dL_law_1750 ⟨by show cells + 1 ≤ 1203072; omega, by show slots + 6 ≤ 5394730; omega⟩ (fun r5 E9 S7 H locs hk hsm hH hS => ?_)
  obtain ⟨E6, rfl, hsa, hm, hk⟩ := hk
  have hsim2 : tc_sim E0 E6 := hsm
  have C := C.sim hsim2
  rw [← hsim2.1] at hS
  have hsim := hsim.trans hsim2
  have hbA : ∀ q : Nat, ¬ eb E6 ≤ b := fun _ => by rw [hsim2.1]; exact hbA 0
  have hl : lv_has ls 9 [(0, .ref b), (1, .ref (ea E6 (0, 0))), (2, .ref (ea E6 (20, 0))), (3, .ref (ea E6 (22, 0))), (4, .ref (ea E6 (23, 0))), (5, .int i)] := by rw [hsa.1, hsa.2.1, hsa.2.2.1, hsa.2.2.2]; exact hl
  refine W.eq (g2 := F0 m 1753 ls [.int r5]) rfl ?_
  refine lv_istore (lv' := [(6, .int r5), (0, .ref b), (1, .ref (ea E6 (0, 0))), (2, .ref (ea E6 (20, 0))), (3, .ref (ea E6 (22, 0))), (4, .ref (ea E6 (23, 0))), (5, .int i)]) C.hx C.hb dL_law_1753 hl (by decide) rfl (fun ls hl => ?_)
  refine lv_aload_n C.hx C.hb dL_law_1755 rfl (lv_at hl 3 rfl) ?_
  refine lv_aload_n C.hx C.hb dL_law_1756 rfl (lv_at hl 1 rfl) ?_
  refine lv_iload C.hx C.hb dL_law_1757 (lv_at hl 6 rfl) ?_
  refine lv_iconst (v := 1) C.hx C.hb dL_law_1759 (by decide) ?_
  refine lv_iadd C.hx C.hb dL_law_1760 ?_
  obtain ⟨h8, hk⟩ := hk
  refine va_sld C.hx C.hb hX hbl (hbA 0) hS h8 dL_law_1761 ?_
  refine lv_topi (fun v9 ev9 => ?_)
  have hk := hk v9 ev9
  refine lv_aload_n C.hx C.hb dL_law_1762 rfl (lv_at hl 1 rfl) ?_
  refine lv_iload C.hx C.hb dL_law_1763 (lv_at hl 6 rfl) ?_
  refine lv_iconst (v := 2) C.hx C.hb dL_law_1765 (by decide) ?_
  refine lv_iadd C.hx C.hb dL_law_1766 ?_
  obtain ⟨h10, hk⟩ := hk
  refine va_sld C.hx C.hb hX hbl (hbA 0) hS h10 dL_law_1767 ?_
  refine lv_topi (fun v11 ev11 => ?_)
  have hk := hk v11 ev11
  refine tl_i (As := [.int v9, .int v11]) (rest := []) C hH hm hS (t_X6_aheadByBlocks l hk) (cwV 2 C.hts (lw_V q1568 q1569 q1570 q65 q1571) rfl rfl rfl (by decide +kernel) ⟨Nat.le_of_ble_eq_true rfl, Nat.le_of_ble_eq_true rfl⟩) rfl hl.1 rfl (lv_room (Nat.le_of_ble_eq_true rfl)) dL_law_1768 (lw_le hcr) (fun r12 M13 H locs hk hH hS => ?_)
  refine W.eq (g2 := F0 m 1771 ls [.int r12]) rfl ?_
  refine lv_istore (lv' := [(7, .int r12), (6, .int r5), (0, .ref b), (1, .ref (ea E6 (0, 0))), (2, .ref (ea E6 (20, 0))), (3, .ref (ea E6 (22, 0))), (4, .ref (ea E6 (23, 0))), (5, .int i)]) C.hx C.hb dL_law_1771 hl (by decide) rfl (fun ls hl => ?_)
  refine lv_aload_n C.hx C.hb dL_law_1773 rfl (lv_at hl 4 rfl) ?_
  refine tl_i (As := []) (rest := []) C hH hm hS (t_X6_thrown l hk) (cwV 0 C.hts (lw_V q1321 q1322 q1323 q65 q1324) rfl rfl rfl (by decide +kernel) ⟨Nat.le_of_ble_eq_true rfl, Nat.le_of_ble_eq_true rfl⟩) rfl hl.1 rfl (lv_room (Nat.le_of_ble_eq_true rfl)) dL_law_1774 (lw_le hcr) (fun r14 M15 H locs hk hH hS => ?_)
  refine W.eq (g2 := F0 m 1777 ls [.int r14]) rfl ?_
  refine lv_iload C.hx C.hb dL_law_1777 (lv_at hl 1 rfl) ?_
  refine lv_icmp_eq (tgt := 1784) C.hx C.hb dL_law_1779 (by decide) (fun c16 => ?_) (fun c16 => ?_)
  · have hk := hk.1 c16
    refine lv_iload C.hx C.hb dL_law_1784 (lv_at hl 1 rfl) ?_
    refine lv_if_ne (tgt := 1801) C.hx C.hb dL_law_1786 (by decide) (fun c17 => ?_) (fun c17 => ?_)
    · have hk := hk.1 c17
      refine lv_goto (tgt := 2100) C.hx C.hb dL_law_1801 (by decide) ?_
      refine W.widen (k := cells + KC) (n := slots + KS) (by show cells + 1 ≤ cells + 12; omega) (by show slots + 6 ≤ slots + 260; omega) ?_
      exact hK E6 S7 M15 _ _ _ hk hsim hm hH hS (lv_sub hl [2, 3, 4, 5, 6, 7] rfl)
    · have hk := hk.2 c17
      refine lv_aload_n C.hx C.hb dL_law_1789 rfl (lv_at hl 5 rfl) ?_
      refine lv_iconst (v := 0) C.hx C.hb dL_law_1790 (by decide) ?_
      obtain ⟨h19, f18, h20, hk⟩ := hk
      refine tl_lald C hH h19 h20 dL_law_1791 ?_
      refine lv_iload C.hx C.hb dL_law_1792 (lv_at hl 0 rfl) ?_
      refine lv_i2l C.hx C.hb dL_law_1794 rfl ?_
      refine W.lcmp C.hx C.hb dL_law_1795 ?_
      refine lv_if_eq (tgt := 1801) C.hx C.hb dL_law_1796 (by decide) (fun c21 => ?_) (fun c21 => ?_)
      · have hk := hk.1 c21
        refine lv_goto (tgt := 2100) C.hx C.hb dL_law_1801 (by decide) ?_
        refine W.widen (k := cells + KC) (n := slots + KS) (by show cells + 1 ≤ cells + 12; omega) (by show slots + 6 ≤ slots + 260; omega) ?_
        exact hK E6 S7 M15 _ _ _ hk hsim hm hH hS (lv_sub hl [2, 3, 4, 5, 6, 7] rfl)
      · have hk := hk.2 c21
        refine lv_iconst (v := 0) C.hx C.hb dL_law_1799 (by decide) ?_
        exact hk.elim
  · have hk := hk.2 c16
    refine lv_iconst (v := 0) C.hx C.hb dL_law_1782 (by decide) ?_
    exact hk.elim
def wl_c30 (L : Nat) (xs : Nat → Int32) (K : tc_E → tc_S → mm_S → Prop) (i : Int32) (E0 : tc_E) (s0 : tc_S) (m0 : mm_S) : Prop := (vp_in (i + 1) L ∧ ∀ v2, v2 = xs (i + 1).toNatClampNeg → ww_X0_heard (tm E0 m0) (fun r3 E9 S5 => ∃ E4, E9 = tm E4 m0 ∧ tl_same E0 E4 ∧ tl_m E4 ∧ (vp_in (i + 1) L ∧ ∀ v7, v7 = xs (i + 1).toNatClampNeg → wp_X6_heard (fun r8 M9 => wp_X6_thrown (fun r10 M11 => ((r10 = r3 → ((¬ r3 = 0 → K E4 S5 M11) ∧ (r3 = 0 → ((22, 0) ∈ eL E4 ∧ ∃ f14, ew E4 (22, 0) = .inl (ec E4 2, 1, .inr (.inl f14)) ∧ (((lg_cmp (f14 (0 : Int32).toNatClampNeg) r8.toInt64) = 0 → K E4 S5 M11) ∧ (¬ (lg_cmp (f14 (0 : Int32).toNatClampNeg) r8.toInt64) = 0 → False)))))) ∧ (¬ r10 = r3 → False)))  M9) v7 m0)) v2 s0)
set_option maxHeartbeats 4000000 in
theorem tl_c30 {p : Program} {l : Launch} {e : Env} {s : State} {m : MethodId} {b L : Nat} {xs : Nat → Int32} {below : List Frame} {meth : Method} {c : Code} {cells slots : Nat} {Q : State → Prop} {K : tc_E → tc_S → mm_S → Prop} {i : Int32} {E0 : tc_E} {s0 : tc_S} {m0 : mm_S} {H : Heap} {locs : List Loc} {ls : Array Slot} (hl0 : l.stackTraces = false) (C : tc_C p m c code 9 s #[.ref b] RX0 E0) (hX : va_X b L xs s s.heap) (hbl : b < s.heap.size) (hbA : ∀ q : Nat, ¬ eb E0 ≤ b) (hcr : cells + 12 ≤ 1203072 ∧ slots + 260 ≤ 5394730) (hm : tl_m E0) (hH : tc_ok (tm E0 m0) s0 H) (hS : va_S (fun q => eb E0 ≤ q) s.heap H locs) (hl : lv_has ls 9 [(0, .ref b), (1, .ref (ea E0 (0, 0))), (2, .ref (ea E0 (20, 0))), (3, .ref (ea E0 (22, 0))), (4, .ref (ea E0 (23, 0))), (5, .int i)]) (hK : tl_K K p l e s m b below meth c cells slots Q i E0) (hk : wl_c30 L xs K i E0 s0 m0) : W p l e room_1 s m #[.ref b] below meth c H locs cells slots Q (F0 m 1804 ls []) := by
  unfold wl_c30 at hk
  have hsim := tc_sim.rf E0
  refine lv_aload_n C.hx C.hb dL_law_1804 rfl (lv_at hl 1 rfl) ?_
  refine lv_aload_n C.hx C.hb dL_law_1805 rfl (lv_at hl 0 rfl) ?_
  refine lv_iload C.hx C.hb dL_law_1806 (lv_at hl 5 rfl) ?_
  refine lv_iconst (v := 1) C.hx C.hb dL_law_1808 (by decide) ?_
  refine lv_iadd C.hx C.hb dL_law_1809 ?_
  obtain ⟨h1, hk⟩ := hk
  refine va_sld C.hx C.hb hX hbl (hbA 0) hS h1 dL_law_1810 ?_
  refine lv_topi (fun v2 ev2 => ?_)
  have hk := hk v2 ev2
  refine lv_aload_n C.hx C.hb dL_law_1811 rfl (lv_at hl 3 rfl) ?_
  refine tl_w (As := [.ref (ea E0 (0, 0)), .int v2, .ref (ea E0 (22, 0))]) (rest := []) C hH hS (t_X0_heard l hl0 hk) (vx_cwSW 3 C.hts (lw_SW q1176 q1177 q52 q1178) rfl rfl rfl (by decide +kernel) ⟨Nat.le_of_ble_eq_true rfl, Nat.le_of_ble_eq_true rfl⟩) rfl hl.1 rfl (lv_room (Nat.le_of_ble_eq_true rfl)) dL_law_1812 ⟨by show cells + 2 ≤ 1203072; omega, by show slots + 12 ≤ 5394730; omega⟩ (fun r3 E9 S5 H locs hk hsm hH hS => ?_)
  obtain ⟨E4, rfl, hsa, hm, hk⟩ := hk
  have hsim2 : tc_sim E0 E4 := hsm
  have C := C.sim hsim2
  rw [← hsim2.1] at hS
  have hsim := hsim.trans hsim2
  have hbA : ∀ q : Nat, ¬ eb E4 ≤ b := fun _ => by rw [hsim2.1]; exact hbA 0
  have hl : lv_has ls 9 [(0, .ref b), (1, .ref (ea E4 (0, 0))), (2, .ref (ea E4 (20, 0))), (3, .ref (ea E4 (22, 0))), (4, .ref (ea E4 (23, 0))), (5, .int i)] := by rw [hsa.1, hsa.2.1, hsa.2.2.1, hsa.2.2.2]; exact hl
  refine W.eq (g2 := F0 m 1815 ls [.int r3]) rfl ?_
  refine lv_istore (lv' := [(6, .int r3), (0, .ref b), (1, .ref (ea E4 (0, 0))), (2, .ref (ea E4 (20, 0))), (3, .ref (ea E4 (22, 0))), (4, .ref (ea E4 (23, 0))), (5, .int i)]) C.hx C.hb dL_law_1815 hl (by decide) rfl (fun ls hl => ?_)
  refine lv_aload_n C.hx C.hb dL_law_1817 rfl (lv_at hl 3 rfl) ?_
  refine lv_aload_n C.hx C.hb dL_law_1818 rfl (lv_at hl 1 rfl) ?_
  refine lv_iload C.hx C.hb dL_law_1819 (lv_at hl 6 rfl) ?_
  refine lv_iconst (v := 1) C.hx C.hb dL_law_1821 (by decide) ?_
  refine lv_iadd C.hx C.hb dL_law_1822 ?_
  obtain ⟨h6, hk⟩ := hk
  refine va_sld C.hx C.hb hX hbl (hbA 0) hS h6 dL_law_1823 ?_
  refine lv_topi (fun v7 ev7 => ?_)
  have hk := hk v7 ev7
  refine tl_i (As := [.int v7]) (rest := []) C hH hm hS (t_X6_heard l hk) (cwV 1 C.hts (lw_V q1572 q1573 q1574 q65 q1575) rfl rfl rfl (by decide +kernel) ⟨Nat.le_of_ble_eq_true rfl, Nat.le_of_ble_eq_true rfl⟩) rfl hl.1 rfl (lv_room (Nat.le_of_ble_eq_true rfl)) dL_law_1824 (lw_le hcr) (fun r8 M9 H locs hk hH hS => ?_)
  refine W.eq (g2 := F0 m 1827 ls [.int r8]) rfl ?_
  refine lv_istore (lv' := [(7, .int r8), (6, .int r3), (0, .ref b), (1, .ref (ea E4 (0, 0))), (2, .ref (ea E4 (20, 0))), (3, .ref (ea E4 (22, 0))), (4, .ref (ea E4 (23, 0))), (5, .int i)]) C.hx C.hb dL_law_1827 hl (by decide) rfl (fun ls hl => ?_)
  refine lv_aload_n C.hx C.hb dL_law_1829 rfl (lv_at hl 4 rfl) ?_
  refine tl_i (As := []) (rest := []) C hH hm hS (t_X6_thrown l hk) (cwV 0 C.hts (lw_V q1321 q1322 q1323 q65 q1324) rfl rfl rfl (by decide +kernel) ⟨Nat.le_of_ble_eq_true rfl, Nat.le_of_ble_eq_true rfl⟩) rfl hl.1 rfl (lv_room (Nat.le_of_ble_eq_true rfl)) dL_law_1830 (lw_le hcr) (fun r10 M11 H locs hk hH hS => ?_)
  refine W.eq (g2 := F0 m 1833 ls [.int r10]) rfl ?_
  refine lv_iload C.hx C.hb dL_law_1833 (lv_at hl 1 rfl) ?_
  refine lv_icmp_eq (tgt := 1840) C.hx C.hb dL_law_1835 (by decide) (fun c12 => ?_) (fun c12 => ?_)
  · have hk := hk.1 c12
    refine lv_iload C.hx C.hb dL_law_1840 (lv_at hl 1 rfl) ?_
    refine lv_if_ne (tgt := 1857) C.hx C.hb dL_law_1842 (by decide) (fun c13 => ?_) (fun c13 => ?_)
    · have hk := hk.1 c13
      refine lv_goto (tgt := 2100) C.hx C.hb dL_law_1857 (by decide) ?_
      refine W.widen (k := cells + KC) (n := slots + KS) (by show cells + 2 ≤ cells + 12; omega) (by show slots + 12 ≤ slots + 260; omega) ?_
      exact hK E4 S5 M11 _ _ _ hk hsim hm hH hS (lv_sub hl [2, 3, 4, 5, 6, 7] rfl)
    · have hk := hk.2 c13
      refine lv_aload_n C.hx C.hb dL_law_1845 rfl (lv_at hl 5 rfl) ?_
      refine lv_iconst (v := 0) C.hx C.hb dL_law_1846 (by decide) ?_
      obtain ⟨h15, f14, h16, hk⟩ := hk
      refine tl_lald C hH h15 h16 dL_law_1847 ?_
      refine lv_iload C.hx C.hb dL_law_1848 (lv_at hl 0 rfl) ?_
      refine lv_i2l C.hx C.hb dL_law_1850 rfl ?_
      refine W.lcmp C.hx C.hb dL_law_1851 ?_
      refine lv_if_eq (tgt := 1857) C.hx C.hb dL_law_1852 (by decide) (fun c17 => ?_) (fun c17 => ?_)
      · have hk := hk.1 c17
        refine lv_goto (tgt := 2100) C.hx C.hb dL_law_1857 (by decide) ?_
        refine W.widen (k := cells + KC) (n := slots + KS) (by show cells + 2 ≤ cells + 12; omega) (by show slots + 12 ≤ slots + 260; omega) ?_
        exact hK E4 S5 M11 _ _ _ hk hsim hm hH hS (lv_sub hl [2, 3, 4, 5, 6, 7] rfl)
      · have hk := hk.2 c17
        refine lv_iconst (v := 0) C.hx C.hb dL_law_1855 (by decide) ?_
        exact hk.elim
  · have hk := hk.2 c12
    refine lv_iconst (v := 0) C.hx C.hb dL_law_1838 (by decide) ?_
    exact hk.elim
def wl_c31 (L : Nat) (xs : Nat → Int32) (K : tc_E → tc_S → mm_S → Prop) (i : Int32) (E0 : tc_E) (s0 : tc_S) (m0 : mm_S) : Prop := (vp_in (i + 1) L ∧ ∀ v2, v2 = xs (i + 1).toNatClampNeg → ww_X0_outputOf (tm E0 m0) (fun r3 E9 S5 => ∃ E4, E9 = tm E4 m0 ∧ tl_same E0 E4 ∧ tl_m E4 ∧ (vp_in (i + 1) L ∧ ∀ v7, v7 = xs (i + 1).toNatClampNeg → wp_X6_outputOf (fun r8 M9 => wp_X6_thrown (fun r10 M11 => ((r10 = r3 → ((¬ r3 = 0 → K E4 S5 M11) ∧ (r3 = 0 → ((22, 0) ∈ eL E4 ∧ ∃ f14, ew E4 (22, 0) = .inl (ec E4 2, 1, .inr (.inl f14)) ∧ (((lg_cmp (f14 (0 : Int32).toNatClampNeg) r8.toInt64) = 0 → K E4 S5 M11) ∧ (¬ (lg_cmp (f14 (0 : Int32).toNatClampNeg) r8.toInt64) = 0 → False)))))) ∧ (¬ r10 = r3 → False)))  M9) v7 m0)) v2 s0)
set_option maxHeartbeats 4000000 in
theorem tl_c31 {p : Program} {l : Launch} {e : Env} {s : State} {m : MethodId} {b L : Nat} {xs : Nat → Int32} {below : List Frame} {meth : Method} {c : Code} {cells slots : Nat} {Q : State → Prop} {K : tc_E → tc_S → mm_S → Prop} {i : Int32} {E0 : tc_E} {s0 : tc_S} {m0 : mm_S} {H : Heap} {locs : List Loc} {ls : Array Slot} (hl0 : l.stackTraces = false) (C : tc_C p m c code 9 s #[.ref b] RX0 E0) (hX : va_X b L xs s s.heap) (hbl : b < s.heap.size) (hbA : ∀ q : Nat, ¬ eb E0 ≤ b) (hcr : cells + 12 ≤ 1203072 ∧ slots + 260 ≤ 5394730) (hm : tl_m E0) (hH : tc_ok (tm E0 m0) s0 H) (hS : va_S (fun q => eb E0 ≤ q) s.heap H locs) (hl : lv_has ls 9 [(0, .ref b), (1, .ref (ea E0 (0, 0))), (2, .ref (ea E0 (20, 0))), (3, .ref (ea E0 (22, 0))), (4, .ref (ea E0 (23, 0))), (5, .int i)]) (hK : tl_K K p l e s m b below meth c cells slots Q i E0) (hk : wl_c31 L xs K i E0 s0 m0) : W p l e room_1 s m #[.ref b] below meth c H locs cells slots Q (F0 m 1860 ls []) := by
  unfold wl_c31 at hk
  have hsim := tc_sim.rf E0
  refine lv_aload_n C.hx C.hb dL_law_1860 rfl (lv_at hl 1 rfl) ?_
  refine lv_aload_n C.hx C.hb dL_law_1861 rfl (lv_at hl 0 rfl) ?_
  refine lv_iload C.hx C.hb dL_law_1862 (lv_at hl 5 rfl) ?_
  refine lv_iconst (v := 1) C.hx C.hb dL_law_1864 (by decide) ?_
  refine lv_iadd C.hx C.hb dL_law_1865 ?_
  obtain ⟨h1, hk⟩ := hk
  refine va_sld C.hx C.hb hX hbl (hbA 0) hS h1 dL_law_1866 ?_
  refine lv_topi (fun v2 ev2 => ?_)
  have hk := hk v2 ev2
  refine lv_aload_n C.hx C.hb dL_law_1867 rfl (lv_at hl 3 rfl) ?_
  refine tl_w (As := [.ref (ea E0 (0, 0)), .int v2, .ref (ea E0 (22, 0))]) (rest := []) C hH hS (t_X0_outputOf l hl0 hk) (vx_cwSW 3 C.hts (lw_SW q1183 q1184 q52 q1185) rfl rfl rfl (by decide +kernel) ⟨Nat.le_of_ble_eq_true rfl, Nat.le_of_ble_eq_true rfl⟩) rfl hl.1 rfl (lv_room (Nat.le_of_ble_eq_true rfl)) dL_law_1868 ⟨by show cells + 1 ≤ 1203072; omega, by show slots + 6 ≤ 5394730; omega⟩ (fun r3 E9 S5 H locs hk hsm hH hS => ?_)
  obtain ⟨E4, rfl, hsa, hm, hk⟩ := hk
  have hsim2 : tc_sim E0 E4 := hsm
  have C := C.sim hsim2
  rw [← hsim2.1] at hS
  have hsim := hsim.trans hsim2
  have hbA : ∀ q : Nat, ¬ eb E4 ≤ b := fun _ => by rw [hsim2.1]; exact hbA 0
  have hl : lv_has ls 9 [(0, .ref b), (1, .ref (ea E4 (0, 0))), (2, .ref (ea E4 (20, 0))), (3, .ref (ea E4 (22, 0))), (4, .ref (ea E4 (23, 0))), (5, .int i)] := by rw [hsa.1, hsa.2.1, hsa.2.2.1, hsa.2.2.2]; exact hl
  refine W.eq (g2 := F0 m 1871 ls [.int r3]) rfl ?_
  refine lv_istore (lv' := [(6, .int r3), (0, .ref b), (1, .ref (ea E4 (0, 0))), (2, .ref (ea E4 (20, 0))), (3, .ref (ea E4 (22, 0))), (4, .ref (ea E4 (23, 0))), (5, .int i)]) C.hx C.hb dL_law_1871 hl (by decide) rfl (fun ls hl => ?_)
  refine lv_aload_n C.hx C.hb dL_law_1873 rfl (lv_at hl 3 rfl) ?_
  refine lv_aload_n C.hx C.hb dL_law_1874 rfl (lv_at hl 1 rfl) ?_
  refine lv_iload C.hx C.hb dL_law_1875 (lv_at hl 6 rfl) ?_
  refine lv_iconst (v := 1) C.hx C.hb dL_law_1877 (by decide) ?_
  refine lv_iadd C.hx C.hb dL_law_1878 ?_
  obtain ⟨h6, hk⟩ := hk
  refine va_sld C.hx C.hb hX hbl (hbA 0) hS h6 dL_law_1879 ?_
  refine lv_topi (fun v7 ev7 => ?_)
  have hk := hk v7 ev7
  refine tl_i (As := [.int v7]) (rest := []) C hH hm hS (t_X6_outputOf l hk) (cwV 1 C.hts (lw_V q1576 q1577 q1578 q65 q1579) rfl rfl rfl (by decide +kernel) ⟨Nat.le_of_ble_eq_true rfl, Nat.le_of_ble_eq_true rfl⟩) rfl hl.1 rfl (lv_room (Nat.le_of_ble_eq_true rfl)) dL_law_1880 (lw_le hcr) (fun r8 M9 H locs hk hH hS => ?_)
  refine W.eq (g2 := F0 m 1883 ls [.int r8]) rfl ?_
  refine lv_istore (lv' := [(7, .int r8), (6, .int r3), (0, .ref b), (1, .ref (ea E4 (0, 0))), (2, .ref (ea E4 (20, 0))), (3, .ref (ea E4 (22, 0))), (4, .ref (ea E4 (23, 0))), (5, .int i)]) C.hx C.hb dL_law_1883 hl (by decide) rfl (fun ls hl => ?_)
  refine lv_aload_n C.hx C.hb dL_law_1885 rfl (lv_at hl 4 rfl) ?_
  refine tl_i (As := []) (rest := []) C hH hm hS (t_X6_thrown l hk) (cwV 0 C.hts (lw_V q1321 q1322 q1323 q65 q1324) rfl rfl rfl (by decide +kernel) ⟨Nat.le_of_ble_eq_true rfl, Nat.le_of_ble_eq_true rfl⟩) rfl hl.1 rfl (lv_room (Nat.le_of_ble_eq_true rfl)) dL_law_1886 (lw_le hcr) (fun r10 M11 H locs hk hH hS => ?_)
  refine W.eq (g2 := F0 m 1889 ls [.int r10]) rfl ?_
  refine lv_iload C.hx C.hb dL_law_1889 (lv_at hl 1 rfl) ?_
  refine lv_icmp_eq (tgt := 1896) C.hx C.hb dL_law_1891 (by decide) (fun c12 => ?_) (fun c12 => ?_)
  · have hk := hk.1 c12
    refine lv_iload C.hx C.hb dL_law_1896 (lv_at hl 1 rfl) ?_
    refine lv_if_ne (tgt := 1913) C.hx C.hb dL_law_1898 (by decide) (fun c13 => ?_) (fun c13 => ?_)
    · have hk := hk.1 c13
      refine lv_goto (tgt := 2100) C.hx C.hb dL_law_1913 (by decide) ?_
      refine W.widen (k := cells + KC) (n := slots + KS) (by show cells + 1 ≤ cells + 12; omega) (by show slots + 6 ≤ slots + 260; omega) ?_
      exact hK E4 S5 M11 _ _ _ hk hsim hm hH hS (lv_sub hl [2, 3, 4, 5, 6, 7] rfl)
    · have hk := hk.2 c13
      refine lv_aload_n C.hx C.hb dL_law_1901 rfl (lv_at hl 5 rfl) ?_
      refine lv_iconst (v := 0) C.hx C.hb dL_law_1902 (by decide) ?_
      obtain ⟨h15, f14, h16, hk⟩ := hk
      refine tl_lald C hH h15 h16 dL_law_1903 ?_
      refine lv_iload C.hx C.hb dL_law_1904 (lv_at hl 0 rfl) ?_
      refine lv_i2l C.hx C.hb dL_law_1906 rfl ?_
      refine W.lcmp C.hx C.hb dL_law_1907 ?_
      refine lv_if_eq (tgt := 1913) C.hx C.hb dL_law_1908 (by decide) (fun c17 => ?_) (fun c17 => ?_)
      · have hk := hk.1 c17
        refine lv_goto (tgt := 2100) C.hx C.hb dL_law_1913 (by decide) ?_
        refine W.widen (k := cells + KC) (n := slots + KS) (by show cells + 1 ≤ cells + 12; omega) (by show slots + 6 ≤ slots + 260; omega) ?_
        exact hK E4 S5 M11 _ _ _ hk hsim hm hH hS (lv_sub hl [2, 3, 4, 5, 6, 7] rfl)
      · have hk := hk.2 c17
        refine lv_iconst (v := 0) C.hx C.hb dL_law_1911 (by decide) ?_
        exact hk.elim
  · have hk := hk.2 c12
    refine lv_iconst (v := 0) C.hx C.hb dL_law_1894 (by decide) ?_
    exact hk.elim
def wl_c32 (L : Nat) (xs : Nat → Int32) (K : tc_E → tc_S → mm_S → Prop) (i : Int32) (E0 : tc_E) (s0 : tc_S) (m0 : mm_S) : Prop := wp_X1_time (tm E0 m0) (fun r1 S2 => wp_X6_time (fun r3 M4 => ((r1 = r3 → K E0 S2 M4) ∧ (¬ r1 = r3 → False)))  m0)  s0
set_option maxHeartbeats 4000000 in
theorem tl_c32 {p : Program} {l : Launch} {e : Env} {s : State} {m : MethodId} {b L : Nat} {xs : Nat → Int32} {below : List Frame} {meth : Method} {c : Code} {cells slots : Nat} {Q : State → Prop} {K : tc_E → tc_S → mm_S → Prop} {i : Int32} {E0 : tc_E} {s0 : tc_S} {m0 : mm_S} {H : Heap} {locs : List Loc} {ls : Array Slot} (hl0 : l.stackTraces = false) (C : tc_C p m c code 9 s #[.ref b] RX0 E0) (hX : va_X b L xs s s.heap) (hbl : b < s.heap.size) (hbA : ∀ q : Nat, ¬ eb E0 ≤ b) (hcr : cells + 12 ≤ 1203072 ∧ slots + 260 ≤ 5394730) (hm : tl_m E0) (hH : tc_ok (tm E0 m0) s0 H) (hS : va_S (fun q => eb E0 ≤ q) s.heap H locs) (hl : lv_has ls 9 [(0, .ref b), (1, .ref (ea E0 (0, 0))), (2, .ref (ea E0 (20, 0))), (3, .ref (ea E0 (22, 0))), (4, .ref (ea E0 (23, 0))), (5, .int i)]) (hK : tl_K K p l e s m b below meth c cells slots Q i E0) (hk : wl_c32 L xs K i E0 s0 m0) : W p l e room_1 s m #[.ref b] below meth c H locs cells slots Q (F0 m 1916 ls []) := by
  unfold wl_c32 at hk
  have hsim := tc_sim.rf E0
  refine lv_aload_n C.hx C.hb dL_law_1916 rfl (lv_at hl 1 rfl) ?_
  refine tc_run (tc_rV (As := []) (rest := []) (L := (0, 0)) (ci := 0) (fs := tc_gfs (tm E0 m0) s0) (q := (RX1, TX1, 13)) (C.sim (tm_sim E0 m0)) hH.g rfl rfl (t_X1_time l hk) (cwV 0 C.hts (lw_V q520 q521 q522 q53 q523) rfl rfl rfl (by decide +kernel) ⟨Nat.le_of_ble_eq_true rfl, Nat.le_of_ble_eq_true rfl⟩) hH hS rfl hl.1 rfl (lv_room (Nat.le_of_ble_eq_true rfl)) dL_law_1917 (lw_le0 hcr)) hS (fun r1 S2 H locs hk hH hS => ?_)
  refine W.eq (g2 := F0 m 1920 ls [.int r1]) rfl ?_
  refine lv_aload_n C.hx C.hb dL_law_1920 rfl (lv_at hl 2 rfl) ?_
  refine tl_i (As := []) (rest := [.int r1]) C hH hm hS (t_X6_time l hk) (cwV 0 C.hts (lw_V q1580 q1581 q1582 q65 q1583) rfl rfl rfl (by decide +kernel) ⟨Nat.le_of_ble_eq_true rfl, Nat.le_of_ble_eq_true rfl⟩) rfl hl.1 rfl (lv_room (Nat.le_of_ble_eq_true rfl)) dL_law_1921 (lw_le0 hcr) (fun r3 M4 H locs hk hH hS => ?_)
  refine W.eq (g2 := F0 m 1924 ls [.int r3, .int r1]) rfl ?_
  refine lv_icmp_eq (tgt := 2100) C.hx C.hb dL_law_1924 (by decide) (fun c5 => ?_) (fun c5 => ?_)
  · have hk := hk.1 c5
    refine W.widen (k := cells + KC) (n := slots + KS) (by show cells ≤ cells + 12; omega) (by show slots ≤ slots + 260; omega) ?_
    exact hK E0 S2 M4 _ _ _ hk hsim hm hH hS (lv_sub hl [0, 1, 2, 3, 4, 5] rfl)
  · have hk := hk.2 c5
    refine lv_iconst (v := 0) C.hx C.hb dL_law_1927 (by decide) ?_
    exact hk.elim
def wl_c33 (L : Nat) (xs : Nat → Int32) (K : tc_E → tc_S → mm_S → Prop) (i : Int32) (E0 : tc_E) (s0 : tc_S) (m0 : mm_S) : Prop := wp_X1_greatest (tm E0 m0) (fun r1 S2 => wp_X6_greatest (fun r3 M4 => ((r1 = r3 → K E0 S2 M4) ∧ (¬ r1 = r3 → False)))  m0)  s0
set_option maxHeartbeats 4000000 in
theorem tl_c33 {p : Program} {l : Launch} {e : Env} {s : State} {m : MethodId} {b L : Nat} {xs : Nat → Int32} {below : List Frame} {meth : Method} {c : Code} {cells slots : Nat} {Q : State → Prop} {K : tc_E → tc_S → mm_S → Prop} {i : Int32} {E0 : tc_E} {s0 : tc_S} {m0 : mm_S} {H : Heap} {locs : List Loc} {ls : Array Slot} (hl0 : l.stackTraces = false) (C : tc_C p m c code 9 s #[.ref b] RX0 E0) (hX : va_X b L xs s s.heap) (hbl : b < s.heap.size) (hbA : ∀ q : Nat, ¬ eb E0 ≤ b) (hcr : cells + 12 ≤ 1203072 ∧ slots + 260 ≤ 5394730) (hm : tl_m E0) (hH : tc_ok (tm E0 m0) s0 H) (hS : va_S (fun q => eb E0 ≤ q) s.heap H locs) (hl : lv_has ls 9 [(0, .ref b), (1, .ref (ea E0 (0, 0))), (2, .ref (ea E0 (20, 0))), (3, .ref (ea E0 (22, 0))), (4, .ref (ea E0 (23, 0))), (5, .int i)]) (hK : tl_K K p l e s m b below meth c cells slots Q i E0) (hk : wl_c33 L xs K i E0 s0 m0) : W p l e room_1 s m #[.ref b] below meth c H locs cells slots Q (F0 m 1929 ls []) := by
  unfold wl_c33 at hk
  have hsim := tc_sim.rf E0
  refine lv_aload_n C.hx C.hb dL_law_1929 rfl (lv_at hl 1 rfl) ?_
  refine tc_run (tc_rV (As := []) (rest := []) (L := (0, 0)) (ci := 0) (fs := tc_gfs (tm E0 m0) s0) (q := (RX1, TX1, 13)) (C.sim (tm_sim E0 m0)) hH.g rfl rfl (t_X1_greatest l hk) (cwV 0 C.hts (lw_V q524 q525 q526 q53 q527) rfl rfl rfl (by decide +kernel) ⟨Nat.le_of_ble_eq_true rfl, Nat.le_of_ble_eq_true rfl⟩) hH hS rfl hl.1 rfl (lv_room (Nat.le_of_ble_eq_true rfl)) dL_law_1930 (lw_le0 hcr)) hS (fun r1 S2 H locs hk hH hS => ?_)
  refine W.eq (g2 := F0 m 1933 ls [.int r1]) rfl ?_
  refine lv_aload_n C.hx C.hb dL_law_1933 rfl (lv_at hl 2 rfl) ?_
  refine tl_i (As := []) (rest := [.int r1]) C hH hm hS (t_X6_greatest l hk) (cwV 0 C.hts (lw_V q1584 q1585 q1586 q65 q1587) rfl rfl rfl (by decide +kernel) ⟨Nat.le_of_ble_eq_true rfl, Nat.le_of_ble_eq_true rfl⟩) rfl hl.1 rfl (lv_room (Nat.le_of_ble_eq_true rfl)) dL_law_1934 (lw_le0 hcr) (fun r3 M4 H locs hk hH hS => ?_)
  refine W.eq (g2 := F0 m 1937 ls [.int r3, .int r1]) rfl ?_
  refine lv_icmp_eq (tgt := 2100) C.hx C.hb dL_law_1937 (by decide) (fun c5 => ?_) (fun c5 => ?_)
  · have hk := hk.1 c5
    refine W.widen (k := cells + KC) (n := slots + KS) (by show cells ≤ cells + 12; omega) (by show slots ≤ slots + 260; omega) ?_
    exact hK E0 S2 M4 _ _ _ hk hsim hm hH hS (lv_sub hl [0, 1, 2, 3, 4, 5] rfl)
  · have hk := hk.2 c5
    refine lv_iconst (v := 0) C.hx C.hb dL_law_1940 (by decide) ?_
    exact hk.elim
def wl_c34 (L : Nat) (xs : Nat → Int32) (K : tc_E → tc_S → mm_S → Prop) (i : Int32) (E0 : tc_E) (s0 : tc_S) (m0 : mm_S) : Prop := wp_X1_energy (tm E0 m0) (fun r1 S2 => wp_X6_energy (fun r3 M4 => (((lg_cmp r1 r3) = 0 → K E0 S2 M4) ∧ (¬ (lg_cmp r1 r3) = 0 → False)))  m0)  s0
set_option maxHeartbeats 4000000 in
theorem tl_c34 {p : Program} {l : Launch} {e : Env} {s : State} {m : MethodId} {b L : Nat} {xs : Nat → Int32} {below : List Frame} {meth : Method} {c : Code} {cells slots : Nat} {Q : State → Prop} {K : tc_E → tc_S → mm_S → Prop} {i : Int32} {E0 : tc_E} {s0 : tc_S} {m0 : mm_S} {H : Heap} {locs : List Loc} {ls : Array Slot} (hl0 : l.stackTraces = false) (C : tc_C p m c code 9 s #[.ref b] RX0 E0) (hX : va_X b L xs s s.heap) (hbl : b < s.heap.size) (hbA : ∀ q : Nat, ¬ eb E0 ≤ b) (hcr : cells + 12 ≤ 1203072 ∧ slots + 260 ≤ 5394730) (hm : tl_m E0) (hH : tc_ok (tm E0 m0) s0 H) (hS : va_S (fun q => eb E0 ≤ q) s.heap H locs) (hl : lv_has ls 9 [(0, .ref b), (1, .ref (ea E0 (0, 0))), (2, .ref (ea E0 (20, 0))), (3, .ref (ea E0 (22, 0))), (4, .ref (ea E0 (23, 0))), (5, .int i)]) (hK : tl_K K p l e s m b below meth c cells slots Q i E0) (hk : wl_c34 L xs K i E0 s0 m0) : W p l e room_1 s m #[.ref b] below meth c H locs cells slots Q (F0 m 1942 ls []) := by
  unfold wl_c34 at hk
  have hsim := tc_sim.rf E0
  refine lv_aload_n C.hx C.hb dL_law_1942 rfl (lv_at hl 1 rfl) ?_
  refine tc_run (tc_rV (As := []) (rest := []) (L := (0, 0)) (ci := 0) (fs := tc_gfs (tm E0 m0) s0) (q := (RX1, TX1, 13)) (C.sim (tm_sim E0 m0)) hH.g rfl rfl (t_X1_energy l hk) (cwV 0 C.hts (lw_V q528 q529 q530 q53 q531) rfl rfl rfl (by decide +kernel) ⟨Nat.le_of_ble_eq_true rfl, Nat.le_of_ble_eq_true rfl⟩) hH hS rfl hl.1 rfl (lv_room (Nat.le_of_ble_eq_true rfl)) dL_law_1943 (lw_le0 hcr)) hS (fun r1 S2 H locs hk hH hS => ?_)
  refine W.eq (g2 := F0 m 1946 ls [.long r1]) rfl ?_
  refine lv_aload_n C.hx C.hb dL_law_1946 rfl (lv_at hl 2 rfl) ?_
  refine tl_l (As := []) (rest := [.long r1]) C hH hm hS (t_X6_energy l hk) (cwV 0 C.hts (lw_V q1588 q1589 q1590 q65 q1591) rfl rfl rfl (by decide +kernel) ⟨Nat.le_of_ble_eq_true rfl, Nat.le_of_ble_eq_true rfl⟩) rfl hl.1 rfl (lv_room (Nat.le_of_ble_eq_true rfl)) dL_law_1947 (lw_le0 hcr) (fun r3 M4 H locs hk hH hS => ?_)
  refine W.eq (g2 := F0 m 1950 ls [.long r3, .long r1]) rfl ?_
  refine W.lcmp C.hx C.hb dL_law_1950 ?_
  refine lv_if_eq (tgt := 2100) C.hx C.hb dL_law_1951 (by decide) (fun c5 => ?_) (fun c5 => ?_)
  · have hk := hk.1 c5
    refine W.widen (k := cells + KC) (n := slots + KS) (by show cells ≤ cells + 12; omega) (by show slots ≤ slots + 260; omega) ?_
    exact hK E0 S2 M4 _ _ _ hk hsim hm hH hS (lv_sub hl [0, 1, 2, 3, 4, 5] rfl)
  · have hk := hk.2 c5
    refine lv_iconst (v := 0) C.hx C.hb dL_law_1954 (by decide) ?_
    exact hk.elim
def wl_c35 (L : Nat) (xs : Nat → Int32) (K : tc_E → tc_S → mm_S → Prop) (i : Int32) (E0 : tc_E) (s0 : tc_S) (m0 : mm_S) : Prop := ww_X0_meanEnergy (tm E0 m0) (fun r1 E9 S3 => ∃ E2, E9 = tm E2 m0 ∧ tl_same E0 E2 ∧ tl_m E2 ∧ wp_X6_meanEnergy (fun r4 M5 => wp_X6_thrown (fun r6 M7 => ((r6 = r1 → ((¬ r1 = 0 → K E2 S3 M7) ∧ (r1 = 0 → ((23, 0) ∈ eL E2 ∧ ∃ f10, ew E2 (23, 0) = .inl (ec E2 3, 1, .inr (.inr (.inr (.inl f10)))) ∧ (((Op.cmpValue (FP.dcmp (f10 (0 : Int32).toNatClampNeg) r4) .l) = 0 → K E2 S3 M7) ∧ (¬ (Op.cmpValue (FP.dcmp (f10 (0 : Int32).toNatClampNeg) r4) .l) = 0 → ((23, 0) ∈ eL E2 ∧ ∃ f14, ew E2 (23, 0) = .inl (ec E2 3, 1, .inr (.inr (.inr (.inl f14)))) ∧ ((23, 0) ∈ eL E2 ∧ ∃ f17, ew E2 (23, 0) = .inl (ec E2 3, 1, .inr (.inr (.inr (.inl f17)))) ∧ (((Op.cmpValue (FP.dcmp (f14 (0 : Int32).toNatClampNeg) (f17 (0 : Int32).toNatClampNeg)) .l) = 0 → False) ∧ (¬ (Op.cmpValue (FP.dcmp (f14 (0 : Int32).toNatClampNeg) (f17 (0 : Int32).toNatClampNeg)) .l) = 0 → ((¬ (Op.cmpValue (FP.dcmp r4 r4) .l) = 0 → K E2 S3 M7) ∧ ((Op.cmpValue (FP.dcmp r4 r4) .l) = 0 → False)))))))))))) ∧ (¬ r6 = r1 → False)))  M5)  m0)  s0
set_option maxHeartbeats 4000000 in
theorem tl_c35 {p : Program} {l : Launch} {e : Env} {s : State} {m : MethodId} {b L : Nat} {xs : Nat → Int32} {below : List Frame} {meth : Method} {c : Code} {cells slots : Nat} {Q : State → Prop} {K : tc_E → tc_S → mm_S → Prop} {i : Int32} {E0 : tc_E} {s0 : tc_S} {m0 : mm_S} {H : Heap} {locs : List Loc} {ls : Array Slot} (hl0 : l.stackTraces = false) (C : tc_C p m c code 9 s #[.ref b] RX0 E0) (hX : va_X b L xs s s.heap) (hbl : b < s.heap.size) (hbA : ∀ q : Nat, ¬ eb E0 ≤ b) (hcr : cells + 12 ≤ 1203072 ∧ slots + 260 ≤ 5394730) (hm : tl_m E0) (hH : tc_ok (tm E0 m0) s0 H) (hS : va_S (fun q => eb E0 ≤ q) s.heap H locs) (hl : lv_has ls 9 [(0, .ref b), (1, .ref (ea E0 (0, 0))), (2, .ref (ea E0 (20, 0))), (3, .ref (ea E0 (22, 0))), (4, .ref (ea E0 (23, 0))), (5, .int i)]) (hK : tl_K K p l e s m b below meth c cells slots Q i E0) (hk : wl_c35 L xs K i E0 s0 m0) : W p l e room_1 s m #[.ref b] below meth c H locs cells slots Q (F0 m 1956 ls []) := by
  unfold wl_c35 at hk
  have hsim := tc_sim.rf E0
  refine lv_aload_n C.hx C.hb dL_law_1956 rfl (lv_at hl 1 rfl) ?_
  refine lv_aload C.hx C.hb dL_law_1957 (lv_at hl 4 rfl) ?_
  refine tl_w (As := [.ref (ea E0 (0, 0)), .ref (ea E0 (23, 0))]) (rest := []) C hH hS (t_X0_meanEnergy l hl0 hk) (vx_cwSW 2 C.hts (lw_SW q1190 q1191 q52 q1192) rfl rfl rfl (by decide +kernel) ⟨Nat.le_of_ble_eq_true rfl, Nat.le_of_ble_eq_true rfl⟩) rfl hl.1 rfl (lv_room (Nat.le_of_ble_eq_true rfl)) dL_law_1959 ⟨by show cells + 1 ≤ 1203072; omega, by show slots + 6 ≤ 5394730; omega⟩ (fun r1 E9 S3 H locs hk hsm hH hS => ?_)
  obtain ⟨E2, rfl, hsa, hm, hk⟩ := hk
  have hsim2 : tc_sim E0 E2 := hsm
  have C := C.sim hsim2
  rw [← hsim2.1] at hS
  have hsim := hsim.trans hsim2
  have hbA : ∀ q : Nat, ¬ eb E2 ≤ b := fun _ => by rw [hsim2.1]; exact hbA 0
  have hl : lv_has ls 9 [(0, .ref b), (1, .ref (ea E2 (0, 0))), (2, .ref (ea E2 (20, 0))), (3, .ref (ea E2 (22, 0))), (4, .ref (ea E2 (23, 0))), (5, .int i)] := by rw [hsa.1, hsa.2.1, hsa.2.2.1, hsa.2.2.2]; exact hl
  refine W.eq (g2 := F0 m 1962 ls [.int r1]) rfl ?_
  refine lv_istore (lv' := [(6, .int r1), (0, .ref b), (1, .ref (ea E2 (0, 0))), (2, .ref (ea E2 (20, 0))), (3, .ref (ea E2 (22, 0))), (4, .ref (ea E2 (23, 0))), (5, .int i)]) C.hx C.hb dL_law_1962 hl (by decide) rfl (fun ls hl => ?_)
  refine lv_aload_n C.hx C.hb dL_law_1964 rfl (lv_at hl 3 rfl) ?_
  refine tl_d (As := []) (rest := []) C hH hm hS (t_X6_meanEnergy l hk) (cwV 0 C.hts (lw_V q1592 q1593 q1594 q65 q1595) rfl rfl rfl (by decide +kernel) ⟨Nat.le_of_ble_eq_true rfl, Nat.le_of_ble_eq_true rfl⟩) rfl hl.1 rfl (lv_room (Nat.le_of_ble_eq_true rfl)) dL_law_1965 (lw_le hcr) (fun r4 M5 H locs hk hH hS => ?_)
  refine W.eq (g2 := F0 m 1968 ls [.double r4]) rfl ?_
  refine lv_dstore (lv' := [(7, .double r4), (6, .int r1), (0, .ref b), (1, .ref (ea E2 (0, 0))), (2, .ref (ea E2 (20, 0))), (3, .ref (ea E2 (22, 0))), (4, .ref (ea E2 (23, 0))), (5, .int i)]) C.hx C.hb dL_law_1968 hl (by decide) rfl (fun ls hl => ?_)
  refine lv_aload_n C.hx C.hb dL_law_1970 rfl (lv_at hl 4 rfl) ?_
  refine tl_i (As := []) (rest := []) C hH hm hS (t_X6_thrown l hk) (cwV 0 C.hts (lw_V q1321 q1322 q1323 q65 q1324) rfl rfl rfl (by decide +kernel) ⟨Nat.le_of_ble_eq_true rfl, Nat.le_of_ble_eq_true rfl⟩) rfl hl.1 rfl (lv_room (Nat.le_of_ble_eq_true rfl)) dL_law_1971 (lw_le hcr) (fun r6 M7 H locs hk hH hS => ?_)
  refine W.eq (g2 := F0 m 1974 ls [.int r6]) rfl ?_
  refine lv_iload C.hx C.hb dL_law_1974 (lv_at hl 1 rfl) ?_
  refine lv_icmp_eq (tgt := 1981) C.hx C.hb dL_law_1976 (by decide) (fun c8 => ?_) (fun c8 => ?_)
  · have hk := hk.1 c8
    refine lv_iload C.hx C.hb dL_law_1981 (lv_at hl 1 rfl) ?_
    refine lv_if_ne (tgt := 2018) C.hx C.hb dL_law_1983 (by decide) (fun c9 => ?_) (fun c9 => ?_)
    · have hk := hk.1 c9
      refine lv_goto (tgt := 2100) C.hx C.hb dL_law_2018 (by decide) ?_
      refine W.widen (k := cells + KC) (n := slots + KS) (by show cells + 1 ≤ cells + 12; omega) (by show slots + 6 ≤ slots + 260; omega) ?_
      exact hK E2 S3 M7 _ _ _ hk hsim hm hH hS (lv_sub hl [2, 3, 4, 5, 6, 7] rfl)
    · have hk := hk.2 c9
      refine lv_aload C.hx C.hb dL_law_1986 (lv_at hl 6 rfl) ?_
      refine lv_iconst (v := 0) C.hx C.hb dL_law_1988 (by decide) ?_
      obtain ⟨h11, f10, h12, hk⟩ := hk
      refine tl_dald C hH h11 h12 dL_law_1989 ?_
      refine lv_dload C.hx C.hb dL_law_1990 (lv_at hl 0 rfl) ?_
      refine lv_dcmp C.hx C.hb dL_law_1992 ?_
      refine lv_if_eq (tgt := 2018) C.hx C.hb dL_law_1993 (by decide) (fun c13 => ?_) (fun c13 => ?_)
      · have hk := hk.1 c13
        refine lv_goto (tgt := 2100) C.hx C.hb dL_law_2018 (by decide) ?_
        refine W.widen (k := cells + KC) (n := slots + KS) (by show cells + 1 ≤ cells + 12; omega) (by show slots + 6 ≤ slots + 260; omega) ?_
        exact hK E2 S3 M7 _ _ _ hk hsim hm hH hS (lv_sub hl [2, 3, 4, 5, 6, 7] rfl)
      · have hk := hk.2 c13
        refine lv_aload C.hx C.hb dL_law_1996 (lv_at hl 6 rfl) ?_
        refine lv_iconst (v := 0) C.hx C.hb dL_law_1998 (by decide) ?_
        obtain ⟨h15, f14, h16, hk⟩ := hk
        refine tl_dald C hH h15 h16 dL_law_1999 ?_
        refine lv_aload C.hx C.hb dL_law_2000 (lv_at hl 6 rfl) ?_
        refine lv_iconst (v := 0) C.hx C.hb dL_law_2002 (by decide) ?_
        obtain ⟨h18, f17, h19, hk⟩ := hk
        refine tl_dald C hH h18 h19 dL_law_2003 ?_
        refine lv_dcmp C.hx C.hb dL_law_2004 ?_
        refine lv_if_eq (tgt := 2016) C.hx C.hb dL_law_2005 (by decide) (fun c20 => ?_) (fun c20 => ?_)
        · have hk := hk.1 c20
          refine lv_iconst (v := 0) C.hx C.hb dL_law_2016 (by decide) ?_
          exact hk.elim
        · have hk := hk.2 c20
          refine lv_dload C.hx C.hb dL_law_2008 (lv_at hl 0 rfl) ?_
          refine lv_dload C.hx C.hb dL_law_2010 (lv_at hl 0 rfl) ?_
          refine lv_dcmp C.hx C.hb dL_law_2012 ?_
          refine lv_if_ne (tgt := 2018) C.hx C.hb dL_law_2013 (by decide) (fun c21 => ?_) (fun c21 => ?_)
          · have hk := hk.1 c21
            refine lv_goto (tgt := 2100) C.hx C.hb dL_law_2018 (by decide) ?_
            refine W.widen (k := cells + KC) (n := slots + KS) (by show cells + 1 ≤ cells + 12; omega) (by show slots + 6 ≤ slots + 260; omega) ?_
            exact hK E2 S3 M7 _ _ _ hk hsim hm hH hS (lv_sub hl [2, 3, 4, 5, 6, 7] rfl)
          · have hk := hk.2 c21
            refine lv_iconst (v := 0) C.hx C.hb dL_law_2016 (by decide) ?_
            exact hk.elim
  · have hk := hk.2 c8
    refine lv_iconst (v := 0) C.hx C.hb dL_law_1979 (by decide) ?_
    exact hk.elim
def wl_c36 (L : Nat) (xs : Nat → Int32) (K : tc_E → tc_S → mm_S → Prop) (i : Int32) (E0 : tc_E) (s0 : tc_S) (m0 : mm_S) : Prop := ww_X0_quietShare (tm E0 m0) (fun r1 E9 S3 => ∃ E2, E9 = tm E2 m0 ∧ tl_same E0 E2 ∧ tl_m E2 ∧ wp_X6_quietShare (fun r4 M5 => wp_X6_thrown (fun r6 M7 => ((r6 = r1 → ((¬ r1 = 0 → K E2 S3 M7) ∧ (r1 = 0 → ((23, 0) ∈ eL E2 ∧ ∃ f10, ew E2 (23, 0) = .inl (ec E2 3, 1, .inr (.inr (.inr (.inl f10)))) ∧ (vf_n64 (FP.f2d r4) ∧ (((Op.cmpValue (FP.dcmp (f10 (0 : Int32).toNatClampNeg) (FP.f2d r4)) .l) = 0 → K E2 S3 M7) ∧ (¬ (Op.cmpValue (FP.dcmp (f10 (0 : Int32).toNatClampNeg) (FP.f2d r4)) .l) = 0 → ((23, 0) ∈ eL E2 ∧ ∃ f15, ew E2 (23, 0) = .inl (ec E2 3, 1, .inr (.inr (.inr (.inl f15)))) ∧ ((23, 0) ∈ eL E2 ∧ ∃ f18, ew E2 (23, 0) = .inl (ec E2 3, 1, .inr (.inr (.inr (.inl f18)))) ∧ (((Op.cmpValue (FP.dcmp (f15 (0 : Int32).toNatClampNeg) (f18 (0 : Int32).toNatClampNeg)) .l) = 0 → False) ∧ (¬ (Op.cmpValue (FP.dcmp (f15 (0 : Int32).toNatClampNeg) (f18 (0 : Int32).toNatClampNeg)) .l) = 0 → ((¬ (Op.cmpValue (FP.fcmp r4 r4) .l) = 0 → K E2 S3 M7) ∧ ((Op.cmpValue (FP.fcmp r4 r4) .l) = 0 → False))))))))))))) ∧ (¬ r6 = r1 → False)))  M5)  m0)  s0
set_option maxHeartbeats 4000000 in
theorem tl_c36 {p : Program} {l : Launch} {e : Env} {s : State} {m : MethodId} {b L : Nat} {xs : Nat → Int32} {below : List Frame} {meth : Method} {c : Code} {cells slots : Nat} {Q : State → Prop} {K : tc_E → tc_S → mm_S → Prop} {i : Int32} {E0 : tc_E} {s0 : tc_S} {m0 : mm_S} {H : Heap} {locs : List Loc} {ls : Array Slot} (hl0 : l.stackTraces = false) (C : tc_C p m c code 9 s #[.ref b] RX0 E0) (hX : va_X b L xs s s.heap) (hbl : b < s.heap.size) (hbA : ∀ q : Nat, ¬ eb E0 ≤ b) (hcr : cells + 12 ≤ 1203072 ∧ slots + 260 ≤ 5394730) (hm : tl_m E0) (hH : tc_ok (tm E0 m0) s0 H) (hS : va_S (fun q => eb E0 ≤ q) s.heap H locs) (hl : lv_has ls 9 [(0, .ref b), (1, .ref (ea E0 (0, 0))), (2, .ref (ea E0 (20, 0))), (3, .ref (ea E0 (22, 0))), (4, .ref (ea E0 (23, 0))), (5, .int i)]) (hK : tl_K K p l e s m b below meth c cells slots Q i E0) (hk : wl_c36 L xs K i E0 s0 m0) : W p l e room_1 s m #[.ref b] below meth c H locs cells slots Q (F0 m 2021 ls []) := by
  unfold wl_c36 at hk
  have hsim := tc_sim.rf E0
  refine lv_aload_n C.hx C.hb dL_law_2021 rfl (lv_at hl 1 rfl) ?_
  refine lv_aload C.hx C.hb dL_law_2022 (lv_at hl 4 rfl) ?_
  refine tl_w (As := [.ref (ea E0 (0, 0)), .ref (ea E0 (23, 0))]) (rest := []) C hH hS (t_X0_quietShare l hl0 hk) (vx_cwSW 2 C.hts (lw_SW q1220 q1221 q52 q1222) rfl rfl rfl (by decide +kernel) ⟨Nat.le_of_ble_eq_true rfl, Nat.le_of_ble_eq_true rfl⟩) rfl hl.1 rfl (lv_room (Nat.le_of_ble_eq_true rfl)) dL_law_2024 ⟨by show cells + 1 ≤ 1203072; omega, by show slots + 6 ≤ 5394730; omega⟩ (fun r1 E9 S3 H locs hk hsm hH hS => ?_)
  obtain ⟨E2, rfl, hsa, hm, hk⟩ := hk
  have hsim2 : tc_sim E0 E2 := hsm
  have C := C.sim hsim2
  rw [← hsim2.1] at hS
  have hsim := hsim.trans hsim2
  have hbA : ∀ q : Nat, ¬ eb E2 ≤ b := fun _ => by rw [hsim2.1]; exact hbA 0
  have hl : lv_has ls 9 [(0, .ref b), (1, .ref (ea E2 (0, 0))), (2, .ref (ea E2 (20, 0))), (3, .ref (ea E2 (22, 0))), (4, .ref (ea E2 (23, 0))), (5, .int i)] := by rw [hsa.1, hsa.2.1, hsa.2.2.1, hsa.2.2.2]; exact hl
  refine W.eq (g2 := F0 m 2027 ls [.int r1]) rfl ?_
  refine lv_istore (lv' := [(6, .int r1), (0, .ref b), (1, .ref (ea E2 (0, 0))), (2, .ref (ea E2 (20, 0))), (3, .ref (ea E2 (22, 0))), (4, .ref (ea E2 (23, 0))), (5, .int i)]) C.hx C.hb dL_law_2027 hl (by decide) rfl (fun ls hl => ?_)
  refine lv_aload_n C.hx C.hb dL_law_2029 rfl (lv_at hl 3 rfl) ?_
  refine tl_f (As := []) (rest := []) C hH hm hS (t_X6_quietShare l hk) (cwV 0 C.hts (lw_V q1596 q1597 q1598 q65 q1599) rfl rfl rfl (by decide +kernel) ⟨Nat.le_of_ble_eq_true rfl, Nat.le_of_ble_eq_true rfl⟩) rfl hl.1 rfl (lv_room (Nat.le_of_ble_eq_true rfl)) dL_law_2030 (lw_le hcr) (fun r4 M5 H locs hk hH hS => ?_)
  refine W.eq (g2 := F0 m 2033 ls [.float r4]) rfl ?_
  refine lv_fstore (lv' := [(7, .float r4), (6, .int r1), (0, .ref b), (1, .ref (ea E2 (0, 0))), (2, .ref (ea E2 (20, 0))), (3, .ref (ea E2 (22, 0))), (4, .ref (ea E2 (23, 0))), (5, .int i)]) C.hx C.hb dL_law_2033 hl (by decide) rfl (fun ls hl => ?_)
  refine lv_aload_n C.hx C.hb dL_law_2035 rfl (lv_at hl 4 rfl) ?_
  refine tl_i (As := []) (rest := []) C hH hm hS (t_X6_thrown l hk) (cwV 0 C.hts (lw_V q1321 q1322 q1323 q65 q1324) rfl rfl rfl (by decide +kernel) ⟨Nat.le_of_ble_eq_true rfl, Nat.le_of_ble_eq_true rfl⟩) rfl hl.1 rfl (lv_room (Nat.le_of_ble_eq_true rfl)) dL_law_2036 (lw_le hcr) (fun r6 M7 H locs hk hH hS => ?_)
  refine W.eq (g2 := F0 m 2039 ls [.int r6]) rfl ?_
  refine lv_iload C.hx C.hb dL_law_2039 (lv_at hl 1 rfl) ?_
  refine lv_icmp_eq (tgt := 2046) C.hx C.hb dL_law_2041 (by decide) (fun c8 => ?_) (fun c8 => ?_)
  · have hk := hk.1 c8
    refine lv_iload C.hx C.hb dL_law_2046 (lv_at hl 1 rfl) ?_
    refine lv_if_ne (tgt := 2084) C.hx C.hb dL_law_2048 (by decide) (fun c9 => ?_) (fun c9 => ?_)
    · have hk := hk.1 c9
      refine lv_goto (tgt := 2100) C.hx C.hb dL_law_2084 (by decide) ?_
      refine W.widen (k := cells + KC) (n := slots + KS) (by show cells + 1 ≤ cells + 12; omega) (by show slots + 6 ≤ slots + 260; omega) ?_
      exact hK E2 S3 M7 _ _ _ hk hsim hm hH hS (lv_sub hl [2, 3, 4, 5, 6, 7] rfl)
    · have hk := hk.2 c9
      refine lv_aload C.hx C.hb dL_law_2051 (lv_at hl 6 rfl) ?_
      refine lv_iconst (v := 0) C.hx C.hb dL_law_2053 (by decide) ?_
      obtain ⟨h11, f10, h12, hk⟩ := hk
      refine tl_dald C hH h11 h12 dL_law_2054 ?_
      refine lv_fload C.hx C.hb dL_law_2055 (lv_at hl 0 rfl) ?_
      obtain ⟨h13, hk⟩ := hk
      refine lv_f2d C.hx C.hb dL_law_2057 h13 ?_
      refine lv_dcmp C.hx C.hb dL_law_2058 ?_
      refine lv_if_eq (tgt := 2084) C.hx C.hb dL_law_2059 (by decide) (fun c14 => ?_) (fun c14 => ?_)
      · have hk := hk.1 c14
        refine lv_goto (tgt := 2100) C.hx C.hb dL_law_2084 (by decide) ?_
        refine W.widen (k := cells + KC) (n := slots + KS) (by show cells + 1 ≤ cells + 12; omega) (by show slots + 6 ≤ slots + 260; omega) ?_
        exact hK E2 S3 M7 _ _ _ hk hsim hm hH hS (lv_sub hl [2, 3, 4, 5, 6, 7] rfl)
      · have hk := hk.2 c14
        refine lv_aload C.hx C.hb dL_law_2062 (lv_at hl 6 rfl) ?_
        refine lv_iconst (v := 0) C.hx C.hb dL_law_2064 (by decide) ?_
        obtain ⟨h16, f15, h17, hk⟩ := hk
        refine tl_dald C hH h16 h17 dL_law_2065 ?_
        refine lv_aload C.hx C.hb dL_law_2066 (lv_at hl 6 rfl) ?_
        refine lv_iconst (v := 0) C.hx C.hb dL_law_2068 (by decide) ?_
        obtain ⟨h19, f18, h20, hk⟩ := hk
        refine tl_dald C hH h19 h20 dL_law_2069 ?_
        refine lv_dcmp C.hx C.hb dL_law_2070 ?_
        refine lv_if_eq (tgt := 2082) C.hx C.hb dL_law_2071 (by decide) (fun c21 => ?_) (fun c21 => ?_)
        · have hk := hk.1 c21
          refine lv_iconst (v := 0) C.hx C.hb dL_law_2082 (by decide) ?_
          exact hk.elim
        · have hk := hk.2 c21
          refine lv_fload C.hx C.hb dL_law_2074 (lv_at hl 0 rfl) ?_
          refine lv_fload C.hx C.hb dL_law_2076 (lv_at hl 0 rfl) ?_
          refine lv_fcmp C.hx C.hb dL_law_2078 ?_
          refine lv_if_ne (tgt := 2084) C.hx C.hb dL_law_2079 (by decide) (fun c22 => ?_) (fun c22 => ?_)
          · have hk := hk.1 c22
            refine lv_goto (tgt := 2100) C.hx C.hb dL_law_2084 (by decide) ?_
            refine W.widen (k := cells + KC) (n := slots + KS) (by show cells + 1 ≤ cells + 12; omega) (by show slots + 6 ≤ slots + 260; omega) ?_
            exact hK E2 S3 M7 _ _ _ hk hsim hm hH hS (lv_sub hl [2, 3, 4, 5, 6, 7] rfl)
          · have hk := hk.2 c22
            refine lv_iconst (v := 0) C.hx C.hb dL_law_2082 (by decide) ?_
            exact hk.elim
  · have hk := hk.2 c8
    refine lv_iconst (v := 0) C.hx C.hb dL_law_2044 (by decide) ?_
    exact hk.elim
def wl_c37 (L : Nat) (xs : Nat → Int32) (K : tc_E → tc_S → mm_S → Prop) (i : Int32) (E0 : tc_E) (s0 : tc_S) (m0 : mm_S) : Prop := wp_X1_isConsistent (tm E0 m0) (fun r1 S2 => wp_X6_isConsistent (fun r3 M4 => ((r1 = r3 → K E0 S2 M4) ∧ (¬ r1 = r3 → False)))  m0)  s0
set_option maxHeartbeats 4000000 in
theorem tl_c37 {p : Program} {l : Launch} {e : Env} {s : State} {m : MethodId} {b L : Nat} {xs : Nat → Int32} {below : List Frame} {meth : Method} {c : Code} {cells slots : Nat} {Q : State → Prop} {K : tc_E → tc_S → mm_S → Prop} {i : Int32} {E0 : tc_E} {s0 : tc_S} {m0 : mm_S} {H : Heap} {locs : List Loc} {ls : Array Slot} (hl0 : l.stackTraces = false) (C : tc_C p m c code 9 s #[.ref b] RX0 E0) (hX : va_X b L xs s s.heap) (hbl : b < s.heap.size) (hbA : ∀ q : Nat, ¬ eb E0 ≤ b) (hcr : cells + 12 ≤ 1203072 ∧ slots + 260 ≤ 5394730) (hm : tl_m E0) (hH : tc_ok (tm E0 m0) s0 H) (hS : va_S (fun q => eb E0 ≤ q) s.heap H locs) (hl : lv_has ls 9 [(0, .ref b), (1, .ref (ea E0 (0, 0))), (2, .ref (ea E0 (20, 0))), (3, .ref (ea E0 (22, 0))), (4, .ref (ea E0 (23, 0))), (5, .int i)]) (hK : tl_K K p l e s m b below meth c cells slots Q i E0) (hk : wl_c37 L xs K i E0 s0 m0) : W p l e room_1 s m #[.ref b] below meth c H locs cells slots Q (F0 m 2087 ls []) := by
  unfold wl_c37 at hk
  have hsim := tc_sim.rf E0
  refine lv_aload_n C.hx C.hb dL_law_2087 rfl (lv_at hl 1 rfl) ?_
  refine tc_run (tc_rV (As := []) (rest := []) (L := (0, 0)) (ci := 0) (fs := tc_gfs (tm E0 m0) s0) (q := (RX1, TX1, 13)) (C.sim (tm_sim E0 m0)) hH.g rfl rfl (t_X1_isConsistent l hk) (cwV 0 C.hts (lw_V q532 q533 q534 q53 q535) rfl rfl rfl (by decide +kernel) ⟨Nat.le_of_ble_eq_true rfl, Nat.le_of_ble_eq_true rfl⟩) hH hS rfl hl.1 rfl (lv_room (Nat.le_of_ble_eq_true rfl)) dL_law_2088 (lw_le0 hcr)) hS (fun r1 S2 H locs hk hH hS => ?_)
  refine W.eq (g2 := F0 m 2091 ls [.int r1]) rfl ?_
  refine lv_aload_n C.hx C.hb dL_law_2091 rfl (lv_at hl 2 rfl) ?_
  refine tl_i (As := []) (rest := [.int r1]) C hH hm hS (t_X6_isConsistent l hk) (cwV 0 C.hts (lw_V q1600 q1601 q1602 q65 q1603) rfl rfl rfl (by decide +kernel) ⟨Nat.le_of_ble_eq_true rfl, Nat.le_of_ble_eq_true rfl⟩) rfl hl.1 rfl (lv_room (Nat.le_of_ble_eq_true rfl)) dL_law_2092 (lw_le0 hcr) (fun r3 M4 H locs hk hH hS => ?_)
  refine W.eq (g2 := F0 m 2095 ls [.int r3, .int r1]) rfl ?_
  refine lv_icmp_eq (tgt := 2100) C.hx C.hb dL_law_2095 (by decide) (fun c5 => ?_) (fun c5 => ?_)
  · have hk := hk.1 c5
    refine W.widen (k := cells + KC) (n := slots + KS) (by show cells ≤ cells + 12; omega) (by show slots ≤ slots + 260; omega) ?_
    exact hK E0 S2 M4 _ _ _ hk hsim hm hH hS (lv_sub hl [0, 1, 2, 3, 4, 5] rfl)
  · have hk := hk.2 c5
    refine lv_iconst (v := 0) C.hx C.hb dL_law_2098 (by decide) ?_
    exact hk.elim

/-! the law's wrappers, by program (gen/decw.py) -/
set_option maxRecDepth 100000
/-! ToneGraphLaw.addGain -/
def ww_X0_addGain (E : tc_E) (post : Int32 → tc_E → tc_S → Prop) (p1 : Int32) (s0 : tc_S) : Prop := wp_X1_addGain E (fun r E1 S1 => tw_o E E1 ∧ (post 0 (tc_out E1 r.toInt64) S1)) (fun X S1 => (X = "java/lang/IllegalArgumentException" ∧ post 1 E S1) ∨ (X = "java/lang/IllegalStateException" ∧ post 2 E S1)) p1 s0
set_option maxHeartbeats 4000000 in
theorem t_X0_addGain (l : Launch) (hl0 : l.stackTraces = false) {E : tc_E} {post : Int32 → tc_E → tc_S → Prop} {p1 : Int32} {s0 : tc_S} (hk : ww_X0_addGain E post p1 s0) : tw_M l yX0_addGain (wsW_ yX0_addGain cX0_addGain 4 (some .int) [(0, 9, 12, 13), (0, 9, 15, 15)]) ({ frames := 9, cells := 7, slots := 150, locals := 169 } : Room) E [.ref (ea E (0, 0)), .int p1, .ref (ea E (22, 0))] s0 post 7 150 := by
  refine tw_start cX0_addGain 4 (some .int) [(0, 9, 12, 13), (0, 9, 15, 15)] RX0 (by decide) rfl rfl (Nat.le_of_ble_eq_true rfl) ?_
  intro p e s m args below meth c ls C htab hr hlk hH hS hl
  have hl : lv_has ls 4 [(0, .ref (ea E (0, 0))), (1, .int p1), (2, .ref (ea E (22, 0)))] := hl
  unfold ww_X0_addGain at hk
  refine lv_aload_n C.hx C.hb dX0_addGain_0 rfl (lv_at hl 2 rfl) ?_
  refine lv_iconst (v := 0) C.hx C.hb dX0_addGain_1 (by decide) ?_
  refine lv_aload_n C.hx C.hb dX0_addGain_2 rfl (lv_at hl 0 rfl) ?_
  refine lv_iload_n C.hx C.hb dX0_addGain_3 rfl (lv_at hl 1 rfl) ?_
  refine ty_run (ty_rV (As := [.int p1]) (rest := [.int 0, .ref (ea E (22, 0))]) (L := (0, 0)) (ci := 0) (fs := tc_gfs E s0) (q := (RX1, TX1, 13)) C hH.g rfl rfl (t_X1_addGain l hl0 hk) (cwV 1 C.hts (lw_V q724 q725 q726 q53 q727) rfl rfl rfl (by decide +kernel) ⟨Nat.le_of_ble_eq_true rfl, Nat.le_of_ble_eq_true rfl⟩) hH hS rfl hl.1 rfl (lv_room (Nat.le_of_ble_eq_true rfl)) dX0_addGain_4 ⟨Nat.le_of_ble_eq_true rfl, Nat.le_of_ble_eq_true rfl⟩) hS (fun X ce q9 S9 H1 locs1 hk hH hS h1 h2 h3 => ?_) (fun r E1 S1 H locs hk hsim hH hS => ?_)
  · rcases hk with ⟨rfl, hk⟩ | ⟨rfl, hk⟩
    · refine vx_catch C.hown [] ⟨0, 9, 12, 13⟩ [⟨0, 9, 15, 15⟩] (by rw [htab]; rfl) (fun z hz => by cases hz) (by decide) (by decide) (C.hts _ q722) (va_Nw.use rfl (C.nw 59 rfl)) h1 h2 h3 ?_
      refine lv_astore_n (lv' := [(3, .ref q9), (0, .ref (ea E (0, 0))), (1, .int p1), (2, .ref (ea E (22, 0)))]) C.hx C.hb dX0_addGain_12 rfl hl (by decide) rfl (fun ls hl => ?_)
      refine lv_iconst (v := 1) C.hx C.hb dX0_addGain_13 (by decide) ?_
      exact ty_iret 1 rfl C (tc_sim.rf E) hr hlk hH hS hk dX0_addGain_14 (Nat.le_of_ble_eq_true rfl) (Nat.le_of_ble_eq_true rfl)
    · refine vx_catch C.hown [⟨0, 9, 12, 13⟩] ⟨0, 9, 15, 15⟩ [] (by rw [htab]; rfl) (fun z hz => by
      simp only [List.mem_cons, List.not_mem_nil, or_false] at hz
      rcases hz with rfl
      · exact Or.inr ⟨by decide, "java/lang/IllegalArgumentException", C.hts _ q722, C.hZ.nc.at 0 rfl⟩) (by decide) (by decide) (C.hts _ q723) (va_Nw.use rfl (C.nw 61 rfl)) h1 h2 h3 ?_
      refine lv_astore_n (lv' := [(3, .ref q9), (0, .ref (ea E (0, 0))), (1, .int p1), (2, .ref (ea E (22, 0)))]) C.hx C.hb dX0_addGain_15 rfl hl (by decide) rfl (fun ls hl => ?_)
      refine lv_iconst (v := 2) C.hx C.hb dX0_addGain_16 (by decide) ?_
      exact ty_iret 2 rfl C (tc_sim.rf E) hr hlk hH hS hk dX0_addGain_17 (Nat.le_of_ble_eq_true rfl) (Nat.le_of_ble_eq_true rfl)
  · obtain ⟨ho, hk⟩ := hk
    have C1 := C.sim hsim
    rw [← hsim.1] at hS
    refine W.eq (g2 := F0 m 7 ls [.int r, .int 0, .ref (ea E (22, 0))]) rfl ?_
    refine lv_i2l C1.hx C1.hb dX0_addGain_7 rfl ?_
    refine tw_last C1 hH hS ho dX0_addGain_8 (fun H locs hH hS => ?_)
    refine lv_goto (tgt := 18) C1.hx C1.hb dX0_addGain_9 (by decide) ?_
    refine lv_iconst (v := 0) C1.hx C1.hb dX0_addGain_18 (by decide) ?_
    exact ty_iret 0 rfl (C1.sim (tw_sim _ _ _)) (hsim.trans (tw_sim _ _ _)) hr hlk hH hS hk dX0_addGain_19 (Nat.le_of_ble_eq_true rfl) (Nat.le_of_ble_eq_true rfl)
/-! ToneGraphLaw.addDelay -/
def ww_X0_addDelay (E : tc_E) (post : Int32 → tc_E → tc_S → Prop) (p1 : Int32) (p2 : Int32) (s0 : tc_S) : Prop := wp_X1_addDelay E (fun r E1 S1 => tw_o E E1 ∧ (post 0 (tc_out E1 r.toInt64) S1)) (fun X S1 => (X = "java/lang/IllegalArgumentException" ∧ post 1 E S1) ∨ (X = "java/lang/IllegalStateException" ∧ post 2 E S1)) p1 p2 s0
set_option maxHeartbeats 4000000 in
theorem t_X0_addDelay (l : Launch) (hl0 : l.stackTraces = false) {E : tc_E} {post : Int32 → tc_E → tc_S → Prop} {p1 : Int32} {p2 : Int32} {s0 : tc_S} (hk : ww_X0_addDelay E post p1 p2 s0) : tw_M l yX0_addDelay (wsW_ yX0_addDelay cX0_addDelay 5 (some .int) [(0, 10, 13, 13), (0, 10, 17, 15)]) ({ frames := 9, cells := 7, slots := 212, locals := 170 } : Room) E [.ref (ea E (0, 0)), .int p1, .int p2, .ref (ea E (22, 0))] s0 post 7 212 := by
  refine tw_start cX0_addDelay 5 (some .int) [(0, 10, 13, 13), (0, 10, 17, 15)] RX0 (by decide) rfl rfl (Nat.le_of_ble_eq_true rfl) ?_
  intro p e s m args below meth c ls C htab hr hlk hH hS hl
  have hl : lv_has ls 5 [(0, .ref (ea E (0, 0))), (1, .int p1), (2, .int p2), (3, .ref (ea E (22, 0)))] := hl
  unfold ww_X0_addDelay at hk
  refine lv_aload_n C.hx C.hb dX0_addDelay_0 rfl (lv_at hl 3 rfl) ?_
  refine lv_iconst (v := 0) C.hx C.hb dX0_addDelay_1 (by decide) ?_
  refine lv_aload_n C.hx C.hb dX0_addDelay_2 rfl (lv_at hl 0 rfl) ?_
  refine lv_iload_n C.hx C.hb dX0_addDelay_3 rfl (lv_at hl 1 rfl) ?_
  refine lv_iload_n C.hx C.hb dX0_addDelay_4 rfl (lv_at hl 2 rfl) ?_
  refine ty_run (ty_rV (As := [.int p1, .int p2]) (rest := [.int 0, .ref (ea E (22, 0))]) (L := (0, 0)) (ci := 0) (fs := tc_gfs E s0) (q := (RX1, TX1, 13)) C hH.g rfl rfl (t_X1_addDelay l hl0 hk) (cwV 2 C.hts (lw_V q788 q789 q790 q53 q791) rfl rfl rfl (by decide +kernel) ⟨Nat.le_of_ble_eq_true rfl, Nat.le_of_ble_eq_true rfl⟩) hH hS rfl hl.1 rfl (lv_room (Nat.le_of_ble_eq_true rfl)) dX0_addDelay_5 ⟨Nat.le_of_ble_eq_true rfl, Nat.le_of_ble_eq_true rfl⟩) hS (fun X ce q9 S9 H1 locs1 hk hH hS h1 h2 h3 => ?_) (fun r E1 S1 H locs hk hsim hH hS => ?_)
  · rcases hk with ⟨rfl, hk⟩ | ⟨rfl, hk⟩
    · refine vx_catch C.hown [] ⟨0, 10, 13, 13⟩ [⟨0, 10, 17, 15⟩] (by rw [htab]; rfl) (fun z hz => by cases hz) (by decide) (by decide) (C.hts _ q722) (va_Nw.use rfl (C.nw 59 rfl)) h1 h2 h3 ?_
      refine lv_astore (lv' := [(4, .ref q9), (0, .ref (ea E (0, 0))), (1, .int p1), (2, .int p2), (3, .ref (ea E (22, 0)))]) C.hx C.hb dX0_addDelay_13 hl (by decide) rfl (fun ls hl => ?_)
      refine lv_iconst (v := 1) C.hx C.hb dX0_addDelay_15 (by decide) ?_
      exact ty_iret 1 rfl C (tc_sim.rf E) hr hlk hH hS hk dX0_addDelay_16 (Nat.le_of_ble_eq_true rfl) (Nat.le_of_ble_eq_true rfl)
    · refine vx_catch C.hown [⟨0, 10, 13, 13⟩] ⟨0, 10, 17, 15⟩ [] (by rw [htab]; rfl) (fun z hz => by
      simp only [List.mem_cons, List.not_mem_nil, or_false] at hz
      rcases hz with rfl
      · exact Or.inr ⟨by decide, "java/lang/IllegalArgumentException", C.hts _ q722, C.hZ.nc.at 0 rfl⟩) (by decide) (by decide) (C.hts _ q723) (va_Nw.use rfl (C.nw 61 rfl)) h1 h2 h3 ?_
      refine lv_astore (lv' := [(4, .ref q9), (0, .ref (ea E (0, 0))), (1, .int p1), (2, .int p2), (3, .ref (ea E (22, 0)))]) C.hx C.hb dX0_addDelay_17 hl (by decide) rfl (fun ls hl => ?_)
      refine lv_iconst (v := 2) C.hx C.hb dX0_addDelay_19 (by decide) ?_
      exact ty_iret 2 rfl C (tc_sim.rf E) hr hlk hH hS hk dX0_addDelay_20 (Nat.le_of_ble_eq_true rfl) (Nat.le_of_ble_eq_true rfl)
  · obtain ⟨ho, hk⟩ := hk
    have C1 := C.sim hsim
    rw [← hsim.1] at hS
    refine W.eq (g2 := F0 m 8 ls [.int r, .int 0, .ref (ea E (22, 0))]) rfl ?_
    refine lv_i2l C1.hx C1.hb dX0_addDelay_8 rfl ?_
    refine tw_last C1 hH hS ho dX0_addDelay_9 (fun H locs hH hS => ?_)
    refine lv_goto (tgt := 21) C1.hx C1.hb dX0_addDelay_10 (by decide) ?_
    refine lv_iconst (v := 0) C1.hx C1.hb dX0_addDelay_21 (by decide) ?_
    exact ty_iret 0 rfl (C1.sim (tw_sim _ _ _)) (hsim.trans (tw_sim _ _ _)) hr hlk hH hS hk dX0_addDelay_22 (Nat.le_of_ble_eq_true rfl) (Nat.le_of_ble_eq_true rfl)
/-! ToneGraphLaw.addFilter -/
def ww_X0_addFilter (E : tc_E) (post : Int32 → tc_E → tc_S → Prop) (p1 : Int32) (p2 : Int32) (p3 : Int32) (s0 : tc_S) : Prop := wp_X1_addFilter E (fun r E1 S1 => tw_o E E1 ∧ (post 0 (tc_out E1 r.toInt64) S1)) (fun X S1 => (X = "java/lang/IllegalArgumentException" ∧ post 1 E S1) ∨ (X = "java/lang/IllegalStateException" ∧ post 2 E S1)) p1 p2 p3 s0
set_option maxHeartbeats 4000000 in
theorem t_X0_addFilter (l : Launch) (hl0 : l.stackTraces = false) {E : tc_E} {post : Int32 → tc_E → tc_S → Prop} {p1 : Int32} {p2 : Int32} {p3 : Int32} {s0 : tc_S} (hk : ww_X0_addFilter E post p1 p2 p3 s0) : tw_M l yX0_addFilter (wsW_ yX0_addFilter cX0_addFilter 6 (some .int) [(0, 12, 15, 13), (0, 12, 19, 15)]) ({ frames := 9, cells := 8, slots := 155, locals := 171 } : Room) E [.ref (ea E (0, 0)), .int p1, .int p2, .int p3, .ref (ea E (22, 0))] s0 post 8 155 := by
  refine tw_start cX0_addFilter 6 (some .int) [(0, 12, 15, 13), (0, 12, 19, 15)] RX0 (by decide) rfl rfl (Nat.le_of_ble_eq_true rfl) ?_
  intro p e s m args below meth c ls C htab hr hlk hH hS hl
  have hl : lv_has ls 6 [(0, .ref (ea E (0, 0))), (1, .int p1), (2, .int p2), (3, .int p3), (4, .ref (ea E (22, 0)))] := hl
  unfold ww_X0_addFilter at hk
  refine lv_aload C.hx C.hb dX0_addFilter_0 (lv_at hl 4 rfl) ?_
  refine lv_iconst (v := 0) C.hx C.hb dX0_addFilter_2 (by decide) ?_
  refine lv_aload_n C.hx C.hb dX0_addFilter_3 rfl (lv_at hl 0 rfl) ?_
  refine lv_iload_n C.hx C.hb dX0_addFilter_4 rfl (lv_at hl 1 rfl) ?_
  refine lv_iload_n C.hx C.hb dX0_addFilter_5 rfl (lv_at hl 2 rfl) ?_
  refine lv_iload_n C.hx C.hb dX0_addFilter_6 rfl (lv_at hl 3 rfl) ?_
  refine ty_run (ty_rV (As := [.int p1, .int p2, .int p3]) (rest := [.int 0, .ref (ea E (22, 0))]) (L := (0, 0)) (ci := 0) (fs := tc_gfs E s0) (q := (RX1, TX1, 13)) C hH.g rfl rfl (t_X1_addFilter l hl0 hk) (cwV 3 C.hts (lw_V q816 q817 q818 q53 q819) rfl rfl rfl (by decide +kernel) ⟨Nat.le_of_ble_eq_true rfl, Nat.le_of_ble_eq_true rfl⟩) hH hS rfl hl.1 rfl (lv_room (Nat.le_of_ble_eq_true rfl)) dX0_addFilter_7 ⟨Nat.le_of_ble_eq_true rfl, Nat.le_of_ble_eq_true rfl⟩) hS (fun X ce q9 S9 H1 locs1 hk hH hS h1 h2 h3 => ?_) (fun r E1 S1 H locs hk hsim hH hS => ?_)
  · rcases hk with ⟨rfl, hk⟩ | ⟨rfl, hk⟩
    · refine vx_catch C.hown [] ⟨0, 12, 15, 13⟩ [⟨0, 12, 19, 15⟩] (by rw [htab]; rfl) (fun z hz => by cases hz) (by decide) (by decide) (C.hts _ q722) (va_Nw.use rfl (C.nw 59 rfl)) h1 h2 h3 ?_
      refine lv_astore (lv' := [(5, .ref q9), (0, .ref (ea E (0, 0))), (1, .int p1), (2, .int p2), (3, .int p3), (4, .ref (ea E (22, 0)))]) C.hx C.hb dX0_addFilter_15 hl (by decide) rfl (fun ls hl => ?_)
      refine lv_iconst (v := 1) C.hx C.hb dX0_addFilter_17 (by decide) ?_
      exact ty_iret 1 rfl C (tc_sim.rf E) hr hlk hH hS hk dX0_addFilter_18 (Nat.le_of_ble_eq_true rfl) (Nat.le_of_ble_eq_true rfl)
    · refine vx_catch C.hown [⟨0, 12, 15, 13⟩] ⟨0, 12, 19, 15⟩ [] (by rw [htab]; rfl) (fun z hz => by
      simp only [List.mem_cons, List.not_mem_nil, or_false] at hz
      rcases hz with rfl
      · exact Or.inr ⟨by decide, "java/lang/IllegalArgumentException", C.hts _ q722, C.hZ.nc.at 0 rfl⟩) (by decide) (by decide) (C.hts _ q723) (va_Nw.use rfl (C.nw 61 rfl)) h1 h2 h3 ?_
      refine lv_astore (lv' := [(5, .ref q9), (0, .ref (ea E (0, 0))), (1, .int p1), (2, .int p2), (3, .int p3), (4, .ref (ea E (22, 0)))]) C.hx C.hb dX0_addFilter_19 hl (by decide) rfl (fun ls hl => ?_)
      refine lv_iconst (v := 2) C.hx C.hb dX0_addFilter_21 (by decide) ?_
      exact ty_iret 2 rfl C (tc_sim.rf E) hr hlk hH hS hk dX0_addFilter_22 (Nat.le_of_ble_eq_true rfl) (Nat.le_of_ble_eq_true rfl)
  · obtain ⟨ho, hk⟩ := hk
    have C1 := C.sim hsim
    rw [← hsim.1] at hS
    refine W.eq (g2 := F0 m 10 ls [.int r, .int 0, .ref (ea E (22, 0))]) rfl ?_
    refine lv_i2l C1.hx C1.hb dX0_addFilter_10 rfl ?_
    refine tw_last C1 hH hS ho dX0_addFilter_11 (fun H locs hH hS => ?_)
    refine lv_goto (tgt := 23) C1.hx C1.hb dX0_addFilter_12 (by decide) ?_
    refine lv_iconst (v := 0) C1.hx C1.hb dX0_addFilter_23 (by decide) ?_
    exact ty_iret 0 rfl (C1.sim (tw_sim _ _ _)) (hsim.trans (tw_sim _ _ _)) hr hlk hH hS hk dX0_addFilter_24 (Nat.le_of_ble_eq_true rfl) (Nat.le_of_ble_eq_true rfl)
/-! ToneGraphLaw.addBus -/
def ww_X0_addBus (E : tc_E) (post : Int32 → tc_E → tc_S → Prop) (p1 : Int32) (s0 : tc_S) : Prop := wp_X1_addBus E (fun r E1 S1 => tw_o E E1 ∧ (post 0 (tc_out E1 r.toInt64) S1)) (fun X S1 => (X = "java/lang/IllegalArgumentException" ∧ post 1 E S1) ∨ (X = "java/lang/IllegalStateException" ∧ post 2 E S1)) p1 s0
set_option maxHeartbeats 4000000 in
theorem t_X0_addBus (l : Launch) (hl0 : l.stackTraces = false) {E : tc_E} {post : Int32 → tc_E → tc_S → Prop} {p1 : Int32} {s0 : tc_S} (hk : ww_X0_addBus E post p1 s0) : tw_M l yX0_addBus (wsW_ yX0_addBus cX0_addBus 4 (some .int) [(0, 9, 12, 13), (0, 9, 15, 15)]) ({ frames := 9, cells := 7, slots := 150, locals := 169 } : Room) E [.ref (ea E (0, 0)), .int p1, .ref (ea E (22, 0))] s0 post 7 150 := by
  refine tw_start cX0_addBus 4 (some .int) [(0, 9, 12, 13), (0, 9, 15, 15)] RX0 (by decide) rfl rfl (Nat.le_of_ble_eq_true rfl) ?_
  intro p e s m args below meth c ls C htab hr hlk hH hS hl
  have hl : lv_has ls 4 [(0, .ref (ea E (0, 0))), (1, .int p1), (2, .ref (ea E (22, 0)))] := hl
  unfold ww_X0_addBus at hk
  refine lv_aload_n C.hx C.hb dX0_addBus_0 rfl (lv_at hl 2 rfl) ?_
  refine lv_iconst (v := 0) C.hx C.hb dX0_addBus_1 (by decide) ?_
  refine lv_aload_n C.hx C.hb dX0_addBus_2 rfl (lv_at hl 0 rfl) ?_
  refine lv_iload_n C.hx C.hb dX0_addBus_3 rfl (lv_at hl 1 rfl) ?_
  refine ty_run (ty_rV (As := [.int p1]) (rest := [.int 0, .ref (ea E (22, 0))]) (L := (0, 0)) (ci := 0) (fs := tc_gfs E s0) (q := (RX1, TX1, 13)) C hH.g rfl rfl (t_X1_addBus l hl0 hk) (cwV 1 C.hts (lw_V q842 q843 q844 q53 q845) rfl rfl rfl (by decide +kernel) ⟨Nat.le_of_ble_eq_true rfl, Nat.le_of_ble_eq_true rfl⟩) hH hS rfl hl.1 rfl (lv_room (Nat.le_of_ble_eq_true rfl)) dX0_addBus_4 ⟨Nat.le_of_ble_eq_true rfl, Nat.le_of_ble_eq_true rfl⟩) hS (fun X ce q9 S9 H1 locs1 hk hH hS h1 h2 h3 => ?_) (fun r E1 S1 H locs hk hsim hH hS => ?_)
  · rcases hk with ⟨rfl, hk⟩ | ⟨rfl, hk⟩
    · refine vx_catch C.hown [] ⟨0, 9, 12, 13⟩ [⟨0, 9, 15, 15⟩] (by rw [htab]; rfl) (fun z hz => by cases hz) (by decide) (by decide) (C.hts _ q722) (va_Nw.use rfl (C.nw 59 rfl)) h1 h2 h3 ?_
      refine lv_astore_n (lv' := [(3, .ref q9), (0, .ref (ea E (0, 0))), (1, .int p1), (2, .ref (ea E (22, 0)))]) C.hx C.hb dX0_addBus_12 rfl hl (by decide) rfl (fun ls hl => ?_)
      refine lv_iconst (v := 1) C.hx C.hb dX0_addBus_13 (by decide) ?_
      exact ty_iret 1 rfl C (tc_sim.rf E) hr hlk hH hS hk dX0_addBus_14 (Nat.le_of_ble_eq_true rfl) (Nat.le_of_ble_eq_true rfl)
    · refine vx_catch C.hown [⟨0, 9, 12, 13⟩] ⟨0, 9, 15, 15⟩ [] (by rw [htab]; rfl) (fun z hz => by
      simp only [List.mem_cons, List.not_mem_nil, or_false] at hz
      rcases hz with rfl
      · exact Or.inr ⟨by decide, "java/lang/IllegalArgumentException", C.hts _ q722, C.hZ.nc.at 0 rfl⟩) (by decide) (by decide) (C.hts _ q723) (va_Nw.use rfl (C.nw 61 rfl)) h1 h2 h3 ?_
      refine lv_astore_n (lv' := [(3, .ref q9), (0, .ref (ea E (0, 0))), (1, .int p1), (2, .ref (ea E (22, 0)))]) C.hx C.hb dX0_addBus_15 rfl hl (by decide) rfl (fun ls hl => ?_)
      refine lv_iconst (v := 2) C.hx C.hb dX0_addBus_16 (by decide) ?_
      exact ty_iret 2 rfl C (tc_sim.rf E) hr hlk hH hS hk dX0_addBus_17 (Nat.le_of_ble_eq_true rfl) (Nat.le_of_ble_eq_true rfl)
  · obtain ⟨ho, hk⟩ := hk
    have C1 := C.sim hsim
    rw [← hsim.1] at hS
    refine W.eq (g2 := F0 m 7 ls [.int r, .int 0, .ref (ea E (22, 0))]) rfl ?_
    refine lv_i2l C1.hx C1.hb dX0_addBus_7 rfl ?_
    refine tw_last C1 hH hS ho dX0_addBus_8 (fun H locs hH hS => ?_)
    refine lv_goto (tgt := 18) C1.hx C1.hb dX0_addBus_9 (by decide) ?_
    refine lv_iconst (v := 0) C1.hx C1.hb dX0_addBus_18 (by decide) ?_
    exact ty_iret 0 rfl (C1.sim (tw_sim _ _ _)) (hsim.trans (tw_sim _ _ _)) hr hlk hH hS hk dX0_addBus_19 (Nat.le_of_ble_eq_true rfl) (Nat.le_of_ble_eq_true rfl)
/-! ToneGraphLaw.connect -/
def ww_X0_connect (E : tc_E) (post : Int32 → tc_E → tc_S → Prop) (p1 : Int32) (p2 : Int32) (p3 : Int32) (s0 : tc_S) : Prop := wp_X1_connect E (fun r E1 S1 => tw_o E E1 ∧ (post 0 (tc_out E1 r.toInt64) S1)) (fun X S1 => (X = "java/lang/IndexOutOfBoundsException" ∧ post 1 E S1) ∨ (X = "java/lang/IllegalArgumentException" ∧ post 2 E S1) ∨ (X = "java/lang/IllegalStateException" ∧ post 3 E S1) ∨ (X = "java/lang/UnsupportedOperationException" ∧ post 4 E S1)) p1 p2 p3 s0
set_option maxHeartbeats 4000000 in
theorem t_X0_connect (l : Launch) (hl0 : l.stackTraces = false) {E : tc_E} {post : Int32 → tc_E → tc_S → Prop} {p1 : Int32} {p2 : Int32} {p3 : Int32} {s0 : tc_S} (hk : ww_X0_connect E post p1 p2 p3 s0) : tw_M l yX0_connect (wsW_ yX0_connect cX0_connect 6 (some .int) [(0, 12, 15, 31), (0, 12, 19, 13), (0, 12, 23, 15), (0, 12, 27, 33)]) ({ frames := 34, cells := 6, slots := 36, locals := 1033 } : Room) E [.ref (ea E (0, 0)), .int p1, .int p2, .int p3, .ref (ea E (22, 0))] s0 post 6 36 := by
  refine tw_start cX0_connect 6 (some .int) [(0, 12, 15, 31), (0, 12, 19, 13), (0, 12, 23, 15), (0, 12, 27, 33)] RX0 (by decide) rfl rfl (Nat.le_of_ble_eq_true rfl) ?_
  intro p e s m args below meth c ls C htab hr hlk hH hS hl
  have hl : lv_has ls 6 [(0, .ref (ea E (0, 0))), (1, .int p1), (2, .int p2), (3, .int p3), (4, .ref (ea E (22, 0)))] := hl
  unfold ww_X0_connect at hk
  refine lv_aload C.hx C.hb dX0_connect_0 (lv_at hl 4 rfl) ?_
  refine lv_iconst (v := 0) C.hx C.hb dX0_connect_2 (by decide) ?_
  refine lv_aload_n C.hx C.hb dX0_connect_3 rfl (lv_at hl 0 rfl) ?_
  refine lv_iload_n C.hx C.hb dX0_connect_4 rfl (lv_at hl 1 rfl) ?_
  refine lv_iload_n C.hx C.hb dX0_connect_5 rfl (lv_at hl 2 rfl) ?_
  refine lv_iload_n C.hx C.hb dX0_connect_6 rfl (lv_at hl 3 rfl) ?_
  refine ty_run (ty_rV (As := [.int p1, .int p2, .int p3]) (rest := [.int 0, .ref (ea E (22, 0))]) (L := (0, 0)) (ci := 0) (fs := tc_gfs E s0) (q := (RX1, TX1, 13)) C hH.g rfl rfl (t_X1_connect l hl0 hk) (cwV 3 C.hts (lw_V q902 q903 q904 q53 q905) rfl rfl rfl (by decide +kernel) ⟨Nat.le_of_ble_eq_true rfl, Nat.le_of_ble_eq_true rfl⟩) hH hS rfl hl.1 rfl (lv_room (Nat.le_of_ble_eq_true rfl)) dX0_connect_7 ⟨Nat.le_of_ble_eq_true rfl, Nat.le_of_ble_eq_true rfl⟩) hS (fun X ce q9 S9 H1 locs1 hk hH hS h1 h2 h3 => ?_) (fun r E1 S1 H locs hk hsim hH hS => ?_)
  · rcases hk with ⟨rfl, hk⟩ | ⟨rfl, hk⟩ | ⟨rfl, hk⟩ | ⟨rfl, hk⟩
    · refine vx_catch C.hown [] ⟨0, 12, 15, 31⟩ [⟨0, 12, 19, 13⟩, ⟨0, 12, 23, 15⟩, ⟨0, 12, 27, 33⟩] (by rw [htab]; rfl) (fun z hz => by cases hz) (by decide) (by decide) (C.hts _ q868) (va_Nw.use rfl (C.nw 63 rfl)) h1 h2 h3 ?_
      refine lv_astore (lv' := [(5, .ref q9), (0, .ref (ea E (0, 0))), (1, .int p1), (2, .int p2), (3, .int p3), (4, .ref (ea E (22, 0)))]) C.hx C.hb dX0_connect_15 hl (by decide) rfl (fun ls hl => ?_)
      refine lv_iconst (v := 1) C.hx C.hb dX0_connect_17 (by decide) ?_
      exact ty_iret 1 rfl C (tc_sim.rf E) hr hlk hH hS hk dX0_connect_18 (Nat.le_of_ble_eq_true rfl) (Nat.le_of_ble_eq_true rfl)
    · refine vx_catch C.hown [⟨0, 12, 15, 31⟩] ⟨0, 12, 19, 13⟩ [⟨0, 12, 23, 15⟩, ⟨0, 12, 27, 33⟩] (by rw [htab]; rfl) (fun z hz => by
      simp only [List.mem_cons, List.not_mem_nil, or_false] at hz
      rcases hz with rfl
      · exact Or.inr ⟨by decide, "java/lang/IndexOutOfBoundsException", C.hts _ q868, C.hZ.nc.at 10 rfl⟩) (by decide) (by decide) (C.hts _ q722) (va_Nw.use rfl (C.nw 59 rfl)) h1 h2 h3 ?_
      refine lv_astore (lv' := [(5, .ref q9), (0, .ref (ea E (0, 0))), (1, .int p1), (2, .int p2), (3, .int p3), (4, .ref (ea E (22, 0)))]) C.hx C.hb dX0_connect_19 hl (by decide) rfl (fun ls hl => ?_)
      refine lv_iconst (v := 2) C.hx C.hb dX0_connect_21 (by decide) ?_
      exact ty_iret 2 rfl C (tc_sim.rf E) hr hlk hH hS hk dX0_connect_22 (Nat.le_of_ble_eq_true rfl) (Nat.le_of_ble_eq_true rfl)
    · refine vx_catch C.hown [⟨0, 12, 15, 31⟩, ⟨0, 12, 19, 13⟩] ⟨0, 12, 23, 15⟩ [⟨0, 12, 27, 33⟩] (by rw [htab]; rfl) (fun z hz => by
      simp only [List.mem_cons, List.not_mem_nil, or_false] at hz
      rcases hz with rfl | rfl
      · exact Or.inr ⟨by decide, "java/lang/IndexOutOfBoundsException", C.hts _ q868, C.hZ.nc.at 11 rfl⟩
      · exact Or.inr ⟨by decide, "java/lang/IllegalArgumentException", C.hts _ q722, C.hZ.nc.at 0 rfl⟩) (by decide) (by decide) (C.hts _ q723) (va_Nw.use rfl (C.nw 61 rfl)) h1 h2 h3 ?_
      refine lv_astore (lv' := [(5, .ref q9), (0, .ref (ea E (0, 0))), (1, .int p1), (2, .int p2), (3, .int p3), (4, .ref (ea E (22, 0)))]) C.hx C.hb dX0_connect_23 hl (by decide) rfl (fun ls hl => ?_)
      refine lv_iconst (v := 3) C.hx C.hb dX0_connect_25 (by decide) ?_
      exact ty_iret 3 rfl C (tc_sim.rf E) hr hlk hH hS hk dX0_connect_26 (Nat.le_of_ble_eq_true rfl) (Nat.le_of_ble_eq_true rfl)
    · refine vx_catch C.hown [⟨0, 12, 15, 31⟩, ⟨0, 12, 19, 13⟩, ⟨0, 12, 23, 15⟩] ⟨0, 12, 27, 33⟩ [] (by rw [htab]; rfl) (fun z hz => by
      simp only [List.mem_cons, List.not_mem_nil, or_false] at hz
      rcases hz with rfl | rfl | rfl
      · exact Or.inr ⟨by decide, "java/lang/IndexOutOfBoundsException", C.hts _ q868, C.hZ.nc.at 12 rfl⟩
      · exact Or.inr ⟨by decide, "java/lang/IllegalArgumentException", C.hts _ q722, C.hZ.nc.at 2 rfl⟩
      · exact Or.inr ⟨by decide, "java/lang/IllegalStateException", C.hts _ q723, C.hZ.nc.at 7 rfl⟩) (by decide) (by decide) (C.hts _ q901) (va_Nw.use rfl (C.nw 68 rfl)) h1 h2 h3 ?_
      refine lv_astore (lv' := [(5, .ref q9), (0, .ref (ea E (0, 0))), (1, .int p1), (2, .int p2), (3, .int p3), (4, .ref (ea E (22, 0)))]) C.hx C.hb dX0_connect_27 hl (by decide) rfl (fun ls hl => ?_)
      refine lv_iconst (v := 4) C.hx C.hb dX0_connect_29 (by decide) ?_
      exact ty_iret 4 rfl C (tc_sim.rf E) hr hlk hH hS hk dX0_connect_30 (Nat.le_of_ble_eq_true rfl) (Nat.le_of_ble_eq_true rfl)
  · obtain ⟨ho, hk⟩ := hk
    have C1 := C.sim hsim
    rw [← hsim.1] at hS
    refine W.eq (g2 := F0 m 10 ls [.int r, .int 0, .ref (ea E (22, 0))]) rfl ?_
    refine lv_i2l C1.hx C1.hb dX0_connect_10 rfl ?_
    refine tw_last C1 hH hS ho dX0_connect_11 (fun H locs hH hS => ?_)
    refine lv_goto (tgt := 31) C1.hx C1.hb dX0_connect_12 (by decide) ?_
    refine lv_iconst (v := 0) C1.hx C1.hb dX0_connect_31 (by decide) ?_
    exact ty_iret 0 rfl (C1.sim (tw_sim _ _ _)) (hsim.trans (tw_sim _ _ _)) hr hlk hH hS hk dX0_connect_32 (Nat.le_of_ble_eq_true rfl) (Nat.le_of_ble_eq_true rfl)
/-! ToneGraphLaw.disconnect -/
def ww_X0_disconnect (E : tc_E) (post : Int32 → tc_E → tc_S → Prop) (p1 : Int32) (p2 : Int32) (s0 : tc_S) : Prop := wp_X1_disconnect E (fun r S1 => tw_o E E ∧ (post 0 (tc_out E r.toInt64) S1)) (fun X S1 => (X = "java/lang/IndexOutOfBoundsException" ∧ post 1 E S1) ∨ (X = "java/util/NoSuchElementException" ∧ post 2 E S1)) p1 p2 s0
set_option maxHeartbeats 4000000 in
theorem t_X0_disconnect (l : Launch) (hl0 : l.stackTraces = false) {E : tc_E} {post : Int32 → tc_E → tc_S → Prop} {p1 : Int32} {p2 : Int32} {s0 : tc_S} (hk : ww_X0_disconnect E post p1 p2 s0) : tw_M l yX0_disconnect (wsW_ yX0_disconnect cX0_disconnect 5 (some .int) [(0, 10, 13, 31), (0, 10, 17, 38)]) ({ frames := 8, cells := 3, slots := 18, locals := 155 } : Room) E [.ref (ea E (0, 0)), .int p1, .int p2, .ref (ea E (22, 0))] s0 post 3 18 := by
  refine tw_start cX0_disconnect 5 (some .int) [(0, 10, 13, 31), (0, 10, 17, 38)] RX0 (by decide) rfl rfl (Nat.le_of_ble_eq_true rfl) ?_
  intro p e s m args below meth c ls C htab hr hlk hH hS hl
  have hl : lv_has ls 5 [(0, .ref (ea E (0, 0))), (1, .int p1), (2, .int p2), (3, .ref (ea E (22, 0)))] := hl
  unfold ww_X0_disconnect at hk
  refine lv_aload_n C.hx C.hb dX0_disconnect_0 rfl (lv_at hl 3 rfl) ?_
  refine lv_iconst (v := 0) C.hx C.hb dX0_disconnect_1 (by decide) ?_
  refine lv_aload_n C.hx C.hb dX0_disconnect_2 rfl (lv_at hl 0 rfl) ?_
  refine lv_iload_n C.hx C.hb dX0_disconnect_3 rfl (lv_at hl 1 rfl) ?_
  refine lv_iload_n C.hx C.hb dX0_disconnect_4 rfl (lv_at hl 2 rfl) ?_
  refine tx_run (tx_rV (As := [.int p1, .int p2]) (rest := [.int 0, .ref (ea E (22, 0))]) (L := (0, 0)) (ci := 0) (fs := tc_gfs E s0) (q := (RX1, TX1, 13)) C hH.g rfl rfl (t_X1_disconnect l hl0 hk) (cwV 2 C.hts (lw_V q980 q981 q982 q53 q983) rfl rfl rfl (by decide +kernel) ⟨Nat.le_of_ble_eq_true rfl, Nat.le_of_ble_eq_true rfl⟩) hH hS rfl hl.1 rfl (lv_room (Nat.le_of_ble_eq_true rfl)) dX0_disconnect_5 ⟨Nat.le_of_ble_eq_true rfl, Nat.le_of_ble_eq_true rfl⟩) hS (fun X ce q9 S9 H1 locs1 hk hH hS h1 h2 h3 => ?_) (fun r S1 H locs hk hH hS => ?_)
  · rcases hk with ⟨rfl, hk⟩ | ⟨rfl, hk⟩
    · refine vx_catch C.hown [] ⟨0, 10, 13, 31⟩ [⟨0, 10, 17, 38⟩] (by rw [htab]; rfl) (fun z hz => by cases hz) (by decide) (by decide) (C.hts _ q868) (va_Nw.use rfl (C.nw 63 rfl)) h1 h2 h3 ?_
      refine lv_astore (lv' := [(4, .ref q9), (0, .ref (ea E (0, 0))), (1, .int p1), (2, .int p2), (3, .ref (ea E (22, 0)))]) C.hx C.hb dX0_disconnect_13 hl (by decide) rfl (fun ls hl => ?_)
      refine lv_iconst (v := 1) C.hx C.hb dX0_disconnect_15 (by decide) ?_
      exact ty_iret 1 rfl C (tc_sim.rf E) hr hlk hH hS hk dX0_disconnect_16 (Nat.le_of_ble_eq_true rfl) (Nat.le_of_ble_eq_true rfl)
    · refine vx_catch C.hown [⟨0, 10, 13, 31⟩] ⟨0, 10, 17, 38⟩ [] (by rw [htab]; rfl) (fun z hz => by
      simp only [List.mem_cons, List.not_mem_nil, or_false] at hz
      rcases hz with rfl
      · exact Or.inr ⟨by decide, "java/lang/IndexOutOfBoundsException", C.hts _ q868, C.hZ.nc.at 13 rfl⟩) (by decide) (by decide) (C.hts _ q979) (va_Nw.use rfl (C.nw 71 rfl)) h1 h2 h3 ?_
      refine lv_astore (lv' := [(4, .ref q9), (0, .ref (ea E (0, 0))), (1, .int p1), (2, .int p2), (3, .ref (ea E (22, 0)))]) C.hx C.hb dX0_disconnect_17 hl (by decide) rfl (fun ls hl => ?_)
      refine lv_iconst (v := 2) C.hx C.hb dX0_disconnect_19 (by decide) ?_
      exact ty_iret 2 rfl C (tc_sim.rf E) hr hlk hH hS hk dX0_disconnect_20 (Nat.le_of_ble_eq_true rfl) (Nat.le_of_ble_eq_true rfl)
  · obtain ⟨ho, hk⟩ := hk
    have hsim := tc_sim.rf E
    refine W.eq (g2 := F0 m 8 ls [.int r, .int 0, .ref (ea E (22, 0))]) rfl ?_
    refine lv_i2l C.hx C.hb dX0_disconnect_8 rfl ?_
    refine tw_last C hH hS ho dX0_disconnect_9 (fun H locs hH hS => ?_)
    refine lv_goto (tgt := 21) C.hx C.hb dX0_disconnect_10 (by decide) ?_
    refine lv_iconst (v := 0) C.hx C.hb dX0_disconnect_21 (by decide) ?_
    exact ty_iret 0 rfl (C.sim (tw_sim _ _ _)) (hsim.trans (tw_sim _ _ _)) hr hlk hH hS hk dX0_disconnect_22 (Nat.le_of_ble_eq_true rfl) (Nat.le_of_ble_eq_true rfl)
/-! ToneGraphLaw.setGain -/
def ww_X0_setGain (E : tc_E) (post : Int32 → tc_E → tc_S → Prop) (p1 : Int32) (p2 : Int32) (s0 : tc_S) : Prop := wp_X1_setGain E (fun r S1 => tw_o E E ∧ (post 0 (tc_out E r.toInt64) S1)) (fun X S1 => (X = "java/lang/IndexOutOfBoundsException" ∧ post 1 E S1) ∨ (X = "java/lang/UnsupportedOperationException" ∧ post 2 E S1) ∨ (X = "java/lang/IllegalArgumentException" ∧ post 3 E S1)) p1 p2 s0
set_option maxHeartbeats 4000000 in
theorem t_X0_setGain (l : Launch) (hl0 : l.stackTraces = false) {E : tc_E} {post : Int32 → tc_E → tc_S → Prop} {p1 : Int32} {p2 : Int32} {s0 : tc_S} (hk : ww_X0_setGain E post p1 p2 s0) : tw_M l yX0_setGain (wsW_ yX0_setGain cX0_setGain 5 (some .int) [(0, 10, 13, 31), (0, 10, 17, 33), (0, 10, 21, 13)]) ({ frames := 8, cells := 2, slots := 12, locals := 154 } : Room) E [.ref (ea E (0, 0)), .int p1, .int p2, .ref (ea E (22, 0))] s0 post 2 12 := by
  refine tw_start cX0_setGain 5 (some .int) [(0, 10, 13, 31), (0, 10, 17, 33), (0, 10, 21, 13)] RX0 (by decide) rfl rfl (Nat.le_of_ble_eq_true rfl) ?_
  intro p e s m args below meth c ls C htab hr hlk hH hS hl
  have hl : lv_has ls 5 [(0, .ref (ea E (0, 0))), (1, .int p1), (2, .int p2), (3, .ref (ea E (22, 0)))] := hl
  unfold ww_X0_setGain at hk
  refine lv_aload_n C.hx C.hb dX0_setGain_0 rfl (lv_at hl 3 rfl) ?_
  refine lv_iconst (v := 0) C.hx C.hb dX0_setGain_1 (by decide) ?_
  refine lv_aload_n C.hx C.hb dX0_setGain_2 rfl (lv_at hl 0 rfl) ?_
  refine lv_iload_n C.hx C.hb dX0_setGain_3 rfl (lv_at hl 1 rfl) ?_
  refine lv_iload_n C.hx C.hb dX0_setGain_4 rfl (lv_at hl 2 rfl) ?_
  refine tx_run (tx_rV (As := [.int p1, .int p2]) (rest := [.int 0, .ref (ea E (22, 0))]) (L := (0, 0)) (ci := 0) (fs := tc_gfs E s0) (q := (RX1, TX1, 13)) C hH.g rfl rfl (t_X1_setGain l hl0 hk) (cwV 2 C.hts (lw_V q1011 q1012 q1013 q53 q1014) rfl rfl rfl (by decide +kernel) ⟨Nat.le_of_ble_eq_true rfl, Nat.le_of_ble_eq_true rfl⟩) hH hS rfl hl.1 rfl (lv_room (Nat.le_of_ble_eq_true rfl)) dX0_setGain_5 ⟨Nat.le_of_ble_eq_true rfl, Nat.le_of_ble_eq_true rfl⟩) hS (fun X ce q9 S9 H1 locs1 hk hH hS h1 h2 h3 => ?_) (fun r S1 H locs hk hH hS => ?_)
  · rcases hk with ⟨rfl, hk⟩ | ⟨rfl, hk⟩ | ⟨rfl, hk⟩
    · refine vx_catch C.hown [] ⟨0, 10, 13, 31⟩ [⟨0, 10, 17, 33⟩, ⟨0, 10, 21, 13⟩] (by rw [htab]; rfl) (fun z hz => by cases hz) (by decide) (by decide) (C.hts _ q868) (va_Nw.use rfl (C.nw 63 rfl)) h1 h2 h3 ?_
      refine lv_astore (lv' := [(4, .ref q9), (0, .ref (ea E (0, 0))), (1, .int p1), (2, .int p2), (3, .ref (ea E (22, 0)))]) C.hx C.hb dX0_setGain_13 hl (by decide) rfl (fun ls hl => ?_)
      refine lv_iconst (v := 1) C.hx C.hb dX0_setGain_15 (by decide) ?_
      exact ty_iret 1 rfl C (tc_sim.rf E) hr hlk hH hS hk dX0_setGain_16 (Nat.le_of_ble_eq_true rfl) (Nat.le_of_ble_eq_true rfl)
    · refine vx_catch C.hown [⟨0, 10, 13, 31⟩] ⟨0, 10, 17, 33⟩ [⟨0, 10, 21, 13⟩] (by rw [htab]; rfl) (fun z hz => by
      simp only [List.mem_cons, List.not_mem_nil, or_false] at hz
      rcases hz with rfl
      · exact Or.inr ⟨by decide, "java/lang/IndexOutOfBoundsException", C.hts _ q868, C.hZ.nc.at 12 rfl⟩) (by decide) (by decide) (C.hts _ q901) (va_Nw.use rfl (C.nw 68 rfl)) h1 h2 h3 ?_
      refine lv_astore (lv' := [(4, .ref q9), (0, .ref (ea E (0, 0))), (1, .int p1), (2, .int p2), (3, .ref (ea E (22, 0)))]) C.hx C.hb dX0_setGain_17 hl (by decide) rfl (fun ls hl => ?_)
      refine lv_iconst (v := 2) C.hx C.hb dX0_setGain_19 (by decide) ?_
      exact ty_iret 2 rfl C (tc_sim.rf E) hr hlk hH hS hk dX0_setGain_20 (Nat.le_of_ble_eq_true rfl) (Nat.le_of_ble_eq_true rfl)
    · refine vx_catch C.hown [⟨0, 10, 13, 31⟩, ⟨0, 10, 17, 33⟩] ⟨0, 10, 21, 13⟩ [] (by rw [htab]; rfl) (fun z hz => by
      simp only [List.mem_cons, List.not_mem_nil, or_false] at hz
      rcases hz with rfl | rfl
      · exact Or.inr ⟨by decide, "java/lang/IndexOutOfBoundsException", C.hts _ q868, C.hZ.nc.at 10 rfl⟩
      · exact Or.inr ⟨by decide, "java/lang/UnsupportedOperationException", C.hts _ q901, C.hZ.nc.at 15 rfl⟩) (by decide) (by decide) (C.hts _ q722) (va_Nw.use rfl (C.nw 59 rfl)) h1 h2 h3 ?_
      refine lv_astore (lv' := [(4, .ref q9), (0, .ref (ea E (0, 0))), (1, .int p1), (2, .int p2), (3, .ref (ea E (22, 0)))]) C.hx C.hb dX0_setGain_21 hl (by decide) rfl (fun ls hl => ?_)
      refine lv_iconst (v := 3) C.hx C.hb dX0_setGain_23 (by decide) ?_
      exact ty_iret 3 rfl C (tc_sim.rf E) hr hlk hH hS hk dX0_setGain_24 (Nat.le_of_ble_eq_true rfl) (Nat.le_of_ble_eq_true rfl)
  · obtain ⟨ho, hk⟩ := hk
    have hsim := tc_sim.rf E
    refine W.eq (g2 := F0 m 8 ls [.int r, .int 0, .ref (ea E (22, 0))]) rfl ?_
    refine lv_i2l C.hx C.hb dX0_setGain_8 rfl ?_
    refine tw_last C hH hS ho dX0_setGain_9 (fun H locs hH hS => ?_)
    refine lv_goto (tgt := 25) C.hx C.hb dX0_setGain_10 (by decide) ?_
    refine lv_iconst (v := 0) C.hx C.hb dX0_setGain_25 (by decide) ?_
    exact ty_iret 0 rfl (C.sim (tw_sim _ _ _)) (hsim.trans (tw_sim _ _ _)) hr hlk hH hS hk dX0_setGain_26 (Nat.le_of_ble_eq_true rfl) (Nat.le_of_ble_eq_true rfl)
/-! ToneGraphLaw.setOutput -/
def ww_X0_setOutput (E : tc_E) (post : Int32 → tc_E → tc_S → Prop) (p1 : Int32) (s0 : tc_S) : Prop := wp_X1_setOutput E (fun r S1 => tw_o E E ∧ (post 0 (tc_out E r.toInt64) S1)) (fun X S1 => (X = "java/lang/IndexOutOfBoundsException" ∧ post 1 E S1)) p1 s0
set_option maxHeartbeats 4000000 in
theorem t_X0_setOutput (l : Launch) (hl0 : l.stackTraces = false) {E : tc_E} {post : Int32 → tc_E → tc_S → Prop} {p1 : Int32} {s0 : tc_S} (hk : ww_X0_setOutput E post p1 s0) : tw_M l yX0_setOutput (wsW_ yX0_setOutput cX0_setOutput 4 (some .int) [(0, 9, 12, 31)]) ({ frames := 8, cells := 1, slots := 6, locals := 152 } : Room) E [.ref (ea E (0, 0)), .int p1, .ref (ea E (22, 0))] s0 post 1 6 := by
  refine tw_start cX0_setOutput 4 (some .int) [(0, 9, 12, 31)] RX0 (by decide) rfl rfl (Nat.le_of_ble_eq_true rfl) ?_
  intro p e s m args below meth c ls C htab hr hlk hH hS hl
  have hl : lv_has ls 4 [(0, .ref (ea E (0, 0))), (1, .int p1), (2, .ref (ea E (22, 0)))] := hl
  unfold ww_X0_setOutput at hk
  refine lv_aload_n C.hx C.hb dX0_setOutput_0 rfl (lv_at hl 2 rfl) ?_
  refine lv_iconst (v := 0) C.hx C.hb dX0_setOutput_1 (by decide) ?_
  refine lv_aload_n C.hx C.hb dX0_setOutput_2 rfl (lv_at hl 0 rfl) ?_
  refine lv_iload_n C.hx C.hb dX0_setOutput_3 rfl (lv_at hl 1 rfl) ?_
  refine tx_run (tx_rV (As := [.int p1]) (rest := [.int 0, .ref (ea E (22, 0))]) (L := (0, 0)) (ci := 0) (fs := tc_gfs E s0) (q := (RX1, TX1, 13)) C hH.g rfl rfl (t_X1_setOutput l hl0 hk) (cwV 1 C.hts (lw_V q1018 q1019 q1020 q53 q1021) rfl rfl rfl (by decide +kernel) ⟨Nat.le_of_ble_eq_true rfl, Nat.le_of_ble_eq_true rfl⟩) hH hS rfl hl.1 rfl (lv_room (Nat.le_of_ble_eq_true rfl)) dX0_setOutput_4 ⟨Nat.le_of_ble_eq_true rfl, Nat.le_of_ble_eq_true rfl⟩) hS (fun X ce q9 S9 H1 locs1 hk hH hS h1 h2 h3 => ?_) (fun r S1 H locs hk hH hS => ?_)
  · rcases hk with ⟨rfl, hk⟩
    refine vx_catch C.hown [] ⟨0, 9, 12, 31⟩ [] (by rw [htab]; rfl) (fun z hz => by cases hz) (by decide) (by decide) (C.hts _ q868) (va_Nw.use rfl (C.nw 63 rfl)) h1 h2 h3 ?_
    refine lv_astore_n (lv' := [(3, .ref q9), (0, .ref (ea E (0, 0))), (1, .int p1), (2, .ref (ea E (22, 0)))]) C.hx C.hb dX0_setOutput_12 rfl hl (by decide) rfl (fun ls hl => ?_)
    refine lv_iconst (v := 1) C.hx C.hb dX0_setOutput_13 (by decide) ?_
    exact ty_iret 1 rfl C (tc_sim.rf E) hr hlk hH hS hk dX0_setOutput_14 (Nat.le_of_ble_eq_true rfl) (Nat.le_of_ble_eq_true rfl)
  · obtain ⟨ho, hk⟩ := hk
    have hsim := tc_sim.rf E
    refine W.eq (g2 := F0 m 7 ls [.int r, .int 0, .ref (ea E (22, 0))]) rfl ?_
    refine lv_i2l C.hx C.hb dX0_setOutput_7 rfl ?_
    refine tw_last C hH hS ho dX0_setOutput_8 (fun H locs hH hS => ?_)
    refine lv_goto (tgt := 15) C.hx C.hb dX0_setOutput_9 (by decide) ?_
    refine lv_iconst (v := 0) C.hx C.hb dX0_setOutput_15 (by decide) ?_
    exact ty_iret 0 rfl (C.sim (tw_sim _ _ _)) (hsim.trans (tw_sim _ _ _)) hr hlk hH hS hk dX0_setOutput_16 (Nat.le_of_ble_eq_true rfl) (Nat.le_of_ble_eq_true rfl)
/-! ToneGraphLaw.kindOf -/
def ww_X0_kindOf (E : tc_E) (post : Int32 → tc_E → tc_S → Prop) (p1 : Int32) (s0 : tc_S) : Prop := wp_X1_kindOf E (fun r S1 => tw_o E E ∧ (post 0 (tc_out E r.toInt64) S1)) (fun X S1 => (X = "java/lang/IndexOutOfBoundsException" ∧ post 1 E S1)) p1 s0
set_option maxHeartbeats 4000000 in
theorem t_X0_kindOf (l : Launch) (hl0 : l.stackTraces = false) {E : tc_E} {post : Int32 → tc_E → tc_S → Prop} {p1 : Int32} {s0 : tc_S} (hk : ww_X0_kindOf E post p1 s0) : tw_M l yX0_kindOf (wsW_ yX0_kindOf cX0_kindOf 4 (some .int) [(0, 9, 12, 31)]) ({ frames := 8, cells := 1, slots := 6, locals := 150 } : Room) E [.ref (ea E (0, 0)), .int p1, .ref (ea E (22, 0))] s0 post 1 6 := by
  refine tw_start cX0_kindOf 4 (some .int) [(0, 9, 12, 31)] RX0 (by decide) rfl rfl (Nat.le_of_ble_eq_true rfl) ?_
  intro p e s m args below meth c ls C htab hr hlk hH hS hl
  have hl : lv_has ls 4 [(0, .ref (ea E (0, 0))), (1, .int p1), (2, .ref (ea E (22, 0)))] := hl
  unfold ww_X0_kindOf at hk
  refine lv_aload_n C.hx C.hb dX0_kindOf_0 rfl (lv_at hl 2 rfl) ?_
  refine lv_iconst (v := 0) C.hx C.hb dX0_kindOf_1 (by decide) ?_
  refine lv_aload_n C.hx C.hb dX0_kindOf_2 rfl (lv_at hl 0 rfl) ?_
  refine lv_iload_n C.hx C.hb dX0_kindOf_3 rfl (lv_at hl 1 rfl) ?_
  refine tx_run (tx_rV (As := [.int p1]) (rest := [.int 0, .ref (ea E (22, 0))]) (L := (0, 0)) (ci := 0) (fs := tc_gfs E s0) (q := (RX1, TX1, 13)) C hH.g rfl rfl (t_X1_kindOf l hl0 hk) (cwV 1 C.hts (lw_V q1025 q1026 q1027 q53 q1028) rfl rfl rfl (by decide +kernel) ⟨Nat.le_of_ble_eq_true rfl, Nat.le_of_ble_eq_true rfl⟩) hH hS rfl hl.1 rfl (lv_room (Nat.le_of_ble_eq_true rfl)) dX0_kindOf_4 ⟨Nat.le_of_ble_eq_true rfl, Nat.le_of_ble_eq_true rfl⟩) hS (fun X ce q9 S9 H1 locs1 hk hH hS h1 h2 h3 => ?_) (fun r S1 H locs hk hH hS => ?_)
  · rcases hk with ⟨rfl, hk⟩
    refine vx_catch C.hown [] ⟨0, 9, 12, 31⟩ [] (by rw [htab]; rfl) (fun z hz => by cases hz) (by decide) (by decide) (C.hts _ q868) (va_Nw.use rfl (C.nw 63 rfl)) h1 h2 h3 ?_
    refine lv_astore_n (lv' := [(3, .ref q9), (0, .ref (ea E (0, 0))), (1, .int p1), (2, .ref (ea E (22, 0)))]) C.hx C.hb dX0_kindOf_12 rfl hl (by decide) rfl (fun ls hl => ?_)
    refine lv_iconst (v := 1) C.hx C.hb dX0_kindOf_13 (by decide) ?_
    exact ty_iret 1 rfl C (tc_sim.rf E) hr hlk hH hS hk dX0_kindOf_14 (Nat.le_of_ble_eq_true rfl) (Nat.le_of_ble_eq_true rfl)
  · obtain ⟨ho, hk⟩ := hk
    have hsim := tc_sim.rf E
    refine W.eq (g2 := F0 m 7 ls [.int r, .int 0, .ref (ea E (22, 0))]) rfl ?_
    refine lv_i2l C.hx C.hb dX0_kindOf_7 rfl ?_
    refine tw_last C hH hS ho dX0_kindOf_8 (fun H locs hH hS => ?_)
    refine lv_goto (tgt := 15) C.hx C.hb dX0_kindOf_9 (by decide) ?_
    refine lv_iconst (v := 0) C.hx C.hb dX0_kindOf_15 (by decide) ?_
    exact ty_iret 0 rfl (C.sim (tw_sim _ _ _)) (hsim.trans (tw_sim _ _ _)) hr hlk hH hS hk dX0_kindOf_16 (Nat.le_of_ble_eq_true rfl) (Nat.le_of_ble_eq_true rfl)
/-! ToneGraphLaw.wires -/
def ww_X0_wires (E : tc_E) (post : Int32 → tc_E → tc_S → Prop) (p1 : Int32) (s0 : tc_S) : Prop := wp_X1_wires E (fun r S1 => tw_o E E ∧ (post 0 (tc_out E r.toInt64) S1)) (fun X S1 => (X = "java/lang/IndexOutOfBoundsException" ∧ post 1 E S1)) p1 s0
set_option maxHeartbeats 4000000 in
theorem t_X0_wires (l : Launch) (hl0 : l.stackTraces = false) {E : tc_E} {post : Int32 → tc_E → tc_S → Prop} {p1 : Int32} {s0 : tc_S} (hk : ww_X0_wires E post p1 s0) : tw_M l yX0_wires (wsW_ yX0_wires cX0_wires 4 (some .int) [(0, 9, 12, 31)]) ({ frames := 8, cells := 1, slots := 6, locals := 150 } : Room) E [.ref (ea E (0, 0)), .int p1, .ref (ea E (22, 0))] s0 post 1 6 := by
  refine tw_start cX0_wires 4 (some .int) [(0, 9, 12, 31)] RX0 (by decide) rfl rfl (Nat.le_of_ble_eq_true rfl) ?_
  intro p e s m args below meth c ls C htab hr hlk hH hS hl
  have hl : lv_has ls 4 [(0, .ref (ea E (0, 0))), (1, .int p1), (2, .ref (ea E (22, 0)))] := hl
  unfold ww_X0_wires at hk
  refine lv_aload_n C.hx C.hb dX0_wires_0 rfl (lv_at hl 2 rfl) ?_
  refine lv_iconst (v := 0) C.hx C.hb dX0_wires_1 (by decide) ?_
  refine lv_aload_n C.hx C.hb dX0_wires_2 rfl (lv_at hl 0 rfl) ?_
  refine lv_iload_n C.hx C.hb dX0_wires_3 rfl (lv_at hl 1 rfl) ?_
  refine tx_run (tx_rV (As := [.int p1]) (rest := [.int 0, .ref (ea E (22, 0))]) (L := (0, 0)) (ci := 0) (fs := tc_gfs E s0) (q := (RX1, TX1, 13)) C hH.g rfl rfl (t_X1_wires l hl0 hk) (cwV 1 C.hts (lw_V q1032 q1033 q1034 q53 q1035) rfl rfl rfl (by decide +kernel) ⟨Nat.le_of_ble_eq_true rfl, Nat.le_of_ble_eq_true rfl⟩) hH hS rfl hl.1 rfl (lv_room (Nat.le_of_ble_eq_true rfl)) dX0_wires_4 ⟨Nat.le_of_ble_eq_true rfl, Nat.le_of_ble_eq_true rfl⟩) hS (fun X ce q9 S9 H1 locs1 hk hH hS h1 h2 h3 => ?_) (fun r S1 H locs hk hH hS => ?_)
  · rcases hk with ⟨rfl, hk⟩
    refine vx_catch C.hown [] ⟨0, 9, 12, 31⟩ [] (by rw [htab]; rfl) (fun z hz => by cases hz) (by decide) (by decide) (C.hts _ q868) (va_Nw.use rfl (C.nw 63 rfl)) h1 h2 h3 ?_
    refine lv_astore_n (lv' := [(3, .ref q9), (0, .ref (ea E (0, 0))), (1, .int p1), (2, .ref (ea E (22, 0)))]) C.hx C.hb dX0_wires_12 rfl hl (by decide) rfl (fun ls hl => ?_)
    refine lv_iconst (v := 1) C.hx C.hb dX0_wires_13 (by decide) ?_
    exact ty_iret 1 rfl C (tc_sim.rf E) hr hlk hH hS hk dX0_wires_14 (Nat.le_of_ble_eq_true rfl) (Nat.le_of_ble_eq_true rfl)
  · obtain ⟨ho, hk⟩ := hk
    have hsim := tc_sim.rf E
    refine W.eq (g2 := F0 m 7 ls [.int r, .int 0, .ref (ea E (22, 0))]) rfl ?_
    refine lv_i2l C.hx C.hb dX0_wires_7 rfl ?_
    refine tw_last C hH hS ho dX0_wires_8 (fun H locs hH hS => ?_)
    refine lv_goto (tgt := 15) C.hx C.hb dX0_wires_9 (by decide) ?_
    refine lv_iconst (v := 0) C.hx C.hb dX0_wires_15 (by decide) ?_
    exact ty_iret 0 rfl (C.sim (tw_sim _ _ _)) (hsim.trans (tw_sim _ _ _)) hr hlk hH hS hk dX0_wires_16 (Nat.le_of_ble_eq_true rfl) (Nat.le_of_ble_eq_true rfl)
/-! ToneGraphLaw.wireFrom -/
def ww_X0_wireFrom (E : tc_E) (post : Int32 → tc_E → tc_S → Prop) (p1 : Int32) (p2 : Int32) (s0 : tc_S) : Prop := wp_X1_wireFrom E (fun r S1 => tw_o E E ∧ (post 0 (tc_out E r.toInt64) S1)) (fun X S1 => (X = "java/lang/IndexOutOfBoundsException" ∧ post 1 E S1) ∨ (X = "java/util/NoSuchElementException" ∧ post 2 E S1)) p1 p2 s0
set_option maxHeartbeats 4000000 in
theorem t_X0_wireFrom (l : Launch) (hl0 : l.stackTraces = false) {E : tc_E} {post : Int32 → tc_E → tc_S → Prop} {p1 : Int32} {p2 : Int32} {s0 : tc_S} (hk : ww_X0_wireFrom E post p1 p2 s0) : tw_M l yX0_wireFrom (wsW_ yX0_wireFrom cX0_wireFrom 5 (some .int) [(0, 10, 13, 31), (0, 10, 17, 38)]) ({ frames := 9, cells := 2, slots := 12, locals := 174 } : Room) E [.ref (ea E (0, 0)), .int p1, .int p2, .ref (ea E (22, 0))] s0 post 2 12 := by
  refine tw_start cX0_wireFrom 5 (some .int) [(0, 10, 13, 31), (0, 10, 17, 38)] RX0 (by decide) rfl rfl (Nat.le_of_ble_eq_true rfl) ?_
  intro p e s m args below meth c ls C htab hr hlk hH hS hl
  have hl : lv_has ls 5 [(0, .ref (ea E (0, 0))), (1, .int p1), (2, .int p2), (3, .ref (ea E (22, 0)))] := hl
  unfold ww_X0_wireFrom at hk
  refine lv_aload_n C.hx C.hb dX0_wireFrom_0 rfl (lv_at hl 3 rfl) ?_
  refine lv_iconst (v := 0) C.hx C.hb dX0_wireFrom_1 (by decide) ?_
  refine lv_aload_n C.hx C.hb dX0_wireFrom_2 rfl (lv_at hl 0 rfl) ?_
  refine lv_iload_n C.hx C.hb dX0_wireFrom_3 rfl (lv_at hl 1 rfl) ?_
  refine lv_iload_n C.hx C.hb dX0_wireFrom_4 rfl (lv_at hl 2 rfl) ?_
  refine tx_run (tx_rV (As := [.int p1, .int p2]) (rest := [.int 0, .ref (ea E (22, 0))]) (L := (0, 0)) (ci := 0) (fs := tc_gfs E s0) (q := (RX1, TX1, 13)) C hH.g rfl rfl (t_X1_wireFrom l hl0 hk) (cwV 2 C.hts (lw_V q1039 q1040 q1041 q53 q1042) rfl rfl rfl (by decide +kernel) ⟨Nat.le_of_ble_eq_true rfl, Nat.le_of_ble_eq_true rfl⟩) hH hS rfl hl.1 rfl (lv_room (Nat.le_of_ble_eq_true rfl)) dX0_wireFrom_5 ⟨Nat.le_of_ble_eq_true rfl, Nat.le_of_ble_eq_true rfl⟩) hS (fun X ce q9 S9 H1 locs1 hk hH hS h1 h2 h3 => ?_) (fun r S1 H locs hk hH hS => ?_)
  · rcases hk with ⟨rfl, hk⟩ | ⟨rfl, hk⟩
    · refine vx_catch C.hown [] ⟨0, 10, 13, 31⟩ [⟨0, 10, 17, 38⟩] (by rw [htab]; rfl) (fun z hz => by cases hz) (by decide) (by decide) (C.hts _ q868) (va_Nw.use rfl (C.nw 63 rfl)) h1 h2 h3 ?_
      refine lv_astore (lv' := [(4, .ref q9), (0, .ref (ea E (0, 0))), (1, .int p1), (2, .int p2), (3, .ref (ea E (22, 0)))]) C.hx C.hb dX0_wireFrom_13 hl (by decide) rfl (fun ls hl => ?_)
      refine lv_iconst (v := 1) C.hx C.hb dX0_wireFrom_15 (by decide) ?_
      exact ty_iret 1 rfl C (tc_sim.rf E) hr hlk hH hS hk dX0_wireFrom_16 (Nat.le_of_ble_eq_true rfl) (Nat.le_of_ble_eq_true rfl)
    · refine vx_catch C.hown [⟨0, 10, 13, 31⟩] ⟨0, 10, 17, 38⟩ [] (by rw [htab]; rfl) (fun z hz => by
      simp only [List.mem_cons, List.not_mem_nil, or_false] at hz
      rcases hz with rfl
      · exact Or.inr ⟨by decide, "java/lang/IndexOutOfBoundsException", C.hts _ q868, C.hZ.nc.at 13 rfl⟩) (by decide) (by decide) (C.hts _ q979) (va_Nw.use rfl (C.nw 71 rfl)) h1 h2 h3 ?_
      refine lv_astore (lv' := [(4, .ref q9), (0, .ref (ea E (0, 0))), (1, .int p1), (2, .int p2), (3, .ref (ea E (22, 0)))]) C.hx C.hb dX0_wireFrom_17 hl (by decide) rfl (fun ls hl => ?_)
      refine lv_iconst (v := 2) C.hx C.hb dX0_wireFrom_19 (by decide) ?_
      exact ty_iret 2 rfl C (tc_sim.rf E) hr hlk hH hS hk dX0_wireFrom_20 (Nat.le_of_ble_eq_true rfl) (Nat.le_of_ble_eq_true rfl)
  · obtain ⟨ho, hk⟩ := hk
    have hsim := tc_sim.rf E
    refine W.eq (g2 := F0 m 8 ls [.int r, .int 0, .ref (ea E (22, 0))]) rfl ?_
    refine lv_i2l C.hx C.hb dX0_wireFrom_8 rfl ?_
    refine tw_last C hH hS ho dX0_wireFrom_9 (fun H locs hH hS => ?_)
    refine lv_goto (tgt := 21) C.hx C.hb dX0_wireFrom_10 (by decide) ?_
    refine lv_iconst (v := 0) C.hx C.hb dX0_wireFrom_21 (by decide) ?_
    exact ty_iret 0 rfl (C.sim (tw_sim _ _ _)) (hsim.trans (tw_sim _ _ _)) hr hlk hH hS hk dX0_wireFrom_22 (Nat.le_of_ble_eq_true rfl) (Nat.le_of_ble_eq_true rfl)
/-! ToneGraphLaw.wirePercent -/
def ww_X0_wirePercent (E : tc_E) (post : Int32 → tc_E → tc_S → Prop) (p1 : Int32) (p2 : Int32) (s0 : tc_S) : Prop := wp_X1_wirePercent E (fun r S1 => tw_o E E ∧ (post 0 (tc_out E r.toInt64) S1)) (fun X S1 => (X = "java/lang/IndexOutOfBoundsException" ∧ post 1 E S1) ∨ (X = "java/util/NoSuchElementException" ∧ post 2 E S1)) p1 p2 s0
set_option maxHeartbeats 4000000 in
theorem t_X0_wirePercent (l : Launch) (hl0 : l.stackTraces = false) {E : tc_E} {post : Int32 → tc_E → tc_S → Prop} {p1 : Int32} {p2 : Int32} {s0 : tc_S} (hk : ww_X0_wirePercent E post p1 p2 s0) : tw_M l yX0_wirePercent (wsW_ yX0_wirePercent cX0_wirePercent 5 (some .int) [(0, 10, 13, 31), (0, 10, 17, 38)]) ({ frames := 9, cells := 2, slots := 12, locals := 174 } : Room) E [.ref (ea E (0, 0)), .int p1, .int p2, .ref (ea E (22, 0))] s0 post 2 12 := by
  refine tw_start cX0_wirePercent 5 (some .int) [(0, 10, 13, 31), (0, 10, 17, 38)] RX0 (by decide) rfl rfl (Nat.le_of_ble_eq_true rfl) ?_
  intro p e s m args below meth c ls C htab hr hlk hH hS hl
  have hl : lv_has ls 5 [(0, .ref (ea E (0, 0))), (1, .int p1), (2, .int p2), (3, .ref (ea E (22, 0)))] := hl
  unfold ww_X0_wirePercent at hk
  refine lv_aload_n C.hx C.hb dX0_wirePercent_0 rfl (lv_at hl 3 rfl) ?_
  refine lv_iconst (v := 0) C.hx C.hb dX0_wirePercent_1 (by decide) ?_
  refine lv_aload_n C.hx C.hb dX0_wirePercent_2 rfl (lv_at hl 0 rfl) ?_
  refine lv_iload_n C.hx C.hb dX0_wirePercent_3 rfl (lv_at hl 1 rfl) ?_
  refine lv_iload_n C.hx C.hb dX0_wirePercent_4 rfl (lv_at hl 2 rfl) ?_
  refine tx_run (tx_rV (As := [.int p1, .int p2]) (rest := [.int 0, .ref (ea E (22, 0))]) (L := (0, 0)) (ci := 0) (fs := tc_gfs E s0) (q := (RX1, TX1, 13)) C hH.g rfl rfl (t_X1_wirePercent l hl0 hk) (cwV 2 C.hts (lw_V q1050 q1051 q1052 q53 q1053) rfl rfl rfl (by decide +kernel) ⟨Nat.le_of_ble_eq_true rfl, Nat.le_of_ble_eq_true rfl⟩) hH hS rfl hl.1 rfl (lv_room (Nat.le_of_ble_eq_true rfl)) dX0_wirePercent_5 ⟨Nat.le_of_ble_eq_true rfl, Nat.le_of_ble_eq_true rfl⟩) hS (fun X ce q9 S9 H1 locs1 hk hH hS h1 h2 h3 => ?_) (fun r S1 H locs hk hH hS => ?_)
  · rcases hk with ⟨rfl, hk⟩ | ⟨rfl, hk⟩
    · refine vx_catch C.hown [] ⟨0, 10, 13, 31⟩ [⟨0, 10, 17, 38⟩] (by rw [htab]; rfl) (fun z hz => by cases hz) (by decide) (by decide) (C.hts _ q868) (va_Nw.use rfl (C.nw 63 rfl)) h1 h2 h3 ?_
      refine lv_astore (lv' := [(4, .ref q9), (0, .ref (ea E (0, 0))), (1, .int p1), (2, .int p2), (3, .ref (ea E (22, 0)))]) C.hx C.hb dX0_wirePercent_13 hl (by decide) rfl (fun ls hl => ?_)
      refine lv_iconst (v := 1) C.hx C.hb dX0_wirePercent_15 (by decide) ?_
      exact ty_iret 1 rfl C (tc_sim.rf E) hr hlk hH hS hk dX0_wirePercent_16 (Nat.le_of_ble_eq_true rfl) (Nat.le_of_ble_eq_true rfl)
    · refine vx_catch C.hown [⟨0, 10, 13, 31⟩] ⟨0, 10, 17, 38⟩ [] (by rw [htab]; rfl) (fun z hz => by
      simp only [List.mem_cons, List.not_mem_nil, or_false] at hz
      rcases hz with rfl
      · exact Or.inr ⟨by decide, "java/lang/IndexOutOfBoundsException", C.hts _ q868, C.hZ.nc.at 13 rfl⟩) (by decide) (by decide) (C.hts _ q979) (va_Nw.use rfl (C.nw 71 rfl)) h1 h2 h3 ?_
      refine lv_astore (lv' := [(4, .ref q9), (0, .ref (ea E (0, 0))), (1, .int p1), (2, .int p2), (3, .ref (ea E (22, 0)))]) C.hx C.hb dX0_wirePercent_17 hl (by decide) rfl (fun ls hl => ?_)
      refine lv_iconst (v := 2) C.hx C.hb dX0_wirePercent_19 (by decide) ?_
      exact ty_iret 2 rfl C (tc_sim.rf E) hr hlk hH hS hk dX0_wirePercent_20 (Nat.le_of_ble_eq_true rfl) (Nat.le_of_ble_eq_true rfl)
  · obtain ⟨ho, hk⟩ := hk
    have hsim := tc_sim.rf E
    refine W.eq (g2 := F0 m 8 ls [.int r, .int 0, .ref (ea E (22, 0))]) rfl ?_
    refine lv_i2l C.hx C.hb dX0_wirePercent_8 rfl ?_
    refine tw_last C hH hS ho dX0_wirePercent_9 (fun H locs hH hS => ?_)
    refine lv_goto (tgt := 21) C.hx C.hb dX0_wirePercent_10 (by decide) ?_
    refine lv_iconst (v := 0) C.hx C.hb dX0_wirePercent_21 (by decide) ?_
    exact ty_iret 0 rfl (C.sim (tw_sim _ _ _)) (hsim.trans (tw_sim _ _ _)) hr hlk hH hS hk dX0_wirePercent_22 (Nat.le_of_ble_eq_true rfl) (Nat.le_of_ble_eq_true rfl)
/-! ToneGraphLaw.nodeAt -/
def ww_X0_nodeAt (E : tc_E) (post : Int32 → tc_E → tc_S → Prop) (p1 : Int32) (s0 : tc_S) : Prop := wp_X1_nodeAt E (fun r S1 => tw_o E E ∧ (post 0 (tc_out E r.toInt64) S1)) (fun X S1 => (X = "java/lang/IndexOutOfBoundsException" ∧ post 1 E S1)) p1 s0
set_option maxHeartbeats 4000000 in
theorem t_X0_nodeAt (l : Launch) (hl0 : l.stackTraces = false) {E : tc_E} {post : Int32 → tc_E → tc_S → Prop} {p1 : Int32} {s0 : tc_S} (hk : ww_X0_nodeAt E post p1 s0) : tw_M l yX0_nodeAt (wsW_ yX0_nodeAt cX0_nodeAt 4 (some .int) [(0, 9, 12, 31)]) ({ frames := 7, cells := 1, slots := 6, locals := 129 } : Room) E [.ref (ea E (0, 0)), .int p1, .ref (ea E (22, 0))] s0 post 1 6 := by
  refine tw_start cX0_nodeAt 4 (some .int) [(0, 9, 12, 31)] RX0 (by decide) rfl rfl (Nat.le_of_ble_eq_true rfl) ?_
  intro p e s m args below meth c ls C htab hr hlk hH hS hl
  have hl : lv_has ls 4 [(0, .ref (ea E (0, 0))), (1, .int p1), (2, .ref (ea E (22, 0)))] := hl
  unfold ww_X0_nodeAt at hk
  refine lv_aload_n C.hx C.hb dX0_nodeAt_0 rfl (lv_at hl 2 rfl) ?_
  refine lv_iconst (v := 0) C.hx C.hb dX0_nodeAt_1 (by decide) ?_
  refine lv_aload_n C.hx C.hb dX0_nodeAt_2 rfl (lv_at hl 0 rfl) ?_
  refine lv_iload_n C.hx C.hb dX0_nodeAt_3 rfl (lv_at hl 1 rfl) ?_
  refine tx_run (tx_rV (As := [.int p1]) (rest := [.int 0, .ref (ea E (22, 0))]) (L := (0, 0)) (ci := 0) (fs := tc_gfs E s0) (q := (RX1, TX1, 13)) C hH.g rfl rfl (t_X1_nodeAt l hl0 hk) (cwV 1 C.hts (lw_V q1057 q1058 q1059 q53 q1060) rfl rfl rfl (by decide +kernel) ⟨Nat.le_of_ble_eq_true rfl, Nat.le_of_ble_eq_true rfl⟩) hH hS rfl hl.1 rfl (lv_room (Nat.le_of_ble_eq_true rfl)) dX0_nodeAt_4 ⟨Nat.le_of_ble_eq_true rfl, Nat.le_of_ble_eq_true rfl⟩) hS (fun X ce q9 S9 H1 locs1 hk hH hS h1 h2 h3 => ?_) (fun r S1 H locs hk hH hS => ?_)
  · rcases hk with ⟨rfl, hk⟩
    refine vx_catch C.hown [] ⟨0, 9, 12, 31⟩ [] (by rw [htab]; rfl) (fun z hz => by cases hz) (by decide) (by decide) (C.hts _ q868) (va_Nw.use rfl (C.nw 63 rfl)) h1 h2 h3 ?_
    refine lv_astore_n (lv' := [(3, .ref q9), (0, .ref (ea E (0, 0))), (1, .int p1), (2, .ref (ea E (22, 0)))]) C.hx C.hb dX0_nodeAt_12 rfl hl (by decide) rfl (fun ls hl => ?_)
    refine lv_iconst (v := 1) C.hx C.hb dX0_nodeAt_13 (by decide) ?_
    exact ty_iret 1 rfl C (tc_sim.rf E) hr hlk hH hS hk dX0_nodeAt_14 (Nat.le_of_ble_eq_true rfl) (Nat.le_of_ble_eq_true rfl)
  · obtain ⟨ho, hk⟩ := hk
    have hsim := tc_sim.rf E
    refine W.eq (g2 := F0 m 7 ls [.int r, .int 0, .ref (ea E (22, 0))]) rfl ?_
    refine lv_i2l C.hx C.hb dX0_nodeAt_7 rfl ?_
    refine tw_last C hH hS ho dX0_nodeAt_8 (fun H locs hH hS => ?_)
    refine lv_goto (tgt := 15) C.hx C.hb dX0_nodeAt_9 (by decide) ?_
    refine lv_iconst (v := 0) C.hx C.hb dX0_nodeAt_15 (by decide) ?_
    exact ty_iret 0 rfl (C.sim (tw_sim _ _ _)) (hsim.trans (tw_sim _ _ _)) hr hlk hH hS hk dX0_nodeAt_16 (Nat.le_of_ble_eq_true rfl) (Nat.le_of_ble_eq_true rfl)
/-! ToneGraphLaw.setWave -/
def ww_X0_setWave (E : tc_E) (post : Int32 → tc_E → tc_S → Prop) (p1 : Int32) (s0 : tc_S) : Prop := wp_X1_setWave E (fun r S1 => tw_o E E ∧ (post 0 (tc_out E r.toInt64) S1)) (fun X S1 => (X = "java/lang/IllegalArgumentException" ∧ post 1 E S1)) p1 s0
set_option maxHeartbeats 4000000 in
theorem t_X0_setWave (l : Launch) (hl0 : l.stackTraces = false) {E : tc_E} {post : Int32 → tc_E → tc_S → Prop} {p1 : Int32} {s0 : tc_S} (hk : ww_X0_setWave E post p1 s0) : tw_M l yX0_setWave (wsW_ yX0_setWave cX0_setWave 4 (some .int) [(0, 9, 12, 13)]) ({ frames := 8, cells := 1, slots := 6, locals := 150 } : Room) E [.ref (ea E (0, 0)), .int p1, .ref (ea E (22, 0))] s0 post 1 6 := by
  refine tw_start cX0_setWave 4 (some .int) [(0, 9, 12, 13)] RX0 (by decide) rfl rfl (Nat.le_of_ble_eq_true rfl) ?_
  intro p e s m args below meth c ls C htab hr hlk hH hS hl
  have hl : lv_has ls 4 [(0, .ref (ea E (0, 0))), (1, .int p1), (2, .ref (ea E (22, 0)))] := hl
  unfold ww_X0_setWave at hk
  refine lv_aload_n C.hx C.hb dX0_setWave_0 rfl (lv_at hl 2 rfl) ?_
  refine lv_iconst (v := 0) C.hx C.hb dX0_setWave_1 (by decide) ?_
  refine lv_aload_n C.hx C.hb dX0_setWave_2 rfl (lv_at hl 0 rfl) ?_
  refine lv_iload_n C.hx C.hb dX0_setWave_3 rfl (lv_at hl 1 rfl) ?_
  refine tx_run (tx_rV (As := [.int p1]) (rest := [.int 0, .ref (ea E (22, 0))]) (L := (0, 0)) (ci := 0) (fs := tc_gfs E s0) (q := (RX1, TX1, 13)) C hH.g rfl rfl (t_X1_setWave l hl0 hk) (cwV 1 C.hts (lw_V q1064 q1065 q1066 q53 q1067) rfl rfl rfl (by decide +kernel) ⟨Nat.le_of_ble_eq_true rfl, Nat.le_of_ble_eq_true rfl⟩) hH hS rfl hl.1 rfl (lv_room (Nat.le_of_ble_eq_true rfl)) dX0_setWave_4 ⟨Nat.le_of_ble_eq_true rfl, Nat.le_of_ble_eq_true rfl⟩) hS (fun X ce q9 S9 H1 locs1 hk hH hS h1 h2 h3 => ?_) (fun r S1 H locs hk hH hS => ?_)
  · rcases hk with ⟨rfl, hk⟩
    refine vx_catch C.hown [] ⟨0, 9, 12, 13⟩ [] (by rw [htab]; rfl) (fun z hz => by cases hz) (by decide) (by decide) (C.hts _ q722) (va_Nw.use rfl (C.nw 59 rfl)) h1 h2 h3 ?_
    refine lv_astore_n (lv' := [(3, .ref q9), (0, .ref (ea E (0, 0))), (1, .int p1), (2, .ref (ea E (22, 0)))]) C.hx C.hb dX0_setWave_12 rfl hl (by decide) rfl (fun ls hl => ?_)
    refine lv_iconst (v := 1) C.hx C.hb dX0_setWave_13 (by decide) ?_
    exact ty_iret 1 rfl C (tc_sim.rf E) hr hlk hH hS hk dX0_setWave_14 (Nat.le_of_ble_eq_true rfl) (Nat.le_of_ble_eq_true rfl)
  · obtain ⟨ho, hk⟩ := hk
    have hsim := tc_sim.rf E
    refine W.eq (g2 := F0 m 7 ls [.int r, .int 0, .ref (ea E (22, 0))]) rfl ?_
    refine lv_i2l C.hx C.hb dX0_setWave_7 rfl ?_
    refine tw_last C hH hS ho dX0_setWave_8 (fun H locs hH hS => ?_)
    refine lv_goto (tgt := 15) C.hx C.hb dX0_setWave_9 (by decide) ?_
    refine lv_iconst (v := 0) C.hx C.hb dX0_setWave_15 (by decide) ?_
    exact ty_iret 0 rfl (C.sim (tw_sim _ _ _)) (hsim.trans (tw_sim _ _ _)) hr hlk hH hS hk dX0_setWave_16 (Nat.le_of_ble_eq_true rfl) (Nat.le_of_ble_eq_true rfl)
/-! ToneGraphLaw.setEnvelope -/
def ww_X0_setEnvelope (E : tc_E) (post : Int32 → tc_E → tc_S → Prop) (p1 : Int32) (p2 : Int32) (p3 : Int32) (p4 : Int32) (s0 : tc_S) : Prop := wp_X1_setEnvelope E (fun r E1 S1 => tw_o E E1 ∧ (post 0 (tc_out E1 r.toInt64) S1)) (fun X S1 => (X = "java/lang/IllegalArgumentException" ∧ post 1 E S1)) p1 p2 p3 p4 s0
set_option maxHeartbeats 4000000 in
theorem t_X0_setEnvelope (l : Launch) (hl0 : l.stackTraces = false) {E : tc_E} {post : Int32 → tc_E → tc_S → Prop} {p1 : Int32} {p2 : Int32} {p3 : Int32} {p4 : Int32} {s0 : tc_S} (hk : ww_X0_setEnvelope E post p1 p2 p3 p4 s0) : tw_M l yX0_setEnvelope (wsW_ yX0_setEnvelope cX0_setEnvelope 7 (some .int) [(0, 14, 17, 13)]) ({ frames := 8, cells := 2, slots := 10, locals := 153 } : Room) E [.ref (ea E (0, 0)), .int p1, .int p2, .int p3, .int p4, .ref (ea E (22, 0))] s0 post 2 10 := by
  refine tw_start cX0_setEnvelope 7 (some .int) [(0, 14, 17, 13)] RX0 (by decide) rfl rfl (Nat.le_of_ble_eq_true rfl) ?_
  intro p e s m args below meth c ls C htab hr hlk hH hS hl
  have hl : lv_has ls 7 [(0, .ref (ea E (0, 0))), (1, .int p1), (2, .int p2), (3, .int p3), (4, .int p4), (5, .ref (ea E (22, 0)))] := hl
  unfold ww_X0_setEnvelope at hk
  refine lv_aload C.hx C.hb dX0_setEnvelope_0 (lv_at hl 5 rfl) ?_
  refine lv_iconst (v := 0) C.hx C.hb dX0_setEnvelope_2 (by decide) ?_
  refine lv_aload_n C.hx C.hb dX0_setEnvelope_3 rfl (lv_at hl 0 rfl) ?_
  refine lv_iload_n C.hx C.hb dX0_setEnvelope_4 rfl (lv_at hl 1 rfl) ?_
  refine lv_iload_n C.hx C.hb dX0_setEnvelope_5 rfl (lv_at hl 2 rfl) ?_
  refine lv_iload_n C.hx C.hb dX0_setEnvelope_6 rfl (lv_at hl 3 rfl) ?_
  refine lv_iload C.hx C.hb dX0_setEnvelope_7 (lv_at hl 4 rfl) ?_
  refine ty_run (ty_rV (As := [.int p1, .int p2, .int p3, .int p4]) (rest := [.int 0, .ref (ea E (22, 0))]) (L := (0, 0)) (ci := 0) (fs := tc_gfs E s0) (q := (RX1, TX1, 13)) C hH.g rfl rfl (t_X1_setEnvelope l hl0 hk) (cwV 4 C.hts (lw_V q1071 q1072 q1073 q53 q1074) rfl rfl rfl (by decide +kernel) ⟨Nat.le_of_ble_eq_true rfl, Nat.le_of_ble_eq_true rfl⟩) hH hS rfl hl.1 rfl (lv_room (Nat.le_of_ble_eq_true rfl)) dX0_setEnvelope_9 ⟨Nat.le_of_ble_eq_true rfl, Nat.le_of_ble_eq_true rfl⟩) hS (fun X ce q9 S9 H1 locs1 hk hH hS h1 h2 h3 => ?_) (fun r E1 S1 H locs hk hsim hH hS => ?_)
  · rcases hk with ⟨rfl, hk⟩
    refine vx_catch C.hown [] ⟨0, 14, 17, 13⟩ [] (by rw [htab]; rfl) (fun z hz => by cases hz) (by decide) (by decide) (C.hts _ q722) (va_Nw.use rfl (C.nw 59 rfl)) h1 h2 h3 ?_
    refine lv_astore (lv' := [(6, .ref q9), (0, .ref (ea E (0, 0))), (1, .int p1), (2, .int p2), (3, .int p3), (4, .int p4), (5, .ref (ea E (22, 0)))]) C.hx C.hb dX0_setEnvelope_17 hl (by decide) rfl (fun ls hl => ?_)
    refine lv_iconst (v := 1) C.hx C.hb dX0_setEnvelope_19 (by decide) ?_
    exact ty_iret 1 rfl C (tc_sim.rf E) hr hlk hH hS hk dX0_setEnvelope_20 (Nat.le_of_ble_eq_true rfl) (Nat.le_of_ble_eq_true rfl)
  · obtain ⟨ho, hk⟩ := hk
    have C1 := C.sim hsim
    rw [← hsim.1] at hS
    refine W.eq (g2 := F0 m 12 ls [.int r, .int 0, .ref (ea E (22, 0))]) rfl ?_
    refine lv_i2l C1.hx C1.hb dX0_setEnvelope_12 rfl ?_
    refine tw_last C1 hH hS ho dX0_setEnvelope_13 (fun H locs hH hS => ?_)
    refine lv_goto (tgt := 21) C1.hx C1.hb dX0_setEnvelope_14 (by decide) ?_
    refine lv_iconst (v := 0) C1.hx C1.hb dX0_setEnvelope_21 (by decide) ?_
    exact ty_iret 0 rfl (C1.sim (tw_sim _ _ _)) (hsim.trans (tw_sim _ _ _)) hr hlk hH hS hk dX0_setEnvelope_22 (Nat.le_of_ble_eq_true rfl) (Nat.le_of_ble_eq_true rfl)
/-! ToneGraphLaw.begin -/
def ww_X0_begin (E : tc_E) (post : Int32 → tc_E → tc_S → Prop) (p1 : Int32) (p2 : Int32) (s0 : tc_S) : Prop := wp_X1_begin E (fun r S1 => tw_o E E ∧ (post 0 (tc_out E r.toInt64) S1)) (fun X S1 => (X = "java/lang/IllegalArgumentException" ∧ post 1 E S1)) p1 p2 s0
set_option maxHeartbeats 4000000 in
theorem t_X0_begin (l : Launch) (hl0 : l.stackTraces = false) {E : tc_E} {post : Int32 → tc_E → tc_S → Prop} {p1 : Int32} {p2 : Int32} {s0 : tc_S} (hk : ww_X0_begin E post p1 p2 s0) : tw_M l yX0_begin (wsW_ yX0_begin cX0_begin 5 (some .int) [(0, 10, 13, 13)]) ({ frames := 8, cells := 1, slots := 6, locals := 3152 } : Room) E [.ref (ea E (0, 0)), .int p1, .int p2, .ref (ea E (22, 0))] s0 post 1 6 := by
  refine tw_start cX0_begin 5 (some .int) [(0, 10, 13, 13)] RX0 (by decide) rfl rfl (Nat.le_of_ble_eq_true rfl) ?_
  intro p e s m args below meth c ls C htab hr hlk hH hS hl
  have hl : lv_has ls 5 [(0, .ref (ea E (0, 0))), (1, .int p1), (2, .int p2), (3, .ref (ea E (22, 0)))] := hl
  unfold ww_X0_begin at hk
  refine lv_aload_n C.hx C.hb dX0_begin_0 rfl (lv_at hl 3 rfl) ?_
  refine lv_iconst (v := 0) C.hx C.hb dX0_begin_1 (by decide) ?_
  refine lv_aload_n C.hx C.hb dX0_begin_2 rfl (lv_at hl 0 rfl) ?_
  refine lv_iload_n C.hx C.hb dX0_begin_3 rfl (lv_at hl 1 rfl) ?_
  refine lv_iload_n C.hx C.hb dX0_begin_4 rfl (lv_at hl 2 rfl) ?_
  refine tx_run (tx_rV (As := [.int p1, .int p2]) (rest := [.int 0, .ref (ea E (22, 0))]) (L := (0, 0)) (ci := 0) (fs := tc_gfs E s0) (q := (RX1, TX1, 13)) C hH.g rfl rfl (t_X1_begin l hl0 hk) (cwV 2 C.hts (lw_V q1080 q1081 q1082 q53 q1083) rfl rfl rfl (by decide +kernel) ⟨Nat.le_of_ble_eq_true rfl, Nat.le_of_ble_eq_true rfl⟩) hH hS rfl hl.1 rfl (lv_room (Nat.le_of_ble_eq_true rfl)) dX0_begin_5 ⟨Nat.le_of_ble_eq_true rfl, Nat.le_of_ble_eq_true rfl⟩) hS (fun X ce q9 S9 H1 locs1 hk hH hS h1 h2 h3 => ?_) (fun r S1 H locs hk hH hS => ?_)
  · rcases hk with ⟨rfl, hk⟩
    refine vx_catch C.hown [] ⟨0, 10, 13, 13⟩ [] (by rw [htab]; rfl) (fun z hz => by cases hz) (by decide) (by decide) (C.hts _ q722) (va_Nw.use rfl (C.nw 59 rfl)) h1 h2 h3 ?_
    refine lv_astore (lv' := [(4, .ref q9), (0, .ref (ea E (0, 0))), (1, .int p1), (2, .int p2), (3, .ref (ea E (22, 0)))]) C.hx C.hb dX0_begin_13 hl (by decide) rfl (fun ls hl => ?_)
    refine lv_iconst (v := 1) C.hx C.hb dX0_begin_15 (by decide) ?_
    exact ty_iret 1 rfl C (tc_sim.rf E) hr hlk hH hS hk dX0_begin_16 (Nat.le_of_ble_eq_true rfl) (Nat.le_of_ble_eq_true rfl)
  · obtain ⟨ho, hk⟩ := hk
    have hsim := tc_sim.rf E
    refine W.eq (g2 := F0 m 8 ls [.int r, .int 0, .ref (ea E (22, 0))]) rfl ?_
    refine lv_i2l C.hx C.hb dX0_begin_8 rfl ?_
    refine tw_last C hH hS ho dX0_begin_9 (fun H locs hH hS => ?_)
    refine lv_goto (tgt := 17) C.hx C.hb dX0_begin_10 (by decide) ?_
    refine lv_iconst (v := 0) C.hx C.hb dX0_begin_17 (by decide) ?_
    exact ty_iret 0 rfl (C.sim (tw_sim _ _ _)) (hsim.trans (tw_sim _ _ _)) hr hlk hH hS hk dX0_begin_18 (Nat.le_of_ble_eq_true rfl) (Nat.le_of_ble_eq_true rfl)
/-! ToneGraphLaw.end -/
def ww_X0_end (E : tc_E) (post : Int32 → tc_E → tc_S → Prop) (p1 : Int32) (s0 : tc_S) : Prop := wp_X1_end E (fun r S1 => tw_o E E ∧ (post 0 (tc_out E r.toInt64) S1)) (fun X S1 => (X = "java/lang/IllegalArgumentException" ∧ post 1 E S1) ∨ (X = "java/util/NoSuchElementException" ∧ post 2 E S1)) p1 s0
set_option maxHeartbeats 4000000 in
theorem t_X0_end (l : Launch) (hl0 : l.stackTraces = false) {E : tc_E} {post : Int32 → tc_E → tc_S → Prop} {p1 : Int32} {s0 : tc_S} (hk : ww_X0_end E post p1 s0) : tw_M l yX0_end (wsW_ yX0_end cX0_end 4 (some .int) [(0, 9, 12, 13), (0, 9, 15, 38)]) ({ frames := 8, cells := 3, slots := 13, locals := 3130 } : Room) E [.ref (ea E (0, 0)), .int p1, .ref (ea E (22, 0))] s0 post 3 13 := by
  refine tw_start cX0_end 4 (some .int) [(0, 9, 12, 13), (0, 9, 15, 38)] RX0 (by decide) rfl rfl (Nat.le_of_ble_eq_true rfl) ?_
  intro p e s m args below meth c ls C htab hr hlk hH hS hl
  have hl : lv_has ls 4 [(0, .ref (ea E (0, 0))), (1, .int p1), (2, .ref (ea E (22, 0)))] := hl
  unfold ww_X0_end at hk
  refine lv_aload_n C.hx C.hb dX0_end_0 rfl (lv_at hl 2 rfl) ?_
  refine lv_iconst (v := 0) C.hx C.hb dX0_end_1 (by decide) ?_
  refine lv_aload_n C.hx C.hb dX0_end_2 rfl (lv_at hl 0 rfl) ?_
  refine lv_iload_n C.hx C.hb dX0_end_3 rfl (lv_at hl 1 rfl) ?_
  refine tx_run (tx_rV (As := [.int p1]) (rest := [.int 0, .ref (ea E (22, 0))]) (L := (0, 0)) (ci := 0) (fs := tc_gfs E s0) (q := (RX1, TX1, 13)) C hH.g rfl rfl (t_X1_end l hl0 hk) (cwV 1 C.hts (lw_V q1118 q1119 q1120 q53 q1121) rfl rfl rfl (by decide +kernel) ⟨Nat.le_of_ble_eq_true rfl, Nat.le_of_ble_eq_true rfl⟩) hH hS rfl hl.1 rfl (lv_room (Nat.le_of_ble_eq_true rfl)) dX0_end_4 ⟨Nat.le_of_ble_eq_true rfl, Nat.le_of_ble_eq_true rfl⟩) hS (fun X ce q9 S9 H1 locs1 hk hH hS h1 h2 h3 => ?_) (fun r S1 H locs hk hH hS => ?_)
  · rcases hk with ⟨rfl, hk⟩ | ⟨rfl, hk⟩
    · refine vx_catch C.hown [] ⟨0, 9, 12, 13⟩ [⟨0, 9, 15, 38⟩] (by rw [htab]; rfl) (fun z hz => by cases hz) (by decide) (by decide) (C.hts _ q722) (va_Nw.use rfl (C.nw 59 rfl)) h1 h2 h3 ?_
      refine lv_astore_n (lv' := [(3, .ref q9), (0, .ref (ea E (0, 0))), (1, .int p1), (2, .ref (ea E (22, 0)))]) C.hx C.hb dX0_end_12 rfl hl (by decide) rfl (fun ls hl => ?_)
      refine lv_iconst (v := 1) C.hx C.hb dX0_end_13 (by decide) ?_
      exact ty_iret 1 rfl C (tc_sim.rf E) hr hlk hH hS hk dX0_end_14 (Nat.le_of_ble_eq_true rfl) (Nat.le_of_ble_eq_true rfl)
    · refine vx_catch C.hown [⟨0, 9, 12, 13⟩] ⟨0, 9, 15, 38⟩ [] (by rw [htab]; rfl) (fun z hz => by
      simp only [List.mem_cons, List.not_mem_nil, or_false] at hz
      rcases hz with rfl
      · exact Or.inr ⟨by decide, "java/lang/IllegalArgumentException", C.hts _ q722, C.hZ.nc.at 3 rfl⟩) (by decide) (by decide) (C.hts _ q979) (va_Nw.use rfl (C.nw 71 rfl)) h1 h2 h3 ?_
      refine lv_astore_n (lv' := [(3, .ref q9), (0, .ref (ea E (0, 0))), (1, .int p1), (2, .ref (ea E (22, 0)))]) C.hx C.hb dX0_end_15 rfl hl (by decide) rfl (fun ls hl => ?_)
      refine lv_iconst (v := 2) C.hx C.hb dX0_end_16 (by decide) ?_
      exact ty_iret 2 rfl C (tc_sim.rf E) hr hlk hH hS hk dX0_end_17 (Nat.le_of_ble_eq_true rfl) (Nat.le_of_ble_eq_true rfl)
  · obtain ⟨ho, hk⟩ := hk
    have hsim := tc_sim.rf E
    refine W.eq (g2 := F0 m 7 ls [.int r, .int 0, .ref (ea E (22, 0))]) rfl ?_
    refine lv_i2l C.hx C.hb dX0_end_7 rfl ?_
    refine tw_last C hH hS ho dX0_end_8 (fun H locs hH hS => ?_)
    refine lv_goto (tgt := 18) C.hx C.hb dX0_end_9 (by decide) ?_
    refine lv_iconst (v := 0) C.hx C.hb dX0_end_18 (by decide) ?_
    exact ty_iret 0 rfl (C.sim (tw_sim _ _ _)) (hsim.trans (tw_sim _ _ _)) hr hlk hH hS hk dX0_end_19 (Nat.le_of_ble_eq_true rfl) (Nat.le_of_ble_eq_true rfl)
/-! ToneGraphLaw.stateOf -/
def ww_X0_stateOf (E : tc_E) (post : Int32 → tc_E → tc_S → Prop) (p1 : Int32) (s0 : tc_S) : Prop := wp_X1_stateOf E (fun r S1 => tw_o E E ∧ (post 0 (tc_out E r.toInt64) S1)) (fun X S1 => (X = "java/lang/IndexOutOfBoundsException" ∧ post 1 E S1)) p1 s0
set_option maxHeartbeats 4000000 in
theorem t_X0_stateOf (l : Launch) (hl0 : l.stackTraces = false) {E : tc_E} {post : Int32 → tc_E → tc_S → Prop} {p1 : Int32} {s0 : tc_S} (hk : ww_X0_stateOf E post p1 s0) : tw_M l yX0_stateOf (wsW_ yX0_stateOf cX0_stateOf 4 (some .int) [(0, 9, 12, 31)]) ({ frames := 8, cells := 1, slots := 6, locals := 150 } : Room) E [.ref (ea E (0, 0)), .int p1, .ref (ea E (22, 0))] s0 post 1 6 := by
  refine tw_start cX0_stateOf 4 (some .int) [(0, 9, 12, 31)] RX0 (by decide) rfl rfl (Nat.le_of_ble_eq_true rfl) ?_
  intro p e s m args below meth c ls C htab hr hlk hH hS hl
  have hl : lv_has ls 4 [(0, .ref (ea E (0, 0))), (1, .int p1), (2, .ref (ea E (22, 0)))] := hl
  unfold ww_X0_stateOf at hk
  refine lv_aload_n C.hx C.hb dX0_stateOf_0 rfl (lv_at hl 2 rfl) ?_
  refine lv_iconst (v := 0) C.hx C.hb dX0_stateOf_1 (by decide) ?_
  refine lv_aload_n C.hx C.hb dX0_stateOf_2 rfl (lv_at hl 0 rfl) ?_
  refine lv_iload_n C.hx C.hb dX0_stateOf_3 rfl (lv_at hl 1 rfl) ?_
  refine tx_run (tx_rV (As := [.int p1]) (rest := [.int 0, .ref (ea E (22, 0))]) (L := (0, 0)) (ci := 0) (fs := tc_gfs E s0) (q := (RX1, TX1, 13)) C hH.g rfl rfl (t_X1_stateOf l hl0 hk) (cwV 1 C.hts (lw_V q1127 q1128 q1129 q53 q1130) rfl rfl rfl (by decide +kernel) ⟨Nat.le_of_ble_eq_true rfl, Nat.le_of_ble_eq_true rfl⟩) hH hS rfl hl.1 rfl (lv_room (Nat.le_of_ble_eq_true rfl)) dX0_stateOf_4 ⟨Nat.le_of_ble_eq_true rfl, Nat.le_of_ble_eq_true rfl⟩) hS (fun X ce q9 S9 H1 locs1 hk hH hS h1 h2 h3 => ?_) (fun r S1 H locs hk hH hS => ?_)
  · rcases hk with ⟨rfl, hk⟩
    refine vx_catch C.hown [] ⟨0, 9, 12, 31⟩ [] (by rw [htab]; rfl) (fun z hz => by cases hz) (by decide) (by decide) (C.hts _ q868) (va_Nw.use rfl (C.nw 63 rfl)) h1 h2 h3 ?_
    refine lv_astore_n (lv' := [(3, .ref q9), (0, .ref (ea E (0, 0))), (1, .int p1), (2, .ref (ea E (22, 0)))]) C.hx C.hb dX0_stateOf_12 rfl hl (by decide) rfl (fun ls hl => ?_)
    refine lv_iconst (v := 1) C.hx C.hb dX0_stateOf_13 (by decide) ?_
    exact ty_iret 1 rfl C (tc_sim.rf E) hr hlk hH hS hk dX0_stateOf_14 (Nat.le_of_ble_eq_true rfl) (Nat.le_of_ble_eq_true rfl)
  · obtain ⟨ho, hk⟩ := hk
    have hsim := tc_sim.rf E
    refine W.eq (g2 := F0 m 7 ls [.int r, .int 0, .ref (ea E (22, 0))]) rfl ?_
    refine lv_i2l C.hx C.hb dX0_stateOf_7 rfl ?_
    refine tw_last C hH hS ho dX0_stateOf_8 (fun H locs hH hS => ?_)
    refine lv_goto (tgt := 15) C.hx C.hb dX0_stateOf_9 (by decide) ?_
    refine lv_iconst (v := 0) C.hx C.hb dX0_stateOf_15 (by decide) ?_
    exact ty_iret 0 rfl (C.sim (tw_sim _ _ _)) (hsim.trans (tw_sim _ _ _)) hr hlk hH hS hk dX0_stateOf_16 (Nat.le_of_ble_eq_true rfl) (Nat.le_of_ble_eq_true rfl)
/-! ToneGraphLaw.keyOf -/
def ww_X0_keyOf (E : tc_E) (post : Int32 → tc_E → tc_S → Prop) (p1 : Int32) (s0 : tc_S) : Prop := wp_X1_keyOf E (fun r S1 => tw_o E E ∧ (post 0 (tc_out E r.toInt64) S1)) (fun X S1 => (X = "java/lang/IndexOutOfBoundsException" ∧ post 1 E S1) ∨ (X = "java/lang/IllegalStateException" ∧ post 2 E S1)) p1 s0
set_option maxHeartbeats 4000000 in
theorem t_X0_keyOf (l : Launch) (hl0 : l.stackTraces = false) {E : tc_E} {post : Int32 → tc_E → tc_S → Prop} {p1 : Int32} {s0 : tc_S} (hk : ww_X0_keyOf E post p1 s0) : tw_M l yX0_keyOf (wsW_ yX0_keyOf cX0_keyOf 4 (some .int) [(0, 9, 12, 31), (0, 9, 15, 15)]) ({ frames := 9, cells := 2, slots := 12, locals := 172 } : Room) E [.ref (ea E (0, 0)), .int p1, .ref (ea E (22, 0))] s0 post 2 12 := by
  refine tw_start cX0_keyOf 4 (some .int) [(0, 9, 12, 31), (0, 9, 15, 15)] RX0 (by decide) rfl rfl (Nat.le_of_ble_eq_true rfl) ?_
  intro p e s m args below meth c ls C htab hr hlk hH hS hl
  have hl : lv_has ls 4 [(0, .ref (ea E (0, 0))), (1, .int p1), (2, .ref (ea E (22, 0)))] := hl
  unfold ww_X0_keyOf at hk
  refine lv_aload_n C.hx C.hb dX0_keyOf_0 rfl (lv_at hl 2 rfl) ?_
  refine lv_iconst (v := 0) C.hx C.hb dX0_keyOf_1 (by decide) ?_
  refine lv_aload_n C.hx C.hb dX0_keyOf_2 rfl (lv_at hl 0 rfl) ?_
  refine lv_iload_n C.hx C.hb dX0_keyOf_3 rfl (lv_at hl 1 rfl) ?_
  refine tx_run (tx_rV (As := [.int p1]) (rest := [.int 0, .ref (ea E (22, 0))]) (L := (0, 0)) (ci := 0) (fs := tc_gfs E s0) (q := (RX1, TX1, 13)) C hH.g rfl rfl (t_X1_keyOf l hl0 hk) (cwV 1 C.hts (lw_V q1139 q1140 q1141 q53 q1142) rfl rfl rfl (by decide +kernel) ⟨Nat.le_of_ble_eq_true rfl, Nat.le_of_ble_eq_true rfl⟩) hH hS rfl hl.1 rfl (lv_room (Nat.le_of_ble_eq_true rfl)) dX0_keyOf_4 ⟨Nat.le_of_ble_eq_true rfl, Nat.le_of_ble_eq_true rfl⟩) hS (fun X ce q9 S9 H1 locs1 hk hH hS h1 h2 h3 => ?_) (fun r S1 H locs hk hH hS => ?_)
  · rcases hk with ⟨rfl, hk⟩ | ⟨rfl, hk⟩
    · refine vx_catch C.hown [] ⟨0, 9, 12, 31⟩ [⟨0, 9, 15, 15⟩] (by rw [htab]; rfl) (fun z hz => by cases hz) (by decide) (by decide) (C.hts _ q868) (va_Nw.use rfl (C.nw 63 rfl)) h1 h2 h3 ?_
      refine lv_astore_n (lv' := [(3, .ref q9), (0, .ref (ea E (0, 0))), (1, .int p1), (2, .ref (ea E (22, 0)))]) C.hx C.hb dX0_keyOf_12 rfl hl (by decide) rfl (fun ls hl => ?_)
      refine lv_iconst (v := 1) C.hx C.hb dX0_keyOf_13 (by decide) ?_
      exact ty_iret 1 rfl C (tc_sim.rf E) hr hlk hH hS hk dX0_keyOf_14 (Nat.le_of_ble_eq_true rfl) (Nat.le_of_ble_eq_true rfl)
    · refine vx_catch C.hown [⟨0, 9, 12, 31⟩] ⟨0, 9, 15, 15⟩ [] (by rw [htab]; rfl) (fun z hz => by
      simp only [List.mem_cons, List.not_mem_nil, or_false] at hz
      rcases hz with rfl
      · exact Or.inr ⟨by decide, "java/lang/IndexOutOfBoundsException", C.hts _ q868, C.hZ.nc.at 11 rfl⟩) (by decide) (by decide) (C.hts _ q723) (va_Nw.use rfl (C.nw 61 rfl)) h1 h2 h3 ?_
      refine lv_astore_n (lv' := [(3, .ref q9), (0, .ref (ea E (0, 0))), (1, .int p1), (2, .ref (ea E (22, 0)))]) C.hx C.hb dX0_keyOf_15 rfl hl (by decide) rfl (fun ls hl => ?_)
      refine lv_iconst (v := 2) C.hx C.hb dX0_keyOf_16 (by decide) ?_
      exact ty_iret 2 rfl C (tc_sim.rf E) hr hlk hH hS hk dX0_keyOf_17 (Nat.le_of_ble_eq_true rfl) (Nat.le_of_ble_eq_true rfl)
  · obtain ⟨ho, hk⟩ := hk
    have hsim := tc_sim.rf E
    refine W.eq (g2 := F0 m 7 ls [.int r, .int 0, .ref (ea E (22, 0))]) rfl ?_
    refine lv_i2l C.hx C.hb dX0_keyOf_7 rfl ?_
    refine tw_last C hH hS ho dX0_keyOf_8 (fun H locs hH hS => ?_)
    refine lv_goto (tgt := 18) C.hx C.hb dX0_keyOf_9 (by decide) ?_
    refine lv_iconst (v := 0) C.hx C.hb dX0_keyOf_18 (by decide) ?_
    exact ty_iret 0 rfl (C.sim (tw_sim _ _ _)) (hsim.trans (tw_sim _ _ _)) hr hlk hH hS hk dX0_keyOf_19 (Nat.le_of_ble_eq_true rfl) (Nat.le_of_ble_eq_true rfl)
/-! ToneGraphLaw.levelOf -/
def ww_X0_levelOf (E : tc_E) (post : Int32 → tc_E → tc_S → Prop) (p1 : Int32) (s0 : tc_S) : Prop := wp_X1_levelOf E (fun r S1 => tw_o E E ∧ (post 0 (tc_out E r.toInt64) S1)) (fun X S1 => (X = "java/lang/IndexOutOfBoundsException" ∧ post 1 E S1)) p1 s0
set_option maxHeartbeats 4000000 in
theorem t_X0_levelOf (l : Launch) (hl0 : l.stackTraces = false) {E : tc_E} {post : Int32 → tc_E → tc_S → Prop} {p1 : Int32} {s0 : tc_S} (hk : ww_X0_levelOf E post p1 s0) : tw_M l yX0_levelOf (wsW_ yX0_levelOf cX0_levelOf 4 (some .int) [(0, 9, 12, 31)]) ({ frames := 8, cells := 1, slots := 6, locals := 150 } : Room) E [.ref (ea E (0, 0)), .int p1, .ref (ea E (22, 0))] s0 post 1 6 := by
  refine tw_start cX0_levelOf 4 (some .int) [(0, 9, 12, 31)] RX0 (by decide) rfl rfl (Nat.le_of_ble_eq_true rfl) ?_
  intro p e s m args below meth c ls C htab hr hlk hH hS hl
  have hl : lv_has ls 4 [(0, .ref (ea E (0, 0))), (1, .int p1), (2, .ref (ea E (22, 0)))] := hl
  unfold ww_X0_levelOf at hk
  refine lv_aload_n C.hx C.hb dX0_levelOf_0 rfl (lv_at hl 2 rfl) ?_
  refine lv_iconst (v := 0) C.hx C.hb dX0_levelOf_1 (by decide) ?_
  refine lv_aload_n C.hx C.hb dX0_levelOf_2 rfl (lv_at hl 0 rfl) ?_
  refine lv_iload_n C.hx C.hb dX0_levelOf_3 rfl (lv_at hl 1 rfl) ?_
  refine tx_run (tx_rV (As := [.int p1]) (rest := [.int 0, .ref (ea E (22, 0))]) (L := (0, 0)) (ci := 0) (fs := tc_gfs E s0) (q := (RX1, TX1, 13)) C hH.g rfl rfl (t_X1_levelOf l hl0 hk) (cwV 1 C.hts (lw_V q1150 q1151 q1152 q53 q1153) rfl rfl rfl (by decide +kernel) ⟨Nat.le_of_ble_eq_true rfl, Nat.le_of_ble_eq_true rfl⟩) hH hS rfl hl.1 rfl (lv_room (Nat.le_of_ble_eq_true rfl)) dX0_levelOf_4 ⟨Nat.le_of_ble_eq_true rfl, Nat.le_of_ble_eq_true rfl⟩) hS (fun X ce q9 S9 H1 locs1 hk hH hS h1 h2 h3 => ?_) (fun r S1 H locs hk hH hS => ?_)
  · rcases hk with ⟨rfl, hk⟩
    refine vx_catch C.hown [] ⟨0, 9, 12, 31⟩ [] (by rw [htab]; rfl) (fun z hz => by cases hz) (by decide) (by decide) (C.hts _ q868) (va_Nw.use rfl (C.nw 63 rfl)) h1 h2 h3 ?_
    refine lv_astore_n (lv' := [(3, .ref q9), (0, .ref (ea E (0, 0))), (1, .int p1), (2, .ref (ea E (22, 0)))]) C.hx C.hb dX0_levelOf_12 rfl hl (by decide) rfl (fun ls hl => ?_)
    refine lv_iconst (v := 1) C.hx C.hb dX0_levelOf_13 (by decide) ?_
    exact ty_iret 1 rfl C (tc_sim.rf E) hr hlk hH hS hk dX0_levelOf_14 (Nat.le_of_ble_eq_true rfl) (Nat.le_of_ble_eq_true rfl)
  · obtain ⟨ho, hk⟩ := hk
    have hsim := tc_sim.rf E
    refine W.eq (g2 := F0 m 7 ls [.int r, .int 0, .ref (ea E (22, 0))]) rfl ?_
    refine lv_i2l C.hx C.hb dX0_levelOf_7 rfl ?_
    refine tw_last C hH hS ho dX0_levelOf_8 (fun H locs hH hS => ?_)
    refine lv_goto (tgt := 15) C.hx C.hb dX0_levelOf_9 (by decide) ?_
    refine lv_iconst (v := 0) C.hx C.hb dX0_levelOf_15 (by decide) ?_
    exact ty_iret 0 rfl (C.sim (tw_sim _ _ _)) (hsim.trans (tw_sim _ _ _)) hr hlk hH hS hk dX0_levelOf_16 (Nat.le_of_ble_eq_true rfl) (Nat.le_of_ble_eq_true rfl)
/-! ToneGraphLaw.phaseOf -/
def ww_X0_phaseOf (E : tc_E) (post : Int32 → tc_E → tc_S → Prop) (p1 : Int32) (s0 : tc_S) : Prop := wp_X1_phaseOf E (fun r S1 => tw_o E E ∧ (post 0 (tc_out E r.toInt64) S1)) (fun X S1 => (X = "java/lang/IndexOutOfBoundsException" ∧ post 1 E S1) ∨ (X = "java/lang/IllegalStateException" ∧ post 2 E S1)) p1 s0
set_option maxHeartbeats 4000000 in
theorem t_X0_phaseOf (l : Launch) (hl0 : l.stackTraces = false) {E : tc_E} {post : Int32 → tc_E → tc_S → Prop} {p1 : Int32} {s0 : tc_S} (hk : ww_X0_phaseOf E post p1 s0) : tw_M l yX0_phaseOf (wsW_ yX0_phaseOf cX0_phaseOf 4 (some .int) [(0, 9, 12, 31), (0, 9, 15, 15)]) ({ frames := 9, cells := 2, slots := 12, locals := 172 } : Room) E [.ref (ea E (0, 0)), .int p1, .ref (ea E (22, 0))] s0 post 2 12 := by
  refine tw_start cX0_phaseOf 4 (some .int) [(0, 9, 12, 31), (0, 9, 15, 15)] RX0 (by decide) rfl rfl (Nat.le_of_ble_eq_true rfl) ?_
  intro p e s m args below meth c ls C htab hr hlk hH hS hl
  have hl : lv_has ls 4 [(0, .ref (ea E (0, 0))), (1, .int p1), (2, .ref (ea E (22, 0)))] := hl
  unfold ww_X0_phaseOf at hk
  refine lv_aload_n C.hx C.hb dX0_phaseOf_0 rfl (lv_at hl 2 rfl) ?_
  refine lv_iconst (v := 0) C.hx C.hb dX0_phaseOf_1 (by decide) ?_
  refine lv_aload_n C.hx C.hb dX0_phaseOf_2 rfl (lv_at hl 0 rfl) ?_
  refine lv_iload_n C.hx C.hb dX0_phaseOf_3 rfl (lv_at hl 1 rfl) ?_
  refine tx_run (tx_rV (As := [.int p1]) (rest := [.int 0, .ref (ea E (22, 0))]) (L := (0, 0)) (ci := 0) (fs := tc_gfs E s0) (q := (RX1, TX1, 13)) C hH.g rfl rfl (t_X1_phaseOf l hl0 hk) (cwV 1 C.hts (lw_V q1157 q1158 q1159 q53 q1160) rfl rfl rfl (by decide +kernel) ⟨Nat.le_of_ble_eq_true rfl, Nat.le_of_ble_eq_true rfl⟩) hH hS rfl hl.1 rfl (lv_room (Nat.le_of_ble_eq_true rfl)) dX0_phaseOf_4 ⟨Nat.le_of_ble_eq_true rfl, Nat.le_of_ble_eq_true rfl⟩) hS (fun X ce q9 S9 H1 locs1 hk hH hS h1 h2 h3 => ?_) (fun r S1 H locs hk hH hS => ?_)
  · rcases hk with ⟨rfl, hk⟩ | ⟨rfl, hk⟩
    · refine vx_catch C.hown [] ⟨0, 9, 12, 31⟩ [⟨0, 9, 15, 15⟩] (by rw [htab]; rfl) (fun z hz => by cases hz) (by decide) (by decide) (C.hts _ q868) (va_Nw.use rfl (C.nw 63 rfl)) h1 h2 h3 ?_
      refine lv_astore_n (lv' := [(3, .ref q9), (0, .ref (ea E (0, 0))), (1, .int p1), (2, .ref (ea E (22, 0)))]) C.hx C.hb dX0_phaseOf_12 rfl hl (by decide) rfl (fun ls hl => ?_)
      refine lv_iconst (v := 1) C.hx C.hb dX0_phaseOf_13 (by decide) ?_
      exact ty_iret 1 rfl C (tc_sim.rf E) hr hlk hH hS hk dX0_phaseOf_14 (Nat.le_of_ble_eq_true rfl) (Nat.le_of_ble_eq_true rfl)
    · refine vx_catch C.hown [⟨0, 9, 12, 31⟩] ⟨0, 9, 15, 15⟩ [] (by rw [htab]; rfl) (fun z hz => by
      simp only [List.mem_cons, List.not_mem_nil, or_false] at hz
      rcases hz with rfl
      · exact Or.inr ⟨by decide, "java/lang/IndexOutOfBoundsException", C.hts _ q868, C.hZ.nc.at 11 rfl⟩) (by decide) (by decide) (C.hts _ q723) (va_Nw.use rfl (C.nw 61 rfl)) h1 h2 h3 ?_
      refine lv_astore_n (lv' := [(3, .ref q9), (0, .ref (ea E (0, 0))), (1, .int p1), (2, .ref (ea E (22, 0)))]) C.hx C.hb dX0_phaseOf_15 rfl hl (by decide) rfl (fun ls hl => ?_)
      refine lv_iconst (v := 2) C.hx C.hb dX0_phaseOf_16 (by decide) ?_
      exact ty_iret 2 rfl C (tc_sim.rf E) hr hlk hH hS hk dX0_phaseOf_17 (Nat.le_of_ble_eq_true rfl) (Nat.le_of_ble_eq_true rfl)
  · obtain ⟨ho, hk⟩ := hk
    have hsim := tc_sim.rf E
    refine W.eq (g2 := F0 m 7 ls [.int r, .int 0, .ref (ea E (22, 0))]) rfl ?_
    refine lv_i2l C.hx C.hb dX0_phaseOf_7 rfl ?_
    refine tw_last C hH hS ho dX0_phaseOf_8 (fun H locs hH hS => ?_)
    refine lv_goto (tgt := 18) C.hx C.hb dX0_phaseOf_9 (by decide) ?_
    refine lv_iconst (v := 0) C.hx C.hb dX0_phaseOf_18 (by decide) ?_
    exact ty_iret 0 rfl (C.sim (tw_sim _ _ _)) (hsim.trans (tw_sim _ _ _)) hr hlk hH hS hk dX0_phaseOf_19 (Nat.le_of_ble_eq_true rfl) (Nat.le_of_ble_eq_true rfl)
/-! ToneGraphLaw.play -/
def ww_X0_play (E : tc_E) (post : Int32 → tc_E → tc_S → Prop) (p1 : Int32) (s0 : tc_S) : Prop := wp_X1_play E (fun r S1 => tw_o E E ∧ (post 0 (tc_out E r.toInt64) S1)) (fun X S1 => (X = "java/lang/IllegalArgumentException" ∧ post 1 E S1)) p1 s0
set_option maxHeartbeats 4000000 in
theorem t_X0_play (l : Launch) (hl0 : l.stackTraces = false) {E : tc_E} {post : Int32 → tc_E → tc_S → Prop} {p1 : Int32} {s0 : tc_S} (hk : ww_X0_play E post p1 s0) : tw_M l yX0_play (wsW_ yX0_play cX0_play 4 (some .int) [(0, 9, 12, 13)]) ({ frames := 9, cells := 1, slots := 6, locals := 262 } : Room) E [.ref (ea E (0, 0)), .int p1, .ref (ea E (22, 0))] s0 post 1 6 := by
  refine tw_start cX0_play 4 (some .int) [(0, 9, 12, 13)] RX0 (by decide) rfl rfl (Nat.le_of_ble_eq_true rfl) ?_
  intro p e s m args below meth c ls C htab hr hlk hH hS hl
  have hl : lv_has ls 4 [(0, .ref (ea E (0, 0))), (1, .int p1), (2, .ref (ea E (22, 0)))] := hl
  unfold ww_X0_play at hk
  refine lv_aload_n C.hx C.hb dX0_play_0 rfl (lv_at hl 2 rfl) ?_
  refine lv_iconst (v := 0) C.hx C.hb dX0_play_1 (by decide) ?_
  refine lv_aload_n C.hx C.hb dX0_play_2 rfl (lv_at hl 0 rfl) ?_
  refine lv_iload_n C.hx C.hb dX0_play_3 rfl (lv_at hl 1 rfl) ?_
  refine tx_run (tx_rV (As := [.int p1]) (rest := [.int 0, .ref (ea E (22, 0))]) (L := (0, 0)) (ci := 0) (fs := tc_gfs E s0) (q := (RX1, TX1, 13)) C hH.g rfl rfl (t_X1_play l hl0 hk) (cwV 1 C.hts (lw_V q1164 q1165 q1166 q53 q1167) rfl rfl rfl (by decide +kernel) ⟨Nat.le_of_ble_eq_true rfl, Nat.le_of_ble_eq_true rfl⟩) hH hS rfl hl.1 rfl (lv_room (Nat.le_of_ble_eq_true rfl)) dX0_play_4 ⟨Nat.le_of_ble_eq_true rfl, Nat.le_of_ble_eq_true rfl⟩) hS (fun X ce q9 S9 H1 locs1 hk hH hS h1 h2 h3 => ?_) (fun r S1 H locs hk hH hS => ?_)
  · rcases hk with ⟨rfl, hk⟩
    refine vx_catch C.hown [] ⟨0, 9, 12, 13⟩ [] (by rw [htab]; rfl) (fun z hz => by cases hz) (by decide) (by decide) (C.hts _ q722) (va_Nw.use rfl (C.nw 59 rfl)) h1 h2 h3 ?_
    refine lv_astore_n (lv' := [(3, .ref q9), (0, .ref (ea E (0, 0))), (1, .int p1), (2, .ref (ea E (22, 0)))]) C.hx C.hb dX0_play_12 rfl hl (by decide) rfl (fun ls hl => ?_)
    refine lv_iconst (v := 1) C.hx C.hb dX0_play_13 (by decide) ?_
    exact ty_iret 1 rfl C (tc_sim.rf E) hr hlk hH hS hk dX0_play_14 (Nat.le_of_ble_eq_true rfl) (Nat.le_of_ble_eq_true rfl)
  · obtain ⟨ho, hk⟩ := hk
    have hsim := tc_sim.rf E
    refine W.eq (g2 := F0 m 7 ls [.int r, .int 0, .ref (ea E (22, 0))]) rfl ?_
    refine lv_i2l C.hx C.hb dX0_play_7 rfl ?_
    refine tw_last C hH hS ho dX0_play_8 (fun H locs hH hS => ?_)
    refine lv_goto (tgt := 15) C.hx C.hb dX0_play_9 (by decide) ?_
    refine lv_iconst (v := 0) C.hx C.hb dX0_play_15 (by decide) ?_
    exact ty_iret 0 rfl (C.sim (tw_sim _ _ _)) (hsim.trans (tw_sim _ _ _)) hr hlk hH hS hk dX0_play_16 (Nat.le_of_ble_eq_true rfl) (Nat.le_of_ble_eq_true rfl)
/-! ToneGraphLaw.ahead -/
def ww_X0_ahead (E : tc_E) (post : Int32 → tc_E → tc_S → Prop) (p1 : Int32) (s0 : tc_S) : Prop := wp_X1_ahead E (fun r S1 => tw_o E E ∧ (post 0 (tc_out E r.toInt64) S1)) (fun X S1 => (X = "java/lang/IllegalArgumentException" ∧ post 1 E S1)) p1 s0
set_option maxHeartbeats 4000000 in
theorem t_X0_ahead (l : Launch) (hl0 : l.stackTraces = false) {E : tc_E} {post : Int32 → tc_E → tc_S → Prop} {p1 : Int32} {s0 : tc_S} (hk : ww_X0_ahead E post p1 s0) : tw_M l yX0_ahead (wsW_ yX0_ahead cX0_ahead 4 (some .int) [(0, 9, 12, 13)]) ({ frames := 9, cells := 1, slots := 6, locals := 256 } : Room) E [.ref (ea E (0, 0)), .int p1, .ref (ea E (22, 0))] s0 post 1 6 := by
  refine tw_start cX0_ahead 4 (some .int) [(0, 9, 12, 13)] RX0 (by decide) rfl rfl (Nat.le_of_ble_eq_true rfl) ?_
  intro p e s m args below meth c ls C htab hr hlk hH hS hl
  have hl : lv_has ls 4 [(0, .ref (ea E (0, 0))), (1, .int p1), (2, .ref (ea E (22, 0)))] := hl
  unfold ww_X0_ahead at hk
  refine lv_aload_n C.hx C.hb dX0_ahead_0 rfl (lv_at hl 2 rfl) ?_
  refine lv_iconst (v := 0) C.hx C.hb dX0_ahead_1 (by decide) ?_
  refine lv_aload_n C.hx C.hb dX0_ahead_2 rfl (lv_at hl 0 rfl) ?_
  refine lv_iload_n C.hx C.hb dX0_ahead_3 rfl (lv_at hl 1 rfl) ?_
  refine tx_run (tx_rV (As := [.int p1]) (rest := [.int 0, .ref (ea E (22, 0))]) (L := (0, 0)) (ci := 0) (fs := tc_gfs E s0) (q := (RX1, TX1, 13)) C hH.g rfl rfl (t_X1_ahead l hl0 hk) (cwV 1 C.hts (lw_V q1171 q546 q547 q53 q548) rfl rfl rfl (by decide +kernel) ⟨Nat.le_of_ble_eq_true rfl, Nat.le_of_ble_eq_true rfl⟩) hH hS rfl hl.1 rfl (lv_room (Nat.le_of_ble_eq_true rfl)) dX0_ahead_4 ⟨Nat.le_of_ble_eq_true rfl, Nat.le_of_ble_eq_true rfl⟩) hS (fun X ce q9 S9 H1 locs1 hk hH hS h1 h2 h3 => ?_) (fun r S1 H locs hk hH hS => ?_)
  · rcases hk with ⟨rfl, hk⟩
    refine vx_catch C.hown [] ⟨0, 9, 12, 13⟩ [] (by rw [htab]; rfl) (fun z hz => by cases hz) (by decide) (by decide) (C.hts _ q722) (va_Nw.use rfl (C.nw 59 rfl)) h1 h2 h3 ?_
    refine lv_astore_n (lv' := [(3, .ref q9), (0, .ref (ea E (0, 0))), (1, .int p1), (2, .ref (ea E (22, 0)))]) C.hx C.hb dX0_ahead_12 rfl hl (by decide) rfl (fun ls hl => ?_)
    refine lv_iconst (v := 1) C.hx C.hb dX0_ahead_13 (by decide) ?_
    exact ty_iret 1 rfl C (tc_sim.rf E) hr hlk hH hS hk dX0_ahead_14 (Nat.le_of_ble_eq_true rfl) (Nat.le_of_ble_eq_true rfl)
  · obtain ⟨ho, hk⟩ := hk
    have hsim := tc_sim.rf E
    refine W.eq (g2 := F0 m 7 ls [.int r, .int 0, .ref (ea E (22, 0))]) rfl ?_
    refine lv_i2l C.hx C.hb dX0_ahead_7 rfl ?_
    refine tw_last C hH hS ho dX0_ahead_8 (fun H locs hH hS => ?_)
    refine lv_goto (tgt := 15) C.hx C.hb dX0_ahead_9 (by decide) ?_
    refine lv_iconst (v := 0) C.hx C.hb dX0_ahead_15 (by decide) ?_
    exact ty_iret 0 rfl (C.sim (tw_sim _ _ _)) (hsim.trans (tw_sim _ _ _)) hr hlk hH hS hk dX0_ahead_16 (Nat.le_of_ble_eq_true rfl) (Nat.le_of_ble_eq_true rfl)
/-! ToneGraphLaw.aheadByBlocks -/
def ww_X0_aheadByBlocks (E : tc_E) (post : Int32 → tc_E → tc_S → Prop) (p1 : Int32) (p2 : Int32) (s0 : tc_S) : Prop := wp_X1_aheadByBlocks E (fun r S1 => tw_o E E ∧ (post 0 (tc_out E r.toInt64) S1)) (fun X S1 => (X = "java/lang/IllegalArgumentException" ∧ post 1 E S1)) p1 p2 s0
set_option maxHeartbeats 4000000 in
theorem t_X0_aheadByBlocks (l : Launch) (hl0 : l.stackTraces = false) {E : tc_E} {post : Int32 → tc_E → tc_S → Prop} {p1 : Int32} {p2 : Int32} {s0 : tc_S} (hk : ww_X0_aheadByBlocks E post p1 p2 s0) : tw_M l yX0_aheadByBlocks (wsW_ yX0_aheadByBlocks cX0_aheadByBlocks 5 (some .int) [(0, 10, 13, 13)]) ({ frames := 9, cells := 1, slots := 6, locals := 262 } : Room) E [.ref (ea E (0, 0)), .int p1, .int p2, .ref (ea E (22, 0))] s0 post 1 6 := by
  refine tw_start cX0_aheadByBlocks 5 (some .int) [(0, 10, 13, 13)] RX0 (by decide) rfl rfl (Nat.le_of_ble_eq_true rfl) ?_
  intro p e s m args below meth c ls C htab hr hlk hH hS hl
  have hl : lv_has ls 5 [(0, .ref (ea E (0, 0))), (1, .int p1), (2, .int p2), (3, .ref (ea E (22, 0)))] := hl
  unfold ww_X0_aheadByBlocks at hk
  refine lv_aload_n C.hx C.hb dX0_aheadByBlocks_0 rfl (lv_at hl 3 rfl) ?_
  refine lv_iconst (v := 0) C.hx C.hb dX0_aheadByBlocks_1 (by decide) ?_
  refine lv_aload_n C.hx C.hb dX0_aheadByBlocks_2 rfl (lv_at hl 0 rfl) ?_
  refine lv_iload_n C.hx C.hb dX0_aheadByBlocks_3 rfl (lv_at hl 1 rfl) ?_
  refine lv_iload_n C.hx C.hb dX0_aheadByBlocks_4 rfl (lv_at hl 2 rfl) ?_
  refine tx_run (tx_rV (As := [.int p1, .int p2]) (rest := [.int 0, .ref (ea E (22, 0))]) (L := (0, 0)) (ci := 0) (fs := tc_gfs E s0) (q := (RX1, TX1, 13)) C hH.g rfl rfl (t_X1_aheadByBlocks l hl0 hk) (cwV 2 C.hts (lw_V q1175 q662 q663 q53 q664) rfl rfl rfl (by decide +kernel) ⟨Nat.le_of_ble_eq_true rfl, Nat.le_of_ble_eq_true rfl⟩) hH hS rfl hl.1 rfl (lv_room (Nat.le_of_ble_eq_true rfl)) dX0_aheadByBlocks_5 ⟨Nat.le_of_ble_eq_true rfl, Nat.le_of_ble_eq_true rfl⟩) hS (fun X ce q9 S9 H1 locs1 hk hH hS h1 h2 h3 => ?_) (fun r S1 H locs hk hH hS => ?_)
  · rcases hk with ⟨rfl, hk⟩
    refine vx_catch C.hown [] ⟨0, 10, 13, 13⟩ [] (by rw [htab]; rfl) (fun z hz => by cases hz) (by decide) (by decide) (C.hts _ q722) (va_Nw.use rfl (C.nw 59 rfl)) h1 h2 h3 ?_
    refine lv_astore (lv' := [(4, .ref q9), (0, .ref (ea E (0, 0))), (1, .int p1), (2, .int p2), (3, .ref (ea E (22, 0)))]) C.hx C.hb dX0_aheadByBlocks_13 hl (by decide) rfl (fun ls hl => ?_)
    refine lv_iconst (v := 1) C.hx C.hb dX0_aheadByBlocks_15 (by decide) ?_
    exact ty_iret 1 rfl C (tc_sim.rf E) hr hlk hH hS hk dX0_aheadByBlocks_16 (Nat.le_of_ble_eq_true rfl) (Nat.le_of_ble_eq_true rfl)
  · obtain ⟨ho, hk⟩ := hk
    have hsim := tc_sim.rf E
    refine W.eq (g2 := F0 m 8 ls [.int r, .int 0, .ref (ea E (22, 0))]) rfl ?_
    refine lv_i2l C.hx C.hb dX0_aheadByBlocks_8 rfl ?_
    refine tw_last C hH hS ho dX0_aheadByBlocks_9 (fun H locs hH hS => ?_)
    refine lv_goto (tgt := 17) C.hx C.hb dX0_aheadByBlocks_10 (by decide) ?_
    refine lv_iconst (v := 0) C.hx C.hb dX0_aheadByBlocks_17 (by decide) ?_
    exact ty_iret 0 rfl (C.sim (tw_sim _ _ _)) (hsim.trans (tw_sim _ _ _)) hr hlk hH hS hk dX0_aheadByBlocks_18 (Nat.le_of_ble_eq_true rfl) (Nat.le_of_ble_eq_true rfl)
/-! ToneGraphLaw.heard -/
def ww_X0_heard (E : tc_E) (post : Int32 → tc_E → tc_S → Prop) (p1 : Int32) (s0 : tc_S) : Prop := wp_X1_heard E (fun r S1 => tw_o E E ∧ (post 0 (tc_out E r.toInt64) S1)) (fun X S1 => (X = "java/lang/IllegalArgumentException" ∧ post 1 E S1) ∨ (X = "java/util/NoSuchElementException" ∧ post 2 E S1)) p1 s0
set_option maxHeartbeats 4000000 in
theorem t_X0_heard (l : Launch) (hl0 : l.stackTraces = false) {E : tc_E} {post : Int32 → tc_E → tc_S → Prop} {p1 : Int32} {s0 : tc_S} (hk : ww_X0_heard E post p1 s0) : tw_M l yX0_heard (wsW_ yX0_heard cX0_heard 4 (some .int) [(0, 9, 12, 13), (0, 9, 15, 38)]) ({ frames := 8, cells := 2, slots := 12, locals := 149 } : Room) E [.ref (ea E (0, 0)), .int p1, .ref (ea E (22, 0))] s0 post 2 12 := by
  refine tw_start cX0_heard 4 (some .int) [(0, 9, 12, 13), (0, 9, 15, 38)] RX0 (by decide) rfl rfl (Nat.le_of_ble_eq_true rfl) ?_
  intro p e s m args below meth c ls C htab hr hlk hH hS hl
  have hl : lv_has ls 4 [(0, .ref (ea E (0, 0))), (1, .int p1), (2, .ref (ea E (22, 0)))] := hl
  unfold ww_X0_heard at hk
  refine lv_aload_n C.hx C.hb dX0_heard_0 rfl (lv_at hl 2 rfl) ?_
  refine lv_iconst (v := 0) C.hx C.hb dX0_heard_1 (by decide) ?_
  refine lv_aload_n C.hx C.hb dX0_heard_2 rfl (lv_at hl 0 rfl) ?_
  refine lv_iload_n C.hx C.hb dX0_heard_3 rfl (lv_at hl 1 rfl) ?_
  refine tx_run (tx_rV (As := [.int p1]) (rest := [.int 0, .ref (ea E (22, 0))]) (L := (0, 0)) (ci := 0) (fs := tc_gfs E s0) (q := (RX1, TX1, 13)) C hH.g rfl rfl (t_X1_heard l hl0 hk) (cwV 1 C.hts (lw_V q1179 q1180 q1181 q53 q1182) rfl rfl rfl (by decide +kernel) ⟨Nat.le_of_ble_eq_true rfl, Nat.le_of_ble_eq_true rfl⟩) hH hS rfl hl.1 rfl (lv_room (Nat.le_of_ble_eq_true rfl)) dX0_heard_4 ⟨Nat.le_of_ble_eq_true rfl, Nat.le_of_ble_eq_true rfl⟩) hS (fun X ce q9 S9 H1 locs1 hk hH hS h1 h2 h3 => ?_) (fun r S1 H locs hk hH hS => ?_)
  · rcases hk with ⟨rfl, hk⟩ | ⟨rfl, hk⟩
    · refine vx_catch C.hown [] ⟨0, 9, 12, 13⟩ [⟨0, 9, 15, 38⟩] (by rw [htab]; rfl) (fun z hz => by cases hz) (by decide) (by decide) (C.hts _ q722) (va_Nw.use rfl (C.nw 59 rfl)) h1 h2 h3 ?_
      refine lv_astore_n (lv' := [(3, .ref q9), (0, .ref (ea E (0, 0))), (1, .int p1), (2, .ref (ea E (22, 0)))]) C.hx C.hb dX0_heard_12 rfl hl (by decide) rfl (fun ls hl => ?_)
      refine lv_iconst (v := 1) C.hx C.hb dX0_heard_13 (by decide) ?_
      exact ty_iret 1 rfl C (tc_sim.rf E) hr hlk hH hS hk dX0_heard_14 (Nat.le_of_ble_eq_true rfl) (Nat.le_of_ble_eq_true rfl)
    · refine vx_catch C.hown [⟨0, 9, 12, 13⟩] ⟨0, 9, 15, 38⟩ [] (by rw [htab]; rfl) (fun z hz => by
      simp only [List.mem_cons, List.not_mem_nil, or_false] at hz
      rcases hz with rfl
      · exact Or.inr ⟨by decide, "java/lang/IllegalArgumentException", C.hts _ q722, C.hZ.nc.at 3 rfl⟩) (by decide) (by decide) (C.hts _ q979) (va_Nw.use rfl (C.nw 71 rfl)) h1 h2 h3 ?_
      refine lv_astore_n (lv' := [(3, .ref q9), (0, .ref (ea E (0, 0))), (1, .int p1), (2, .ref (ea E (22, 0)))]) C.hx C.hb dX0_heard_15 rfl hl (by decide) rfl (fun ls hl => ?_)
      refine lv_iconst (v := 2) C.hx C.hb dX0_heard_16 (by decide) ?_
      exact ty_iret 2 rfl C (tc_sim.rf E) hr hlk hH hS hk dX0_heard_17 (Nat.le_of_ble_eq_true rfl) (Nat.le_of_ble_eq_true rfl)
  · obtain ⟨ho, hk⟩ := hk
    have hsim := tc_sim.rf E
    refine W.eq (g2 := F0 m 7 ls [.int r, .int 0, .ref (ea E (22, 0))]) rfl ?_
    refine lv_i2l C.hx C.hb dX0_heard_7 rfl ?_
    refine tw_last C hH hS ho dX0_heard_8 (fun H locs hH hS => ?_)
    refine lv_goto (tgt := 18) C.hx C.hb dX0_heard_9 (by decide) ?_
    refine lv_iconst (v := 0) C.hx C.hb dX0_heard_18 (by decide) ?_
    exact ty_iret 0 rfl (C.sim (tw_sim _ _ _)) (hsim.trans (tw_sim _ _ _)) hr hlk hH hS hk dX0_heard_19 (Nat.le_of_ble_eq_true rfl) (Nat.le_of_ble_eq_true rfl)
/-! ToneGraphLaw.outputOf -/
def ww_X0_outputOf (E : tc_E) (post : Int32 → tc_E → tc_S → Prop) (p1 : Int32) (s0 : tc_S) : Prop := wp_X1_outputOf E (fun r S1 => tw_o E E ∧ (post 0 (tc_out E r.toInt64) S1)) (fun X S1 => (X = "java/lang/IndexOutOfBoundsException" ∧ post 1 E S1)) p1 s0
set_option maxHeartbeats 4000000 in
theorem t_X0_outputOf (l : Launch) (hl0 : l.stackTraces = false) {E : tc_E} {post : Int32 → tc_E → tc_S → Prop} {p1 : Int32} {s0 : tc_S} (hk : ww_X0_outputOf E post p1 s0) : tw_M l yX0_outputOf (wsW_ yX0_outputOf cX0_outputOf 4 (some .int) [(0, 9, 12, 31)]) ({ frames := 8, cells := 1, slots := 6, locals := 150 } : Room) E [.ref (ea E (0, 0)), .int p1, .ref (ea E (22, 0))] s0 post 1 6 := by
  refine tw_start cX0_outputOf 4 (some .int) [(0, 9, 12, 31)] RX0 (by decide) rfl rfl (Nat.le_of_ble_eq_true rfl) ?_
  intro p e s m args below meth c ls C htab hr hlk hH hS hl
  have hl : lv_has ls 4 [(0, .ref (ea E (0, 0))), (1, .int p1), (2, .ref (ea E (22, 0)))] := hl
  unfold ww_X0_outputOf at hk
  refine lv_aload_n C.hx C.hb dX0_outputOf_0 rfl (lv_at hl 2 rfl) ?_
  refine lv_iconst (v := 0) C.hx C.hb dX0_outputOf_1 (by decide) ?_
  refine lv_aload_n C.hx C.hb dX0_outputOf_2 rfl (lv_at hl 0 rfl) ?_
  refine lv_iload_n C.hx C.hb dX0_outputOf_3 rfl (lv_at hl 1 rfl) ?_
  refine tx_run (tx_rV (As := [.int p1]) (rest := [.int 0, .ref (ea E (22, 0))]) (L := (0, 0)) (ci := 0) (fs := tc_gfs E s0) (q := (RX1, TX1, 13)) C hH.g rfl rfl (t_X1_outputOf l hl0 hk) (cwV 1 C.hts (lw_V q1186 q1187 q1188 q53 q1189) rfl rfl rfl (by decide +kernel) ⟨Nat.le_of_ble_eq_true rfl, Nat.le_of_ble_eq_true rfl⟩) hH hS rfl hl.1 rfl (lv_room (Nat.le_of_ble_eq_true rfl)) dX0_outputOf_4 ⟨Nat.le_of_ble_eq_true rfl, Nat.le_of_ble_eq_true rfl⟩) hS (fun X ce q9 S9 H1 locs1 hk hH hS h1 h2 h3 => ?_) (fun r S1 H locs hk hH hS => ?_)
  · rcases hk with ⟨rfl, hk⟩
    refine vx_catch C.hown [] ⟨0, 9, 12, 31⟩ [] (by rw [htab]; rfl) (fun z hz => by cases hz) (by decide) (by decide) (C.hts _ q868) (va_Nw.use rfl (C.nw 63 rfl)) h1 h2 h3 ?_
    refine lv_astore_n (lv' := [(3, .ref q9), (0, .ref (ea E (0, 0))), (1, .int p1), (2, .ref (ea E (22, 0)))]) C.hx C.hb dX0_outputOf_12 rfl hl (by decide) rfl (fun ls hl => ?_)
    refine lv_iconst (v := 1) C.hx C.hb dX0_outputOf_13 (by decide) ?_
    exact ty_iret 1 rfl C (tc_sim.rf E) hr hlk hH hS hk dX0_outputOf_14 (Nat.le_of_ble_eq_true rfl) (Nat.le_of_ble_eq_true rfl)
  · obtain ⟨ho, hk⟩ := hk
    have hsim := tc_sim.rf E
    refine W.eq (g2 := F0 m 7 ls [.int r, .int 0, .ref (ea E (22, 0))]) rfl ?_
    refine lv_i2l C.hx C.hb dX0_outputOf_7 rfl ?_
    refine tw_last C hH hS ho dX0_outputOf_8 (fun H locs hH hS => ?_)
    refine lv_goto (tgt := 15) C.hx C.hb dX0_outputOf_9 (by decide) ?_
    refine lv_iconst (v := 0) C.hx C.hb dX0_outputOf_15 (by decide) ?_
    exact ty_iret 0 rfl (C.sim (tw_sim _ _ _)) (hsim.trans (tw_sim _ _ _)) hr hlk hH hS hk dX0_outputOf_16 (Nat.le_of_ble_eq_true rfl) (Nat.le_of_ble_eq_true rfl)
/-! ToneGraphLaw.meanEnergy -/
def ww_X0_meanEnergy (E : tc_E) (post : Int32 → tc_E → tc_S → Prop) (s0 : tc_S) : Prop := wp_X1_meanEnergy E (fun r S1 => tw_oD E E ∧ (post 0 (tc_outD E r) S1)) (fun X S1 => (X = "java/lang/ArithmeticException" ∧ post 1 E S1))  s0
set_option maxHeartbeats 4000000 in
theorem t_X0_meanEnergy (l : Launch) (hl0 : l.stackTraces = false) {E : tc_E} {post : Int32 → tc_E → tc_S → Prop} {s0 : tc_S} (hk : ww_X0_meanEnergy E post  s0) : tw_M l yX0_meanEnergy (wsW_ yX0_meanEnergy cX0_meanEnergy 3 (some .int) [(0, 7, 10, 107)]) ({ frames := 8, cells := 1, slots := 6, locals := 148 } : Room) E [.ref (ea E (0, 0)), .ref (ea E (23, 0))] s0 post 1 6 := by
  refine tw_start cX0_meanEnergy 3 (some .int) [(0, 7, 10, 107)] RX0 (by decide) rfl rfl (Nat.le_of_ble_eq_true rfl) ?_
  intro p e s m args below meth c ls C htab hr hlk hH hS hl
  have hl : lv_has ls 3 [(0, .ref (ea E (0, 0))), (1, .ref (ea E (23, 0)))] := hl
  unfold ww_X0_meanEnergy at hk
  refine lv_aload_n C.hx C.hb dX0_meanEnergy_0 rfl (lv_at hl 1 rfl) ?_
  refine lv_iconst (v := 0) C.hx C.hb dX0_meanEnergy_1 (by decide) ?_
  refine lv_aload_n C.hx C.hb dX0_meanEnergy_2 rfl (lv_at hl 0 rfl) ?_
  refine tx_run (tx_rV (As := []) (rest := [.int 0, .ref (ea E (23, 0))]) (L := (0, 0)) (ci := 0) (fs := tc_gfs E s0) (q := (RX1, TX1, 13)) C hH.g rfl rfl (t_X1_meanEnergy l hl0 hk) (cwV 0 C.hts (lw_V q1207 q1208 q1209 q53 q1210) rfl rfl rfl (by decide +kernel) ⟨Nat.le_of_ble_eq_true rfl, Nat.le_of_ble_eq_true rfl⟩) hH hS rfl hl.1 rfl (lv_room (Nat.le_of_ble_eq_true rfl)) dX0_meanEnergy_3 ⟨Nat.le_of_ble_eq_true rfl, Nat.le_of_ble_eq_true rfl⟩) hS (fun X ce q9 S9 H1 locs1 hk hH hS h1 h2 h3 => ?_) (fun r S1 H locs hk hH hS => ?_)
  · rcases hk with ⟨rfl, hk⟩
    refine vx_catch C.hown [] ⟨0, 7, 10, 107⟩ [] (by rw [htab]; rfl) (fun z hz => by cases hz) (by decide) (by decide) (C.hts _ q1193) (va_Nw.use rfl (C.nw 54 rfl)) h1 h2 h3 ?_
    refine lv_astore_n (lv' := [(2, .ref q9), (0, .ref (ea E (0, 0))), (1, .ref (ea E (23, 0)))]) C.hx C.hb dX0_meanEnergy_10 rfl hl (by decide) rfl (fun ls hl => ?_)
    refine lv_iconst (v := 1) C.hx C.hb dX0_meanEnergy_11 (by decide) ?_
    exact ty_iret 1 rfl C (tc_sim.rf E) hr hlk hH hS hk dX0_meanEnergy_12 (Nat.le_of_ble_eq_true rfl) (Nat.le_of_ble_eq_true rfl)
  · obtain ⟨ho, hk⟩ := hk
    have hsim := tc_sim.rf E
    refine W.eq (g2 := F0 m 6 ls [.double r, .int 0, .ref (ea E (23, 0))]) rfl ?_
    refine tw_dast C hH hS ho dX0_meanEnergy_6 (fun H locs hH hS => ?_)
    refine lv_goto (tgt := 13) C.hx C.hb dX0_meanEnergy_7 (by decide) ?_
    refine lv_iconst (v := 0) C.hx C.hb dX0_meanEnergy_13 (by decide) ?_
    exact ty_iret 0 rfl (C.sim (tw_sim _ _ _)) (hsim.trans (tw_sim _ _ _)) hr hlk hH hS hk dX0_meanEnergy_14 (Nat.le_of_ble_eq_true rfl) (Nat.le_of_ble_eq_true rfl)
/-! ToneGraphLaw.quietShare -/
def ww_X0_quietShare (E : tc_E) (post : Int32 → tc_E → tc_S → Prop) (s0 : tc_S) : Prop := wp_X1_quietShare E (fun r S1 => tw_oD E E ∧ (vf_n64 (FP.f2d r) ∧ post 0 (tc_outD E (FP.f2d r)) S1)) (fun X S1 => (X = "java/lang/ArithmeticException" ∧ post 1 E S1))  s0
set_option maxHeartbeats 4000000 in
theorem t_X0_quietShare (l : Launch) (hl0 : l.stackTraces = false) {E : tc_E} {post : Int32 → tc_E → tc_S → Prop} {s0 : tc_S} (hk : ww_X0_quietShare E post  s0) : tw_M l yX0_quietShare (wsW_ yX0_quietShare cX0_quietShare 3 (some .int) [(0, 8, 11, 107)]) ({ frames := 8, cells := 1, slots := 6, locals := 148 } : Room) E [.ref (ea E (0, 0)), .ref (ea E (23, 0))] s0 post 1 6 := by
  refine tw_start cX0_quietShare 3 (some .int) [(0, 8, 11, 107)] RX0 (by decide) rfl rfl (Nat.le_of_ble_eq_true rfl) ?_
  intro p e s m args below meth c ls C htab hr hlk hH hS hl
  have hl : lv_has ls 3 [(0, .ref (ea E (0, 0))), (1, .ref (ea E (23, 0)))] := hl
  unfold ww_X0_quietShare at hk
  refine lv_aload_n C.hx C.hb dX0_quietShare_0 rfl (lv_at hl 1 rfl) ?_
  refine lv_iconst (v := 0) C.hx C.hb dX0_quietShare_1 (by decide) ?_
  refine lv_aload_n C.hx C.hb dX0_quietShare_2 rfl (lv_at hl 0 rfl) ?_
  refine tx_run (tx_rV (As := []) (rest := [.int 0, .ref (ea E (23, 0))]) (L := (0, 0)) (ci := 0) (fs := tc_gfs E s0) (q := (RX1, TX1, 13)) C hH.g rfl rfl (t_X1_quietShare l hl0 hk) (cwV 0 C.hts (lw_V q1223 q1224 q1225 q53 q1226) rfl rfl rfl (by decide +kernel) ⟨Nat.le_of_ble_eq_true rfl, Nat.le_of_ble_eq_true rfl⟩) hH hS rfl hl.1 rfl (lv_room (Nat.le_of_ble_eq_true rfl)) dX0_quietShare_3 ⟨Nat.le_of_ble_eq_true rfl, Nat.le_of_ble_eq_true rfl⟩) hS (fun X ce q9 S9 H1 locs1 hk hH hS h1 h2 h3 => ?_) (fun r S1 H locs hk hH hS => ?_)
  · rcases hk with ⟨rfl, hk⟩
    refine vx_catch C.hown [] ⟨0, 8, 11, 107⟩ [] (by rw [htab]; rfl) (fun z hz => by cases hz) (by decide) (by decide) (C.hts _ q1193) (va_Nw.use rfl (C.nw 54 rfl)) h1 h2 h3 ?_
    refine lv_astore_n (lv' := [(2, .ref q9), (0, .ref (ea E (0, 0))), (1, .ref (ea E (23, 0)))]) C.hx C.hb dX0_quietShare_11 rfl hl (by decide) rfl (fun ls hl => ?_)
    refine lv_iconst (v := 1) C.hx C.hb dX0_quietShare_12 (by decide) ?_
    exact ty_iret 1 rfl C (tc_sim.rf E) hr hlk hH hS hk dX0_quietShare_13 (Nat.le_of_ble_eq_true rfl) (Nat.le_of_ble_eq_true rfl)
  · obtain ⟨ho, hk⟩ := hk
    have hsim := tc_sim.rf E
    refine W.eq (g2 := F0 m 6 ls [.float r, .int 0, .ref (ea E (23, 0))]) rfl ?_
    obtain ⟨hn, hk⟩ := hk
    refine lv_f2d C.hx C.hb dX0_quietShare_6 hn ?_
    refine tw_dast C hH hS ho dX0_quietShare_7 (fun H locs hH hS => ?_)
    refine lv_goto (tgt := 14) C.hx C.hb dX0_quietShare_8 (by decide) ?_
    refine lv_iconst (v := 0) C.hx C.hb dX0_quietShare_14 (by decide) ?_
    exact ty_iret 0 rfl (C.sim (tw_sim _ _ _)) (hsim.trans (tw_sim _ _ _)) hr hlk hH hS hk dX0_quietShare_15 (Nat.le_of_ble_eq_true rfl) (Nat.le_of_ble_eq_true rfl)

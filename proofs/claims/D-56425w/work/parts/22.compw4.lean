/-! the component's methods: wp and walk, by program (gen/decc.py) -/
set_option maxRecDepth 100000
/-! ToneGraph.checkArgument(Z)V -/
def wp_X1_checkArgument (E : tc_E) (post : Unit → tc_S → Prop) (ex : String → tc_S → Prop) (p1 : Int32) (s0 : tc_S) : Prop := ((¬ p1 = 0 → post () s0) ∧ (p1 = 0 → ex "java/lang/IllegalArgumentException" s0))
set_option maxHeartbeats 4000000 in
theorem t_X1_checkArgument (l : Launch) (hl0 : l.stackTraces = false) {E : tc_E} {post : Unit → tc_S → Prop} {ex : String → tc_S → Prop} {p1 : Int32} {s0 : tc_S} (hk : wp_X1_checkArgument E post ex p1 s0) : tx_M l yX1_checkArgument (ws_ yX1_checkArgument cX1_checkArgument 1 none) ({ frames := 6, cells := 1, slots := 6, locals := 100 } : Room) E [.int p1] s0 (fun _ : Unit => none) post ex 1 6 := by
  refine tx_start cX1_checkArgument 1 none RX1 (by decide) rfl rfl (Nat.le_of_ble_eq_true rfl) ?_
  intro p e s m args below meth c ls C hnm hnt hr hlk hH hS hl
  have hl : lv_has ls 1 [(0, .int p1)] := hl
  unfold wp_X1_checkArgument at hk
  refine lv_iload_n C.hx C.hb dX1_checkArgument_0 rfl (lv_at hl 0 rfl) ?_
  refine lv_if_ne (tgt := 12) C.hx C.hb dX1_checkArgument_1 (by decide) (fun c1 => ?_) (fun c1 => ?_)
  · have hk := hk.1 c1
    refine tx_ret (Nat.le_of_ble_eq_true rfl) (Nat.le_of_ble_eq_true rfl) ?_
    exact tc_vret () rfl C hr hlk hH hS hk dX1_checkArgument_12
  · have hk := hk.2 c1
    exact tx_throw C hl0 tx_ok_66 (by decide +kernel) q552 q69 ⟨by decide +kernel, by decide +kernel⟩ hnt hlk hH hS hk hl.1 dX1_checkArgument_4 dX1_checkArgument_7 dX1_checkArgument_8 dX1_checkArgument_11 ⟨Nat.le_of_ble_eq_true rfl, Nat.le_of_ble_eq_true rfl⟩ ⟨Nat.le_of_ble_eq_true rfl, Nat.le_of_ble_eq_true rfl⟩ ⟨Nat.le_of_ble_eq_true rfl, Nat.le_of_ble_eq_true rfl⟩
/-! ToneGraph.checkState(Z)V -/
def wp_X1_checkState (E : tc_E) (post : Unit → tc_S → Prop) (ex : String → tc_S → Prop) (p1 : Int32) (s0 : tc_S) : Prop := ((¬ p1 = 0 → post () s0) ∧ (p1 = 0 → ex "java/lang/IllegalStateException" s0))
set_option maxHeartbeats 4000000 in
theorem t_X1_checkState (l : Launch) (hl0 : l.stackTraces = false) {E : tc_E} {post : Unit → tc_S → Prop} {ex : String → tc_S → Prop} {p1 : Int32} {s0 : tc_S} (hk : wp_X1_checkState E post ex p1 s0) : tx_M l yX1_checkState (ws_ yX1_checkState cX1_checkState 1 none) ({ frames := 6, cells := 1, slots := 6, locals := 100 } : Room) E [.int p1] s0 (fun _ : Unit => none) post ex 1 6 := by
  refine tx_start cX1_checkState 1 none RX1 (by decide) rfl rfl (Nat.le_of_ble_eq_true rfl) ?_
  intro p e s m args below meth c ls C hnm hnt hr hlk hH hS hl
  have hl : lv_has ls 1 [(0, .int p1)] := hl
  unfold wp_X1_checkState at hk
  refine lv_iload_n C.hx C.hb dX1_checkState_0 rfl (lv_at hl 0 rfl) ?_
  refine lv_if_ne (tgt := 12) C.hx C.hb dX1_checkState_1 (by decide) (fun c1 => ?_) (fun c1 => ?_)
  · have hk := hk.1 c1
    refine tx_ret (Nat.le_of_ble_eq_true rfl) (Nat.le_of_ble_eq_true rfl) ?_
    exact tc_vret () rfl C hr hlk hH hS hk dX1_checkState_12
  · have hk := hk.2 c1
    exact tx_throw C hl0 tx_ok_69 (by decide +kernel) q735 q70 ⟨by decide +kernel, by decide +kernel⟩ hnt hlk hH hS hk hl.1 dX1_checkState_4 dX1_checkState_7 dX1_checkState_8 dX1_checkState_11 ⟨Nat.le_of_ble_eq_true rfl, Nat.le_of_ble_eq_true rfl⟩ ⟨Nat.le_of_ble_eq_true rfl, Nat.le_of_ble_eq_true rfl⟩ ⟨Nat.le_of_ble_eq_true rfl, Nat.le_of_ble_eq_true rfl⟩
/-! ToneGraph.checkAny()V -/
def wp_X1_checkAny (E : tc_E) (post : Unit → tc_S → Prop) (ex : String → tc_S → Prop) (s0 : tc_S) : Prop := ((¬ (s0.1 0 0 1) = 0 → post () s0) ∧ ((s0.1 0 0 1) = 0 → ex "java/lang/ArithmeticException" s0))
set_option maxHeartbeats 4000000 in
theorem t_X1_checkAny (l : Launch) (hl0 : l.stackTraces = false) {E : tc_E} {post : Unit → tc_S → Prop} {ex : String → tc_S → Prop} {s0 : tc_S} (hk : wp_X1_checkAny E post ex  s0) : tx_M l yX1_checkAny (ws_ yX1_checkAny cX1_checkAny 1 none) ({ frames := 6, cells := 1, slots := 6, locals := 100 } : Room) E [.ref (ea E (0, 0))] s0 (fun _ : Unit => none) post ex 1 6 := by
  refine tx_start cX1_checkAny 1 none RX1 (by decide) rfl rfl (Nat.le_of_ble_eq_true rfl) ?_
  intro p e s m args below meth c ls C hnm hnt hr hlk hH hS hl
  have hl : lv_has ls 1 [(0, .ref (ea E (0, 0)))] := hl
  unfold wp_X1_checkAny at hk
  refine lv_aload_n C.hx C.hb dX1_checkAny_0 rfl (lv_at hl 0 rfl) ?_
  refine tc_get C hH hH.g (Cn := RX1) (T := TX1) (N := 13) (ci := 0) (fs := tc_gfs E s0) in_X1 rfl rfl 7 (by decide) (C.L q323) (fun _ h => h) (v := .int (s0.1 0 0 1)) rfl dX1_checkAny_1 ?_
  refine lv_if_ne (tgt := 15) C.hx C.hb dX1_checkAny_4 (by decide) (fun c1 => ?_) (fun c1 => ?_)
  · have hk := hk.1 c1
    refine tx_ret (Nat.le_of_ble_eq_true rfl) (Nat.le_of_ble_eq_true rfl) ?_
    exact tc_vret () rfl C hr hlk hH hS hk dX1_checkAny_15
  · have hk := hk.2 c1
    exact tx_throw C hl0 tx_ok_321 (by decide +kernel) q1215 q83 ⟨by decide +kernel, by decide +kernel⟩ hnt hlk hH hS hk hl.1 dX1_checkAny_7 dX1_checkAny_10 dX1_checkAny_11 dX1_checkAny_14 ⟨Nat.le_of_ble_eq_true rfl, Nat.le_of_ble_eq_true rfl⟩ ⟨Nat.le_of_ble_eq_true rfl, Nat.le_of_ble_eq_true rfl⟩ ⟨Nat.le_of_ble_eq_true rfl, Nat.le_of_ble_eq_true rfl⟩
/-! ToneGraph.node(I)LToneGraph$Node; -/
def wp_X1_node (E : tc_E) (post : Nat → tc_S → Prop) (ex : String → tc_S → Prop) (p1 : Int32) (s0 : tc_S) : Prop := wp_J2_size E (fun r1 s2 => wp_X1_inRange (fun r3 => ((¬ r3 = 0 → wp_J2_get E (fun r5 s6 => (r5 < yn E ∧ post r5 s6)) 0 p1 s2) ∧ (r3 = 0 → ex "java/lang/IndexOutOfBoundsException" s2))) p1 0 (r1 - 1)) 0 s0
set_option maxHeartbeats 4000000 in
theorem t_X1_node (l : Launch) (hl0 : l.stackTraces = false) {E : tc_E} {post : Nat → tc_S → Prop} {ex : String → tc_S → Prop} {p1 : Int32} {s0 : tc_S} (hk : wp_X1_node E post ex p1 s0) : tx_M l yX1_node (ws_ yX1_node cX1_node 2 (some (.object "ToneGraph$Node"))) ({ frames := 6, cells := 1, slots := 6, locals := 100 } : Room) E [.ref (ea E (0, 0)), .int p1] s0 (fun k : Nat => some (.ref (ea E (1, k)))) post ex 1 6 := by
  refine tx_start cX1_node 2 (some (.object "ToneGraph$Node")) RX1 (by decide) rfl rfl (Nat.le_of_ble_eq_true rfl) ?_
  intro p e s m args below meth c ls C hnm hnt hr hlk hH hS hl
  have hl : lv_has ls 2 [(0, .ref (ea E (0, 0))), (1, .int p1)] := hl
  unfold wp_X1_node at hk
  refine lv_iload_n C.hx C.hb dX1_node_0 rfl (lv_at hl 1 rfl) ?_
  refine lv_iconst (v := 0) C.hx C.hb dX1_node_1 (by decide) ?_
  refine lv_aload_n C.hx C.hb dX1_node_2 rfl (lv_at hl 0 rfl) ?_
  refine tc_get C hH hH.g (Cn := RX1) (T := TX1) (N := 13) (ci := 0) (fs := tc_gfs E s0) in_X1 rfl rfl 1 (by decide) (C.L q317) (fun _ h => h) (v := .ref (ea E (2, 0))) rfl dX1_node_3 ?_
  refine tc_run (tc_rV (As := []) (rest := [.int 0, .int p1]) (L := (2, 0)) (ci := 9) (fs := tc_lfs E s0 0) (q := (RJ2, TJ2, 3)) C (hH.l _ (by omega)) rfl rfl (t_J2_size l (by omega) hk) (cwV 0 C.hts (lw_V q360 q361 q362 q56 q363) rfl rfl rfl (by decide +kernel) ⟨Nat.le_of_ble_eq_true rfl, Nat.le_of_ble_eq_true rfl⟩) hH hS rfl hl.1 rfl (lv_room (Nat.le_of_ble_eq_true rfl)) dX1_node_6 ⟨Nat.le_of_ble_eq_true rfl, Nat.le_of_ble_eq_true rfl⟩) hS (fun r1 s2 H locs hk hH hS => ?_)
  refine W.eq (g2 := F0 m 9 ls [.int r1, .int 0, .int p1]) rfl ?_
  refine lv_iconst (v := 1) C.hx C.hb dX1_node_9 (by decide) ?_
  refine lv_isub C.hx C.hb dX1_node_10 ?_
  refine gb_call (As := [.int p1, .int 0, .int (r1 - 1)]) (rest := []) C.1 (t_X1_inRange l hk) (va_cwS 3 C.hts (lw_S q542 q543 q53 q544) rfl rfl rfl (by decide +kernel) ⟨Nat.le_of_ble_eq_true rfl, Nat.le_of_ble_eq_true rfl⟩) rfl hl.1 rfl (lv_room (Nat.le_of_ble_eq_true rfl)) dX1_node_11 ⟨Nat.le_of_ble_eq_true rfl, Nat.le_of_ble_eq_true rfl⟩ (fun r3 hk => ?_)
  refine lv_if_ne (tgt := 25) C.hx C.hb dX1_node_14 (by decide) (fun c4 => ?_) (fun c4 => ?_)
  · have hk := hk.1 c4
    refine lv_aload_n C.hx C.hb dX1_node_25 rfl (lv_at hl 0 rfl) ?_
    refine tc_get C hH hH.g (Cn := RX1) (T := TX1) (N := 13) (ci := 0) (fs := tc_gfs E s2) in_X1 rfl rfl 1 (by decide) (C.L q317) (fun _ h => h) (v := .ref (ea E (2, 0))) rfl dX1_node_26 ?_
    refine lv_iload_n C.hx C.hb dX1_node_29 rfl (lv_at hl 1 rfl) ?_
    refine tc_run (tc_rV (As := [.int p1]) (rest := []) (L := (2, 0)) (ci := 9) (fs := tc_lfs E s2 0) (q := (RJ2, TJ2, 3)) C (hH.l _ (by omega)) rfl rfl (t_J2_get l (by omega) hH.gr0 hk) (cwV 1 C.hts (lw_V q368 q369 q370 q56 q371) rfl rfl rfl (by decide +kernel) ⟨Nat.le_of_ble_eq_true rfl, Nat.le_of_ble_eq_true rfl⟩) hH hS rfl hl.1 rfl (lv_room (Nat.le_of_ble_eq_true rfl)) dX1_node_30 ⟨Nat.le_of_ble_eq_true rfl, Nat.le_of_ble_eq_true rfl⟩) hS (fun r5 s6 H locs hk hH hS => ?_)
    refine W.eq (g2 := F0 m 33 ls [.ref (ea E (1, r5))]) rfl ?_
    obtain ⟨h7, hk⟩ := hk
    refine tc_castN C hH h7 q382 dX1_node_33 ?_
    refine tx_ret (Nat.le_of_ble_eq_true rfl) (Nat.le_of_ble_eq_true rfl) ?_
    exact tc_aret r5 rfl (Or.inr ⟨_, rfl⟩) C hr hlk hH hS hk dX1_node_36
  · have hk := hk.2 c4
    exact tx_throw C hl0 tx_ok_80 (by decide +kernel) q910 q77 ⟨by decide +kernel, by decide +kernel⟩ hnt hlk hH hS hk hl.1 dX1_node_17 dX1_node_20 dX1_node_21 dX1_node_24 ⟨Nat.le_of_ble_eq_true rfl, Nat.le_of_ble_eq_true rfl⟩ ⟨Nat.le_of_ble_eq_true rfl, Nat.le_of_ble_eq_true rfl⟩ ⟨Nat.le_of_ble_eq_true rfl, Nat.le_of_ble_eq_true rfl⟩
/-! ToneGraph.voice(I)LToneGraph$Voice; -/
def wp_X1_voice (E : tc_E) (post : Nat → tc_S → Prop) (ex : String → tc_S → Prop) (p1 : Int32) (s0 : tc_S) : Prop := wp_X1_inRange (fun r1 => ((¬ r1 = 0 → (vp_in p1 4 ∧ post p1.toNatClampNeg s0)) ∧ (r1 = 0 → ex "java/lang/IndexOutOfBoundsException" s0))) p1 0 3
set_option maxHeartbeats 4000000 in
theorem t_X1_voice (l : Launch) (hl0 : l.stackTraces = false) {E : tc_E} {post : Nat → tc_S → Prop} {ex : String → tc_S → Prop} {p1 : Int32} {s0 : tc_S} (hk : wp_X1_voice E post ex p1 s0) : tx_M l yX1_voice (ws_ yX1_voice cX1_voice 2 (some (.object "ToneGraph$Voice"))) ({ frames := 6, cells := 1, slots := 6, locals := 100 } : Room) E [.ref (ea E (0, 0)), .int p1] s0 (fun k : Nat => some (.ref (ea E (10, k)))) post ex 1 6 := by
  refine tx_start cX1_voice 2 (some (.object "ToneGraph$Voice")) RX1 (by decide) rfl rfl (Nat.le_of_ble_eq_true rfl) ?_
  intro p e s m args below meth c ls C hnm hnt hr hlk hH hS hl
  have hl : lv_has ls 2 [(0, .ref (ea E (0, 0))), (1, .int p1)] := hl
  unfold wp_X1_voice at hk
  refine lv_iload_n C.hx C.hb dX1_voice_0 rfl (lv_at hl 1 rfl) ?_
  refine lv_iconst (v := 0) C.hx C.hb dX1_voice_1 (by decide) ?_
  refine lv_iconst (v := 3) C.hx C.hb dX1_voice_2 (by decide) ?_
  refine gb_call (As := [.int p1, .int 0, .int 3]) (rest := []) C.1 (t_X1_inRange l hk) (va_cwS 3 C.hts (lw_S q542 q543 q53 q544) rfl rfl rfl (by decide +kernel) ⟨Nat.le_of_ble_eq_true rfl, Nat.le_of_ble_eq_true rfl⟩) rfl hl.1 rfl (lv_room (Nat.le_of_ble_eq_true rfl)) dX1_voice_3 ⟨Nat.le_of_ble_eq_true rfl, Nat.le_of_ble_eq_true rfl⟩ (fun r1 hk => ?_)
  refine lv_if_ne (tgt := 17) C.hx C.hb dX1_voice_6 (by decide) (fun c2 => ?_) (fun c2 => ?_)
  · have hk := hk.1 c2
    refine lv_aload_n C.hx C.hb dX1_voice_17 rfl (lv_at hl 0 rfl) ?_
    refine tc_get C hH hH.g (Cn := RX1) (T := TX1) (N := 13) (ci := 0) (fs := tc_gfs E s0) in_X1 rfl rfl 0 (by decide) (C.L q316) (fun _ h => h) (v := .ref (ea E (1, 0))) rfl dX1_voice_18 ?_
    refine tc_get C hH (hH.n _ hH.n0.1) (Cn := RX4) (T := TX4) (N := 10) (ci := 2) (fs := tc_nfs E s0 0) in_X4 (tc_e0 hH.n0.2) rfl 9 (by decide) (C.N 0 rfl) (fun _ h => h) (v := .ref (ea E (9, 0))) (tc_x0_9 hH.n0.2) dX1_voice_21 ?_
    refine lv_iload_n C.hx C.hb dX1_voice_24 rfl (lv_at hl 1 rfl) ?_
    obtain ⟨h3, hk⟩ := hk
    refine tc_aaldV C hH h3 dX1_voice_25 ?_
    refine tx_ret (Nat.le_of_ble_eq_true rfl) (Nat.le_of_ble_eq_true rfl) ?_
    exact tc_aret p1.toNatClampNeg rfl (Or.inr ⟨_, rfl⟩) C hr hlk hH hS hk dX1_voice_26
  · have hk := hk.2 c2
    exact tx_throw C hl0 tx_ok_80 (by decide +kernel) q910 q77 ⟨by decide +kernel, by decide +kernel⟩ hnt hlk hH hS hk hl.1 dX1_voice_9 dX1_voice_12 dX1_voice_13 dX1_voice_16 ⟨Nat.le_of_ble_eq_true rfl, Nat.le_of_ble_eq_true rfl⟩ ⟨Nat.le_of_ble_eq_true rfl, Nat.le_of_ble_eq_true rfl⟩ ⟨Nat.le_of_ble_eq_true rfl, Nat.le_of_ble_eq_true rfl⟩
/-! ToneGraph.playing(I)LToneGraph$Voice; -/
def wp_X1_playing (E : tc_E) (post : Nat → tc_S → Prop) (ex : String → tc_S → Prop) (p1 : Int32) (s0 : tc_S) : Prop := wp_X1_voice E (fun r1 s2 => (r1 < 4 ∧ wp_X1_checkState E (fun _ s5 => post r1 s5) ex (s2.1 6 r1 1) s2)) ex p1 s0
set_option maxHeartbeats 4000000 in
theorem t_X1_playing (l : Launch) (hl0 : l.stackTraces = false) {E : tc_E} {post : Nat → tc_S → Prop} {ex : String → tc_S → Prop} {p1 : Int32} {s0 : tc_S} (hk : wp_X1_playing E post ex p1 s0) : tx_M l yX1_playing (ws_ yX1_playing cX1_playing 3 (some (.object "ToneGraph$Voice"))) ({ frames := 7, cells := 2, slots := 12, locals := 121 } : Room) E [.ref (ea E (0, 0)), .int p1] s0 (fun k : Nat => some (.ref (ea E (10, k)))) post ex 2 12 := by
  refine tx_start cX1_playing 3 (some (.object "ToneGraph$Voice")) RX1 (by decide) rfl rfl (Nat.le_of_ble_eq_true rfl) ?_
  intro p e s m args below meth c ls C hnm hnt hr hlk hH hS hl
  have hl : lv_has ls 3 [(0, .ref (ea E (0, 0))), (1, .int p1)] := hl
  unfold wp_X1_playing at hk
  refine lv_aload_n C.hx C.hb dX1_playing_0 rfl (lv_at hl 0 rfl) ?_
  refine lv_iload_n C.hx C.hb dX1_playing_1 rfl (lv_at hl 1 rfl) ?_
  refine tx_run (tx_rV (As := [.int p1]) (rest := []) (L := (0, 0)) (ci := 0) (fs := tc_gfs E s0) (q := (RX1, TX1, 13)) C hH.g rfl rfl (t_X1_voice l hl0  hk) (cwV 1 C.hts (lw_V q1131 q1133 qs21 q53 q1134) rfl rfl rfl (by decide +kernel) ⟨Nat.le_of_ble_eq_true rfl, Nat.le_of_ble_eq_true rfl⟩) hH hS rfl hl.1 rfl (lv_room (Nat.le_of_ble_eq_true rfl)) dX1_playing_2 ⟨Nat.le_of_ble_eq_true rfl, Nat.le_of_ble_eq_true rfl⟩) hS (fun X ce q9 S9 H1 locs1 hk hH hS h1 h2 h3 => tx_out hnt hlk hk hH hS h1 h2 h3 (Nat.le_of_ble_eq_true rfl) (Nat.le_of_ble_eq_true rfl)) (fun r1 s2 H locs hk hH hS => ?_)
  refine W.eq (g2 := F0 m 5 ls [.ref (ea E (10, r1))]) rfl ?_
  obtain ⟨h3, hk⟩ := hk
  refine lv_astore_n (lv' := [(2, .ref (ea E (10, r1))), (0, .ref (ea E (0, 0))), (1, .int p1)]) C.hx C.hb dX1_playing_5 rfl hl (by decide) rfl (fun ls hl => ?_)
  refine lv_aload_n C.hx C.hb dX1_playing_6 rfl (lv_at hl 0 rfl) ?_
  refine tc_get C hH (hH.v _ h3) (Cn := RX5) (T := TX5) (N := 12) (ci := 3) (fs := tc_vfs E s2 r1) in_X5 rfl rfl 1 (by decide) (C.N 11 rfl) (fun _ h => h) (v := .int (s2.1 6 r1 1)) rfl dX1_playing_7 ?_
  refine tx_run (tx_rS (As := [.int (s2.1 6 r1 1)]) (rest := []) C (t_X1_checkState l hl0  hk) (va_cwS 1 C.hts (lw_S q732 q733 q53 q734) rfl rfl rfl (by decide +kernel) ⟨Nat.le_of_ble_eq_true rfl, Nat.le_of_ble_eq_true rfl⟩) hH hS rfl hl.1 rfl (lv_room (Nat.le_of_ble_eq_true rfl)) dX1_playing_10 ⟨Nat.le_of_ble_eq_true rfl, Nat.le_of_ble_eq_true rfl⟩) hS (fun X ce q9 S9 H1 locs1 hk hH hS h1 h2 h3 => tx_out hnt hlk hk hH hS h1 h2 h3 (Nat.le_of_ble_eq_true rfl) (Nat.le_of_ble_eq_true rfl)) (fun _ s5 H locs hk hH hS => ?_)
  refine W.eq (g2 := F0 m 13 ls []) rfl ?_
  refine lv_aload_n C.hx C.hb dX1_playing_13 rfl (lv_at hl 0 rfl) ?_
  refine tx_ret (Nat.le_of_ble_eq_true rfl) (Nat.le_of_ble_eq_true rfl) ?_
  exact tc_aret r1 rfl (Or.inr ⟨_, rfl⟩) C hr hlk hH hS hk dX1_playing_14
/-! ToneGraph.wire(II)LToneGraph$Wire; -/
def wp_X1_wire (E : tc_E) (post : Nat → tc_S → Prop) (ex : String → tc_S → Prop) (p1 : Int32) (p2 : Int32) (s0 : tc_S) : Prop := wp_X1_node E (fun r1 s2 => (r1 < yn E ∧ wp_J2_size E (fun r4 s5 => wp_X1_inRange (fun r6 => ((¬ r6 = 0 → (ygr E (r1 + 2) = true ∧ wp_J2_get E (fun r9 s10 => (r9 < ynw E ∧ post r9 s10)) (r1 + 2) p2 s5)) ∧ (r6 = 0 → ex "java/util/NoSuchElementException" s5))) p2 0 (r4 - 1)) (r1 + 2) s2)) ex p1 s0
set_option maxHeartbeats 4000000 in
theorem t_X1_wire (l : Launch) (hl0 : l.stackTraces = false) {E : tc_E} {post : Nat → tc_S → Prop} {ex : String → tc_S → Prop} {p1 : Int32} {p2 : Int32} {s0 : tc_S} (hk : wp_X1_wire E post ex p1 p2 s0) : tx_M l yX1_wire (ws_ yX1_wire cX1_wire 4 (some (.object "ToneGraph$Wire"))) ({ frames := 7, cells := 2, slots := 12, locals := 121 } : Room) E [.ref (ea E (0, 0)), .int p1, .int p2] s0 (fun k : Nat => some (.ref (ea E (13, k)))) post ex 2 12 := by
  refine tx_start cX1_wire 4 (some (.object "ToneGraph$Wire")) RX1 (by decide) rfl rfl (Nat.le_of_ble_eq_true rfl) ?_
  intro p e s m args below meth c ls C hnm hnt hr hlk hH hS hl
  have hl : lv_has ls 4 [(0, .ref (ea E (0, 0))), (1, .int p1), (2, .int p2)] := hl
  unfold wp_X1_wire at hk
  refine lv_aload_n C.hx C.hb dX1_wire_0 rfl (lv_at hl 0 rfl) ?_
  refine lv_iload_n C.hx C.hb dX1_wire_1 rfl (lv_at hl 1 rfl) ?_
  refine tx_run (tx_rV (As := [.int p1]) (rest := []) (L := (0, 0)) (ci := 0) (fs := tc_gfs E s0) (q := (RX1, TX1, 13)) C hH.g rfl rfl (t_X1_node l hl0  hk) (cwV 1 C.hts (lw_V q906 q908 qs16 q53 q909) rfl rfl rfl (by decide +kernel) ⟨Nat.le_of_ble_eq_true rfl, Nat.le_of_ble_eq_true rfl⟩) hH hS rfl hl.1 rfl (lv_room (Nat.le_of_ble_eq_true rfl)) dX1_wire_2 ⟨Nat.le_of_ble_eq_true rfl, Nat.le_of_ble_eq_true rfl⟩) hS (fun X ce q9 S9 H1 locs1 hk hH hS h1 h2 h3 => tx_out hnt hlk hk hH hS h1 h2 h3 (Nat.le_of_ble_eq_true rfl) (Nat.le_of_ble_eq_true rfl)) (fun r1 s2 H locs hk hH hS => ?_)
  refine W.eq (g2 := F0 m 5 ls [.ref (ea E (1, r1))]) rfl ?_
  obtain ⟨h3, hk⟩ := hk
  refine tc_getn C hH h3 2 (by decide) rfl (C.N 1 rfl) (v := .ref (ea E (2, r1 + 2))) rfl dX1_wire_5 ?_
  refine lv_astore_n (lv' := [(3, .ref (ea E (2, r1 + 2))), (0, .ref (ea E (0, 0))), (1, .int p1), (2, .int p2)]) C.hx C.hb dX1_wire_8 rfl hl (by decide) rfl (fun ls hl => ?_)
  refine lv_iload_n C.hx C.hb dX1_wire_9 rfl (lv_at hl 3 rfl) ?_
  refine lv_iconst (v := 0) C.hx C.hb dX1_wire_10 (by decide) ?_
  refine lv_aload_n C.hx C.hb dX1_wire_11 rfl (lv_at hl 0 rfl) ?_
  refine tc_run (tc_rV (As := []) (rest := [.int 0, .int p2]) (L := (2, r1 + 2)) (ci := 9) (fs := tc_lfs E s2 (r1 + 2)) (q := (RJ2, TJ2, 3)) C (hH.l _ (Nat.add_lt_add_right h3 2)) rfl rfl (t_J2_size l (Nat.add_lt_add_right h3 2) hk) (cwV 0 C.hts (lw_V q360 q361 q362 q56 q363) rfl rfl rfl (by decide +kernel) ⟨Nat.le_of_ble_eq_true rfl, Nat.le_of_ble_eq_true rfl⟩) hH hS rfl hl.1 rfl (lv_room (Nat.le_of_ble_eq_true rfl)) dX1_wire_12 ⟨Nat.le_of_ble_eq_true rfl, Nat.le_of_ble_eq_true rfl⟩) hS (fun r4 s5 H locs hk hH hS => ?_)
  refine W.eq (g2 := F0 m 15 ls [.int r4, .int 0, .int p2]) rfl ?_
  refine lv_iconst (v := 1) C.hx C.hb dX1_wire_15 (by decide) ?_
  refine lv_isub C.hx C.hb dX1_wire_16 ?_
  refine gb_call (As := [.int p2, .int 0, .int (r4 - 1)]) (rest := []) C.1 (t_X1_inRange l hk) (va_cwS 3 C.hts (lw_S q542 q543 q53 q544) rfl rfl rfl (by decide +kernel) ⟨Nat.le_of_ble_eq_true rfl, Nat.le_of_ble_eq_true rfl⟩) rfl hl.1 rfl (lv_room (Nat.le_of_ble_eq_true rfl)) dX1_wire_17 ⟨Nat.le_of_ble_eq_true rfl, Nat.le_of_ble_eq_true rfl⟩ (fun r6 hk => ?_)
  refine lv_if_ne (tgt := 31) C.hx C.hb dX1_wire_20 (by decide) (fun c7 => ?_) (fun c7 => ?_)
  · have hk := hk.1 c7
    refine lv_aload_n C.hx C.hb dX1_wire_31 rfl (lv_at hl 0 rfl) ?_
    refine lv_iload_n C.hx C.hb dX1_wire_32 rfl (lv_at hl 3 rfl) ?_
    obtain ⟨h8, hk⟩ := hk
    refine tc_run (tc_rV (As := [.int p2]) (rest := []) (L := (2, r1 + 2)) (ci := 9) (fs := tc_lfs E s5 (r1 + 2)) (q := (RJ2, TJ2, 3)) C (hH.l _ (Nat.add_lt_add_right h3 2)) rfl rfl (t_J2_get l (Nat.add_lt_add_right h3 2) h8 hk) (cwV 1 C.hts (lw_V q368 q369 q370 q56 q371) rfl rfl rfl (by decide +kernel) ⟨Nat.le_of_ble_eq_true rfl, Nat.le_of_ble_eq_true rfl⟩) hH hS rfl hl.1 rfl (lv_room (Nat.le_of_ble_eq_true rfl)) dX1_wire_33 ⟨Nat.le_of_ble_eq_true rfl, Nat.le_of_ble_eq_true rfl⟩) hS (fun r9 s10 H locs hk hH hS => ?_)
    refine W.eq (g2 := F0 m 36 ls [.ref (ea E (13, r9))]) rfl ?_
    obtain ⟨h11, hk⟩ := hk
    refine tc_castW C hH h11 q540 dX1_wire_36 ?_
    refine tx_ret (Nat.le_of_ble_eq_true rfl) (Nat.le_of_ble_eq_true rfl) ?_
    exact tc_aret r9 rfl (Or.inr ⟨_, rfl⟩) C hr hlk hH hS hk dX1_wire_39
  · have hk := hk.2 c7
    exact tx_throw C hl0 tx_ok_172 (by decide +kernel) q984 q82 ⟨by decide +kernel, by decide +kernel⟩ hnt hlk hH hS hk hl.1 dX1_wire_23 dX1_wire_26 dX1_wire_27 dX1_wire_30 ⟨Nat.le_of_ble_eq_true rfl, Nat.le_of_ble_eq_true rfl⟩ ⟨Nat.le_of_ble_eq_true rfl, Nat.le_of_ble_eq_true rfl⟩ ⟨Nat.le_of_ble_eq_true rfl, Nat.le_of_ble_eq_true rfl⟩
/-! ToneGraph.checkRoom()V -/
def wp_X1_checkRoom (E : tc_E) (post : Unit → tc_S → Prop) (ex : String → tc_S → Prop) (s0 : tc_S) : Prop := wp_J2_size E (fun r1 s2 => ((10 ≤ r1 → wp_X1_checkState E (fun _ s5 => False) ex 0 s2) ∧ (¬ 10 ≤ r1 → wp_X1_checkState E (fun _ s7 => post () s7) ex 1 s2))) 0 s0
set_option maxHeartbeats 4000000 in
theorem t_X1_checkRoom (l : Launch) (hl0 : l.stackTraces = false) {E : tc_E} {post : Unit → tc_S → Prop} {ex : String → tc_S → Prop} {s0 : tc_S} (hk : wp_X1_checkRoom E post ex  s0) : tx_M l yX1_checkRoom (ws_ yX1_checkRoom cX1_checkRoom 1 none) ({ frames := 7, cells := 1, slots := 6, locals := 120 } : Room) E [.ref (ea E (0, 0))] s0 (fun _ : Unit => none) post ex 1 6 := by
  refine tx_start cX1_checkRoom 1 none RX1 (by decide) rfl rfl (Nat.le_of_ble_eq_true rfl) ?_
  intro p e s m args below meth c ls C hnm hnt hr hlk hH hS hl
  have hl : lv_has ls 1 [(0, .ref (ea E (0, 0)))] := hl
  unfold wp_X1_checkRoom at hk
  refine lv_aload_n C.hx C.hb dX1_checkRoom_0 rfl (lv_at hl 0 rfl) ?_
  refine tc_get C hH hH.g (Cn := RX1) (T := TX1) (N := 13) (ci := 0) (fs := tc_gfs E s0) in_X1 rfl rfl 1 (by decide) (C.L q317) (fun _ h => h) (v := .ref (ea E (2, 0))) rfl dX1_checkRoom_1 ?_
  refine tc_run (tc_rV (As := []) (rest := []) (L := (2, 0)) (ci := 9) (fs := tc_lfs E s0 0) (q := (RJ2, TJ2, 3)) C (hH.l _ (by omega)) rfl rfl (t_J2_size l (by omega) hk) (cwV 0 C.hts (lw_V q360 q361 q362 q56 q363) rfl rfl rfl (by decide +kernel) ⟨Nat.le_of_ble_eq_true rfl, Nat.le_of_ble_eq_true rfl⟩) hH hS rfl hl.1 rfl (lv_room (Nat.le_of_ble_eq_true rfl)) dX1_checkRoom_4 ⟨Nat.le_of_ble_eq_true rfl, Nat.le_of_ble_eq_true rfl⟩) hS (fun r1 s2 H locs hk hH hS => ?_)
  refine W.eq (g2 := F0 m 7 ls [.int r1]) rfl ?_
  refine lv_bipush (v := 10) C.hx C.hb dX1_checkRoom_7 (by decide) ?_
  refine lv_icmp_ge (tgt := 16) C.hx C.hb dX1_checkRoom_9 (by decide) (fun c3 => ?_) (fun c3 => ?_)
  · have hk := hk.1 c3
    refine lv_iconst (v := 0) C.hx C.hb dX1_checkRoom_16 (by decide) ?_
    refine tx_run (tx_rS (As := [.int 0]) (rest := []) C (t_X1_checkState l hl0  hk) (va_cwS 1 C.hts (lw_S q732 q733 q53 q734) rfl rfl rfl (by decide +kernel) ⟨Nat.le_of_ble_eq_true rfl, Nat.le_of_ble_eq_true rfl⟩) hH hS rfl hl.1 rfl (lv_room (Nat.le_of_ble_eq_true rfl)) dX1_checkRoom_17 ⟨Nat.le_of_ble_eq_true rfl, Nat.le_of_ble_eq_true rfl⟩) hS (fun X ce q9 S9 H1 locs1 hk hH hS h1 h2 h3 => tx_out hnt hlk hk hH hS h1 h2 h3 (Nat.le_of_ble_eq_true rfl) (Nat.le_of_ble_eq_true rfl)) (fun _ s5 H locs hk hH hS => ?_)
    refine W.eq (g2 := F0 m 20 ls []) rfl ?_
    exact hk.elim
  · have hk := hk.2 c3
    refine lv_iconst (v := 1) C.hx C.hb dX1_checkRoom_12 (by decide) ?_
    refine lv_goto (tgt := 17) C.hx C.hb dX1_checkRoom_13 (by decide) ?_
    refine tx_run (tx_rS (As := [.int 1]) (rest := []) C (t_X1_checkState l hl0  hk) (va_cwS 1 C.hts (lw_S q732 q733 q53 q734) rfl rfl rfl (by decide +kernel) ⟨Nat.le_of_ble_eq_true rfl, Nat.le_of_ble_eq_true rfl⟩) hH hS rfl hl.1 rfl (lv_room (Nat.le_of_ble_eq_true rfl)) dX1_checkRoom_17 ⟨Nat.le_of_ble_eq_true rfl, Nat.le_of_ble_eq_true rfl⟩) hS (fun X ce q9 S9 H1 locs1 hk hH hS h1 h2 h3 => tx_out hnt hlk hk hH hS h1 h2 h3 (Nat.le_of_ble_eq_true rfl) (Nat.le_of_ble_eq_true rfl)) (fun _ s7 H locs hk hH hS => ?_)
    refine W.eq (g2 := F0 m 20 ls []) rfl ?_
    refine tx_ret (Nat.le_of_ble_eq_true rfl) (Nat.le_of_ble_eq_true rfl) ?_
    exact tc_vret () rfl C hr hlk hH hS hk dX1_checkRoom_20
/-! ToneGraph.setOutput(I)I -/
def wp_X1_setOutput (E : tc_E) (post : Int32 → tc_S → Prop) (ex : String → tc_S → Prop) (p1 : Int32) (s0 : tc_S) : Prop := wp_X1_node E (fun r1 s2 => (r1 < yn E ∧ ((s2.2.1 0 0 0) < yn E ∧ (∀ v5, v5 = (nI (s2.2.1 0 0 0)) → (∀ s6 : tc_S, s6 = tP s2 0 0 0 r1 → post v5 s6))))) ex p1 s0
set_option maxHeartbeats 4000000 in
theorem t_X1_setOutput (l : Launch) (hl0 : l.stackTraces = false) {E : tc_E} {post : Int32 → tc_S → Prop} {ex : String → tc_S → Prop} {p1 : Int32} {s0 : tc_S} (hk : wp_X1_setOutput E post ex p1 s0) : tx_M l yX1_setOutput (ws_ yX1_setOutput cX1_setOutput 4 (some .int)) ({ frames := 7, cells := 1, slots := 6, locals := 121 } : Room) E [.ref (ea E (0, 0)), .int p1] s0 (fun r : Int32 => some (.int r)) post ex 1 6 := by
  refine tx_start cX1_setOutput 4 (some .int) RX1 (by decide) rfl rfl (Nat.le_of_ble_eq_true rfl) ?_
  intro p e s m args below meth c ls C hnm hnt hr hlk hH hS hl
  have hl : lv_has ls 4 [(0, .ref (ea E (0, 0))), (1, .int p1)] := hl
  unfold wp_X1_setOutput at hk
  refine lv_aload_n C.hx C.hb dX1_setOutput_0 rfl (lv_at hl 0 rfl) ?_
  refine lv_iload_n C.hx C.hb dX1_setOutput_1 rfl (lv_at hl 1 rfl) ?_
  refine tx_run (tx_rV (As := [.int p1]) (rest := []) (L := (0, 0)) (ci := 0) (fs := tc_gfs E s0) (q := (RX1, TX1, 13)) C hH.g rfl rfl (t_X1_node l hl0  hk) (cwV 1 C.hts (lw_V q906 q908 qs16 q53 q909) rfl rfl rfl (by decide +kernel) ⟨Nat.le_of_ble_eq_true rfl, Nat.le_of_ble_eq_true rfl⟩) hH hS rfl hl.1 rfl (lv_room (Nat.le_of_ble_eq_true rfl)) dX1_setOutput_2 ⟨Nat.le_of_ble_eq_true rfl, Nat.le_of_ble_eq_true rfl⟩) hS (fun X ce q9 S9 H1 locs1 hk hH hS h1 h2 h3 => tx_out hnt hlk hk hH hS h1 h2 h3 (Nat.le_of_ble_eq_true rfl) (Nat.le_of_ble_eq_true rfl)) (fun r1 s2 H locs hk hH hS => ?_)
  refine W.eq (g2 := F0 m 5 ls [.ref (ea E (1, r1))]) rfl ?_
  obtain ⟨h3, hk⟩ := hk
  refine lv_astore_n (lv' := [(2, .ref (ea E (1, r1))), (0, .ref (ea E (0, 0))), (1, .int p1)]) C.hx C.hb dX1_setOutput_5 rfl hl (by decide) rfl (fun ls hl => ?_)
  refine lv_aload_n C.hx C.hb dX1_setOutput_6 rfl (lv_at hl 1 rfl) ?_
  obtain ⟨h4, hk⟩ := hk
  refine tc_get C hH hH.g (Cn := RX1) (T := TX1) (N := 13) (ci := 0) (fs := tc_gfs E s2) in_X1 rfl rfl 3 (by decide) (C.L q319) (fun _ h => h) (v := .ref (ea E (1, (s2.2.1 0 0 0)))) rfl dX1_setOutput_7 ?_
  refine tc_getn C hH h4 0 (by decide) rfl (C.N 4 rfl) (v := .int (nI (s2.2.1 0 0 0))) rfl dX1_setOutput_10 ?_
  refine lv_topi (fun v5 ev5 => ?_)
  have hk := hk v5 ev5
  refine lv_istore_n (lv' := [(3, .int v5), (2, .ref (ea E (1, r1))), (0, .ref (ea E (0, 0))), (1, .int p1)]) C.hx C.hb dX1_setOutput_13 rfl hl (by decide) rfl (fun ls hl => ?_)
  refine lv_aload_n C.hx C.hb dX1_setOutput_14 rfl (lv_at hl 2 rfl) ?_
  refine lv_aload_n C.hx C.hb dX1_setOutput_15 rfl (lv_at hl 1 rfl) ?_
  refine tc_put C hH hS hH.g (Cn := RX1) (T := TX1) (N := 13) (ci := 0) (fs := tc_gfs E s2) in_X1 tyX1 tyX1_ok nmX1 rfl rfl 3 (by decide) (C.L q319) (fun _ h => h) rfl (v := .ref (ea E (1, r1))) rfl rfl (Nat.le_of_ble_eq_true rfl) (tc_ug_output E s2 r1) dX1_setOutput_16 (fun s6 es6 H locs hH hS => ?_)
  have hk := hk s6 es6
  refine lv_iload_n C.hx C.hb dX1_setOutput_19 rfl (lv_at hl 0 rfl) ?_
  refine tx_ret (Nat.le_of_ble_eq_true rfl) (Nat.le_of_ble_eq_true rfl) ?_
  exact tc_iret v5 rfl C hr hlk hH hS hk dX1_setOutput_20
/-! ToneGraph.kindOf(I)C -/
def wp_X1_kindOf (E : tc_E) (post : Int32 → tc_S → Prop) (ex : String → tc_S → Prop) (p1 : Int32) (s0 : tc_S) : Prop := wp_X1_node E (fun r1 s2 => (r1 < yn E ∧ (narrow .char (.int (tc_kc (ykd E r1))) = .int (tc_kc (ykd E r1)) ∧ post (tc_kc (ykd E r1)) s2))) ex p1 s0
set_option maxHeartbeats 4000000 in
theorem t_X1_kindOf (l : Launch) (hl0 : l.stackTraces = false) {E : tc_E} {post : Int32 → tc_S → Prop} {ex : String → tc_S → Prop} {p1 : Int32} {s0 : tc_S} (hk : wp_X1_kindOf E post ex p1 s0) : tx_M l yX1_kindOf (ws_ yX1_kindOf cX1_kindOf 2 (some .char)) ({ frames := 7, cells := 1, slots := 6, locals := 121 } : Room) E [.ref (ea E (0, 0)), .int p1] s0 (fun r : Int32 => some (.int r)) post ex 1 6 := by
  refine tx_start cX1_kindOf 2 (some .char) RX1 (by decide) rfl rfl (Nat.le_of_ble_eq_true rfl) ?_
  intro p e s m args below meth c ls C hnm hnt hr hlk hH hS hl
  have hl : lv_has ls 2 [(0, .ref (ea E (0, 0))), (1, .int p1)] := hl
  unfold wp_X1_kindOf at hk
  refine lv_aload_n C.hx C.hb dX1_kindOf_0 rfl (lv_at hl 0 rfl) ?_
  refine lv_iload_n C.hx C.hb dX1_kindOf_1 rfl (lv_at hl 1 rfl) ?_
  refine tx_run (tx_rV (As := [.int p1]) (rest := []) (L := (0, 0)) (ci := 0) (fs := tc_gfs E s0) (q := (RX1, TX1, 13)) C hH.g rfl rfl (t_X1_node l hl0  hk) (cwV 1 C.hts (lw_V q906 q908 qs16 q53 q909) rfl rfl rfl (by decide +kernel) ⟨Nat.le_of_ble_eq_true rfl, Nat.le_of_ble_eq_true rfl⟩) hH hS rfl hl.1 rfl (lv_room (Nat.le_of_ble_eq_true rfl)) dX1_kindOf_2 ⟨Nat.le_of_ble_eq_true rfl, Nat.le_of_ble_eq_true rfl⟩) hS (fun X ce q9 S9 H1 locs1 hk hH hS h1 h2 h3 => tx_out hnt hlk hk hH hS h1 h2 h3 (Nat.le_of_ble_eq_true rfl) (Nat.le_of_ble_eq_true rfl)) (fun r1 s2 H locs hk hH hS => ?_)
  refine W.eq (g2 := F0 m 5 ls [.ref (ea E (1, r1))]) rfl ?_
  obtain ⟨h3, hk⟩ := hk
  refine tc_getn C hH h3 1 (by decide) rfl (C.N 7 rfl) (v := .int (tc_kc (ykd E r1))) rfl dX1_kindOf_5 ?_
  refine tx_ret (Nat.le_of_ble_eq_true rfl) (Nat.le_of_ble_eq_true rfl) ?_
  obtain ⟨h4, hk⟩ := hk
  exact tc_zret (ty := .char) (tc_kc (ykd E r1)) rfl C hr hlk h4 hH hS hk dX1_kindOf_8
/-! ToneGraph.wires(I)I -/
def wp_X1_wires (E : tc_E) (post : Int32 → tc_S → Prop) (ex : String → tc_S → Prop) (p1 : Int32) (s0 : tc_S) : Prop := wp_X1_node E (fun r1 s2 => (r1 < yn E ∧ wp_J2_size E (fun r4 s5 => post r4 s5) (r1 + 2) s2)) ex p1 s0
set_option maxHeartbeats 4000000 in
theorem t_X1_wires (l : Launch) (hl0 : l.stackTraces = false) {E : tc_E} {post : Int32 → tc_S → Prop} {ex : String → tc_S → Prop} {p1 : Int32} {s0 : tc_S} (hk : wp_X1_wires E post ex p1 s0) : tx_M l yX1_wires (ws_ yX1_wires cX1_wires 2 (some .int)) ({ frames := 7, cells := 1, slots := 6, locals := 121 } : Room) E [.ref (ea E (0, 0)), .int p1] s0 (fun r : Int32 => some (.int r)) post ex 1 6 := by
  refine tx_start cX1_wires 2 (some .int) RX1 (by decide) rfl rfl (Nat.le_of_ble_eq_true rfl) ?_
  intro p e s m args below meth c ls C hnm hnt hr hlk hH hS hl
  have hl : lv_has ls 2 [(0, .ref (ea E (0, 0))), (1, .int p1)] := hl
  unfold wp_X1_wires at hk
  refine lv_aload_n C.hx C.hb dX1_wires_0 rfl (lv_at hl 0 rfl) ?_
  refine lv_iload_n C.hx C.hb dX1_wires_1 rfl (lv_at hl 1 rfl) ?_
  refine tx_run (tx_rV (As := [.int p1]) (rest := []) (L := (0, 0)) (ci := 0) (fs := tc_gfs E s0) (q := (RX1, TX1, 13)) C hH.g rfl rfl (t_X1_node l hl0  hk) (cwV 1 C.hts (lw_V q906 q908 qs16 q53 q909) rfl rfl rfl (by decide +kernel) ⟨Nat.le_of_ble_eq_true rfl, Nat.le_of_ble_eq_true rfl⟩) hH hS rfl hl.1 rfl (lv_room (Nat.le_of_ble_eq_true rfl)) dX1_wires_2 ⟨Nat.le_of_ble_eq_true rfl, Nat.le_of_ble_eq_true rfl⟩) hS (fun X ce q9 S9 H1 locs1 hk hH hS h1 h2 h3 => tx_out hnt hlk hk hH hS h1 h2 h3 (Nat.le_of_ble_eq_true rfl) (Nat.le_of_ble_eq_true rfl)) (fun r1 s2 H locs hk hH hS => ?_)
  refine W.eq (g2 := F0 m 5 ls [.ref (ea E (1, r1))]) rfl ?_
  obtain ⟨h3, hk⟩ := hk
  refine tc_getn C hH h3 2 (by decide) rfl (C.N 1 rfl) (v := .ref (ea E (2, r1 + 2))) rfl dX1_wires_5 ?_
  refine tc_run (tc_rV (As := []) (rest := []) (L := (2, r1 + 2)) (ci := 9) (fs := tc_lfs E s2 (r1 + 2)) (q := (RJ2, TJ2, 3)) C (hH.l _ (Nat.add_lt_add_right h3 2)) rfl rfl (t_J2_size l (Nat.add_lt_add_right h3 2) hk) (cwV 0 C.hts (lw_V q360 q361 q362 q56 q363) rfl rfl rfl (by decide +kernel) ⟨Nat.le_of_ble_eq_true rfl, Nat.le_of_ble_eq_true rfl⟩) hH hS rfl hl.1 rfl (lv_room (Nat.le_of_ble_eq_true rfl)) dX1_wires_8 ⟨Nat.le_of_ble_eq_true rfl, Nat.le_of_ble_eq_true rfl⟩) hS (fun r4 s5 H locs hk hH hS => ?_)
  refine W.eq (g2 := F0 m 11 ls [.int r4]) rfl ?_
  refine tx_ret (Nat.le_of_ble_eq_true rfl) (Nat.le_of_ble_eq_true rfl) ?_
  exact tc_iret r4 rfl C hr hlk hH hS hk dX1_wires_11
/-! ToneGraph.wireFrom(II)I -/
def wp_X1_wireFrom (E : tc_E) (post : Int32 → tc_S → Prop) (ex : String → tc_S → Prop) (p1 : Int32) (p2 : Int32) (s0 : tc_S) : Prop := wp_X1_wire E (fun r1 s2 => (r1 < ynw E ∧ ((ywf E r1) < yn E ∧ post (nI (ywf E r1)) s2))) ex p1 p2 s0
set_option maxHeartbeats 4000000 in
theorem t_X1_wireFrom (l : Launch) (hl0 : l.stackTraces = false) {E : tc_E} {post : Int32 → tc_S → Prop} {ex : String → tc_S → Prop} {p1 : Int32} {p2 : Int32} {s0 : tc_S} (hk : wp_X1_wireFrom E post ex p1 p2 s0) : tx_M l yX1_wireFrom (ws_ yX1_wireFrom cX1_wireFrom 3 (some .int)) ({ frames := 8, cells := 2, slots := 12, locals := 144 } : Room) E [.ref (ea E (0, 0)), .int p1, .int p2] s0 (fun r : Int32 => some (.int r)) post ex 2 12 := by
  refine tx_start cX1_wireFrom 3 (some .int) RX1 (by decide) rfl rfl (Nat.le_of_ble_eq_true rfl) ?_
  intro p e s m args below meth c ls C hnm hnt hr hlk hH hS hl
  have hl : lv_has ls 3 [(0, .ref (ea E (0, 0))), (1, .int p1), (2, .int p2)] := hl
  unfold wp_X1_wireFrom at hk
  refine lv_aload_n C.hx C.hb dX1_wireFrom_0 rfl (lv_at hl 0 rfl) ?_
  refine lv_iload_n C.hx C.hb dX1_wireFrom_1 rfl (lv_at hl 1 rfl) ?_
  refine lv_iload_n C.hx C.hb dX1_wireFrom_2 rfl (lv_at hl 2 rfl) ?_
  refine tx_run (tx_rV (As := [.int p1, .int p2]) (rest := []) (L := (0, 0)) (ci := 0) (fs := tc_gfs E s0) (q := (RX1, TX1, 13)) C hH.g rfl rfl (t_X1_wire l hl0  hk) (cwV 2 C.hts (lw_V q1043 q1045 qs18 q53 q1046) rfl rfl rfl (by decide +kernel) ⟨Nat.le_of_ble_eq_true rfl, Nat.le_of_ble_eq_true rfl⟩) hH hS rfl hl.1 rfl (lv_room (Nat.le_of_ble_eq_true rfl)) dX1_wireFrom_3 ⟨Nat.le_of_ble_eq_true rfl, Nat.le_of_ble_eq_true rfl⟩) hS (fun X ce q9 S9 H1 locs1 hk hH hS h1 h2 h3 => tx_out hnt hlk hk hH hS h1 h2 h3 (Nat.le_of_ble_eq_true rfl) (Nat.le_of_ble_eq_true rfl)) (fun r1 s2 H locs hk hH hS => ?_)
  refine W.eq (g2 := F0 m 6 ls [.ref (ea E (13, r1))]) rfl ?_
  obtain ⟨h3, hk⟩ := hk
  obtain ⟨h4, hk⟩ := hk
  refine tc_get C hH (hH.w _ h3) (Cn := RX11) (T := TX11) (N := 2) (ci := 8) (fs := [.ref (ea E (1, ywf E r1)), .int (ywq E r1)]) in_X11 rfl rfl 0 (by decide) (C.N 2 rfl) (fun _ h => h) (v := .ref (ea E (1, (ywf E r1)))) rfl dX1_wireFrom_6 ?_
  refine tc_getn C hH h4 0 (by decide) rfl (C.N 4 rfl) (v := .int (nI (ywf E r1))) rfl dX1_wireFrom_9 ?_
  refine tx_ret (Nat.le_of_ble_eq_true rfl) (Nat.le_of_ble_eq_true rfl) ?_
  exact tc_iret (nI (ywf E r1)) rfl C hr hlk hH hS hk dX1_wireFrom_12
/-! ToneGraph.wirePercent(II)I -/
def wp_X1_wirePercent (E : tc_E) (post : Int32 → tc_S → Prop) (ex : String → tc_S → Prop) (p1 : Int32) (p2 : Int32) (s0 : tc_S) : Prop := wp_X1_wire E (fun r1 s2 => (r1 < ynw E ∧ post (ywq E r1) s2)) ex p1 p2 s0
set_option maxHeartbeats 4000000 in
theorem t_X1_wirePercent (l : Launch) (hl0 : l.stackTraces = false) {E : tc_E} {post : Int32 → tc_S → Prop} {ex : String → tc_S → Prop} {p1 : Int32} {p2 : Int32} {s0 : tc_S} (hk : wp_X1_wirePercent E post ex p1 p2 s0) : tx_M l yX1_wirePercent (ws_ yX1_wirePercent cX1_wirePercent 3 (some .int)) ({ frames := 8, cells := 2, slots := 12, locals := 144 } : Room) E [.ref (ea E (0, 0)), .int p1, .int p2] s0 (fun r : Int32 => some (.int r)) post ex 2 12 := by
  refine tx_start cX1_wirePercent 3 (some .int) RX1 (by decide) rfl rfl (Nat.le_of_ble_eq_true rfl) ?_
  intro p e s m args below meth c ls C hnm hnt hr hlk hH hS hl
  have hl : lv_has ls 3 [(0, .ref (ea E (0, 0))), (1, .int p1), (2, .int p2)] := hl
  unfold wp_X1_wirePercent at hk
  refine lv_aload_n C.hx C.hb dX1_wirePercent_0 rfl (lv_at hl 0 rfl) ?_
  refine lv_iload_n C.hx C.hb dX1_wirePercent_1 rfl (lv_at hl 1 rfl) ?_
  refine lv_iload_n C.hx C.hb dX1_wirePercent_2 rfl (lv_at hl 2 rfl) ?_
  refine tx_run (tx_rV (As := [.int p1, .int p2]) (rest := []) (L := (0, 0)) (ci := 0) (fs := tc_gfs E s0) (q := (RX1, TX1, 13)) C hH.g rfl rfl (t_X1_wire l hl0  hk) (cwV 2 C.hts (lw_V q1043 q1045 qs18 q53 q1046) rfl rfl rfl (by decide +kernel) ⟨Nat.le_of_ble_eq_true rfl, Nat.le_of_ble_eq_true rfl⟩) hH hS rfl hl.1 rfl (lv_room (Nat.le_of_ble_eq_true rfl)) dX1_wirePercent_3 ⟨Nat.le_of_ble_eq_true rfl, Nat.le_of_ble_eq_true rfl⟩) hS (fun X ce q9 S9 H1 locs1 hk hH hS h1 h2 h3 => tx_out hnt hlk hk hH hS h1 h2 h3 (Nat.le_of_ble_eq_true rfl) (Nat.le_of_ble_eq_true rfl)) (fun r1 s2 H locs hk hH hS => ?_)
  refine W.eq (g2 := F0 m 6 ls [.ref (ea E (13, r1))]) rfl ?_
  obtain ⟨h3, hk⟩ := hk
  refine tc_get C hH (hH.w _ h3) (Cn := RX11) (T := TX11) (N := 2) (ci := 8) (fs := [.ref (ea E (1, ywf E r1)), .int (ywq E r1)]) in_X11 rfl rfl 1 (by decide) (C.N 5 rfl) (fun _ h => h) (v := .int (ywq E r1)) rfl dX1_wirePercent_6 ?_
  refine tx_ret (Nat.le_of_ble_eq_true rfl) (Nat.le_of_ble_eq_true rfl) ?_
  exact tc_iret (ywq E r1) rfl C hr hlk hH hS hk dX1_wirePercent_9
/-! ToneGraph.nodeAt(I)I -/
def wp_X1_nodeAt (E : tc_E) (post : Int32 → tc_S → Prop) (ex : String → tc_S → Prop) (p1 : Int32) (s0 : tc_S) : Prop := wp_J2_size E (fun r1 s2 => wp_X1_inRange (fun r3 => ((¬ r3 = 0 → wp_J2_get E (fun r5 s6 => (r5 < yn E ∧ post (nI r5) s6)) 1 p1 s2) ∧ (r3 = 0 → ex "java/lang/IndexOutOfBoundsException" s2))) p1 0 (r1 - 1)) 1 s0
set_option maxHeartbeats 4000000 in
theorem t_X1_nodeAt (l : Launch) (hl0 : l.stackTraces = false) {E : tc_E} {post : Int32 → tc_S → Prop} {ex : String → tc_S → Prop} {p1 : Int32} {s0 : tc_S} (hk : wp_X1_nodeAt E post ex p1 s0) : tx_M l yX1_nodeAt (ws_ yX1_nodeAt cX1_nodeAt 2 (some .int)) ({ frames := 6, cells := 1, slots := 6, locals := 100 } : Room) E [.ref (ea E (0, 0)), .int p1] s0 (fun r : Int32 => some (.int r)) post ex 1 6 := by
  refine tx_start cX1_nodeAt 2 (some .int) RX1 (by decide) rfl rfl (Nat.le_of_ble_eq_true rfl) ?_
  intro p e s m args below meth c ls C hnm hnt hr hlk hH hS hl
  have hl : lv_has ls 2 [(0, .ref (ea E (0, 0))), (1, .int p1)] := hl
  unfold wp_X1_nodeAt at hk
  refine lv_iload_n C.hx C.hb dX1_nodeAt_0 rfl (lv_at hl 1 rfl) ?_
  refine lv_iconst (v := 0) C.hx C.hb dX1_nodeAt_1 (by decide) ?_
  refine lv_aload_n C.hx C.hb dX1_nodeAt_2 rfl (lv_at hl 0 rfl) ?_
  refine tc_get C hH hH.g (Cn := RX1) (T := TX1) (N := 13) (ci := 0) (fs := tc_gfs E s0) in_X1 rfl rfl 2 (by decide) (C.L q318) (fun _ h => h) (v := .ref (ea E (2, 1))) rfl dX1_nodeAt_3 ?_
  refine tc_run (tc_rV (As := []) (rest := [.int 0, .int p1]) (L := (2, 1)) (ci := 9) (fs := tc_lfs E s0 1) (q := (RJ2, TJ2, 3)) C (hH.l _ (by omega)) rfl rfl (t_J2_size l (by omega) hk) (cwV 0 C.hts (lw_V q360 q361 q362 q56 q363) rfl rfl rfl (by decide +kernel) ⟨Nat.le_of_ble_eq_true rfl, Nat.le_of_ble_eq_true rfl⟩) hH hS rfl hl.1 rfl (lv_room (Nat.le_of_ble_eq_true rfl)) dX1_nodeAt_6 ⟨Nat.le_of_ble_eq_true rfl, Nat.le_of_ble_eq_true rfl⟩) hS (fun r1 s2 H locs hk hH hS => ?_)
  refine W.eq (g2 := F0 m 9 ls [.int r1, .int 0, .int p1]) rfl ?_
  refine lv_iconst (v := 1) C.hx C.hb dX1_nodeAt_9 (by decide) ?_
  refine lv_isub C.hx C.hb dX1_nodeAt_10 ?_
  refine gb_call (As := [.int p1, .int 0, .int (r1 - 1)]) (rest := []) C.1 (t_X1_inRange l hk) (va_cwS 3 C.hts (lw_S q542 q543 q53 q544) rfl rfl rfl (by decide +kernel) ⟨Nat.le_of_ble_eq_true rfl, Nat.le_of_ble_eq_true rfl⟩) rfl hl.1 rfl (lv_room (Nat.le_of_ble_eq_true rfl)) dX1_nodeAt_11 ⟨Nat.le_of_ble_eq_true rfl, Nat.le_of_ble_eq_true rfl⟩ (fun r3 hk => ?_)
  refine lv_if_ne (tgt := 25) C.hx C.hb dX1_nodeAt_14 (by decide) (fun c4 => ?_) (fun c4 => ?_)
  · have hk := hk.1 c4
    refine lv_aload_n C.hx C.hb dX1_nodeAt_25 rfl (lv_at hl 0 rfl) ?_
    refine tc_get C hH hH.g (Cn := RX1) (T := TX1) (N := 13) (ci := 0) (fs := tc_gfs E s2) in_X1 rfl rfl 2 (by decide) (C.L q318) (fun _ h => h) (v := .ref (ea E (2, 1))) rfl dX1_nodeAt_26 ?_
    refine lv_iload_n C.hx C.hb dX1_nodeAt_29 rfl (lv_at hl 1 rfl) ?_
    refine tc_run (tc_rV (As := [.int p1]) (rest := []) (L := (2, 1)) (ci := 9) (fs := tc_lfs E s2 1) (q := (RJ2, TJ2, 3)) C (hH.l _ (by omega)) rfl rfl (t_J2_get l (by omega) hH.gr1 hk) (cwV 1 C.hts (lw_V q368 q369 q370 q56 q371) rfl rfl rfl (by decide +kernel) ⟨Nat.le_of_ble_eq_true rfl, Nat.le_of_ble_eq_true rfl⟩) hH hS rfl hl.1 rfl (lv_room (Nat.le_of_ble_eq_true rfl)) dX1_nodeAt_30 ⟨Nat.le_of_ble_eq_true rfl, Nat.le_of_ble_eq_true rfl⟩) hS (fun r5 s6 H locs hk hH hS => ?_)
    refine W.eq (g2 := F0 m 33 ls [.ref (ea E (1, r5))]) rfl ?_
    obtain ⟨h7, hk⟩ := hk
    refine tc_castN C hH h7 q382 dX1_nodeAt_33 ?_
    refine tc_getn C hH h7 0 (by decide) rfl (C.N 4 rfl) (v := .int (nI r5)) rfl dX1_nodeAt_36 ?_
    refine tx_ret (Nat.le_of_ble_eq_true rfl) (Nat.le_of_ble_eq_true rfl) ?_
    exact tc_iret (nI r5) rfl C hr hlk hH hS hk dX1_nodeAt_39
  · have hk := hk.2 c4
    exact tx_throw C hl0 tx_ok_80 (by decide +kernel) q910 q77 ⟨by decide +kernel, by decide +kernel⟩ hnt hlk hH hS hk hl.1 dX1_nodeAt_17 dX1_nodeAt_20 dX1_nodeAt_21 dX1_nodeAt_24 ⟨Nat.le_of_ble_eq_true rfl, Nat.le_of_ble_eq_true rfl⟩ ⟨Nat.le_of_ble_eq_true rfl, Nat.le_of_ble_eq_true rfl⟩ ⟨Nat.le_of_ble_eq_true rfl, Nat.le_of_ble_eq_true rfl⟩
/-! ToneGraph.setWave(C)C -/
def wp_X1_setWave (E : tc_E) (post : Int32 → tc_S → Prop) (ex : String → tc_S → Prop) (p1 : Int32) (s0 : tc_S) : Prop := ((p1 = 115 → wp_X1_checkArgument E (fun _ s3 => (∀ v4, v4 = (s3.1 0 0 0) → (narrow .char (.int p1) = .int p1 ∧ (∀ s5 : tc_S, s5 = tI s3 0 0 0 p1 → (narrow .char (.int v4) = .int v4 ∧ post v4 s5))))) ex 1 s0) ∧ (¬ p1 = 115 → ((p1 = 113 → wp_X1_checkArgument E (fun _ s10 => (∀ v11, v11 = (s10.1 0 0 0) → (narrow .char (.int p1) = .int p1 ∧ (∀ s12 : tc_S, s12 = tI s10 0 0 0 p1 → (narrow .char (.int v11) = .int v11 ∧ post v11 s12))))) ex 1 s0) ∧ (¬ p1 = 113 → ((¬ p1 = 116 → wp_X1_checkArgument E (fun _ s17 => False) ex 0 s0) ∧ (p1 = 116 → wp_X1_checkArgument E (fun _ s19 => (∀ v20, v20 = (s19.1 0 0 0) → (narrow .char (.int p1) = .int p1 ∧ (∀ s21 : tc_S, s21 = tI s19 0 0 0 p1 → (narrow .char (.int v20) = .int v20 ∧ post v20 s21))))) ex 1 s0))))))
set_option maxHeartbeats 4000000 in
theorem t_X1_setWave (l : Launch) (hl0 : l.stackTraces = false) {E : tc_E} {post : Int32 → tc_S → Prop} {ex : String → tc_S → Prop} {p1 : Int32} {s0 : tc_S} (hk : wp_X1_setWave E post ex p1 s0) : tx_M l yX1_setWave (ws_ yX1_setWave cX1_setWave 3 (some .char)) ({ frames := 7, cells := 1, slots := 6, locals := 120 } : Room) E [.ref (ea E (0, 0)), .int p1] s0 (fun r : Int32 => some (.int r)) post ex 1 6 := by
  refine tx_start cX1_setWave 3 (some .char) RX1 (by decide) rfl rfl (Nat.le_of_ble_eq_true rfl) ?_
  intro p e s m args below meth c ls C hnm hnt hr hlk hH hS hl
  have hl : lv_has ls 3 [(0, .ref (ea E (0, 0))), (1, .int p1)] := hl
  unfold wp_X1_setWave at hk
  refine lv_iload_n C.hx C.hb dX1_setWave_0 rfl (lv_at hl 1 rfl) ?_
  refine lv_bipush (v := 115) C.hx C.hb dX1_setWave_1 (by decide) ?_
  refine lv_icmp_eq (tgt := 18) C.hx C.hb dX1_setWave_3 (by decide) (fun c1 => ?_) (fun c1 => ?_)
  · have hk := hk.1 c1
    refine lv_iconst (v := 1) C.hx C.hb dX1_setWave_18 (by decide) ?_
    refine lv_goto (tgt := 23) C.hx C.hb dX1_setWave_19 (by decide) ?_
    refine tx_run (tx_rS (As := [.int 1]) (rest := []) C (t_X1_checkArgument l hl0  hk) (va_cwS 1 C.hts (lw_S q549 q550 q53 q551) rfl rfl rfl (by decide +kernel) ⟨Nat.le_of_ble_eq_true rfl, Nat.le_of_ble_eq_true rfl⟩) hH hS rfl hl.1 rfl (lv_room (Nat.le_of_ble_eq_true rfl)) dX1_setWave_23 ⟨Nat.le_of_ble_eq_true rfl, Nat.le_of_ble_eq_true rfl⟩) hS (fun X ce q9 S9 H1 locs1 hk hH hS h1 h2 h3 => tx_out hnt hlk hk hH hS h1 h2 h3 (Nat.le_of_ble_eq_true rfl) (Nat.le_of_ble_eq_true rfl)) (fun _ s3 H locs hk hH hS => ?_)
    refine W.eq (g2 := F0 m 26 ls []) rfl ?_
    refine lv_aload_n C.hx C.hb dX1_setWave_26 rfl (lv_at hl 0 rfl) ?_
    refine tc_get C hH hH.g (Cn := RX1) (T := TX1) (N := 13) (ci := 0) (fs := tc_gfs E s3) in_X1 rfl rfl 4 (by decide) (C.L q320) (fun _ h => h) (v := .int (s3.1 0 0 0)) rfl dX1_setWave_27 ?_
    refine lv_topi (fun v4 ev4 => ?_)
    have hk := hk v4 ev4
    refine lv_istore_n (lv' := [(2, .int v4), (0, .ref (ea E (0, 0))), (1, .int p1)]) C.hx C.hb dX1_setWave_30 rfl hl (by decide) rfl (fun ls hl => ?_)
    refine lv_aload_n C.hx C.hb dX1_setWave_31 rfl (lv_at hl 1 rfl) ?_
    refine lv_iload_n C.hx C.hb dX1_setWave_32 rfl (lv_at hl 2 rfl) ?_
    obtain ⟨h6, hk⟩ := hk
    refine tc_put C hH hS hH.g (Cn := RX1) (T := TX1) (N := 13) (ci := 0) (fs := tc_gfs E s3) in_X1 tyX1 tyX1_ok nmX1 rfl rfl 4 (by decide) (C.L q320) (fun _ h => h) rfl (v := .int p1) h6 (tc_fitz (Or.inr rfl) h6) (Nat.le_of_ble_eq_true rfl) (tc_ug_wave E s3 p1) dX1_setWave_33 (fun s5 es5 H locs hH hS => ?_)
    have hk := hk s5 es5
    refine lv_iload_n C.hx C.hb dX1_setWave_36 rfl (lv_at hl 0 rfl) ?_
    refine tx_ret (Nat.le_of_ble_eq_true rfl) (Nat.le_of_ble_eq_true rfl) ?_
    obtain ⟨h7, hk⟩ := hk
    exact tc_zret (ty := .char) v4 rfl C hr hlk h7 hH hS hk dX1_setWave_37
  · have hk := hk.2 c1
    refine lv_iload_n C.hx C.hb dX1_setWave_6 rfl (lv_at hl 1 rfl) ?_
    refine lv_bipush (v := 113) C.hx C.hb dX1_setWave_7 (by decide) ?_
    refine lv_icmp_eq (tgt := 18) C.hx C.hb dX1_setWave_9 (by decide) (fun c8 => ?_) (fun c8 => ?_)
    · have hk := hk.1 c8
      refine lv_iconst (v := 1) C.hx C.hb dX1_setWave_18 (by decide) ?_
      refine lv_goto (tgt := 23) C.hx C.hb dX1_setWave_19 (by decide) ?_
      refine tx_run (tx_rS (As := [.int 1]) (rest := []) C (t_X1_checkArgument l hl0  hk) (va_cwS 1 C.hts (lw_S q549 q550 q53 q551) rfl rfl rfl (by decide +kernel) ⟨Nat.le_of_ble_eq_true rfl, Nat.le_of_ble_eq_true rfl⟩) hH hS rfl hl.1 rfl (lv_room (Nat.le_of_ble_eq_true rfl)) dX1_setWave_23 ⟨Nat.le_of_ble_eq_true rfl, Nat.le_of_ble_eq_true rfl⟩) hS (fun X ce q9 S9 H1 locs1 hk hH hS h1 h2 h3 => tx_out hnt hlk hk hH hS h1 h2 h3 (Nat.le_of_ble_eq_true rfl) (Nat.le_of_ble_eq_true rfl)) (fun _ s10 H locs hk hH hS => ?_)
      refine W.eq (g2 := F0 m 26 ls []) rfl ?_
      refine lv_aload_n C.hx C.hb dX1_setWave_26 rfl (lv_at hl 0 rfl) ?_
      refine tc_get C hH hH.g (Cn := RX1) (T := TX1) (N := 13) (ci := 0) (fs := tc_gfs E s10) in_X1 rfl rfl 4 (by decide) (C.L q320) (fun _ h => h) (v := .int (s10.1 0 0 0)) rfl dX1_setWave_27 ?_
      refine lv_topi (fun v11 ev11 => ?_)
      have hk := hk v11 ev11
      refine lv_istore_n (lv' := [(2, .int v11), (0, .ref (ea E (0, 0))), (1, .int p1)]) C.hx C.hb dX1_setWave_30 rfl hl (by decide) rfl (fun ls hl => ?_)
      refine lv_aload_n C.hx C.hb dX1_setWave_31 rfl (lv_at hl 1 rfl) ?_
      refine lv_iload_n C.hx C.hb dX1_setWave_32 rfl (lv_at hl 2 rfl) ?_
      obtain ⟨h13, hk⟩ := hk
      refine tc_put C hH hS hH.g (Cn := RX1) (T := TX1) (N := 13) (ci := 0) (fs := tc_gfs E s10) in_X1 tyX1 tyX1_ok nmX1 rfl rfl 4 (by decide) (C.L q320) (fun _ h => h) rfl (v := .int p1) h13 (tc_fitz (Or.inr rfl) h13) (Nat.le_of_ble_eq_true rfl) (tc_ug_wave E s10 p1) dX1_setWave_33 (fun s12 es12 H locs hH hS => ?_)
      have hk := hk s12 es12
      refine lv_iload_n C.hx C.hb dX1_setWave_36 rfl (lv_at hl 0 rfl) ?_
      refine tx_ret (Nat.le_of_ble_eq_true rfl) (Nat.le_of_ble_eq_true rfl) ?_
      obtain ⟨h14, hk⟩ := hk
      exact tc_zret (ty := .char) v11 rfl C hr hlk h14 hH hS hk dX1_setWave_37
    · have hk := hk.2 c8
      refine lv_iload_n C.hx C.hb dX1_setWave_12 rfl (lv_at hl 1 rfl) ?_
      refine lv_bipush (v := 116) C.hx C.hb dX1_setWave_13 (by decide) ?_
      refine lv_icmp_ne (tgt := 22) C.hx C.hb dX1_setWave_15 (by decide) (fun c15 => ?_) (fun c15 => ?_)
      · have hk := hk.1 c15
        refine lv_iconst (v := 0) C.hx C.hb dX1_setWave_22 (by decide) ?_
        refine tx_run (tx_rS (As := [.int 0]) (rest := []) C (t_X1_checkArgument l hl0  hk) (va_cwS 1 C.hts (lw_S q549 q550 q53 q551) rfl rfl rfl (by decide +kernel) ⟨Nat.le_of_ble_eq_true rfl, Nat.le_of_ble_eq_true rfl⟩) hH hS rfl hl.1 rfl (lv_room (Nat.le_of_ble_eq_true rfl)) dX1_setWave_23 ⟨Nat.le_of_ble_eq_true rfl, Nat.le_of_ble_eq_true rfl⟩) hS (fun X ce q9 S9 H1 locs1 hk hH hS h1 h2 h3 => tx_out hnt hlk hk hH hS h1 h2 h3 (Nat.le_of_ble_eq_true rfl) (Nat.le_of_ble_eq_true rfl)) (fun _ s17 H locs hk hH hS => ?_)
        refine W.eq (g2 := F0 m 26 ls []) rfl ?_
        exact hk.elim
      · have hk := hk.2 c15
        refine lv_iconst (v := 1) C.hx C.hb dX1_setWave_18 (by decide) ?_
        refine lv_goto (tgt := 23) C.hx C.hb dX1_setWave_19 (by decide) ?_
        refine tx_run (tx_rS (As := [.int 1]) (rest := []) C (t_X1_checkArgument l hl0  hk) (va_cwS 1 C.hts (lw_S q549 q550 q53 q551) rfl rfl rfl (by decide +kernel) ⟨Nat.le_of_ble_eq_true rfl, Nat.le_of_ble_eq_true rfl⟩) hH hS rfl hl.1 rfl (lv_room (Nat.le_of_ble_eq_true rfl)) dX1_setWave_23 ⟨Nat.le_of_ble_eq_true rfl, Nat.le_of_ble_eq_true rfl⟩) hS (fun X ce q9 S9 H1 locs1 hk hH hS h1 h2 h3 => tx_out hnt hlk hk hH hS h1 h2 h3 (Nat.le_of_ble_eq_true rfl) (Nat.le_of_ble_eq_true rfl)) (fun _ s19 H locs hk hH hS => ?_)
        refine W.eq (g2 := F0 m 26 ls []) rfl ?_
        refine lv_aload_n C.hx C.hb dX1_setWave_26 rfl (lv_at hl 0 rfl) ?_
        refine tc_get C hH hH.g (Cn := RX1) (T := TX1) (N := 13) (ci := 0) (fs := tc_gfs E s19) in_X1 rfl rfl 4 (by decide) (C.L q320) (fun _ h => h) (v := .int (s19.1 0 0 0)) rfl dX1_setWave_27 ?_
        refine lv_topi (fun v20 ev20 => ?_)
        have hk := hk v20 ev20
        refine lv_istore_n (lv' := [(2, .int v20), (0, .ref (ea E (0, 0))), (1, .int p1)]) C.hx C.hb dX1_setWave_30 rfl hl (by decide) rfl (fun ls hl => ?_)
        refine lv_aload_n C.hx C.hb dX1_setWave_31 rfl (lv_at hl 1 rfl) ?_
        refine lv_iload_n C.hx C.hb dX1_setWave_32 rfl (lv_at hl 2 rfl) ?_
        obtain ⟨h22, hk⟩ := hk
        refine tc_put C hH hS hH.g (Cn := RX1) (T := TX1) (N := 13) (ci := 0) (fs := tc_gfs E s19) in_X1 tyX1 tyX1_ok nmX1 rfl rfl 4 (by decide) (C.L q320) (fun _ h => h) rfl (v := .int p1) h22 (tc_fitz (Or.inr rfl) h22) (Nat.le_of_ble_eq_true rfl) (tc_ug_wave E s19 p1) dX1_setWave_33 (fun s21 es21 H locs hH hS => ?_)
        have hk := hk s21 es21
        refine lv_iload_n C.hx C.hb dX1_setWave_36 rfl (lv_at hl 0 rfl) ?_
        refine tx_ret (Nat.le_of_ble_eq_true rfl) (Nat.le_of_ble_eq_true rfl) ?_
        obtain ⟨h23, hk⟩ := hk
        exact tc_zret (ty := .char) v20 rfl C hr hlk h23 hH hS hk dX1_setWave_37
/-! ToneGraph.stateOf(I)C -/
def wp_X1_stateOf (E : tc_E) (post : Int32 → tc_S → Prop) (ex : String → tc_S → Prop) (p1 : Int32) (s0 : tc_S) : Prop := wp_X1_voice E (fun r1 s2 => (r1 < 4 ∧ wp_X5_state E (fun r4 s5 => (narrow .char (.int r4) = .int r4 ∧ post r4 s5)) r1 s2)) ex p1 s0
set_option maxHeartbeats 4000000 in
theorem t_X1_stateOf (l : Launch) (hl0 : l.stackTraces = false) {E : tc_E} {post : Int32 → tc_S → Prop} {ex : String → tc_S → Prop} {p1 : Int32} {s0 : tc_S} (hk : wp_X1_stateOf E post ex p1 s0) : tx_M l yX1_stateOf (ws_ yX1_stateOf cX1_stateOf 2 (some .char)) ({ frames := 7, cells := 1, slots := 6, locals := 121 } : Room) E [.ref (ea E (0, 0)), .int p1] s0 (fun r : Int32 => some (.int r)) post ex 1 6 := by
  refine tx_start cX1_stateOf 2 (some .char) RX1 (by decide) rfl rfl (Nat.le_of_ble_eq_true rfl) ?_
  intro p e s m args below meth c ls C hnm hnt hr hlk hH hS hl
  have hl : lv_has ls 2 [(0, .ref (ea E (0, 0))), (1, .int p1)] := hl
  unfold wp_X1_stateOf at hk
  refine lv_aload_n C.hx C.hb dX1_stateOf_0 rfl (lv_at hl 0 rfl) ?_
  refine lv_iload_n C.hx C.hb dX1_stateOf_1 rfl (lv_at hl 1 rfl) ?_
  refine tx_run (tx_rV (As := [.int p1]) (rest := []) (L := (0, 0)) (ci := 0) (fs := tc_gfs E s0) (q := (RX1, TX1, 13)) C hH.g rfl rfl (t_X1_voice l hl0  hk) (cwV 1 C.hts (lw_V q1131 q1133 qs21 q53 q1134) rfl rfl rfl (by decide +kernel) ⟨Nat.le_of_ble_eq_true rfl, Nat.le_of_ble_eq_true rfl⟩) hH hS rfl hl.1 rfl (lv_room (Nat.le_of_ble_eq_true rfl)) dX1_stateOf_2 ⟨Nat.le_of_ble_eq_true rfl, Nat.le_of_ble_eq_true rfl⟩) hS (fun X ce q9 S9 H1 locs1 hk hH hS h1 h2 h3 => tx_out hnt hlk hk hH hS h1 h2 h3 (Nat.le_of_ble_eq_true rfl) (Nat.le_of_ble_eq_true rfl)) (fun r1 s2 H locs hk hH hS => ?_)
  refine W.eq (g2 := F0 m 5 ls [.ref (ea E (10, r1))]) rfl ?_
  obtain ⟨h3, hk⟩ := hk
  refine tc_run (tc_rV (As := []) (rest := []) (L := (10, r1)) (ci := 3) (fs := tc_vfs E s2 r1) (q := (RX5, TX5, 12)) C (hH.v _ h3) rfl rfl (t_X5_state l h3 hk) (cwV 0 C.hts (lw_V q1135 q682 q683 q60 q684) rfl rfl rfl (by decide +kernel) ⟨Nat.le_of_ble_eq_true rfl, Nat.le_of_ble_eq_true rfl⟩) hH hS rfl hl.1 rfl (lv_room (Nat.le_of_ble_eq_true rfl)) dX1_stateOf_5 ⟨Nat.le_of_ble_eq_true rfl, Nat.le_of_ble_eq_true rfl⟩) hS (fun r4 s5 H locs hk hH hS => ?_)
  refine W.eq (g2 := F0 m 8 ls [.int r4]) rfl ?_
  refine tx_ret (Nat.le_of_ble_eq_true rfl) (Nat.le_of_ble_eq_true rfl) ?_
  obtain ⟨h6, hk⟩ := hk
  exact tc_zret (ty := .char) r4 rfl C hr hlk h6 hH hS hk dX1_stateOf_8
/-! ToneGraph.keyOf(I)I -/
def wp_X1_keyOf (E : tc_E) (post : Int32 → tc_S → Prop) (ex : String → tc_S → Prop) (p1 : Int32) (s0 : tc_S) : Prop := wp_X1_playing E (fun r1 s2 => (r1 < 4 ∧ post (s2.1 6 r1 3) s2)) ex p1 s0
set_option maxHeartbeats 4000000 in
theorem t_X1_keyOf (l : Launch) (hl0 : l.stackTraces = false) {E : tc_E} {post : Int32 → tc_S → Prop} {ex : String → tc_S → Prop} {p1 : Int32} {s0 : tc_S} (hk : wp_X1_keyOf E post ex p1 s0) : tx_M l yX1_keyOf (ws_ yX1_keyOf cX1_keyOf 2 (some .int)) ({ frames := 8, cells := 2, slots := 12, locals := 143 } : Room) E [.ref (ea E (0, 0)), .int p1] s0 (fun r : Int32 => some (.int r)) post ex 2 12 := by
  refine tx_start cX1_keyOf 2 (some .int) RX1 (by decide) rfl rfl (Nat.le_of_ble_eq_true rfl) ?_
  intro p e s m args below meth c ls C hnm hnt hr hlk hH hS hl
  have hl : lv_has ls 2 [(0, .ref (ea E (0, 0))), (1, .int p1)] := hl
  unfold wp_X1_keyOf at hk
  refine lv_aload_n C.hx C.hb dX1_keyOf_0 rfl (lv_at hl 0 rfl) ?_
  refine lv_iload_n C.hx C.hb dX1_keyOf_1 rfl (lv_at hl 1 rfl) ?_
  refine tx_run (tx_rV (As := [.int p1]) (rest := []) (L := (0, 0)) (ci := 0) (fs := tc_gfs E s0) (q := (RX1, TX1, 13)) C hH.g rfl rfl (t_X1_playing l hl0  hk) (cwV 1 C.hts (lw_V q1143 q1145 qs22 q53 q1146) rfl rfl rfl (by decide +kernel) ⟨Nat.le_of_ble_eq_true rfl, Nat.le_of_ble_eq_true rfl⟩) hH hS rfl hl.1 rfl (lv_room (Nat.le_of_ble_eq_true rfl)) dX1_keyOf_2 ⟨Nat.le_of_ble_eq_true rfl, Nat.le_of_ble_eq_true rfl⟩) hS (fun X ce q9 S9 H1 locs1 hk hH hS h1 h2 h3 => tx_out hnt hlk hk hH hS h1 h2 h3 (Nat.le_of_ble_eq_true rfl) (Nat.le_of_ble_eq_true rfl)) (fun r1 s2 H locs hk hH hS => ?_)
  refine W.eq (g2 := F0 m 5 ls [.ref (ea E (10, r1))]) rfl ?_
  obtain ⟨h3, hk⟩ := hk
  refine tc_get C hH (hH.v _ h3) (Cn := RX5) (T := TX5) (N := 12) (ci := 3) (fs := tc_vfs E s2 r1) in_X5 rfl rfl 5 (by decide) (C.N 14 rfl) (fun _ h => h) (v := .int (s2.1 6 r1 3)) rfl dX1_keyOf_5 ?_
  refine tx_ret (Nat.le_of_ble_eq_true rfl) (Nat.le_of_ble_eq_true rfl) ?_
  exact tc_iret (s2.1 6 r1 3) rfl C hr hlk hH hS hk dX1_keyOf_8
/-! ToneGraph.levelOf(I)I -/
def wp_X1_levelOf (E : tc_E) (post : Int32 → tc_S → Prop) (ex : String → tc_S → Prop) (p1 : Int32) (s0 : tc_S) : Prop := wp_X1_voice E (fun r1 s2 => (r1 < 4 ∧ wp_X5_level E (fun r4 s5 => post r4 s5) r1 s2)) ex p1 s0
set_option maxHeartbeats 4000000 in
theorem t_X1_levelOf (l : Launch) (hl0 : l.stackTraces = false) {E : tc_E} {post : Int32 → tc_S → Prop} {ex : String → tc_S → Prop} {p1 : Int32} {s0 : tc_S} (hk : wp_X1_levelOf E post ex p1 s0) : tx_M l yX1_levelOf (ws_ yX1_levelOf cX1_levelOf 2 (some .int)) ({ frames := 7, cells := 1, slots := 6, locals := 121 } : Room) E [.ref (ea E (0, 0)), .int p1] s0 (fun r : Int32 => some (.int r)) post ex 1 6 := by
  refine tx_start cX1_levelOf 2 (some .int) RX1 (by decide) rfl rfl (Nat.le_of_ble_eq_true rfl) ?_
  intro p e s m args below meth c ls C hnm hnt hr hlk hH hS hl
  have hl : lv_has ls 2 [(0, .ref (ea E (0, 0))), (1, .int p1)] := hl
  unfold wp_X1_levelOf at hk
  refine lv_aload_n C.hx C.hb dX1_levelOf_0 rfl (lv_at hl 0 rfl) ?_
  refine lv_iload_n C.hx C.hb dX1_levelOf_1 rfl (lv_at hl 1 rfl) ?_
  refine tx_run (tx_rV (As := [.int p1]) (rest := []) (L := (0, 0)) (ci := 0) (fs := tc_gfs E s0) (q := (RX1, TX1, 13)) C hH.g rfl rfl (t_X1_voice l hl0  hk) (cwV 1 C.hts (lw_V q1131 q1133 qs21 q53 q1134) rfl rfl rfl (by decide +kernel) ⟨Nat.le_of_ble_eq_true rfl, Nat.le_of_ble_eq_true rfl⟩) hH hS rfl hl.1 rfl (lv_room (Nat.le_of_ble_eq_true rfl)) dX1_levelOf_2 ⟨Nat.le_of_ble_eq_true rfl, Nat.le_of_ble_eq_true rfl⟩) hS (fun X ce q9 S9 H1 locs1 hk hH hS h1 h2 h3 => tx_out hnt hlk hk hH hS h1 h2 h3 (Nat.le_of_ble_eq_true rfl) (Nat.le_of_ble_eq_true rfl)) (fun r1 s2 H locs hk hH hS => ?_)
  refine W.eq (g2 := F0 m 5 ls [.ref (ea E (10, r1))]) rfl ?_
  obtain ⟨h3, hk⟩ := hk
  refine tc_run (tc_rV (As := []) (rest := []) (L := (10, r1)) (ci := 3) (fs := tc_vfs E s2 r1) (q := (RX5, TX5, 12)) C (hH.v _ h3) rfl rfl (t_X5_level l h3 hk) (cwV 0 C.hts (lw_V q541 q462 q463 q60 q464) rfl rfl rfl (by decide +kernel) ⟨Nat.le_of_ble_eq_true rfl, Nat.le_of_ble_eq_true rfl⟩) hH hS rfl hl.1 rfl (lv_room (Nat.le_of_ble_eq_true rfl)) dX1_levelOf_5 ⟨Nat.le_of_ble_eq_true rfl, Nat.le_of_ble_eq_true rfl⟩) hS (fun r4 s5 H locs hk hH hS => ?_)
  refine W.eq (g2 := F0 m 8 ls [.int r4]) rfl ?_
  refine tx_ret (Nat.le_of_ble_eq_true rfl) (Nat.le_of_ble_eq_true rfl) ?_
  exact tc_iret r4 rfl C hr hlk hH hS hk dX1_levelOf_8
/-! ToneGraph.phaseOf(I)I -/
def wp_X1_phaseOf (E : tc_E) (post : Int32 → tc_S → Prop) (ex : String → tc_S → Prop) (p1 : Int32) (s0 : tc_S) : Prop := wp_X1_playing E (fun r1 s2 => (r1 < 4 ∧ post (s2.1 6 r1 5) s2)) ex p1 s0
set_option maxHeartbeats 4000000 in
theorem t_X1_phaseOf (l : Launch) (hl0 : l.stackTraces = false) {E : tc_E} {post : Int32 → tc_S → Prop} {ex : String → tc_S → Prop} {p1 : Int32} {s0 : tc_S} (hk : wp_X1_phaseOf E post ex p1 s0) : tx_M l yX1_phaseOf (ws_ yX1_phaseOf cX1_phaseOf 2 (some .int)) ({ frames := 8, cells := 2, slots := 12, locals := 143 } : Room) E [.ref (ea E (0, 0)), .int p1] s0 (fun r : Int32 => some (.int r)) post ex 2 12 := by
  refine tx_start cX1_phaseOf 2 (some .int) RX1 (by decide) rfl rfl (Nat.le_of_ble_eq_true rfl) ?_
  intro p e s m args below meth c ls C hnm hnt hr hlk hH hS hl
  have hl : lv_has ls 2 [(0, .ref (ea E (0, 0))), (1, .int p1)] := hl
  unfold wp_X1_phaseOf at hk
  refine lv_aload_n C.hx C.hb dX1_phaseOf_0 rfl (lv_at hl 0 rfl) ?_
  refine lv_iload_n C.hx C.hb dX1_phaseOf_1 rfl (lv_at hl 1 rfl) ?_
  refine tx_run (tx_rV (As := [.int p1]) (rest := []) (L := (0, 0)) (ci := 0) (fs := tc_gfs E s0) (q := (RX1, TX1, 13)) C hH.g rfl rfl (t_X1_playing l hl0  hk) (cwV 1 C.hts (lw_V q1143 q1145 qs22 q53 q1146) rfl rfl rfl (by decide +kernel) ⟨Nat.le_of_ble_eq_true rfl, Nat.le_of_ble_eq_true rfl⟩) hH hS rfl hl.1 rfl (lv_room (Nat.le_of_ble_eq_true rfl)) dX1_phaseOf_2 ⟨Nat.le_of_ble_eq_true rfl, Nat.le_of_ble_eq_true rfl⟩) hS (fun X ce q9 S9 H1 locs1 hk hH hS h1 h2 h3 => tx_out hnt hlk hk hH hS h1 h2 h3 (Nat.le_of_ble_eq_true rfl) (Nat.le_of_ble_eq_true rfl)) (fun r1 s2 H locs hk hH hS => ?_)
  refine W.eq (g2 := F0 m 5 ls [.ref (ea E (10, r1))]) rfl ?_
  obtain ⟨h3, hk⟩ := hk
  refine tc_get C hH (hH.v _ h3) (Cn := RX5) (T := TX5) (N := 12) (ci := 3) (fs := tc_vfs E s2 r1) in_X5 rfl rfl 7 (by decide) (C.N 15 rfl) (fun _ h => h) (v := .int (s2.1 6 r1 5)) rfl dX1_phaseOf_5 ?_
  refine tx_ret (Nat.le_of_ble_eq_true rfl) (Nat.le_of_ble_eq_true rfl) ?_
  exact tc_iret (s2.1 6 r1 5) rfl C hr hlk hH hS hk dX1_phaseOf_8
/-! ToneGraph.heard(I)I -/
def wp_X1_heard (E : tc_E) (post : Int32 → tc_S → Prop) (ex : String → tc_S → Prop) (p1 : Int32) (s0 : tc_S) : Prop := wp_X1_inRange (fun r1 => wp_X1_checkArgument E (fun _ s3 => ((p1 < (s3.1 0 0 1) → (vp_in ((((s3.1 0 0 1) - 1) - p1) - (((s3.1 0 0 1) - 1) - p1) / 64 * 64) 64 ∧ post ((s3.1 10 0) ((((s3.1 0 0 1) - 1) - p1) - (((s3.1 0 0 1) - 1) - p1) / 64 * 64).toNatClampNeg) s3)) ∧ (¬ p1 < (s3.1 0 0 1) → ex "java/util/NoSuchElementException" s3))) ex r1 s0) p1 0 63
set_option maxHeartbeats 4000000 in
theorem t_X1_heard (l : Launch) (hl0 : l.stackTraces = false) {E : tc_E} {post : Int32 → tc_S → Prop} {ex : String → tc_S → Prop} {p1 : Int32} {s0 : tc_S} (hk : wp_X1_heard E post ex p1 s0) : tx_M l yX1_heard (ws_ yX1_heard cX1_heard 2 (some .int)) ({ frames := 7, cells := 2, slots := 12, locals := 120 } : Room) E [.ref (ea E (0, 0)), .int p1] s0 (fun r : Int32 => some (.int r)) post ex 2 12 := by
  refine tx_start cX1_heard 2 (some .int) RX1 (by decide) rfl rfl (Nat.le_of_ble_eq_true rfl) ?_
  intro p e s m args below meth c ls C hnm hnt hr hlk hH hS hl
  have hl : lv_has ls 2 [(0, .ref (ea E (0, 0))), (1, .int p1)] := hl
  unfold wp_X1_heard at hk
  refine lv_iload_n C.hx C.hb dX1_heard_0 rfl (lv_at hl 1 rfl) ?_
  refine lv_iconst (v := 0) C.hx C.hb dX1_heard_1 (by decide) ?_
  refine lv_bipush (v := 63) C.hx C.hb dX1_heard_2 (by decide) ?_
  refine gb_call (As := [.int p1, .int 0, .int 63]) (rest := []) C.1 (t_X1_inRange l hk) (va_cwS 3 C.hts (lw_S q542 q543 q53 q544) rfl rfl rfl (by decide +kernel) ⟨Nat.le_of_ble_eq_true rfl, Nat.le_of_ble_eq_true rfl⟩) rfl hl.1 rfl (lv_room (Nat.le_of_ble_eq_true rfl)) dX1_heard_4 ⟨Nat.le_of_ble_eq_true rfl, Nat.le_of_ble_eq_true rfl⟩ (fun r1 hk => ?_)
  refine tx_run (tx_rS (As := [.int r1]) (rest := []) C (t_X1_checkArgument l hl0  hk) (va_cwS 1 C.hts (lw_S q549 q550 q53 q551) rfl rfl rfl (by decide +kernel) ⟨Nat.le_of_ble_eq_true rfl, Nat.le_of_ble_eq_true rfl⟩) hH hS rfl hl.1 rfl (lv_room (Nat.le_of_ble_eq_true rfl)) dX1_heard_7 ⟨Nat.le_of_ble_eq_true rfl, Nat.le_of_ble_eq_true rfl⟩) hS (fun X ce q9 S9 H1 locs1 hk hH hS h1 h2 h3 => tx_out hnt hlk hk hH hS h1 h2 h3 (Nat.le_of_ble_eq_true rfl) (Nat.le_of_ble_eq_true rfl)) (fun _ s3 H locs hk hH hS => ?_)
  refine W.eq (g2 := F0 m 10 ls []) rfl ?_
  refine lv_iload_n C.hx C.hb dX1_heard_10 rfl (lv_at hl 1 rfl) ?_
  refine lv_aload_n C.hx C.hb dX1_heard_11 rfl (lv_at hl 0 rfl) ?_
  refine tc_get C hH hH.g (Cn := RX1) (T := TX1) (N := 13) (ci := 0) (fs := tc_gfs E s3) in_X1 rfl rfl 7 (by decide) (C.L q323) (fun _ h => h) (v := .int (s3.1 0 0 1)) rfl dX1_heard_12 ?_
  refine lv_icmp_lt (tgt := 26) C.hx C.hb dX1_heard_15 (by decide) (fun c4 => ?_) (fun c4 => ?_)
  · have hk := hk.1 c4
    refine lv_aload_n C.hx C.hb dX1_heard_26 rfl (lv_at hl 0 rfl) ?_
    refine tc_get C hH hH.g (Cn := RX1) (T := TX1) (N := 13) (ci := 0) (fs := tc_gfs E s3) in_X1 rfl rfl 6 (by decide) (C.L q322) (fun _ h => h) (v := .ref (ea E (8, 0))) rfl dX1_heard_27 ?_
    refine lv_aload_n C.hx C.hb dX1_heard_30 rfl (lv_at hl 0 rfl) ?_
    refine tc_get C hH hH.g (Cn := RX1) (T := TX1) (N := 13) (ci := 0) (fs := tc_gfs E s3) in_X1 rfl rfl 7 (by decide) (C.L q323) (fun _ h => h) (v := .int (s3.1 0 0 1)) rfl dX1_heard_31 ?_
    refine lv_iconst (v := 1) C.hx C.hb dX1_heard_34 (by decide) ?_
    refine lv_isub C.hx C.hb dX1_heard_35 ?_
    refine lv_iload_n C.hx C.hb dX1_heard_36 rfl (lv_at hl 1 rfl) ?_
    refine lv_isub C.hx C.hb dX1_heard_37 ?_
    refine lv_bipush (v := 64) C.hx C.hb dX1_heard_38 (by decide) ?_
    refine lv_irem C.hx C.hb dX1_heard_40 (by decide) ?_
    obtain ⟨h5, hk⟩ := hk
    refine tc_ald C hH hH.hd (N := 64) (f := (s3.1 10 0)) rfl h5 dX1_heard_41 ?_
    refine tx_ret (Nat.le_of_ble_eq_true rfl) (Nat.le_of_ble_eq_true rfl) ?_
    exact tc_iret ((s3.1 10 0) ((((s3.1 0 0 1) - 1) - p1) - (((s3.1 0 0 1) - 1) - p1) / 64 * 64).toNatClampNeg) rfl C hr hlk hH hS hk dX1_heard_42
  · have hk := hk.2 c4
    exact tx_throw C hl0 tx_ok_172 (by decide +kernel) q984 q82 ⟨by decide +kernel, by decide +kernel⟩ hnt hlk hH hS hk hl.1 dX1_heard_18 dX1_heard_21 dX1_heard_22 dX1_heard_25 ⟨Nat.le_of_ble_eq_true rfl, Nat.le_of_ble_eq_true rfl⟩ ⟨Nat.le_of_ble_eq_true rfl, Nat.le_of_ble_eq_true rfl⟩ ⟨Nat.le_of_ble_eq_true rfl, Nat.le_of_ble_eq_true rfl⟩
/-! ToneGraph.outputOf(I)I -/
def wp_X1_outputOf (E : tc_E) (post : Int32 → tc_S → Prop) (ex : String → tc_S → Prop) (p1 : Int32) (s0 : tc_S) : Prop := wp_X1_node E (fun r1 s2 => (r1 < yn E ∧ post (s2.1 1 r1 0) s2)) ex p1 s0
set_option maxHeartbeats 4000000 in
theorem t_X1_outputOf (l : Launch) (hl0 : l.stackTraces = false) {E : tc_E} {post : Int32 → tc_S → Prop} {ex : String → tc_S → Prop} {p1 : Int32} {s0 : tc_S} (hk : wp_X1_outputOf E post ex p1 s0) : tx_M l yX1_outputOf (ws_ yX1_outputOf cX1_outputOf 2 (some .int)) ({ frames := 7, cells := 1, slots := 6, locals := 121 } : Room) E [.ref (ea E (0, 0)), .int p1] s0 (fun r : Int32 => some (.int r)) post ex 1 6 := by
  refine tx_start cX1_outputOf 2 (some .int) RX1 (by decide) rfl rfl (Nat.le_of_ble_eq_true rfl) ?_
  intro p e s m args below meth c ls C hnm hnt hr hlk hH hS hl
  have hl : lv_has ls 2 [(0, .ref (ea E (0, 0))), (1, .int p1)] := hl
  unfold wp_X1_outputOf at hk
  refine lv_aload_n C.hx C.hb dX1_outputOf_0 rfl (lv_at hl 0 rfl) ?_
  refine lv_iload_n C.hx C.hb dX1_outputOf_1 rfl (lv_at hl 1 rfl) ?_
  refine tx_run (tx_rV (As := [.int p1]) (rest := []) (L := (0, 0)) (ci := 0) (fs := tc_gfs E s0) (q := (RX1, TX1, 13)) C hH.g rfl rfl (t_X1_node l hl0  hk) (cwV 1 C.hts (lw_V q906 q908 qs16 q53 q909) rfl rfl rfl (by decide +kernel) ⟨Nat.le_of_ble_eq_true rfl, Nat.le_of_ble_eq_true rfl⟩) hH hS rfl hl.1 rfl (lv_room (Nat.le_of_ble_eq_true rfl)) dX1_outputOf_2 ⟨Nat.le_of_ble_eq_true rfl, Nat.le_of_ble_eq_true rfl⟩) hS (fun X ce q9 S9 H1 locs1 hk hH hS h1 h2 h3 => tx_out hnt hlk hk hH hS h1 h2 h3 (Nat.le_of_ble_eq_true rfl) (Nat.le_of_ble_eq_true rfl)) (fun r1 s2 H locs hk hH hS => ?_)
  refine W.eq (g2 := F0 m 5 ls [.ref (ea E (1, r1))]) rfl ?_
  obtain ⟨h3, hk⟩ := hk
  refine tc_getn C hH h3 4 (by decide) rfl (C.N 17 rfl) (v := .int (s2.1 1 r1 0)) rfl dX1_outputOf_5 ?_
  refine tx_ret (Nat.le_of_ble_eq_true rfl) (Nat.le_of_ble_eq_true rfl) ?_
  exact tc_iret (s2.1 1 r1 0) rfl C hr hlk hH hS hk dX1_outputOf_8
/-! ToneGraph.meanEnergy()D -/
def wp_X1_meanEnergy (E : tc_E) (post : UInt64 → tc_S → Prop) (ex : String → tc_S → Prop) (s0 : tc_S) : Prop := wp_X1_checkAny E (fun _ s2 => (vf_n64 (FP.ddiv (FP.l2d (s2.2.2 0)) (FP.i2d (s2.1 0 0 1))) ∧ post (FP.ddiv (FP.l2d (s2.2.2 0)) (FP.i2d (s2.1 0 0 1))) s2)) ex  s0
set_option maxHeartbeats 4000000 in
theorem t_X1_meanEnergy (l : Launch) (hl0 : l.stackTraces = false) {E : tc_E} {post : UInt64 → tc_S → Prop} {ex : String → tc_S → Prop} {s0 : tc_S} (hk : wp_X1_meanEnergy E post ex  s0) : tx_M l yX1_meanEnergy (ws_ yX1_meanEnergy cX1_meanEnergy 1 (some .double)) ({ frames := 7, cells := 1, slots := 6, locals := 120 } : Room) E [.ref (ea E (0, 0))] s0 (fun r : UInt64 => some (.double r)) post ex 1 6 := by
  refine tx_start cX1_meanEnergy 1 (some .double) RX1 (by decide) rfl rfl (Nat.le_of_ble_eq_true rfl) ?_
  intro p e s m args below meth c ls C hnm hnt hr hlk hH hS hl
  have hl : lv_has ls 1 [(0, .ref (ea E (0, 0)))] := hl
  unfold wp_X1_meanEnergy at hk
  refine lv_aload_n C.hx C.hb dX1_meanEnergy_0 rfl (lv_at hl 0 rfl) ?_
  refine tx_run (tx_rV (As := []) (rest := []) (L := (0, 0)) (ci := 0) (fs := tc_gfs E s0) (q := (RX1, TX1, 13)) C hH.g rfl rfl (t_X1_checkAny l hl0  hk) (cwV 0 C.hts (lw_V q1211 q1213 qs23 q53 q1214) rfl rfl rfl (by decide +kernel) ⟨Nat.le_of_ble_eq_true rfl, Nat.le_of_ble_eq_true rfl⟩) hH hS rfl hl.1 rfl (lv_room (Nat.le_of_ble_eq_true rfl)) dX1_meanEnergy_1 ⟨Nat.le_of_ble_eq_true rfl, Nat.le_of_ble_eq_true rfl⟩) hS (fun X ce q9 S9 H1 locs1 hk hH hS h1 h2 h3 => tx_out hnt hlk hk hH hS h1 h2 h3 (Nat.le_of_ble_eq_true rfl) (Nat.le_of_ble_eq_true rfl)) (fun _ s2 H locs hk hH hS => ?_)
  refine W.eq (g2 := F0 m 4 ls []) rfl ?_
  refine lv_aload_n C.hx C.hb dX1_meanEnergy_4 rfl (lv_at hl 0 rfl) ?_
  refine tc_get C hH hH.g (Cn := RX1) (T := TX1) (N := 13) (ci := 0) (fs := tc_gfs E s2) in_X1 rfl rfl 10 (by decide) (C.L q326) (fun _ h => h) (v := .long (s2.2.2 0)) rfl dX1_meanEnergy_5 ?_
  refine lv_l2d C.hx C.hb dX1_meanEnergy_8 ?_
  refine lv_aload_n C.hx C.hb dX1_meanEnergy_9 rfl (lv_at hl 0 rfl) ?_
  refine tc_get C hH hH.g (Cn := RX1) (T := TX1) (N := 13) (ci := 0) (fs := tc_gfs E s2) in_X1 rfl rfl 7 (by decide) (C.L q323) (fun _ h => h) (v := .int (s2.1 0 0 1)) rfl dX1_meanEnergy_10 ?_
  refine lv_i2d C.hx C.hb dX1_meanEnergy_13 ?_
  obtain ⟨h3, hk⟩ := hk
  refine lv_ddiv C.hx C.hb dX1_meanEnergy_14 h3 ?_
  refine tx_ret (Nat.le_of_ble_eq_true rfl) (Nat.le_of_ble_eq_true rfl) ?_
  exact tc_dret (FP.ddiv (FP.l2d (s2.2.2 0)) (FP.i2d (s2.1 0 0 1))) rfl C hr hlk hH hS hk dX1_meanEnergy_15
/-! ToneGraph.quietShare()F -/
def wp_X1_quietShare (E : tc_E) (post : UInt32 → tc_S → Prop) (ex : String → tc_S → Prop) (s0 : tc_S) : Prop := wp_X1_checkAny E (fun _ s2 => (vf_n32 (FP.fdiv (FP.i2f (s2.1 0 0 3)) (FP.i2f (s2.1 0 0 1))) ∧ post (FP.fdiv (FP.i2f (s2.1 0 0 3)) (FP.i2f (s2.1 0 0 1))) s2)) ex  s0
set_option maxHeartbeats 4000000 in
theorem t_X1_quietShare (l : Launch) (hl0 : l.stackTraces = false) {E : tc_E} {post : UInt32 → tc_S → Prop} {ex : String → tc_S → Prop} {s0 : tc_S} (hk : wp_X1_quietShare E post ex  s0) : tx_M l yX1_quietShare (ws_ yX1_quietShare cX1_quietShare 1 (some .float)) ({ frames := 7, cells := 1, slots := 6, locals := 120 } : Room) E [.ref (ea E (0, 0))] s0 (fun r : UInt32 => some (.float r)) post ex 1 6 := by
  refine tx_start cX1_quietShare 1 (some .float) RX1 (by decide) rfl rfl (Nat.le_of_ble_eq_true rfl) ?_
  intro p e s m args below meth c ls C hnm hnt hr hlk hH hS hl
  have hl : lv_has ls 1 [(0, .ref (ea E (0, 0)))] := hl
  unfold wp_X1_quietShare at hk
  refine lv_aload_n C.hx C.hb dX1_quietShare_0 rfl (lv_at hl 0 rfl) ?_
  refine tx_run (tx_rV (As := []) (rest := []) (L := (0, 0)) (ci := 0) (fs := tc_gfs E s0) (q := (RX1, TX1, 13)) C hH.g rfl rfl (t_X1_checkAny l hl0  hk) (cwV 0 C.hts (lw_V q1211 q1213 qs23 q53 q1214) rfl rfl rfl (by decide +kernel) ⟨Nat.le_of_ble_eq_true rfl, Nat.le_of_ble_eq_true rfl⟩) hH hS rfl hl.1 rfl (lv_room (Nat.le_of_ble_eq_true rfl)) dX1_quietShare_1 ⟨Nat.le_of_ble_eq_true rfl, Nat.le_of_ble_eq_true rfl⟩) hS (fun X ce q9 S9 H1 locs1 hk hH hS h1 h2 h3 => tx_out hnt hlk hk hH hS h1 h2 h3 (Nat.le_of_ble_eq_true rfl) (Nat.le_of_ble_eq_true rfl)) (fun _ s2 H locs hk hH hS => ?_)
  refine W.eq (g2 := F0 m 4 ls []) rfl ?_
  refine lv_aload_n C.hx C.hb dX1_quietShare_4 rfl (lv_at hl 0 rfl) ?_
  refine tc_get C hH hH.g (Cn := RX1) (T := TX1) (N := 13) (ci := 0) (fs := tc_gfs E s2) in_X1 rfl rfl 9 (by decide) (C.L q325) (fun _ h => h) (v := .int (s2.1 0 0 3)) rfl dX1_quietShare_5 ?_
  refine lv_i2f C.hx C.hb dX1_quietShare_8 ?_
  refine lv_aload_n C.hx C.hb dX1_quietShare_9 rfl (lv_at hl 0 rfl) ?_
  refine tc_get C hH hH.g (Cn := RX1) (T := TX1) (N := 13) (ci := 0) (fs := tc_gfs E s2) in_X1 rfl rfl 7 (by decide) (C.L q323) (fun _ h => h) (v := .int (s2.1 0 0 1)) rfl dX1_quietShare_10 ?_
  refine lv_i2f C.hx C.hb dX1_quietShare_13 ?_
  obtain ⟨h3, hk⟩ := hk
  refine lv_fdiv C.hx C.hb dX1_quietShare_14 h3 ?_
  refine tx_ret (Nat.le_of_ble_eq_true rfl) (Nat.le_of_ble_eq_true rfl) ?_
  exact tc_fret (FP.fdiv (FP.i2f (s2.1 0 0 3)) (FP.i2f (s2.1 0 0 1))) rfl C hr hlk hH hS hk dX1_quietShare_15
/-! ToneGraph.setGain(II)I -/
def wp_X1_setGain (E : tc_E) (post : Int32 → tc_S → Prop) (ex : String → tc_S → Prop) (p1 : Int32) (p2 : Int32) (s0 : tc_S) : Prop := wp_X1_node E (fun r1 s2 => (r1 < yn E ∧ (∀ v4 : Int32, v4 = (if ykd E r1 = 1 then 1 else 0) → ((¬ v4 = 0 → wp_X1_inRange (fun r6 => wp_X1_checkArgument E (fun _ s8 => (ykd E r1 = 1 ∧ (∀ v10, v10 = (s8.1 1 r1 3) → (∀ s11 : tc_S, s11 = tI s8 1 r1 3 p2 → post v10 s11)))) ex r6 s2) p2 (-200) 200) ∧ (v4 = 0 → ex "java/lang/UnsupportedOperationException" s2))))) ex p1 s0
set_option maxHeartbeats 4000000 in
theorem t_X1_setGain (l : Launch) (hl0 : l.stackTraces = false) {E : tc_E} {post : Int32 → tc_S → Prop} {ex : String → tc_S → Prop} {p1 : Int32} {p2 : Int32} {s0 : tc_S} (hk : wp_X1_setGain E post ex p1 p2 s0) : tx_M l yX1_setGain (ws_ yX1_setGain cX1_setGain 6 (some .int)) ({ frames := 7, cells := 2, slots := 12, locals := 121 } : Room) E [.ref (ea E (0, 0)), .int p1, .int p2] s0 (fun r : Int32 => some (.int r)) post ex 2 12 := by
  refine tx_start cX1_setGain 6 (some .int) RX1 (by decide) rfl rfl (Nat.le_of_ble_eq_true rfl) ?_
  intro p e s m args below meth c ls C hnm hnt hr hlk hH hS hl
  have hl : lv_has ls 6 [(0, .ref (ea E (0, 0))), (1, .int p1), (2, .int p2)] := hl
  unfold wp_X1_setGain at hk
  refine lv_aload_n C.hx C.hb dX1_setGain_0 rfl (lv_at hl 0 rfl) ?_
  refine lv_iload_n C.hx C.hb dX1_setGain_1 rfl (lv_at hl 1 rfl) ?_
  refine tx_run (tx_rV (As := [.int p1]) (rest := []) (L := (0, 0)) (ci := 0) (fs := tc_gfs E s0) (q := (RX1, TX1, 13)) C hH.g rfl rfl (t_X1_node l hl0  hk) (cwV 1 C.hts (lw_V q906 q908 qs16 q53 q909) rfl rfl rfl (by decide +kernel) ⟨Nat.le_of_ble_eq_true rfl, Nat.le_of_ble_eq_true rfl⟩) hH hS rfl hl.1 rfl (lv_room (Nat.le_of_ble_eq_true rfl)) dX1_setGain_2 ⟨Nat.le_of_ble_eq_true rfl, Nat.le_of_ble_eq_true rfl⟩) hS (fun X ce q9 S9 H1 locs1 hk hH hS h1 h2 h3 => tx_out hnt hlk hk hH hS h1 h2 h3 (Nat.le_of_ble_eq_true rfl) (Nat.le_of_ble_eq_true rfl)) (fun r1 s2 H locs hk hH hS => ?_)
  refine W.eq (g2 := F0 m 5 ls [.ref (ea E (1, r1))]) rfl ?_
  obtain ⟨h3, hk⟩ := hk
  refine lv_astore_n (lv' := [(3, .ref (ea E (1, r1))), (0, .ref (ea E (0, 0))), (1, .int p1), (2, .int p2)]) C.hx C.hb dX1_setGain_5 rfl hl (by decide) rfl (fun ls hl => ?_)
  refine lv_aload_n C.hx C.hb dX1_setGain_6 rfl (lv_at hl 0 rfl) ?_
  obtain ⟨v4, ev4⟩ : ∃ y : Int32, y = (if ykd E r1 = 1 then 1 else 0) := ⟨_, rfl⟩
  have hk := hk v4 ev4
  refine tc_instG (v := v4) C hH h3 ev4 q750 dX1_setGain_7 ?_
  refine lv_if_ne (tgt := 21) C.hx C.hb dX1_setGain_10 (by decide) (fun c5 => ?_) (fun c5 => ?_)
  · have hk := hk.1 c5
    refine lv_iload_n C.hx C.hb dX1_setGain_21 rfl (lv_at hl 3 rfl) ?_
    refine lv_sipush (v := (-200)) C.hx C.hb dX1_setGain_22 (by decide) ?_
    refine lv_sipush (v := 200) C.hx C.hb dX1_setGain_25 (by decide) ?_
    refine gb_call (As := [.int p2, .int (-200), .int 200]) (rest := []) C.1 (t_X1_inRange l hk) (va_cwS 3 C.hts (lw_S q542 q543 q53 q544) rfl rfl rfl (by decide +kernel) ⟨Nat.le_of_ble_eq_true rfl, Nat.le_of_ble_eq_true rfl⟩) rfl hl.1 rfl (lv_room (Nat.le_of_ble_eq_true rfl)) dX1_setGain_28 ⟨Nat.le_of_ble_eq_true rfl, Nat.le_of_ble_eq_true rfl⟩ (fun r6 hk => ?_)
    refine tx_run (tx_rS (As := [.int r6]) (rest := []) C (t_X1_checkArgument l hl0  hk) (va_cwS 1 C.hts (lw_S q549 q550 q53 q551) rfl rfl rfl (by decide +kernel) ⟨Nat.le_of_ble_eq_true rfl, Nat.le_of_ble_eq_true rfl⟩) hH hS rfl hl.1 rfl (lv_room (Nat.le_of_ble_eq_true rfl)) dX1_setGain_31 ⟨Nat.le_of_ble_eq_true rfl, Nat.le_of_ble_eq_true rfl⟩) hS (fun X ce q9 S9 H1 locs1 hk hH hS h1 h2 h3 => tx_out hnt hlk hk hH hS h1 h2 h3 (Nat.le_of_ble_eq_true rfl) (Nat.le_of_ble_eq_true rfl)) (fun _ s8 H locs hk hH hS => ?_)
    refine W.eq (g2 := F0 m 34 ls []) rfl ?_
    refine lv_aload_n C.hx C.hb dX1_setGain_34 rfl (lv_at hl 0 rfl) ?_
    obtain ⟨h9, hk⟩ := hk
    refine va_castS C.hx C.hb C.hown (C.hts _ q750) ((C.hK.1 4 _ rfl).2) (tc_recv (q := (RX7, TX7, 10)) C.hK hH (hH.n _ h3) (tc_e1 h9) rfl) dX1_setGain_35 ?_
    refine lv_astore (lv' := [(4, .ref (ea E (1, r1))), (3, .ref (ea E (1, r1))), (0, .ref (ea E (0, 0))), (1, .int p1), (2, .int p2)]) C.hx C.hb dX1_setGain_38 hl (by decide) rfl (fun ls hl => ?_)
    refine lv_aload C.hx C.hb dX1_setGain_40 (lv_at hl 0 rfl) ?_
    refine tc_get C hH (hH.n _ h3) (Cn := RX7) (T := TX7) (N := 10) (ci := 4) (fs := tc_nfs E s8 r1) in_X7 (tc_e1 h9) rfl 9 (by decide) (C.N 6 rfl) (fun _ h => h) (v := .int (s8.1 1 r1 3)) (tc_x1_9 h9) dX1_setGain_42 ?_
    refine lv_topi (fun v10 ev10 => ?_)
    have hk := hk v10 ev10
    refine lv_istore (lv' := [(5, .int v10), (4, .ref (ea E (1, r1))), (3, .ref (ea E (1, r1))), (0, .ref (ea E (0, 0))), (1, .int p1), (2, .int p2)]) C.hx C.hb dX1_setGain_45 hl (by decide) rfl (fun ls hl => ?_)
    refine lv_aload C.hx C.hb dX1_setGain_47 (lv_at hl 1 rfl) ?_
    refine lv_iload_n C.hx C.hb dX1_setGain_49 rfl (lv_at hl 5 rfl) ?_
    refine tc_put C hH hS (hH.n _ h3) (Cn := RX7) (T := TX7) (N := 10) (ci := 4) (fs := tc_nfs E s8 r1) in_X7 tyX7 tyX7_ok nmX7 (tc_e1 h9) rfl 9 (by decide) (C.N 6 rfl) (fun _ h => h) rfl (v := .int p2) rfl rfl (tc_nlen E s8 r1) ((by have := tc_un_percent E s8 r1 p2 h9; rw [h9] at this; exact this)) dX1_setGain_50 (fun s11 es11 H locs hH hS => ?_)
    have hk := hk s11 es11
    refine lv_iload C.hx C.hb dX1_setGain_53 (lv_at hl 0 rfl) ?_
    refine tx_ret (Nat.le_of_ble_eq_true rfl) (Nat.le_of_ble_eq_true rfl) ?_
    exact tc_iret v10 rfl C hr hlk hH hS hk dX1_setGain_55
  · have hk := hk.2 c5
    exact tx_throw C hl0 tx_ok_166 (by decide +kernel) q945 q80 ⟨by decide +kernel, by decide +kernel⟩ hnt hlk hH hS hk hl.1 dX1_setGain_13 dX1_setGain_16 dX1_setGain_17 dX1_setGain_20 ⟨Nat.le_of_ble_eq_true rfl, Nat.le_of_ble_eq_true rfl⟩ ⟨Nat.le_of_ble_eq_true rfl, Nat.le_of_ble_eq_true rfl⟩ ⟨Nat.le_of_ble_eq_true rfl, Nat.le_of_ble_eq_true rfl⟩
set_option maxHeartbeats 4000000 in
theorem r_X1_157 {p : Program} {l : Launch} {e : Env} {R : Room} {s : State} {m : MethodId} {args : Array Value} {below : List Frame} {meth : Method} {c : Code} {H : Heap} {locs : List Loc} {cells slots pc nL : Nat} {cc : ByteArray} {ls : Array Slot} {st rest : List Value} {E : tc_E} {S : tc_S} {i : Nat} {j : Nat} {post : Option Nat → tc_S → Prop} (C : tc_C p m c cc nL s args RX1 E) (hi : i < yn E) (hj : j < yn E) (hk : wp_X3_wireFrom E post i j  S) (hH : tc_ok E S H) (hS : va_S (fun q => eb E ≤ q) s.heap H locs) (hn : ([.ref (ea E (1, j))] : List Value).length = 1) (hsize : ls.size = nL) (hst : st = [.ref (ea E (1, j))] ++ .ref (ea E (1, i)) :: rest) (hW : 2 * (F0 m pc ls st).monitorRoom + (rest.map fun v => v.category).sum ≤ 8) (hdg : decode cc pc = .ok (.invokevirtual 157, 3)) (hf : cells ≤ R.cells ∧ slots ≤ R.slots) (hR : 4 ≤ R.frames ∧ 86 ≤ R.locals) : va_Run p l e R s m args below meth c H locs cells slots 0 0 (F0 m pc ls st) rest (tc_Qg E (fun o : Option Nat => some (va_rf (o.map fun k => ea E (13, k)))) post (Value.ref (ea E (1, i)) :: [.ref (ea E (1, j))]).toArray) (fun q => eb E ≤ q) := by
  rcases tc_kinds (hH.kd i hi) with h | h | h | h | h
  · exact tc_rU (q := (RX4, TX4, 10)) (owner := "ToneGraph$Node") C (hH.n _ hi) (tc_e0 h) rfl (t_X3_wireFrom l hi hj hk) (va_cwU 1 C.hts (lw_Uw q925 q927 q929 q926 q58 q933) rfl rfl rfl rfl (by decide +kernel) ⟨by have := hR.1; show 4 ≤ _; omega, by have := hR.2; show 86 ≤ _; omega⟩) hH hS hn hsize hst hW hdg hf
  · exact tc_rU (q := (RX7, TX7, 10)) (owner := "ToneGraph$Node") C (hH.n _ hi) (tc_e1 h) rfl (t_X3_wireFrom l hi hj hk) (va_cwU 1 C.hts (lw_Uw q925 q927 q932 q926 q58 q933) rfl rfl rfl rfl (by decide +kernel) ⟨by have := hR.1; show 4 ≤ _; omega, by have := hR.2; show 86 ≤ _; omega⟩) hH hS hn hsize hst hW hdg hf
  · exact tc_rU (q := (RX8, TX8, 11)) (owner := "ToneGraph$Node") C (hH.n _ hi) (tc_e2 h) rfl (t_X3_wireFrom l hi hj hk) (va_cwU 1 C.hts (lw_Uw q925 q927 q930 q926 q58 q933) rfl rfl rfl rfl (by decide +kernel) ⟨by have := hR.1; show 4 ≤ _; omega, by have := hR.2; show 86 ≤ _; omega⟩) hH hS hn hsize hst hW hdg hf
  · exact tc_rU (q := (RX9, TX9, 10)) (owner := "ToneGraph$Node") C (hH.n _ hi) (tc_e3 h) rfl (t_X3_wireFrom l hi hj hk) (va_cwU 1 C.hts (lw_Uw q925 q927 q931 q926 q58 q933) rfl rfl rfl rfl (by decide +kernel) ⟨by have := hR.1; show 4 ≤ _; omega, by have := hR.2; show 86 ≤ _; omega⟩) hH hS hn hsize hst hW hdg hf
  · exact tc_rU (q := (RX10, TX10, 10)) (owner := "ToneGraph$Node") C (hH.n _ hi) (tc_e4 h) rfl (t_X3_wireFrom l hi hj hk) (va_cwU 1 C.hts (lw_Uw q925 q927 q928 q926 q58 q933) rfl rfl rfl rfl (by decide +kernel) ⟨by have := hR.1; show 4 ≤ _; omega, by have := hR.2; show 86 ≤ _; omega⟩) hH hS hn hsize hst hW hdg hf
/-! ToneGraph.disconnect(II)I -/
def wp_X1_disconnect_37 (E : tc_E) (post : Int32 → tc_S → Prop) (ex : String → tc_S → Prop) (K : Int32 → Int32 → Int32 → tc_S → Prop) (r1 : Nat) (r4 : Nat) (q9 : Nat) : Nat → Int32 → Int32 → Int32 → tc_S → Prop
  | 0, _, _, _, _ => False
  | n37 + 1, x1, x2, x6, s0 => (ygr E (r4 + 2) = true ∧ wp_J2_get E (fun r12 s13 => (r12 < ynw E ∧ ((r12 = q9 → K x1 x2 x6 s13) ∧ (¬ r12 = q9 → (∀ v16, v16 = x6 + 1 → wp_X1_disconnect_37 E post ex K r1 r4 q9 n37 x1 x2 v16 s13))))) (r4 + 2) x6 s0)
set_option maxHeartbeats 4000000 in
theorem tw_X1_disconnect_37 {p : Program} {l : Launch} {e : Env} {s : State} {m : MethodId} {args : Array Value} {below : List Frame} {meth : Method} {c : Code} {E : tc_E} {post : Int32 → tc_S → Prop} {ex : String → tc_S → Prop} {K : Int32 → Int32 → Int32 → tc_S → Prop}  {r1 : Nat} {r4 : Nat} {q9 : Nat} (C : tc_C p m c cX1_disconnect 7 s args RX1 E) (hnt : ∀ x ∈ c.exceptionTable.toList, False) (hl0 : l.stackTraces = false) (hnm : s.methodNamed? yX1_disconnect = some m) (gr1 : r1 < yn E) (gr4 : r4 < yn E) (gq9 : q9 < ynw E) (hr : meth.sig.returnType = (some .int)) (hlk : meth.locks = false) (hK : ∀ (x1 : Int32) (x2 : Int32) (x6 : Int32) (σ' : tc_S) (H : Heap) (locs : List Loc) (ls : Array Slot), K x1 x2 x6 σ' → tc_ok E σ' H → va_S (fun q => eb E ≤ q) s.heap H locs → lv_has ls 7 [(0, .ref (ea E (0, 0))), (1, .int x1), (2, .int x2), (3, .ref (ea E (1, r1))), (4, .ref (ea E (1, r4))), (5, .ref (ea E (13, q9))), (6, .int x6)] → W p l e ({ frames := 7, cells := 3, slots := 18, locals := 121 } : Room) s m args below meth c H locs 2 12 (vx_MQ below (tc_Qg E (fun r : Int32 => some (.int r)) post) (tx_X E ex) args s 3 18 (fun q => eb E ≤ q)) (F0 m 58 ls [])) :
    ∀ (n : Nat) (x1 : Int32) (x2 : Int32) (x6 : Int32) (s0 : tc_S) (H : Heap) (locs : List Loc) (ls : Array Slot), wp_X1_disconnect_37 E post ex K r1 r4 q9 n x1 x2 x6 s0 → tc_ok E s0 H → va_S (fun q => eb E ≤ q) s.heap H locs → lv_has ls 7 [(0, .ref (ea E (0, 0))), (1, .int x1), (2, .int x2), (3, .ref (ea E (1, r1))), (4, .ref (ea E (1, r4))), (5, .ref (ea E (13, q9))), (6, .int x6)] → W p l e ({ frames := 7, cells := 3, slots := 18, locals := 121 } : Room) s m args below meth c H locs 2 12 (vx_MQ below (tc_Qg E (fun r : Int32 => some (.int r)) post) (tx_X E ex) args s 3 18 (fun q => eb E ≤ q)) (F0 m 37 ls []) := by
  intro n
  induction n with
  | zero =>
    intro x1 x2 x6 s0 H locs ls hk
    exact hk.elim
  | succ n ih =>
    intro x1 x2 x6 s0 H locs ls hk hH hS hl
    rw [wp_X1_disconnect_37] at hk
    refine lv_aload C.hx C.hb dX1_disconnect_37 (lv_at hl 4 rfl) ?_
    refine tc_getn C hH gr4 2 (by decide) rfl (C.N 1 rfl) (v := .ref (ea E (2, r4 + 2))) rfl dX1_disconnect_39 ?_
    refine lv_iload C.hx C.hb dX1_disconnect_42 (lv_at hl 6 rfl) ?_
    obtain ⟨h11, hk⟩ := hk
    refine tc_run (tc_rV (As := [.int x6]) (rest := []) (L := (2, r4 + 2)) (ci := 9) (fs := tc_lfs E s0 (r4 + 2)) (q := (RJ2, TJ2, 3)) C (hH.l _ (Nat.add_lt_add_right gr4 2)) rfl rfl (t_J2_get l (Nat.add_lt_add_right gr4 2) h11 hk) (cwV 1 C.hts (lw_V q368 q369 q370 q56 q371) rfl rfl rfl (by decide +kernel) ⟨Nat.le_of_ble_eq_true rfl, Nat.le_of_ble_eq_true rfl⟩) hH hS rfl hl.1 rfl (lv_room (Nat.le_of_ble_eq_true rfl)) dX1_disconnect_44 ⟨Nat.le_of_ble_eq_true rfl, Nat.le_of_ble_eq_true rfl⟩) hS (fun r12 s13 H locs hk hH hS => ?_)
    refine W.eq (g2 := F0 m 47 ls [.ref (ea E (13, r12))]) rfl ?_
    refine lv_aload C.hx C.hb dX1_disconnect_47 (lv_at hl 5 rfl) ?_
    obtain ⟨h15, hk⟩ := hk
    refine tc_acmpW_eq (tgt := 58) C hH h15 gq9 dX1_disconnect_49 (by decide) (fun c14 => ?_) (fun c14 => ?_)
    · have hk := hk.1 c14
      exact hK x1 x2 x6 s13 _ _ _ hk hH hS (lv_sub hl [0, 1, 2, 3, 4, 5, 6] rfl)
    · have hk := hk.2 c14
      obtain ⟨v16, ev16⟩ : ∃ y : Int32, y = x6 + 1 := ⟨_, rfl⟩
      have hk := hk v16 ev16
      refine lv_iinc (v := v16) (lv' := [(6, .int v16), (0, .ref (ea E (0, 0))), (1, .int x1), (2, .int x2), (3, .ref (ea E (1, r1))), (4, .ref (ea E (1, r4))), (5, .ref (ea E (13, q9)))]) C.hx C.hb dX1_disconnect_52 hl (k := 6) rfl (by rw [ev16]; rfl) (by decide) rfl (fun ls hl => ?_)
      refine lv_goto (tgt := 37) C.hx C.hb dX1_disconnect_55 (by decide) ?_
      exact ih x1 x2 v16 s13 _ _ _ hk hH hS (lv_sub hl [1, 2, 3, 4, 5, 6, 0] rfl)
def wp_X1_disconnect (E : tc_E) (post : Int32 → tc_S → Prop) (ex : String → tc_S → Prop) (p1 : Int32) (p2 : Int32) (s0 : tc_S) : Prop := wp_X1_node E (fun r1 s2 => (r1 < yn E ∧ wp_X1_node E (fun r4 s5 => (r4 < yn E ∧ wp_X3_wireFrom E (fun r7 s8 => ((r7 = none → ex "java/util/NoSuchElementException" s8) ∧ (∀ q9, r7 = some q9 → (q9 < ynw E ∧ (∃ n37, wp_X1_disconnect_37 E post ex (fun y17 y18 y19 s20 => (ygr E (r4 + 2) = true ∧ wp_J2_remove E (fun r22 s23 => wp_X1_sort E (fun _ s25 => post (ywq E q9) s25)  s23) r4 y19 s20)) r1 r4 q9 n37 p1 p2 0 s8))))) r4 r1 s5)) ex p2 s2)) ex p1 s0
set_option maxHeartbeats 4000000 in
theorem t_X1_disconnect (l : Launch) (hl0 : l.stackTraces = false) {E : tc_E} {post : Int32 → tc_S → Prop} {ex : String → tc_S → Prop} {p1 : Int32} {p2 : Int32} {s0 : tc_S} (hk : wp_X1_disconnect E post ex p1 p2 s0) : tx_M l yX1_disconnect (ws_ yX1_disconnect cX1_disconnect 7 (some .int)) ({ frames := 7, cells := 3, slots := 18, locals := 121 } : Room) E [.ref (ea E (0, 0)), .int p1, .int p2] s0 (fun r : Int32 => some (.int r)) post ex 3 18 := by
  refine tx_start cX1_disconnect 7 (some .int) RX1 (by decide) rfl rfl (Nat.le_of_ble_eq_true rfl) ?_
  intro p e s m args below meth c ls C hnm hnt hr hlk hH hS hl
  have hl : lv_has ls 7 [(0, .ref (ea E (0, 0))), (1, .int p1), (2, .int p2)] := hl
  unfold wp_X1_disconnect at hk
  refine lv_aload_n C.hx C.hb dX1_disconnect_0 rfl (lv_at hl 0 rfl) ?_
  refine lv_iload_n C.hx C.hb dX1_disconnect_1 rfl (lv_at hl 1 rfl) ?_
  refine tx_run (tx_rV (As := [.int p1]) (rest := []) (L := (0, 0)) (ci := 0) (fs := tc_gfs E s0) (q := (RX1, TX1, 13)) C hH.g rfl rfl (t_X1_node l hl0  hk) (cwV 1 C.hts (lw_V q906 q908 qs16 q53 q909) rfl rfl rfl (by decide +kernel) ⟨Nat.le_of_ble_eq_true rfl, Nat.le_of_ble_eq_true rfl⟩) hH hS rfl hl.1 rfl (lv_room (Nat.le_of_ble_eq_true rfl)) dX1_disconnect_2 ⟨Nat.le_of_ble_eq_true rfl, Nat.le_of_ble_eq_true rfl⟩) hS (fun X ce q9 S9 H1 locs1 hk hH hS h1 h2 h3 => tx_out hnt hlk hk hH hS h1 h2 h3 (Nat.le_of_ble_eq_true rfl) (Nat.le_of_ble_eq_true rfl)) (fun r1 s2 H locs hk hH hS => ?_)
  refine W.eq (g2 := F0 m 5 ls [.ref (ea E (1, r1))]) rfl ?_
  obtain ⟨h3, hk⟩ := hk
  refine lv_astore_n (lv' := [(3, .ref (ea E (1, r1))), (0, .ref (ea E (0, 0))), (1, .int p1), (2, .int p2)]) C.hx C.hb dX1_disconnect_5 rfl hl (by decide) rfl (fun ls hl => ?_)
  refine lv_aload_n C.hx C.hb dX1_disconnect_6 rfl (lv_at hl 1 rfl) ?_
  refine lv_iload_n C.hx C.hb dX1_disconnect_7 rfl (lv_at hl 3 rfl) ?_
  refine tx_run (tx_rV (As := [.int p2]) (rest := []) (L := (0, 0)) (ci := 0) (fs := tc_gfs E s2) (q := (RX1, TX1, 13)) C hH.g rfl rfl (t_X1_node l hl0  hk) (cwV 1 C.hts (lw_V q906 q908 qs16 q53 q909) rfl rfl rfl (by decide +kernel) ⟨Nat.le_of_ble_eq_true rfl, Nat.le_of_ble_eq_true rfl⟩) hH hS rfl hl.1 rfl (lv_room (Nat.le_of_ble_eq_true rfl)) dX1_disconnect_8 ⟨Nat.le_of_ble_eq_true rfl, Nat.le_of_ble_eq_true rfl⟩) hS (fun X ce q9 S9 H1 locs1 hk hH hS h1 h2 h3 => tx_out hnt hlk hk hH hS h1 h2 h3 (Nat.le_of_ble_eq_true rfl) (Nat.le_of_ble_eq_true rfl)) (fun r4 s5 H locs hk hH hS => ?_)
  refine W.eq (g2 := F0 m 11 ls [.ref (ea E (1, r4))]) rfl ?_
  obtain ⟨h6, hk⟩ := hk
  refine lv_astore (lv' := [(4, .ref (ea E (1, r4))), (3, .ref (ea E (1, r1))), (0, .ref (ea E (0, 0))), (1, .int p1), (2, .int p2)]) C.hx C.hb dX1_disconnect_11 hl (by decide) rfl (fun ls hl => ?_)
  refine lv_aload C.hx C.hb dX1_disconnect_13 (lv_at hl 0 rfl) ?_
  refine lv_aload_n C.hx C.hb dX1_disconnect_15 rfl (lv_at hl 1 rfl) ?_
  refine tc_run (r_X1_157 (rest := [])  C h6 h3 hk hH hS rfl hl.1 rfl (lv_room (Nat.le_of_ble_eq_true rfl)) dX1_disconnect_16 ⟨Nat.le_of_ble_eq_true rfl, Nat.le_of_ble_eq_true rfl⟩ ⟨Nat.le_of_ble_eq_true rfl, Nat.le_of_ble_eq_true rfl⟩) hS (fun r7 s8 H locs hk hH hS => ?_)
  refine W.eq (g2 := F0 m 19 ls [va_rf (r7.map fun k => ea E (13, k))]) rfl ?_
  refine lv_astoreQ (lv' := [(5, va_rf (r7.map fun k => ea E (13, k))), (4, .ref (ea E (1, r4))), (3, .ref (ea E (1, r1))), (0, .ref (ea E (0, 0))), (1, .int p1), (2, .int p2)]) C.hx C.hb dX1_disconnect_19 hl (by decide) rfl (fun ls hl => ?_)
  refine lv_aloadQ C.hx C.hb dX1_disconnect_21 (lv_at hl 0 rfl) ?_
  rcases hq9 : r7 with _ | q9
  · have hk := hk.1 hq9
    try rw [hq9] at hl
    refine W.eq (g2 := F0 m 23 ls [.null]) (by first | rfl | (rw [hq9]; rfl)) ?_
    have hl : lv_has ls 7 [(5, .null), (4, .ref (ea E (1, r4))), (3, .ref (ea E (1, r1))), (0, .ref (ea E (0, 0))), (1, .int p1), (2, .int p2)] := hl
    refine lv_ifnonnullN C.hx C.hb dX1_disconnect_23 ?_
    exact tx_throw C hl0 tx_ok_172 (by decide +kernel) q984 q82 ⟨by decide +kernel, by decide +kernel⟩ hnt hlk hH hS hk hl.1 dX1_disconnect_26 dX1_disconnect_29 dX1_disconnect_30 dX1_disconnect_33 ⟨Nat.le_of_ble_eq_true rfl, Nat.le_of_ble_eq_true rfl⟩ ⟨Nat.le_of_ble_eq_true rfl, Nat.le_of_ble_eq_true rfl⟩ ⟨Nat.le_of_ble_eq_true rfl, Nat.le_of_ble_eq_true rfl⟩
  · have hk := hk.2 q9 hq9
    try rw [hq9] at hl
    refine W.eq (g2 := F0 m 23 ls [.ref (ea E (13, q9))]) (by first | rfl | (rw [hq9]; rfl)) ?_
    have hl : lv_has ls 7 [(5, .ref (ea E (13, q9))), (4, .ref (ea E (1, r4))), (3, .ref (ea E (1, r1))), (0, .ref (ea E (0, 0))), (1, .int p1), (2, .int p2)] := hl
    refine lv_ifnonnull (tgt := 34) C.hx C.hb dX1_disconnect_23 (by decide) ?_
    refine lv_iconst (v := 0) C.hx C.hb dX1_disconnect_34 (by decide) ?_
    refine lv_istore (lv' := [(6, .int 0), (5, .ref (ea E (13, q9))), (4, .ref (ea E (1, r4))), (3, .ref (ea E (1, r1))), (0, .ref (ea E (0, 0))), (1, .int p1), (2, .int p2)]) C.hx C.hb dX1_disconnect_35 hl (by decide) rfl (fun ls hl => ?_)
    obtain ⟨h10, hk⟩ := hk
    obtain ⟨n37, hk⟩ := hk
    refine tw_X1_disconnect_37 C hnt hl0 hnm h3 h6 h10 hr hlk (fun y17 y18 y19 s20 H locs ls hk hH hS hl => ?_) n37 p1 p2 0 s8 _ _ _ hk hH hS (lv_sub hl [4, 5, 6, 3, 2, 1, 0] rfl)
    refine lv_aload C.hx C.hb dX1_disconnect_58 (lv_at hl 4 rfl) ?_
    refine tc_getn C hH h6 2 (by decide) rfl (C.N 1 rfl) (v := .ref (ea E (2, r4 + 2))) rfl dX1_disconnect_60 ?_
    refine lv_iload C.hx C.hb dX1_disconnect_63 (lv_at hl 6 rfl) ?_
    obtain ⟨h21, hk⟩ := hk
    refine tc_run (tc_rV (As := [.int y19]) (rest := []) (L := (2, r4 + 2)) (ci := 9) (fs := tc_lfs E s20 (r4 + 2)) (q := (RJ2, TJ2, 3)) C (hH.l _ (Nat.add_lt_add_right h6 2)) rfl rfl (t_J2_remove l h6 h21 hk) (cwV 1 C.hts (lw_V q999 q1000 q1001 q56 q1002) rfl rfl rfl (by decide +kernel) ⟨Nat.le_of_ble_eq_true rfl, Nat.le_of_ble_eq_true rfl⟩) hH hS rfl hl.1 rfl (lv_room (Nat.le_of_ble_eq_true rfl)) dX1_disconnect_65 ⟨Nat.le_of_ble_eq_true rfl, Nat.le_of_ble_eq_true rfl⟩) hS (fun r22 s23 H locs hk hH hS => ?_)
    refine W.eq (g2 := F0 m 68 ls [.ref (ea E (13, r22))]) rfl ?_
    refine lv_pop C.hx C.hb dX1_disconnect_68 rfl ?_
    refine lv_aload_n C.hx C.hb dX1_disconnect_69 rfl (lv_at hl 0 rfl) ?_
    refine tc_run (tc_rV (As := []) (rest := []) (L := (0, 0)) (ci := 0) (fs := tc_gfs E s23) (q := (RX1, TX1, 13)) C hH.g rfl rfl (t_X1_sort l  hk) (cwV 0 C.hts (lw_V q774 q776 qs15 q53 q777) rfl rfl rfl (by decide +kernel) ⟨Nat.le_of_ble_eq_true rfl, Nat.le_of_ble_eq_true rfl⟩) hH hS rfl hl.1 rfl (lv_room (Nat.le_of_ble_eq_true rfl)) dX1_disconnect_70 ⟨Nat.le_of_ble_eq_true rfl, Nat.le_of_ble_eq_true rfl⟩) hS (fun _ s25 H locs hk hH hS => ?_)
    refine W.eq (g2 := F0 m 73 ls []) rfl ?_
    refine lv_aload C.hx C.hb dX1_disconnect_73 (lv_at hl 5 rfl) ?_
    refine tc_get C hH (hH.w _ h10) (Cn := RX11) (T := TX11) (N := 2) (ci := 8) (fs := [.ref (ea E (1, ywf E q9)), .int (ywq E q9)]) in_X11 rfl rfl 1 (by decide) (C.N 5 rfl) (fun _ h => h) (v := .int (ywq E q9)) rfl dX1_disconnect_75 ?_
    refine tx_ret (Nat.le_of_ble_eq_true rfl) (Nat.le_of_ble_eq_true rfl) ?_
    exact tc_iret (ywq E q9) rfl C hr hlk hH hS hk dX1_disconnect_78
/-! ToneGraph.play(I)I -/
def wp_X1_play_37 (E : tc_E) (post : Int32 → tc_S → Prop) (ex : String → tc_S → Prop) (K : Int32 → Int32 → Int32 → Int32 → Int32 → tc_S → Prop) : Nat → Int32 → Int32 → Int32 → Int32 → Int32 → tc_S → Prop
  | 0, _, _, _, _, _, _ => False
  | n37 + 1, x1, x2, x3, x4, x5, s0 => ((x4 ≤ x5 → K x1 x2 x3 x4 x5 s0) ∧ (¬ x4 ≤ x5 → ((s0.2.1 0 0 0) < yn E ∧ (vp_in x5 64 ∧ wp_X1_hear E (fun _ s14 => (∀ v15, v15 = x5 + 1 → wp_X1_play_37 E post ex K n37 x1 x2 x3 x4 v15 s14)) ((s0.1 2 (s0.2.1 0 0 0)) x5.toNatClampNeg) s0))))
set_option maxHeartbeats 4000000 in
theorem tw_X1_play_37 {p : Program} {l : Launch} {e : Env} {s : State} {m : MethodId} {args : Array Value} {below : List Frame} {meth : Method} {c : Code} {E : tc_E} {post : Int32 → tc_S → Prop} {ex : String → tc_S → Prop} {K : Int32 → Int32 → Int32 → Int32 → Int32 → tc_S → Prop}  (C : tc_C p m c cX1_play 6 s args RX1 E) (hnt : ∀ x ∈ c.exceptionTable.toList, False) (hl0 : l.stackTraces = false) (hnm : s.methodNamed? yX1_play = some m) (hr : meth.sig.returnType = (some .int)) (hlk : meth.locks = false) (hK : ∀ (x1 : Int32) (x2 : Int32) (x3 : Int32) (x4 : Int32) (x5 : Int32) (σ' : tc_S) (H : Heap) (locs : List Loc) (ls : Array Slot), K x1 x2 x3 x4 x5 σ' → tc_ok E σ' H → va_S (fun q => eb E ≤ q) s.heap H locs → lv_has ls 6 [(0, .ref (ea E (0, 0))), (1, .int x1), (2, .int x2), (3, .int x3), (4, .int x4), (5, .int x5)] → W p l e ({ frames := 8, cells := 1, slots := 6, locals := 229 } : Room) s m args below meth c H locs 1 6 (vx_MQ below (tc_Qg E (fun r : Int32 => some (.int r)) post) (tx_X E ex) args s 1 6 (fun q => eb E ≤ q)) (F0 m 64 ls [])) :
    ∀ (n : Nat) (x1 : Int32) (x2 : Int32) (x3 : Int32) (x4 : Int32) (x5 : Int32) (s0 : tc_S) (H : Heap) (locs : List Loc) (ls : Array Slot), wp_X1_play_37 E post ex K n x1 x2 x3 x4 x5 s0 → tc_ok E s0 H → va_S (fun q => eb E ≤ q) s.heap H locs → lv_has ls 6 [(0, .ref (ea E (0, 0))), (1, .int x1), (2, .int x2), (3, .int x3), (4, .int x4), (5, .int x5)] → W p l e ({ frames := 8, cells := 1, slots := 6, locals := 229 } : Room) s m args below meth c H locs 1 6 (vx_MQ below (tc_Qg E (fun r : Int32 => some (.int r)) post) (tx_X E ex) args s 1 6 (fun q => eb E ≤ q)) (F0 m 37 ls []) := by
  intro n
  induction n with
  | zero =>
    intro x1 x2 x3 x4 x5 s0 H locs ls hk
    exact hk.elim
  | succ n ih =>
    intro x1 x2 x3 x4 x5 s0 H locs ls hk hH hS hl
    rw [wp_X1_play_37] at hk
    refine lv_iload C.hx C.hb dX1_play_37 (lv_at hl 5 rfl) ?_
    refine lv_iload C.hx C.hb dX1_play_39 (lv_at hl 4 rfl) ?_
    refine lv_icmp_ge (tgt := 64) C.hx C.hb dX1_play_41 (by decide) (fun c10 => ?_) (fun c10 => ?_)
    · have hk := hk.1 c10
      exact hK x1 x2 x3 x4 x5 s0 _ _ _ hk hH hS (lv_sub hl [0, 1, 2, 3, 4, 5] rfl)
    · have hk := hk.2 c10
      refine lv_aload_n C.hx C.hb dX1_play_44 rfl (lv_at hl 0 rfl) ?_
      refine lv_aload_n C.hx C.hb dX1_play_45 rfl (lv_at hl 0 rfl) ?_
      obtain ⟨h11, hk⟩ := hk
      refine tc_get C hH hH.g (Cn := RX1) (T := TX1) (N := 13) (ci := 0) (fs := tc_gfs E s0) in_X1 rfl rfl 3 (by decide) (C.L q319) (fun _ h => h) (v := .ref (ea E (1, (s0.2.1 0 0 0)))) rfl dX1_play_46 ?_
      refine tc_getn C hH h11 3 (by decide) rfl (C.N 16 rfl) (v := .ref (ea E (4, (s0.2.1 0 0 0)))) rfl dX1_play_49 ?_
      refine lv_iload C.hx C.hb dX1_play_52 (lv_at hl 5 rfl) ?_
      obtain ⟨h12, hk⟩ := hk
      refine tc_ald C hH (hH.row _ h11) (N := 64) (f := (s0.1 2 (s0.2.1 0 0 0))) rfl h12 dX1_play_54 ?_
      refine tc_run (tc_rV (As := [.int ((s0.1 2 (s0.2.1 0 0 0)) x5.toNatClampNeg)]) (rest := []) (L := (0, 0)) (ci := 0) (fs := tc_gfs E s0) (q := (RX1, TX1, 13)) C hH.g rfl rfl (t_X1_hear l  hk) (cwV 1 C.hts (lw_V q515 q517 qs7 q53 q518) rfl rfl rfl (by decide +kernel) ⟨Nat.le_of_ble_eq_true rfl, Nat.le_of_ble_eq_true rfl⟩) hH hS rfl hl.1 rfl (lv_room (Nat.le_of_ble_eq_true rfl)) dX1_play_55 ⟨Nat.le_of_ble_eq_true rfl, Nat.le_of_ble_eq_true rfl⟩) hS (fun _ s14 H locs hk hH hS => ?_)
      refine W.eq (g2 := F0 m 58 ls []) rfl ?_
      obtain ⟨v15, ev15⟩ : ∃ y : Int32, y = x5 + 1 := ⟨_, rfl⟩
      have hk := hk v15 ev15
      refine lv_iinc (v := v15) (lv' := [(5, .int v15), (0, .ref (ea E (0, 0))), (1, .int x1), (2, .int x2), (3, .int x3), (4, .int x4)]) C.hx C.hb dX1_play_58 hl (k := 5) rfl (by rw [ev15]; rfl) (by decide) rfl (fun ls hl => ?_)
      refine lv_goto (tgt := 37) C.hx C.hb dX1_play_61 (by decide) ?_
      exact ih x1 x2 x3 x4 v15 s14 _ _ _ hk hH hS (lv_sub hl [1, 2, 3, 4, 5, 0] rfl)
def wp_X1_play_17 (E : tc_E) (post : Int32 → tc_S → Prop) (ex : String → tc_S → Prop) (K : Int32 → Int32 → Int32 → tc_S → Prop) : Nat → Int32 → Int32 → Int32 → tc_S → Prop
  | 0, _, _, _, _ => False
  | n17 + 1, x1, x2, x3, s0 => ((x3 ≤ 0 → K x1 x2 x3 s0) ∧ (¬ x3 ≤ 0 → (∀ r7, r7 = (if x2 < x3 then x2 else x3) → wp_X1_fill E (fun _ s9 => (∃ n37, wp_X1_play_37 E post ex (fun y16 y17 y18 y19 y20 s21 => (∀ v22, v22 = (y18 - y19) → wp_X1_play_17 E post ex K n17 y16 y17 v22 s21)) n37 x1 x2 x3 r7 0 s9)) r7 s0)))
set_option maxHeartbeats 4000000 in
theorem tw_X1_play_17 {p : Program} {l : Launch} {e : Env} {s : State} {m : MethodId} {args : Array Value} {below : List Frame} {meth : Method} {c : Code} {E : tc_E} {post : Int32 → tc_S → Prop} {ex : String → tc_S → Prop} {K : Int32 → Int32 → Int32 → tc_S → Prop}  (C : tc_C p m c cX1_play 6 s args RX1 E) (hnt : ∀ x ∈ c.exceptionTable.toList, False) (hl0 : l.stackTraces = false) (hnm : s.methodNamed? yX1_play = some m) (hr : meth.sig.returnType = (some .int)) (hlk : meth.locks = false) (hK : ∀ (x1 : Int32) (x2 : Int32) (x3 : Int32) (σ' : tc_S) (H : Heap) (locs : List Loc) (ls : Array Slot), K x1 x2 x3 σ' → tc_ok E σ' H → va_S (fun q => eb E ≤ q) s.heap H locs → lv_has ls 6 [(0, .ref (ea E (0, 0))), (1, .int x1), (2, .int x2), (3, .int x3)] → W p l e ({ frames := 8, cells := 1, slots := 6, locals := 229 } : Room) s m args below meth c H locs 1 6 (vx_MQ below (tc_Qg E (fun r : Int32 => some (.int r)) post) (tx_X E ex) args s 1 6 (fun q => eb E ≤ q)) (F0 m 72 ls [])) :
    ∀ (n : Nat) (x1 : Int32) (x2 : Int32) (x3 : Int32) (s0 : tc_S) (H : Heap) (locs : List Loc) (ls : Array Slot), wp_X1_play_17 E post ex K n x1 x2 x3 s0 → tc_ok E s0 H → va_S (fun q => eb E ≤ q) s.heap H locs → lv_has ls 6 [(0, .ref (ea E (0, 0))), (1, .int x1), (2, .int x2), (3, .int x3)] → W p l e ({ frames := 8, cells := 1, slots := 6, locals := 229 } : Room) s m args below meth c H locs 1 6 (vx_MQ below (tc_Qg E (fun r : Int32 => some (.int r)) post) (tx_X E ex) args s 1 6 (fun q => eb E ≤ q)) (F0 m 17 ls []) := by
  intro n
  induction n with
  | zero =>
    intro x1 x2 x3 s0 H locs ls hk
    exact hk.elim
  | succ n ih =>
    intro x1 x2 x3 s0 H locs ls hk hH hS hl
    rw [wp_X1_play_17] at hk
    refine lv_iload_n C.hx C.hb dX1_play_17 rfl (lv_at hl 3 rfl) ?_
    refine lv_if_le (tgt := 72) C.hx C.hb dX1_play_18 (by decide) (fun c6 => ?_) (fun c6 => ?_)
    · have hk := hk.1 c6
      exact hK x1 x2 x3 s0 _ _ _ hk hH hS (lv_sub hl [0, 1, 2, 3] rfl)
    · have hk := hk.2 c6
      refine lv_iload_n C.hx C.hb dX1_play_21 rfl (lv_at hl 3 rfl) ?_
      refine lv_iload_n C.hx C.hb dX1_play_22 rfl (lv_at hl 2 rfl) ?_
      refine va_mmin C.hx C.hb (C.hml.trans hl.1.symm) C.hown (C.hts _ q395) (C.hts _ q309) (C.hts _ q62) (C.hts _ q310) (Nat.le_of_ble_eq_true rfl) (Nat.le_of_ble_eq_true rfl) (Nat.le_of_ble_eq_true rfl) (Nat.le_of_ble_eq_true rfl) dX1_play_23 ?_
      refine lv_topi (fun r7 er7 => ?_)
      have hk := hk r7 er7
      refine lv_istore (lv' := [(4, .int r7), (0, .ref (ea E (0, 0))), (1, .int x1), (2, .int x2), (3, .int x3)]) C.hx C.hb dX1_play_26 hl (by decide) rfl (fun ls hl => ?_)
      refine lv_aload_n C.hx C.hb dX1_play_28 rfl (lv_at hl 1 rfl) ?_
      refine lv_iload C.hx C.hb dX1_play_29 (lv_at hl 0 rfl) ?_
      refine tc_run (tc_rV (As := [.int r7]) (rest := []) (L := (0, 0)) (ci := 0) (fs := tc_gfs E s0) (q := (RX1, TX1, 13)) C hH.g rfl rfl (t_X1_fill l  hk) (cwV 1 C.hts (lw_V q666 q668 qs12 q53 q669) rfl rfl rfl (by decide +kernel) ⟨Nat.le_of_ble_eq_true rfl, Nat.le_of_ble_eq_true rfl⟩) hH hS rfl hl.1 rfl (lv_room (Nat.le_of_ble_eq_true rfl)) dX1_play_31 ⟨Nat.le_of_ble_eq_true rfl, Nat.le_of_ble_eq_true rfl⟩) hS (fun _ s9 H locs hk hH hS => ?_)
      refine W.eq (g2 := F0 m 34 ls []) rfl ?_
      refine lv_iconst (v := 0) C.hx C.hb dX1_play_34 (by decide) ?_
      refine lv_istore (lv' := [(5, .int 0), (4, .int r7), (0, .ref (ea E (0, 0))), (1, .int x1), (2, .int x2), (3, .int x3)]) C.hx C.hb dX1_play_35 hl (by decide) rfl (fun ls hl => ?_)
      obtain ⟨n37, hk⟩ := hk
      refine tw_X1_play_37 C hnt hl0 hnm hr hlk (fun y16 y17 y18 y19 y20 s21 H locs ls hk hH hS hl => ?_) n37 x1 x2 x3 r7 0 s9 _ _ _ hk hH hS (lv_sub hl [2, 3, 4, 5, 1, 0] rfl)
      refine lv_iload_n C.hx C.hb dX1_play_64 rfl (lv_at hl 3 rfl) ?_
      refine lv_iload C.hx C.hb dX1_play_65 (lv_at hl 4 rfl) ?_
      refine lv_isub C.hx C.hb dX1_play_67 ?_
      refine lv_topi (fun v22 ev22 => ?_)
      have hk := hk v22 ev22
      refine lv_istore_n (lv' := [(3, .int v22), (0, .ref (ea E (0, 0))), (1, .int y16), (2, .int y17), (4, .int y19), (5, .int y20)]) C.hx C.hb dX1_play_68 rfl hl (by decide) rfl (fun ls hl => ?_)
      refine lv_goto (tgt := 17) C.hx C.hb dX1_play_69 (by decide) ?_
      exact ih y16 y17 v22 s21 _ _ _ hk hH hS (lv_sub hl [1, 2, 3, 0] rfl)
def wp_X1_play (E : tc_E) (post : Int32 → tc_S → Prop) (ex : String → tc_S → Prop) (p1 : Int32) (s0 : tc_S) : Prop := wp_X1_inRange (fun r1 => wp_X1_checkArgument E (fun _ s3 => wp_X1_longestBlock E (fun r4 s5 => (∃ n17, wp_X1_play_17 E post ex (fun y23 y24 y25 s26 => ((s26.2.1 0 0 0) < yn E ∧ post (s26.1 1 (s26.2.1 0 0 0) 0) s26)) n17 p1 r4 p1 s5))  s3) ex r1 s0) p1 1 64
set_option maxHeartbeats 4000000 in
theorem t_X1_play (l : Launch) (hl0 : l.stackTraces = false) {E : tc_E} {post : Int32 → tc_S → Prop} {ex : String → tc_S → Prop} {p1 : Int32} {s0 : tc_S} (hk : wp_X1_play E post ex p1 s0) : tx_M l yX1_play (ws_ yX1_play cX1_play 6 (some .int)) ({ frames := 8, cells := 1, slots := 6, locals := 229 } : Room) E [.ref (ea E (0, 0)), .int p1] s0 (fun r : Int32 => some (.int r)) post ex 1 6 := by
  refine tx_start cX1_play 6 (some .int) RX1 (by decide) rfl rfl (Nat.le_of_ble_eq_true rfl) ?_
  intro p e s m args below meth c ls C hnm hnt hr hlk hH hS hl
  have hl : lv_has ls 6 [(0, .ref (ea E (0, 0))), (1, .int p1)] := hl
  unfold wp_X1_play at hk
  refine lv_iload_n C.hx C.hb dX1_play_0 rfl (lv_at hl 1 rfl) ?_
  refine lv_iconst (v := 1) C.hx C.hb dX1_play_1 (by decide) ?_
  refine lv_bipush (v := 64) C.hx C.hb dX1_play_2 (by decide) ?_
  refine gb_call (As := [.int p1, .int 1, .int 64]) (rest := []) C.1 (t_X1_inRange l hk) (va_cwS 3 C.hts (lw_S q542 q543 q53 q544) rfl rfl rfl (by decide +kernel) ⟨Nat.le_of_ble_eq_true rfl, Nat.le_of_ble_eq_true rfl⟩) rfl hl.1 rfl (lv_room (Nat.le_of_ble_eq_true rfl)) dX1_play_4 ⟨Nat.le_of_ble_eq_true rfl, Nat.le_of_ble_eq_true rfl⟩ (fun r1 hk => ?_)
  refine tx_run (tx_rS (As := [.int r1]) (rest := []) C (t_X1_checkArgument l hl0  hk) (va_cwS 1 C.hts (lw_S q549 q550 q53 q551) rfl rfl rfl (by decide +kernel) ⟨Nat.le_of_ble_eq_true rfl, Nat.le_of_ble_eq_true rfl⟩) hH hS rfl hl.1 rfl (lv_room (Nat.le_of_ble_eq_true rfl)) dX1_play_7 ⟨Nat.le_of_ble_eq_true rfl, Nat.le_of_ble_eq_true rfl⟩) hS (fun X ce q9 S9 H1 locs1 hk hH hS h1 h2 h3 => tx_out hnt hlk hk hH hS h1 h2 h3 (Nat.le_of_ble_eq_true rfl) (Nat.le_of_ble_eq_true rfl)) (fun _ s3 H locs hk hH hS => ?_)
  refine W.eq (g2 := F0 m 10 ls []) rfl ?_
  refine lv_aload_n C.hx C.hb dX1_play_10 rfl (lv_at hl 0 rfl) ?_
  refine tc_run (tc_rV (As := []) (rest := []) (L := (0, 0)) (ci := 0) (fs := tc_gfs E s3) (q := (RX1, TX1, 13)) C hH.g rfl rfl (t_X1_longestBlock l  hk) (cwV 0 C.hts (lw_V q665 q365 q366 q53 q367) rfl rfl rfl (by decide +kernel) ⟨Nat.le_of_ble_eq_true rfl, Nat.le_of_ble_eq_true rfl⟩) hH hS rfl hl.1 rfl (lv_room (Nat.le_of_ble_eq_true rfl)) dX1_play_11 ⟨Nat.le_of_ble_eq_true rfl, Nat.le_of_ble_eq_true rfl⟩) hS (fun r4 s5 H locs hk hH hS => ?_)
  refine W.eq (g2 := F0 m 14 ls [.int r4]) rfl ?_
  refine lv_istore_n (lv' := [(2, .int r4), (0, .ref (ea E (0, 0))), (1, .int p1)]) C.hx C.hb dX1_play_14 rfl hl (by decide) rfl (fun ls hl => ?_)
  refine lv_iload_n C.hx C.hb dX1_play_15 rfl (lv_at hl 2 rfl) ?_
  refine lv_istore_n (lv' := [(3, .int p1), (2, .int r4), (0, .ref (ea E (0, 0))), (1, .int p1)]) C.hx C.hb dX1_play_16 rfl hl (by decide) rfl (fun ls hl => ?_)
  obtain ⟨n17, hk⟩ := hk
  refine tw_X1_play_17 C hnt hl0 hnm hr hlk (fun y23 y24 y25 s26 H locs ls hk hH hS hl => ?_) n17 p1 r4 p1 s5 _ _ _ hk hH hS (lv_sub hl [2, 3, 1, 0] rfl)
  refine lv_aload_n C.hx C.hb dX1_play_72 rfl (lv_at hl 0 rfl) ?_
  obtain ⟨h27, hk⟩ := hk
  refine tc_get C hH hH.g (Cn := RX1) (T := TX1) (N := 13) (ci := 0) (fs := tc_gfs E s26) in_X1 rfl rfl 3 (by decide) (C.L q319) (fun _ h => h) (v := .ref (ea E (1, (s26.2.1 0 0 0)))) rfl dX1_play_73 ?_
  refine tc_getn C hH h27 4 (by decide) rfl (C.N 17 rfl) (v := .int (s26.1 1 (s26.2.1 0 0 0) 0)) rfl dX1_play_76 ?_
  refine tx_ret (Nat.le_of_ble_eq_true rfl) (Nat.le_of_ble_eq_true rfl) ?_
  exact tc_iret (s26.1 1 (s26.2.1 0 0 0) 0) rfl C hr hlk hH hS hk dX1_play_79
/-! ToneGraph.ahead(I)I -/
def wp_X1_ahead_16 (E : tc_E) (post : Int32 → tc_S → Prop) (ex : String → tc_S → Prop) (K : Int32 → Int32 → tc_S → Prop) : Nat → Int32 → Int32 → tc_S → Prop
  | 0, _, _, _ => False
  | n16 + 1, x1, x2, s0 => ((x1 ≤ x2 → K x1 x2 s0) ∧ (¬ x1 ≤ x2 → wp_X1_tick E (fun _ s8 => (∀ v9, v9 = x2 + 1 → wp_X1_ahead_16 E post ex K n16 x1 v9 s8))  s0))
set_option maxHeartbeats 4000000 in
theorem tw_X1_ahead_16 {p : Program} {l : Launch} {e : Env} {s : State} {m : MethodId} {args : Array Value} {below : List Frame} {meth : Method} {c : Code} {E : tc_E} {post : Int32 → tc_S → Prop} {ex : String → tc_S → Prop} {K : Int32 → Int32 → tc_S → Prop}  (C : tc_C p m c cX1_ahead 3 s args RX1 E) (hnt : ∀ x ∈ c.exceptionTable.toList, False) (hl0 : l.stackTraces = false) (hnm : s.methodNamed? yX1_ahead = some m) (hr : meth.sig.returnType = (some .int)) (hlk : meth.locks = false) (hK : ∀ (x1 : Int32) (x2 : Int32) (σ' : tc_S) (H : Heap) (locs : List Loc) (ls : Array Slot), K x1 x2 σ' → tc_ok E σ' H → va_S (fun q => eb E ≤ q) s.heap H locs → lv_has ls 3 [(0, .ref (ea E (0, 0))), (1, .int x1), (2, .int x2)] → W p l e ({ frames := 8, cells := 1, slots := 6, locals := 226 } : Room) s m args below meth c H locs 1 6 (vx_MQ below (tc_Qg E (fun r : Int32 => some (.int r)) post) (tx_X E ex) args s 1 6 (fun q => eb E ≤ q)) (F0 m 31 ls [])) :
    ∀ (n : Nat) (x1 : Int32) (x2 : Int32) (s0 : tc_S) (H : Heap) (locs : List Loc) (ls : Array Slot), wp_X1_ahead_16 E post ex K n x1 x2 s0 → tc_ok E s0 H → va_S (fun q => eb E ≤ q) s.heap H locs → lv_has ls 3 [(0, .ref (ea E (0, 0))), (1, .int x1), (2, .int x2)] → W p l e ({ frames := 8, cells := 1, slots := 6, locals := 226 } : Room) s m args below meth c H locs 1 6 (vx_MQ below (tc_Qg E (fun r : Int32 => some (.int r)) post) (tx_X E ex) args s 1 6 (fun q => eb E ≤ q)) (F0 m 16 ls []) := by
  intro n
  induction n with
  | zero =>
    intro x1 x2 s0 H locs ls hk
    exact hk.elim
  | succ n ih =>
    intro x1 x2 s0 H locs ls hk hH hS hl
    rw [wp_X1_ahead_16] at hk
    refine lv_iload_n C.hx C.hb dX1_ahead_16 rfl (lv_at hl 2 rfl) ?_
    refine lv_iload_n C.hx C.hb dX1_ahead_17 rfl (lv_at hl 1 rfl) ?_
    refine lv_icmp_ge (tgt := 31) C.hx C.hb dX1_ahead_18 (by decide) (fun c6 => ?_) (fun c6 => ?_)
    · have hk := hk.1 c6
      exact hK x1 x2 s0 _ _ _ hk hH hS (lv_sub hl [0, 1, 2] rfl)
    · have hk := hk.2 c6
      refine lv_aload_n C.hx C.hb dX1_ahead_21 rfl (lv_at hl 0 rfl) ?_
      refine tc_run (tc_rV (As := []) (rest := []) (L := (0, 0)) (ci := 0) (fs := tc_gfs E s0) (q := (RX1, TX1, 13)) C hH.g rfl rfl (t_X1_tick l  hk) (cwV 0 C.hts (lw_V q420 q422 qs3 q53 q423) rfl rfl rfl (by decide +kernel) ⟨Nat.le_of_ble_eq_true rfl, Nat.le_of_ble_eq_true rfl⟩) hH hS rfl hl.1 rfl (lv_room (Nat.le_of_ble_eq_true rfl)) dX1_ahead_22 ⟨Nat.le_of_ble_eq_true rfl, Nat.le_of_ble_eq_true rfl⟩) hS (fun _ s8 H locs hk hH hS => ?_)
      refine W.eq (g2 := F0 m 25 ls []) rfl ?_
      obtain ⟨v9, ev9⟩ : ∃ y : Int32, y = x2 + 1 := ⟨_, rfl⟩
      have hk := hk v9 ev9
      refine lv_iinc (v := v9) (lv' := [(2, .int v9), (0, .ref (ea E (0, 0))), (1, .int x1)]) C.hx C.hb dX1_ahead_25 hl (k := 2) rfl (by rw [ev9]; rfl) (by decide) rfl (fun ls hl => ?_)
      refine lv_goto (tgt := 16) C.hx C.hb dX1_ahead_28 (by decide) ?_
      exact ih x1 v9 s8 _ _ _ hk hH hS (lv_sub hl [1, 2, 0] rfl)
def wp_X1_ahead (E : tc_E) (post : Int32 → tc_S → Prop) (ex : String → tc_S → Prop) (p1 : Int32) (s0 : tc_S) : Prop := wp_X1_inRange (fun r1 => wp_X1_checkArgument E (fun _ s3 => wp_X1_keep E (fun _ s5 => (∃ n16, wp_X1_ahead_16 E post ex (fun y10 y11 s12 => ((s12.2.1 0 0 0) < yn E ∧ (∀ v14, v14 = (s12.1 1 (s12.2.1 0 0 0) 0) → wp_X1_takeBack E (fun _ s16 => post v14 s16)  s12))) n16 p1 0 s5))  s3) ex r1 s0) p1 1 40
set_option maxHeartbeats 4000000 in
theorem t_X1_ahead (l : Launch) (hl0 : l.stackTraces = false) {E : tc_E} {post : Int32 → tc_S → Prop} {ex : String → tc_S → Prop} {p1 : Int32} {s0 : tc_S} (hk : wp_X1_ahead E post ex p1 s0) : tx_M l yX1_ahead (ws_ yX1_ahead cX1_ahead 3 (some .int)) ({ frames := 8, cells := 1, slots := 6, locals := 226 } : Room) E [.ref (ea E (0, 0)), .int p1] s0 (fun r : Int32 => some (.int r)) post ex 1 6 := by
  refine tx_start cX1_ahead 3 (some .int) RX1 (by decide) rfl rfl (Nat.le_of_ble_eq_true rfl) ?_
  intro p e s m args below meth c ls C hnm hnt hr hlk hH hS hl
  have hl : lv_has ls 3 [(0, .ref (ea E (0, 0))), (1, .int p1)] := hl
  unfold wp_X1_ahead at hk
  refine lv_iload_n C.hx C.hb dX1_ahead_0 rfl (lv_at hl 1 rfl) ?_
  refine lv_iconst (v := 1) C.hx C.hb dX1_ahead_1 (by decide) ?_
  refine lv_bipush (v := 40) C.hx C.hb dX1_ahead_2 (by decide) ?_
  refine gb_call (As := [.int p1, .int 1, .int 40]) (rest := []) C.1 (t_X1_inRange l hk) (va_cwS 3 C.hts (lw_S q542 q543 q53 q544) rfl rfl rfl (by decide +kernel) ⟨Nat.le_of_ble_eq_true rfl, Nat.le_of_ble_eq_true rfl⟩) rfl hl.1 rfl (lv_room (Nat.le_of_ble_eq_true rfl)) dX1_ahead_4 ⟨Nat.le_of_ble_eq_true rfl, Nat.le_of_ble_eq_true rfl⟩ (fun r1 hk => ?_)
  refine tx_run (tx_rS (As := [.int r1]) (rest := []) C (t_X1_checkArgument l hl0  hk) (va_cwS 1 C.hts (lw_S q549 q550 q53 q551) rfl rfl rfl (by decide +kernel) ⟨Nat.le_of_ble_eq_true rfl, Nat.le_of_ble_eq_true rfl⟩) hH hS rfl hl.1 rfl (lv_room (Nat.le_of_ble_eq_true rfl)) dX1_ahead_7 ⟨Nat.le_of_ble_eq_true rfl, Nat.le_of_ble_eq_true rfl⟩) hS (fun X ce q9 S9 H1 locs1 hk hH hS h1 h2 h3 => tx_out hnt hlk hk hH hS h1 h2 h3 (Nat.le_of_ble_eq_true rfl) (Nat.le_of_ble_eq_true rfl)) (fun _ s3 H locs hk hH hS => ?_)
  refine W.eq (g2 := F0 m 10 ls []) rfl ?_
  refine lv_aload_n C.hx C.hb dX1_ahead_10 rfl (lv_at hl 0 rfl) ?_
  refine tc_run (tc_rV (As := []) (rest := []) (L := (0, 0)) (ci := 0) (fs := tc_gfs E s3) (q := (RX1, TX1, 13)) C hH.g rfl rfl (t_X1_keep l  hk) (cwV 0 C.hts (lw_V q620 q622 qs10 q53 q623) rfl rfl rfl (by decide +kernel) ⟨Nat.le_of_ble_eq_true rfl, Nat.le_of_ble_eq_true rfl⟩) hH hS rfl hl.1 rfl (lv_room (Nat.le_of_ble_eq_true rfl)) dX1_ahead_11 ⟨Nat.le_of_ble_eq_true rfl, Nat.le_of_ble_eq_true rfl⟩) hS (fun _ s5 H locs hk hH hS => ?_)
  refine W.eq (g2 := F0 m 14 ls []) rfl ?_
  refine lv_iconst (v := 0) C.hx C.hb dX1_ahead_14 (by decide) ?_
  refine lv_istore_n (lv' := [(2, .int 0), (0, .ref (ea E (0, 0))), (1, .int p1)]) C.hx C.hb dX1_ahead_15 rfl hl (by decide) rfl (fun ls hl => ?_)
  obtain ⟨n16, hk⟩ := hk
  refine tw_X1_ahead_16 C hnt hl0 hnm hr hlk (fun y10 y11 s12 H locs ls hk hH hS hl => ?_) n16 p1 0 s5 _ _ _ hk hH hS (lv_sub hl [1, 2, 0] rfl)
  refine lv_aload_n C.hx C.hb dX1_ahead_31 rfl (lv_at hl 0 rfl) ?_
  obtain ⟨h13, hk⟩ := hk
  refine tc_get C hH hH.g (Cn := RX1) (T := TX1) (N := 13) (ci := 0) (fs := tc_gfs E s12) in_X1 rfl rfl 3 (by decide) (C.L q319) (fun _ h => h) (v := .ref (ea E (1, (s12.2.1 0 0 0)))) rfl dX1_ahead_32 ?_
  refine tc_getn C hH h13 4 (by decide) rfl (C.N 17 rfl) (v := .int (s12.1 1 (s12.2.1 0 0 0) 0)) rfl dX1_ahead_35 ?_
  refine lv_topi (fun v14 ev14 => ?_)
  have hk := hk v14 ev14
  refine lv_istore_n (lv' := [(2, .int v14), (0, .ref (ea E (0, 0))), (1, .int y10)]) C.hx C.hb dX1_ahead_38 rfl hl (by decide) rfl (fun ls hl => ?_)
  refine lv_aload_n C.hx C.hb dX1_ahead_39 rfl (lv_at hl 1 rfl) ?_
  refine tc_run (tc_rV (As := []) (rest := []) (L := (0, 0)) (ci := 0) (fs := tc_gfs E s12) (q := (RX1, TX1, 13)) C hH.g rfl rfl (t_X1_takeBack l  hk) (cwV 0 C.hts (lw_V q641 q643 qs11 q53 q644) rfl rfl rfl (by decide +kernel) ⟨Nat.le_of_ble_eq_true rfl, Nat.le_of_ble_eq_true rfl⟩) hH hS rfl hl.1 rfl (lv_room (Nat.le_of_ble_eq_true rfl)) dX1_ahead_40 ⟨Nat.le_of_ble_eq_true rfl, Nat.le_of_ble_eq_true rfl⟩) hS (fun _ s16 H locs hk hH hS => ?_)
  refine W.eq (g2 := F0 m 43 ls []) rfl ?_
  refine lv_iload_n C.hx C.hb dX1_ahead_43 rfl (lv_at hl 0 rfl) ?_
  refine tx_ret (Nat.le_of_ble_eq_true rfl) (Nat.le_of_ble_eq_true rfl) ?_
  exact tc_iret v14 rfl C hr hlk hH hS hk dX1_ahead_44
/-! ToneGraph.aheadByBlocks(II)I -/
def wp_X1_aheadByBlocks_44 (E : tc_E) (post : Int32 → tc_S → Prop) (ex : String → tc_S → Prop) (K : Int32 → Int32 → Int32 → Int32 → tc_S → Prop) : Nat → Int32 → Int32 → Int32 → Int32 → tc_S → Prop
  | 0, _, _, _, _, _ => False
  | n44 + 1, x1, x2, x3, x4, s0 => ((x4 ≤ 0 → K x1 x2 x3 x4 s0) ∧ (¬ x4 ≤ 0 → (∀ r17, r17 = (if x3 < x4 then x3 else x4) → wp_X1_fill E (fun _ s19 => (∀ r20, r20 = (if x3 < x4 then x3 else x4) → (∀ v21, v21 = (x4 - r20) → wp_X1_aheadByBlocks_44 E post ex K n44 x1 x2 x3 v21 s19))) r17 s0)))
set_option maxHeartbeats 4000000 in
theorem tw_X1_aheadByBlocks_44 {p : Program} {l : Launch} {e : Env} {s : State} {m : MethodId} {args : Array Value} {below : List Frame} {meth : Method} {c : Code} {E : tc_E} {post : Int32 → tc_S → Prop} {ex : String → tc_S → Prop} {K : Int32 → Int32 → Int32 → Int32 → tc_S → Prop}  (C : tc_C p m c cX1_aheadByBlocks 6 s args RX1 E) (hnt : ∀ x ∈ c.exceptionTable.toList, False) (hl0 : l.stackTraces = false) (hnm : s.methodNamed? yX1_aheadByBlocks = some m) (hr : meth.sig.returnType = (some .int)) (hlk : meth.locks = false) (hK : ∀ (x1 : Int32) (x2 : Int32) (x3 : Int32) (x4 : Int32) (σ' : tc_S) (H : Heap) (locs : List Loc) (ls : Array Slot), K x1 x2 x3 x4 σ' → tc_ok E σ' H → va_S (fun q => eb E ≤ q) s.heap H locs → lv_has ls 6 [(0, .ref (ea E (0, 0))), (1, .int x1), (2, .int x2), (3, .int x3), (4, .int x4)] → W p l e ({ frames := 8, cells := 1, slots := 6, locals := 229 } : Room) s m args below meth c H locs 1 6 (vx_MQ below (tc_Qg E (fun r : Int32 => some (.int r)) post) (tx_X E ex) args s 1 6 (fun q => eb E ≤ q)) (F0 m 73 ls [])) :
    ∀ (n : Nat) (x1 : Int32) (x2 : Int32) (x3 : Int32) (x4 : Int32) (s0 : tc_S) (H : Heap) (locs : List Loc) (ls : Array Slot), wp_X1_aheadByBlocks_44 E post ex K n x1 x2 x3 x4 s0 → tc_ok E s0 H → va_S (fun q => eb E ≤ q) s.heap H locs → lv_has ls 6 [(0, .ref (ea E (0, 0))), (1, .int x1), (2, .int x2), (3, .int x3), (4, .int x4)] → W p l e ({ frames := 8, cells := 1, slots := 6, locals := 229 } : Room) s m args below meth c H locs 1 6 (vx_MQ below (tc_Qg E (fun r : Int32 => some (.int r)) post) (tx_X E ex) args s 1 6 (fun q => eb E ≤ q)) (F0 m 44 ls []) := by
  intro n
  induction n with
  | zero =>
    intro x1 x2 x3 x4 s0 H locs ls hk
    exact hk.elim
  | succ n ih =>
    intro x1 x2 x3 x4 s0 H locs ls hk hH hS hl
    rw [wp_X1_aheadByBlocks_44] at hk
    refine lv_iload C.hx C.hb dX1_aheadByBlocks_44 (lv_at hl 4 rfl) ?_
    refine lv_if_le (tgt := 73) C.hx C.hb dX1_aheadByBlocks_46 (by decide) (fun c16 => ?_) (fun c16 => ?_)
    · have hk := hk.1 c16
      exact hK x1 x2 x3 x4 s0 _ _ _ hk hH hS (lv_sub hl [0, 1, 2, 3, 4] rfl)
    · have hk := hk.2 c16
      refine lv_aload_n C.hx C.hb dX1_aheadByBlocks_49 rfl (lv_at hl 0 rfl) ?_
      refine lv_iload C.hx C.hb dX1_aheadByBlocks_50 (lv_at hl 4 rfl) ?_
      refine lv_iload_n C.hx C.hb dX1_aheadByBlocks_52 rfl (lv_at hl 3 rfl) ?_
      refine va_mmin C.hx C.hb (C.hml.trans hl.1.symm) C.hown (C.hts _ q395) (C.hts _ q309) (C.hts _ q62) (C.hts _ q310) (Nat.le_of_ble_eq_true rfl) (Nat.le_of_ble_eq_true rfl) (Nat.le_of_ble_eq_true rfl) (Nat.le_of_ble_eq_true rfl) dX1_aheadByBlocks_53 ?_
      refine lv_topi (fun r17 er17 => ?_)
      have hk := hk r17 er17
      refine tc_run (tc_rV (As := [.int r17]) (rest := []) (L := (0, 0)) (ci := 0) (fs := tc_gfs E s0) (q := (RX1, TX1, 13)) C hH.g rfl rfl (t_X1_fill l  hk) (cwV 1 C.hts (lw_V q666 q668 qs12 q53 q669) rfl rfl rfl (by decide +kernel) ⟨Nat.le_of_ble_eq_true rfl, Nat.le_of_ble_eq_true rfl⟩) hH hS rfl hl.1 rfl (lv_room (Nat.le_of_ble_eq_true rfl)) dX1_aheadByBlocks_56 ⟨Nat.le_of_ble_eq_true rfl, Nat.le_of_ble_eq_true rfl⟩) hS (fun _ s19 H locs hk hH hS => ?_)
      refine W.eq (g2 := F0 m 59 ls []) rfl ?_
      refine lv_iload C.hx C.hb dX1_aheadByBlocks_59 (lv_at hl 4 rfl) ?_
      refine lv_iload C.hx C.hb dX1_aheadByBlocks_61 (lv_at hl 4 rfl) ?_
      refine lv_iload_n C.hx C.hb dX1_aheadByBlocks_63 rfl (lv_at hl 3 rfl) ?_
      refine va_mmin C.hx C.hb (C.hml.trans hl.1.symm) C.hown (C.hts _ q395) (C.hts _ q309) (C.hts _ q62) (C.hts _ q310) (Nat.le_of_ble_eq_true rfl) (Nat.le_of_ble_eq_true rfl) (Nat.le_of_ble_eq_true rfl) (Nat.le_of_ble_eq_true rfl) dX1_aheadByBlocks_64 ?_
      refine lv_topi (fun r20 er20 => ?_)
      have hk := hk r20 er20
      refine lv_isub C.hx C.hb dX1_aheadByBlocks_67 ?_
      refine lv_topi (fun v21 ev21 => ?_)
      have hk := hk v21 ev21
      refine lv_istore (lv' := [(4, .int v21), (0, .ref (ea E (0, 0))), (1, .int x1), (2, .int x2), (3, .int x3)]) C.hx C.hb dX1_aheadByBlocks_68 hl (by decide) rfl (fun ls hl => ?_)
      refine lv_goto (tgt := 44) C.hx C.hb dX1_aheadByBlocks_70 (by decide) ?_
      exact ih x1 x2 x3 v21 s19 _ _ _ hk hH hS (lv_sub hl [1, 2, 3, 4, 0] rfl)
def wp_X1_aheadByBlocks (E : tc_E) (post : Int32 → tc_S → Prop) (ex : String → tc_S → Prop) (p1 : Int32) (p2 : Int32) (s0 : tc_S) : Prop := wp_X1_inRange (fun r1 => ((r1 = 0 → wp_X1_checkArgument E (fun _ s4 => False) ex 0 s0) ∧ (¬ r1 = 0 → wp_X1_inRange (fun r5 => ((r5 = 0 → wp_X1_checkArgument E (fun _ s8 => False) ex 0 s0) ∧ (¬ r5 = 0 → wp_X1_checkArgument E (fun _ s10 => wp_X1_keep E (fun _ s12 => wp_X1_longestBlock E (fun r13 s14 => (∀ r15, r15 = (if r13 < p2 then r13 else p2) → (∃ n44, wp_X1_aheadByBlocks_44 E post ex (fun y22 y23 y24 y25 s26 => ((s26.2.1 0 0 0) < yn E ∧ (∀ v28, v28 = (s26.1 1 (s26.2.1 0 0 0) 0) → wp_X1_takeBack E (fun _ s30 => post v28 s30)  s26))) n44 p1 p2 r15 p1 s14)))  s12)  s10) ex 1 s0))) p2 1 64))) p1 1 40
set_option maxHeartbeats 4000000 in
theorem t_X1_aheadByBlocks (l : Launch) (hl0 : l.stackTraces = false) {E : tc_E} {post : Int32 → tc_S → Prop} {ex : String → tc_S → Prop} {p1 : Int32} {p2 : Int32} {s0 : tc_S} (hk : wp_X1_aheadByBlocks E post ex p1 p2 s0) : tx_M l yX1_aheadByBlocks (ws_ yX1_aheadByBlocks cX1_aheadByBlocks 6 (some .int)) ({ frames := 8, cells := 1, slots := 6, locals := 229 } : Room) E [.ref (ea E (0, 0)), .int p1, .int p2] s0 (fun r : Int32 => some (.int r)) post ex 1 6 := by
  refine tx_start cX1_aheadByBlocks 6 (some .int) RX1 (by decide) rfl rfl (Nat.le_of_ble_eq_true rfl) ?_
  intro p e s m args below meth c ls C hnm hnt hr hlk hH hS hl
  have hl : lv_has ls 6 [(0, .ref (ea E (0, 0))), (1, .int p1), (2, .int p2)] := hl
  unfold wp_X1_aheadByBlocks at hk
  refine lv_iload_n C.hx C.hb dX1_aheadByBlocks_0 rfl (lv_at hl 1 rfl) ?_
  refine lv_iconst (v := 1) C.hx C.hb dX1_aheadByBlocks_1 (by decide) ?_
  refine lv_bipush (v := 40) C.hx C.hb dX1_aheadByBlocks_2 (by decide) ?_
  refine gb_call (As := [.int p1, .int 1, .int 40]) (rest := []) C.1 (t_X1_inRange l hk) (va_cwS 3 C.hts (lw_S q542 q543 q53 q544) rfl rfl rfl (by decide +kernel) ⟨Nat.le_of_ble_eq_true rfl, Nat.le_of_ble_eq_true rfl⟩) rfl hl.1 rfl (lv_room (Nat.le_of_ble_eq_true rfl)) dX1_aheadByBlocks_4 ⟨Nat.le_of_ble_eq_true rfl, Nat.le_of_ble_eq_true rfl⟩ (fun r1 hk => ?_)
  refine lv_if_eq (tgt := 24) C.hx C.hb dX1_aheadByBlocks_7 (by decide) (fun c2 => ?_) (fun c2 => ?_)
  · have hk := hk.1 c2
    refine lv_iconst (v := 0) C.hx C.hb dX1_aheadByBlocks_24 (by decide) ?_
    refine tx_run (tx_rS (As := [.int 0]) (rest := []) C (t_X1_checkArgument l hl0  hk) (va_cwS 1 C.hts (lw_S q549 q550 q53 q551) rfl rfl rfl (by decide +kernel) ⟨Nat.le_of_ble_eq_true rfl, Nat.le_of_ble_eq_true rfl⟩) hH hS rfl hl.1 rfl (lv_room (Nat.le_of_ble_eq_true rfl)) dX1_aheadByBlocks_25 ⟨Nat.le_of_ble_eq_true rfl, Nat.le_of_ble_eq_true rfl⟩) hS (fun X ce q9 S9 H1 locs1 hk hH hS h1 h2 h3 => tx_out hnt hlk hk hH hS h1 h2 h3 (Nat.le_of_ble_eq_true rfl) (Nat.le_of_ble_eq_true rfl)) (fun _ s4 H locs hk hH hS => ?_)
    refine W.eq (g2 := F0 m 28 ls []) rfl ?_
    exact hk.elim
  · have hk := hk.2 c2
    refine lv_iload_n C.hx C.hb dX1_aheadByBlocks_10 rfl (lv_at hl 2 rfl) ?_
    refine lv_iconst (v := 1) C.hx C.hb dX1_aheadByBlocks_11 (by decide) ?_
    refine lv_bipush (v := 64) C.hx C.hb dX1_aheadByBlocks_12 (by decide) ?_
    refine gb_call (As := [.int p2, .int 1, .int 64]) (rest := []) C.1 (t_X1_inRange l hk) (va_cwS 3 C.hts (lw_S q542 q543 q53 q544) rfl rfl rfl (by decide +kernel) ⟨Nat.le_of_ble_eq_true rfl, Nat.le_of_ble_eq_true rfl⟩) rfl hl.1 rfl (lv_room (Nat.le_of_ble_eq_true rfl)) dX1_aheadByBlocks_14 ⟨Nat.le_of_ble_eq_true rfl, Nat.le_of_ble_eq_true rfl⟩ (fun r5 hk => ?_)
    refine lv_if_eq (tgt := 24) C.hx C.hb dX1_aheadByBlocks_17 (by decide) (fun c6 => ?_) (fun c6 => ?_)
    · have hk := hk.1 c6
      refine lv_iconst (v := 0) C.hx C.hb dX1_aheadByBlocks_24 (by decide) ?_
      refine tx_run (tx_rS (As := [.int 0]) (rest := []) C (t_X1_checkArgument l hl0  hk) (va_cwS 1 C.hts (lw_S q549 q550 q53 q551) rfl rfl rfl (by decide +kernel) ⟨Nat.le_of_ble_eq_true rfl, Nat.le_of_ble_eq_true rfl⟩) hH hS rfl hl.1 rfl (lv_room (Nat.le_of_ble_eq_true rfl)) dX1_aheadByBlocks_25 ⟨Nat.le_of_ble_eq_true rfl, Nat.le_of_ble_eq_true rfl⟩) hS (fun X ce q9 S9 H1 locs1 hk hH hS h1 h2 h3 => tx_out hnt hlk hk hH hS h1 h2 h3 (Nat.le_of_ble_eq_true rfl) (Nat.le_of_ble_eq_true rfl)) (fun _ s8 H locs hk hH hS => ?_)
      refine W.eq (g2 := F0 m 28 ls []) rfl ?_
      exact hk.elim
    · have hk := hk.2 c6
      refine lv_iconst (v := 1) C.hx C.hb dX1_aheadByBlocks_20 (by decide) ?_
      refine lv_goto (tgt := 25) C.hx C.hb dX1_aheadByBlocks_21 (by decide) ?_
      refine tx_run (tx_rS (As := [.int 1]) (rest := []) C (t_X1_checkArgument l hl0  hk) (va_cwS 1 C.hts (lw_S q549 q550 q53 q551) rfl rfl rfl (by decide +kernel) ⟨Nat.le_of_ble_eq_true rfl, Nat.le_of_ble_eq_true rfl⟩) hH hS rfl hl.1 rfl (lv_room (Nat.le_of_ble_eq_true rfl)) dX1_aheadByBlocks_25 ⟨Nat.le_of_ble_eq_true rfl, Nat.le_of_ble_eq_true rfl⟩) hS (fun X ce q9 S9 H1 locs1 hk hH hS h1 h2 h3 => tx_out hnt hlk hk hH hS h1 h2 h3 (Nat.le_of_ble_eq_true rfl) (Nat.le_of_ble_eq_true rfl)) (fun _ s10 H locs hk hH hS => ?_)
      refine W.eq (g2 := F0 m 28 ls []) rfl ?_
      refine lv_aload_n C.hx C.hb dX1_aheadByBlocks_28 rfl (lv_at hl 0 rfl) ?_
      refine tc_run (tc_rV (As := []) (rest := []) (L := (0, 0)) (ci := 0) (fs := tc_gfs E s10) (q := (RX1, TX1, 13)) C hH.g rfl rfl (t_X1_keep l  hk) (cwV 0 C.hts (lw_V q620 q622 qs10 q53 q623) rfl rfl rfl (by decide +kernel) ⟨Nat.le_of_ble_eq_true rfl, Nat.le_of_ble_eq_true rfl⟩) hH hS rfl hl.1 rfl (lv_room (Nat.le_of_ble_eq_true rfl)) dX1_aheadByBlocks_29 ⟨Nat.le_of_ble_eq_true rfl, Nat.le_of_ble_eq_true rfl⟩) hS (fun _ s12 H locs hk hH hS => ?_)
      refine W.eq (g2 := F0 m 32 ls []) rfl ?_
      refine lv_iload_n C.hx C.hb dX1_aheadByBlocks_32 rfl (lv_at hl 2 rfl) ?_
      refine lv_aload_n C.hx C.hb dX1_aheadByBlocks_33 rfl (lv_at hl 0 rfl) ?_
      refine tc_run (tc_rV (As := []) (rest := [.int p2]) (L := (0, 0)) (ci := 0) (fs := tc_gfs E s12) (q := (RX1, TX1, 13)) C hH.g rfl rfl (t_X1_longestBlock l  hk) (cwV 0 C.hts (lw_V q665 q365 q366 q53 q367) rfl rfl rfl (by decide +kernel) ⟨Nat.le_of_ble_eq_true rfl, Nat.le_of_ble_eq_true rfl⟩) hH hS rfl hl.1 rfl (lv_room (Nat.le_of_ble_eq_true rfl)) dX1_aheadByBlocks_34 ⟨Nat.le_of_ble_eq_true rfl, Nat.le_of_ble_eq_true rfl⟩) hS (fun r13 s14 H locs hk hH hS => ?_)
      refine W.eq (g2 := F0 m 37 ls [.int r13, .int p2]) rfl ?_
      refine va_mmin C.hx C.hb (C.hml.trans hl.1.symm) C.hown (C.hts _ q395) (C.hts _ q309) (C.hts _ q62) (C.hts _ q310) (Nat.le_of_ble_eq_true rfl) (Nat.le_of_ble_eq_true rfl) (Nat.le_of_ble_eq_true rfl) (Nat.le_of_ble_eq_true rfl) dX1_aheadByBlocks_37 ?_
      refine lv_topi (fun r15 er15 => ?_)
      have hk := hk r15 er15
      refine lv_istore_n (lv' := [(3, .int r15), (0, .ref (ea E (0, 0))), (1, .int p1), (2, .int p2)]) C.hx C.hb dX1_aheadByBlocks_40 rfl hl (by decide) rfl (fun ls hl => ?_)
      refine lv_iload_n C.hx C.hb dX1_aheadByBlocks_41 rfl (lv_at hl 2 rfl) ?_
      refine lv_istore (lv' := [(4, .int p1), (3, .int r15), (0, .ref (ea E (0, 0))), (1, .int p1), (2, .int p2)]) C.hx C.hb dX1_aheadByBlocks_42 hl (by decide) rfl (fun ls hl => ?_)
      obtain ⟨n44, hk⟩ := hk
      refine tw_X1_aheadByBlocks_44 C hnt hl0 hnm hr hlk (fun y22 y23 y24 y25 s26 H locs ls hk hH hS hl => ?_) n44 p1 p2 r15 p1 s14 _ _ _ hk hH hS (lv_sub hl [2, 3, 4, 1, 0] rfl)
      refine lv_aload_n C.hx C.hb dX1_aheadByBlocks_73 rfl (lv_at hl 0 rfl) ?_
      obtain ⟨h27, hk⟩ := hk
      refine tc_get C hH hH.g (Cn := RX1) (T := TX1) (N := 13) (ci := 0) (fs := tc_gfs E s26) in_X1 rfl rfl 3 (by decide) (C.L q319) (fun _ h => h) (v := .ref (ea E (1, (s26.2.1 0 0 0)))) rfl dX1_aheadByBlocks_74 ?_
      refine tc_getn C hH h27 4 (by decide) rfl (C.N 17 rfl) (v := .int (s26.1 1 (s26.2.1 0 0 0) 0)) rfl dX1_aheadByBlocks_77 ?_
      refine lv_topi (fun v28 ev28 => ?_)
      have hk := hk v28 ev28
      refine lv_istore (lv' := [(5, .int v28), (0, .ref (ea E (0, 0))), (1, .int y22), (2, .int y23), (3, .int y24), (4, .int y25)]) C.hx C.hb dX1_aheadByBlocks_80 hl (by decide) rfl (fun ls hl => ?_)
      refine lv_aload_n C.hx C.hb dX1_aheadByBlocks_82 rfl (lv_at hl 1 rfl) ?_
      refine tc_run (tc_rV (As := []) (rest := []) (L := (0, 0)) (ci := 0) (fs := tc_gfs E s26) (q := (RX1, TX1, 13)) C hH.g rfl rfl (t_X1_takeBack l  hk) (cwV 0 C.hts (lw_V q641 q643 qs11 q53 q644) rfl rfl rfl (by decide +kernel) ⟨Nat.le_of_ble_eq_true rfl, Nat.le_of_ble_eq_true rfl⟩) hH hS rfl hl.1 rfl (lv_room (Nat.le_of_ble_eq_true rfl)) dX1_aheadByBlocks_83 ⟨Nat.le_of_ble_eq_true rfl, Nat.le_of_ble_eq_true rfl⟩) hS (fun _ s30 H locs hk hH hS => ?_)
      refine W.eq (g2 := F0 m 86 ls []) rfl ?_
      refine lv_iload C.hx C.hb dX1_aheadByBlocks_86 (lv_at hl 0 rfl) ?_
      refine tx_ret (Nat.le_of_ble_eq_true rfl) (Nat.le_of_ble_eq_true rfl) ?_
      exact tc_iret v28 rfl C hr hlk hH hS hk dX1_aheadByBlocks_88
/-! ToneGraph.waveOf(C)LToneGraph$Wave; -/
def wp_X1_waveOf (E : tc_E) (post : Nat → tc_S → Prop) (p1 : Int32) (s0 : tc_S) : Prop := ((¬ p1 = 113 → ((¬ p1 = 116 → post 2 s0) ∧ (p1 = 116 → post 1 s0))) ∧ (p1 = 113 → post 0 s0))
set_option maxHeartbeats 4000000 in
theorem t_X1_waveOf (l : Launch) {E : tc_E} {post : Nat → tc_S → Prop} {p1 : Int32} {s0 : tc_S} (hk : wp_X1_waveOf E post p1 s0) : tc_M l yX1_waveOf (ws_ yX1_waveOf cX1_waveOf 1 (some (.object "ToneGraph$Wave"))) ({ frames := 0, cells := 0, slots := 0, locals := 3100 } : Room) E [.int p1] s0 (fun k : Nat => some (.ref (es E (k + 2)))) post := by
  refine tc_start cX1_waveOf 1 (some (.object "ToneGraph$Wave")) RX1 (by decide) rfl rfl (Nat.le_of_ble_eq_true rfl) ?_
  intro p e s m args below meth c ls C hnm hr hlk hH hS hl
  have hl : lv_has ls 1 [(0, .int p1)] := hl
  unfold wp_X1_waveOf at hk
  refine lv_iload_n C.hx C.hb dX1_waveOf_0 rfl (lv_at hl 0 rfl) ?_
  refine lv_bipush (v := 113) C.hx C.hb dX1_waveOf_1 (by decide) ?_
  refine lv_icmp_ne (tgt := 12) C.hx C.hb dX1_waveOf_3 (by decide) (fun c1 => ?_) (fun c1 => ?_)
  · have hk := hk.1 c1
    refine lv_iload_n C.hx C.hb dX1_waveOf_12 rfl (lv_at hl 0 rfl) ?_
    refine lv_bipush (v := 116) C.hx C.hb dX1_waveOf_13 (by decide) ?_
    refine lv_icmp_ne (tgt := 24) C.hx C.hb dX1_waveOf_15 (by decide) (fun c2 => ?_) (fun c2 => ?_)
    · have hk := hk.1 c2
      refine lam_const C (C.hZ.lf.2.2.1) hnm rfl hl.1 (lv_room (Nat.le_of_ble_eq_true rfl)) (Nat.le_of_ble_eq_true rfl) dX1_waveOf_24 ?_
      exact tc_aret 2 rfl (Or.inr ⟨_, rfl⟩) C hr hlk hH hS hk dX1_waveOf_29
    · have hk := hk.2 c2
      refine lam_const C (C.hZ.lf.2.1) hnm rfl hl.1 (lv_room (Nat.le_of_ble_eq_true rfl)) (Nat.le_of_ble_eq_true rfl) dX1_waveOf_18 ?_
      exact tc_aret 1 rfl (Or.inr ⟨_, rfl⟩) C hr hlk hH hS hk dX1_waveOf_23
  · have hk := hk.2 c1
    refine lam_const C (C.hZ.lf.1) hnm rfl hl.1 (lv_room (Nat.le_of_ble_eq_true rfl)) (Nat.le_of_ble_eq_true rfl) dX1_waveOf_6 ?_
    exact tc_aret 0 rfl (Or.inr ⟨_, rfl⟩) C hr hlk hH hS hk dX1_waveOf_11
/-! ToneGraph.voiceForNote()LToneGraph$Voice; -/
def wp_X1_voiceForNote_2 (E : tc_E) (post : Nat → tc_S → Prop) (K : Int32 → tc_S → Prop) : Nat → Int32 → tc_S → Prop
  | 0, _, _ => False
  | n2 + 1, x1, s0 => ((4 ≤ x1 → K x1 s0) ∧ (¬ 4 ≤ x1 → (vp_in x1 4 ∧ ((¬ (s0.1 6 x1.toNatClampNeg 1) = 0 → (∀ v4, v4 = x1 + 1 → wp_X1_voiceForNote_2 E post K n2 v4 s0)) ∧ ((s0.1 6 x1.toNatClampNeg 1) = 0 → (vp_in x1 4 ∧ post x1.toNatClampNeg s0))))))
set_option maxHeartbeats 4000000 in
theorem tw_X1_voiceForNote_2 {p : Program} {l : Launch} {e : Env} {s : State} {m : MethodId} {args : Array Value} {below : List Frame} {meth : Method} {c : Code} {E : tc_E} {post : Nat → tc_S → Prop} {K : Int32 → tc_S → Prop}  (C : tc_C p m c cX1_voiceForNote 2 s args RX1 E) (hr : meth.sig.returnType = (some (.object "ToneGraph$Voice"))) (hlk : meth.locks = false) (hK : ∀ (x1 : Int32) (σ' : tc_S) (H : Heap) (locs : List Loc) (ls : Array Slot), K x1 σ' → tc_ok E σ' H → va_S (fun q => eb E ≤ q) s.heap H locs → lv_has ls 2 [(0, .ref (ea E (0, 0))), (1, .int x1)] → W p l e ({ frames := 4, cells := 0, slots := 0, locals := 3100 } : Room) s m args below meth c H locs 0 0 (MQ below (tc_Qg E (fun k : Nat => some (.ref (ea E (10, k)))) post) args s 0 0 (fun q => eb E ≤ q)) (F0 m 38 ls [])) :
    ∀ (n : Nat) (x1 : Int32) (s0 : tc_S) (H : Heap) (locs : List Loc) (ls : Array Slot), wp_X1_voiceForNote_2 E post K n x1 s0 → tc_ok E s0 H → va_S (fun q => eb E ≤ q) s.heap H locs → lv_has ls 2 [(0, .ref (ea E (0, 0))), (1, .int x1)] → W p l e ({ frames := 4, cells := 0, slots := 0, locals := 3100 } : Room) s m args below meth c H locs 0 0 (MQ below (tc_Qg E (fun k : Nat => some (.ref (ea E (10, k)))) post) args s 0 0 (fun q => eb E ≤ q)) (F0 m 2 ls []) := by
  intro n
  induction n with
  | zero =>
    intro x1 s0 H locs ls hk
    exact hk.elim
  | succ n ih =>
    intro x1 s0 H locs ls hk hH hS hl
    rw [wp_X1_voiceForNote_2] at hk
    refine lv_iload_n C.hx C.hb dX1_voiceForNote_2 rfl (lv_at hl 1 rfl) ?_
    refine lv_iconst (v := 4) C.hx C.hb dX1_voiceForNote_3 (by decide) ?_
    refine lv_icmp_ge (tgt := 38) C.hx C.hb dX1_voiceForNote_4 (by decide) (fun c1 => ?_) (fun c1 => ?_)
    · have hk := hk.1 c1
      exact hK x1 s0 _ _ _ hk hH hS (lv_sub hl [0, 1] rfl)
    · have hk := hk.2 c1
      refine lv_aload_n C.hx C.hb dX1_voiceForNote_7 rfl (lv_at hl 0 rfl) ?_
      refine tc_get C hH hH.g (Cn := RX1) (T := TX1) (N := 13) (ci := 0) (fs := tc_gfs E s0) in_X1 rfl rfl 0 (by decide) (C.L q316) (fun _ h => h) (v := .ref (ea E (1, 0))) rfl dX1_voiceForNote_8 ?_
      refine tc_get C hH (hH.n _ hH.n0.1) (Cn := RX4) (T := TX4) (N := 10) (ci := 2) (fs := tc_nfs E s0 0) in_X4 (tc_e0 hH.n0.2) rfl 9 (by decide) (C.N 0 rfl) (fun _ h => h) (v := .ref (ea E (9, 0))) (tc_x0_9 hH.n0.2) dX1_voiceForNote_11 ?_
      refine lv_iload_n C.hx C.hb dX1_voiceForNote_14 rfl (lv_at hl 1 rfl) ?_
      obtain ⟨h2, hk⟩ := hk
      refine tc_aaldV C hH h2 dX1_voiceForNote_15 ?_
      refine tc_get C hH (hH.v _ (tc_lt h2)) (Cn := RX5) (T := TX5) (N := 12) (ci := 3) (fs := tc_vfs E s0 x1.toNatClampNeg) in_X5 rfl rfl 1 (by decide) (C.N 11 rfl) (fun _ h => h) (v := .int (s0.1 6 x1.toNatClampNeg 1)) rfl dX1_voiceForNote_16 ?_
      refine lv_if_ne (tgt := 32) C.hx C.hb dX1_voiceForNote_19 (by decide) (fun c3 => ?_) (fun c3 => ?_)
      · have hk := hk.1 c3
        obtain ⟨v4, ev4⟩ : ∃ y : Int32, y = x1 + 1 := ⟨_, rfl⟩
        have hk := hk v4 ev4
        refine lv_iinc (v := v4) (lv' := [(1, .int v4), (0, .ref (ea E (0, 0)))]) C.hx C.hb dX1_voiceForNote_32 hl (k := 1) rfl (by rw [ev4]; rfl) (by decide) rfl (fun ls hl => ?_)
        refine lv_goto (tgt := 2) C.hx C.hb dX1_voiceForNote_35 (by decide) ?_
        exact ih v4 s0 _ _ _ hk hH hS (lv_sub hl [1, 0] rfl)
      · have hk := hk.2 c3
        refine lv_aload_n C.hx C.hb dX1_voiceForNote_22 rfl (lv_at hl 0 rfl) ?_
        refine tc_get C hH hH.g (Cn := RX1) (T := TX1) (N := 13) (ci := 0) (fs := tc_gfs E s0) in_X1 rfl rfl 0 (by decide) (C.L q316) (fun _ h => h) (v := .ref (ea E (1, 0))) rfl dX1_voiceForNote_23 ?_
        refine tc_get C hH (hH.n _ hH.n0.1) (Cn := RX4) (T := TX4) (N := 10) (ci := 2) (fs := tc_nfs E s0 0) in_X4 (tc_e0 hH.n0.2) rfl 9 (by decide) (C.N 0 rfl) (fun _ h => h) (v := .ref (ea E (9, 0))) (tc_x0_9 hH.n0.2) dX1_voiceForNote_26 ?_
        refine lv_iload_n C.hx C.hb dX1_voiceForNote_29 rfl (lv_at hl 1 rfl) ?_
        obtain ⟨h5, hk⟩ := hk
        refine tc_aaldV C hH h5 dX1_voiceForNote_30 ?_
        exact tc_aret x1.toNatClampNeg rfl (Or.inr ⟨_, rfl⟩) C hr hlk hH hS hk dX1_voiceForNote_31
def wp_X1_voiceForNote (E : tc_E) (post : Nat → tc_S → Prop) (s0 : tc_S) : Prop := (∃ n2, wp_X1_voiceForNote_2 E post (fun y6 s7 => (∀ s8 : tc_S, s8 = tI s7 0 0 4 ((s7.1 0 0 4) + 1) → wp_X1_first E (fun r9 s10 => ((r9 = none → wp_X1_first E (fun r12 s13 => (∃ q14 : Nat, r12 = some q14 ∧ post q14 s13)) (es E (1 + 5)) 1 0 s10) ∧ (∀ q11, r9 = some q11 → post q11 s10))) (es E (0 + 5)) 0 0 s8)) n2 0 s0)
set_option maxHeartbeats 4000000 in
theorem t_X1_voiceForNote (l : Launch) {E : tc_E} {post : Nat → tc_S → Prop} {s0 : tc_S} (hk : wp_X1_voiceForNote E post  s0) : tc_M l yX1_voiceForNote (ws_ yX1_voiceForNote cX1_voiceForNote 2 (some (.object "ToneGraph$Voice"))) ({ frames := 4, cells := 0, slots := 0, locals := 3100 } : Room) E [.ref (ea E (0, 0))] s0 (fun k : Nat => some (.ref (ea E (10, k)))) post := by
  refine tc_start cX1_voiceForNote 2 (some (.object "ToneGraph$Voice")) RX1 (by decide) rfl rfl (Nat.le_of_ble_eq_true rfl) ?_
  intro p e s m args below meth c ls C hnm hr hlk hH hS hl
  have hl : lv_has ls 2 [(0, .ref (ea E (0, 0)))] := hl
  unfold wp_X1_voiceForNote at hk
  refine lv_iconst (v := 0) C.hx C.hb dX1_voiceForNote_0 (by decide) ?_
  refine lv_istore_n (lv' := [(1, .int 0), (0, .ref (ea E (0, 0)))]) C.hx C.hb dX1_voiceForNote_1 rfl hl (by decide) rfl (fun ls hl => ?_)
  obtain ⟨n2, hk⟩ := hk
  refine tw_X1_voiceForNote_2 C hr hlk (fun y6 s7 H locs ls hk hH hS hl => ?_) n2 0 s0 _ _ _ hk hH hS (lv_sub hl [1, 0] rfl)
  refine lv_aload_n C.hx C.hb dX1_voiceForNote_38 rfl (lv_at hl 0 rfl) ?_
  refine lv_dup C.hx C.hb dX1_voiceForNote_39 rfl ?_
  refine tc_get C hH hH.g (Cn := RX1) (T := TX1) (N := 13) (ci := 0) (fs := tc_gfs E s7) in_X1 rfl rfl 12 (by decide) (C.L q328) (fun _ h => h) (v := .int (s7.1 0 0 4)) rfl dX1_voiceForNote_40 ?_
  refine lv_iconst (v := 1) C.hx C.hb dX1_voiceForNote_43 (by decide) ?_
  refine lv_iadd C.hx C.hb dX1_voiceForNote_44 ?_
  refine tc_put C hH hS hH.g (Cn := RX1) (T := TX1) (N := 13) (ci := 0) (fs := tc_gfs E s7) in_X1 tyX1 tyX1_ok nmX1 rfl rfl 12 (by decide) (C.L q328) (fun _ h => h) rfl (v := .int ((s7.1 0 0 4) + 1)) rfl rfl (Nat.le_of_ble_eq_true rfl) (tc_ug_stolen E s7 ((s7.1 0 0 4) + 1)) dX1_voiceForNote_45 (fun s8 es8 H locs hH hS => ?_)
  have hk := hk s8 es8
  refine lv_aload_n C.hx C.hb dX1_voiceForNote_48 rfl (lv_at hl 0 rfl) ?_
  refine lam_const C (C.hZ.lf.2.2.2.1) hnm rfl hl.1 (lv_room (Nat.le_of_ble_eq_true rfl)) (Nat.le_of_ble_eq_true rfl) dX1_voiceForNote_49 ?_
  refine tx_first (rest := []) (k := 0) (key := 0) C (Or.inl ⟨rfl, rfl⟩) (t_X1_first l hk) (cwV 1 C.hts (lw_V q1090 q1092 qs20 q53 q1093) rfl rfl rfl (by decide +kernel) ⟨Nat.le_of_ble_eq_true rfl, Nat.le_of_ble_eq_true rfl⟩) hH hS hl.1 (lv_room (Nat.le_of_ble_eq_true rfl)) dX1_voiceForNote_54 ⟨Nat.le_of_ble_eq_true rfl, Nat.le_of_ble_eq_true rfl⟩ (fun r9 s10 hk hH => ?_)
  refine W.eq (g2 := F0 m 57 ls [va_rf (r9.map fun k => ea E (10, k))]) rfl ?_
  refine lv_astore_nQ (lv' := [(1, va_rf (r9.map fun k => ea E (10, k))), (0, .ref (ea E (0, 0)))]) C.hx C.hb dX1_voiceForNote_57 rfl hl (by decide) rfl (fun ls hl => ?_)
  refine lv_aload_nQ C.hx C.hb dX1_voiceForNote_58 rfl (lv_at hl 0 rfl) ?_
  rcases hq11 : r9 with _ | q11
  · have hk := hk.1 hq11
    try rw [hq11] at hl
    refine W.eq (g2 := F0 m 59 ls [.null]) (by first | rfl | (rw [hq11]; rfl)) ?_
    have hl : lv_has ls 2 [(1, .null), (0, .ref (ea E (0, 0)))] := hl
    refine lv_ifnullN (tgt := 66) C.hx C.hb dX1_voiceForNote_59 (by decide) ?_
    refine lv_aload_n C.hx C.hb dX1_voiceForNote_66 rfl (lv_at hl 1 rfl) ?_
    refine lam_const C (C.hZ.lf.2.2.2.2.1) hnm rfl hl.1 (lv_room (Nat.le_of_ble_eq_true rfl)) (Nat.le_of_ble_eq_true rfl) dX1_voiceForNote_67 ?_
    refine tx_first (rest := []) (k := 1) (key := 0) C (Or.inr (Or.inl ⟨rfl, rfl⟩)) (t_X1_first l hk) (cwV 1 C.hts (lw_V q1090 q1092 qs20 q53 q1093) rfl rfl rfl (by decide +kernel) ⟨Nat.le_of_ble_eq_true rfl, Nat.le_of_ble_eq_true rfl⟩) hH hS hl.1 (lv_room (Nat.le_of_ble_eq_true rfl)) dX1_voiceForNote_72 ⟨Nat.le_of_ble_eq_true rfl, Nat.le_of_ble_eq_true rfl⟩ (fun r12 s13 hk hH => ?_)
    refine W.eq (g2 := F0 m 75 ls [va_rf (r12.map fun k => ea E (10, k))]) rfl ?_
    obtain ⟨q14, hq14, hk⟩ := hk
    exact tc_aret q14 (by rw [hq14]; rfl) (Or.inr ⟨_, by rw [hq14]; rfl⟩) C hr hlk hH hS hk dX1_voiceForNote_75
  · have hk := hk.2 q11 hq11
    try rw [hq11] at hl
    refine W.eq (g2 := F0 m 59 ls [.ref (ea E (10, q11))]) (by first | rfl | (rw [hq11]; rfl)) ?_
    have hl : lv_has ls 2 [(1, .ref (ea E (10, q11))), (0, .ref (ea E (0, 0)))] := hl
    refine lv_ifnull C.hx C.hb dX1_voiceForNote_59 ?_
    refine lv_aload_n C.hx C.hb dX1_voiceForNote_62 rfl (lv_at hl 0 rfl) ?_
    refine lv_goto (tgt := 75) C.hx C.hb dX1_voiceForNote_63 (by decide) ?_
    exact tc_aret q11 rfl (Or.inr ⟨_, rfl⟩) C hr hlk hH hS hk dX1_voiceForNote_75
theorem r_rec {p : Program} {l : Launch} {e : Env} {R : Room} {s : State} {m : MethodId} {args : Array Value} {below : List Frame} {meth : Method} {c : Code} {H : Heap} {locs : List Loc} {cells slots pc nL : Nat} {cc : ByteArray} {ls : Array Slot} {rest : List Value} {E : tc_E} {S : tc_S} {i j : Nat} {post : Int32 → tc_S → Prop} {rm : Room} (C : tc_C p m c cc nL s args RX3 E) (hi : i < yn E) (hM : tc_M l yX3_follows (ws_ yX3_follows cX3_follows 4 (some .boolean)) rm E [.ref (ea E (1, i)), .ref (ea E (1, j))] S (fun r : Int32 => some (.int r)) post) (hrm : rm.cells = 0 ∧ rm.slots = 0) (hH : tc_ok E S H) (hS : va_S (fun q => eb E ≤ q) s.heap H locs) (hsize : ls.size = nL) (hW : 2 * (F0 m pc ls (.ref (ea E (1, j)) :: .ref (ea E (1, i)) :: rest)).monitorRoom + (rest.map fun v => v.category).sum ≤ 8) (hdg : decode cc pc = .ok (.invokevirtual 81, 3)) (hR : rm.frames + 1 ≤ R.frames ∧ 8 + (4 + 11) + rm.locals ≤ R.locals) (hf : cells ≤ R.cells ∧ slots ≤ R.slots := by exact ⟨Nat.zero_le _, Nat.zero_le _⟩) : va_Run p l e R s m args below meth c H locs cells slots 0 0 (F0 m pc ls (.ref (ea E (1, j)) :: .ref (ea E (1, i)) :: rest)) rest (tc_Qg E (fun r : Int32 => some (.int r)) post [.ref (ea E (1, i)), .ref (ea E (1, j))].toArray) (fun q => eb E ≤ q) := by
  rcases tc_kinds (hH.kd i hi) with h | h | h | h | h
  · exact tc_rU (q := (RX4, TX4, 10)) (owner := "ToneGraph$Node") (As := [.ref (ea E (1, j))]) C (hH.n _ hi) (tc_e0 h) rfl hM (va_cwU 1 C.hts (lw_Uw q944 q936 q938 q935 q58 q942) rfl hrm.1 hrm.2 rfl (by decide +kernel) hR) hH hS rfl hsize rfl hW hdg hf
  · exact tc_rU (q := (RX7, TX7, 10)) (owner := "ToneGraph$Node") (As := [.ref (ea E (1, j))]) C (hH.n _ hi) (tc_e1 h) rfl hM (va_cwU 1 C.hts (lw_Uw q944 q936 q941 q935 q58 q942) rfl hrm.1 hrm.2 rfl (by decide +kernel) hR) hH hS rfl hsize rfl hW hdg hf
  · exact tc_rU (q := (RX8, TX8, 11)) (owner := "ToneGraph$Node") (As := [.ref (ea E (1, j))]) C (hH.n _ hi) (tc_e2 h) rfl hM (va_cwU 1 C.hts (lw_Uw q944 q936 q939 q935 q58 q942) rfl hrm.1 hrm.2 rfl (by decide +kernel) hR) hH hS rfl hsize rfl hW hdg hf
  · exact tc_rU (q := (RX9, TX9, 10)) (owner := "ToneGraph$Node") (As := [.ref (ea E (1, j))]) C (hH.n _ hi) (tc_e3 h) rfl hM (va_cwU 1 C.hts (lw_Uw q944 q936 q940 q935 q58 q942) rfl hrm.1 hrm.2 rfl (by decide +kernel) hR) hH hS rfl hsize rfl hW hdg hf
  · exact tc_rU (q := (RX10, TX10, 10)) (owner := "ToneGraph$Node") (As := [.ref (ea E (1, j))]) C (hH.n _ hi) (tc_e4 h) rfl hM (va_cwU 1 C.hts (lw_Uw q944 q936 q937 q935 q58 q942) rfl hrm.1 hrm.2 rfl (by decide +kernel) hR) hH hS rfl hsize rfl hW hdg hf
set_option maxHeartbeats 4000000 in
theorem r_X3_77 {p : Program} {l : Launch} {e : Env} {R : Room} {s : State} {m : MethodId} {args : Array Value} {below : List Frame} {meth : Method} {c : Code} {H : Heap} {locs : List Loc} {cells slots pc nL : Nat} {cc : ByteArray} {ls : Array Slot} {st rest : List Value} {E : tc_E} {S : tc_S} {i : Nat} {post : Int32 → tc_S → Prop} (C : tc_C p m c cc nL s args RX3 E) (hi : i < yn E) (hk : wd_isDelay E post i  S) (hH : tc_ok E S H) (hS : va_S (fun q => eb E ≤ q) s.heap H locs) (hn : ([] : List Value).length = 0) (hsize : ls.size = nL) (hst : st = [] ++ .ref (ea E (1, i)) :: rest) (hW : 2 * (F0 m pc ls st).monitorRoom + (rest.map fun v => v.category).sum ≤ 8) (hdg : decode cc pc = .ok (.invokevirtual 77, 3)) (hf : cells ≤ R.cells ∧ slots ≤ R.slots) (hR : 1 ≤ R.frames ∧ 20 ≤ R.locals) : va_Run p l e R s m args below meth c H locs cells slots 0 0 (F0 m pc ls st) rest (tc_Qg E (fun r : Int32 => some (.int r)) post (Value.ref (ea E (1, i)) :: []).toArray) (fun q => eb E ≤ q) := by
  rcases tc_kinds (hH.kd i hi) with h | h | h | h | h
  · have hk := hk.1 h
    exact tc_rU (q := (RX4, TX4, 10)) (owner := "ToneGraph$Node") C (hH.n _ hi) (tc_e0 h) rfl (t_X3_isDelay l hi hk) (va_cwU 0 C.hts (lw_Uw q943 q385 q387 q384 q58 q393) rfl rfl rfl rfl (by decide +kernel) ⟨by have := hR.1; show 1 ≤ _; omega, by have := hR.2; show 20 ≤ _; omega⟩) hH hS hn hsize hst hW hdg hf
  · have hk := hk.2.1 h
    exact tc_rU (q := (RX7, TX7, 10)) (owner := "ToneGraph$Node") C (hH.n _ hi) (tc_e1 h) rfl (t_X3_isDelay l hi hk) (va_cwU 0 C.hts (lw_Uw q943 q385 q392 q384 q58 q393) rfl rfl rfl rfl (by decide +kernel) ⟨by have := hR.1; show 1 ≤ _; omega, by have := hR.2; show 20 ≤ _; omega⟩) hH hS hn hsize hst hW hdg hf
  · have hk := hk.2.2.1 h
    exact tc_rU (q := (RX8, TX8, 11)) (owner := "ToneGraph$Node") C (hH.n _ hi) (tc_e2 h) rfl (t_X8_isDelay l hi h hk) (va_cwO 0 C.hts (lw_Ow q943 q385 q384 q388 q389 q74 q390) rfl rfl rfl q393 (by decide +kernel) ⟨by have := hR.1; show 1 ≤ _; omega, by have := hR.2; show 20 ≤ _; omega⟩) hH hS hn hsize hst hW hdg hf
  · have hk := hk.2.2.2.1 h
    exact tc_rU (q := (RX9, TX9, 10)) (owner := "ToneGraph$Node") C (hH.n _ hi) (tc_e3 h) rfl (t_X3_isDelay l hi hk) (va_cwU 0 C.hts (lw_Uw q943 q385 q391 q384 q58 q393) rfl rfl rfl rfl (by decide +kernel) ⟨by have := hR.1; show 1 ≤ _; omega, by have := hR.2; show 20 ≤ _; omega⟩) hH hS hn hsize hst hW hdg hf
  · have hk := hk.2.2.2.2 h
    exact tc_rU (q := (RX10, TX10, 10)) (owner := "ToneGraph$Node") C (hH.n _ hi) (tc_e4 h) rfl (t_X3_isDelay l hi hk) (va_cwU 0 C.hts (lw_Uw q943 q385 q386 q384 q58 q393) rfl rfl rfl rfl (by decide +kernel) ⟨by have := hR.1; show 1 ≤ _; omega, by have := hR.2; show 20 ≤ _; omega⟩) hH hS hn hsize hst hW hdg hf
/-! ToneGraph$Node.follows(LToneGraph$Node;)Z -/
def wp_X3_follows_13 (E : tc_E) (REC : (Int32 → tc_S → Prop) → Nat → Nat → tc_S → Prop) (post : Int32 → tc_S → Prop) (K : Int32 → Int32 → tc_S → Prop) (i : Nat) (j : Nat) : Nat → Int32 → Int32 → tc_S → Prop
  | 0, _, _, _ => False
  | n13 + 1, x2, x3, s0 => wp_J2_size E (fun r2 s3 => ((r2 ≤ x3 → K x2 x3 s3) ∧ (¬ r2 ≤ x3 → wd_isDelay E (fun r5 s6 => ((¬ r5 = 0 → K x2 x3 s6) ∧ (r5 = 0 → ((¬ x2 = 0 → K x2 x3 s6) ∧ (x2 = 0 → (ygr E (i + 2) = true ∧ wp_J2_get E (fun r10 s11 => (r10 < ynw E ∧ ((ywf E r10) < yn E ∧ REC (fun r14 s15 => (∀ v16, v16 = x3 + 1 → wp_X3_follows_13 E REC post K i j n13 r14 v16 s15)) (ywf E r10) j s11))) (i + 2) x3 s6)))))) i s3))) (i + 2) s0
set_option maxHeartbeats 4000000 in
theorem tw_X3_follows_13 {p : Program} {l : Launch} {e : Env} {s : State} {m : MethodId} {args : Array Value} {below : List Frame} {meth : Method} {c : Code} {E : tc_E} {post : Int32 → tc_S → Prop} {K : Int32 → Int32 → tc_S → Prop}  {i : Nat} {j : Nat} (C : tc_C p m c cX3_follows 4 s args RX3 E) (hi : i < yn E) (hj : j < yn E) {R : Room} {REC : (Int32 → tc_S → Prop) → Nat → Nat → tc_S → Prop} {rm : Room} (hrec : ∀ (post : Int32 → tc_S → Prop) (i j : Nat) (S : tc_S), i < yn E → j < yn E → REC post i j S → tc_M l yX3_follows (ws_ yX3_follows cX3_follows 4 (some .boolean)) rm E [.ref (ea E (1, i)), .ref (ea E (1, j))] S (fun r : Int32 => some (.int r)) post) (hrm : rm.cells = 0 ∧ rm.slots = 0) (hR1 : rm.frames + 1 ≤ R.frames ∧ 8 + (4 + 11) + rm.locals ≤ R.locals) (hR2 : 20 ≤ R.frames ∧ 400 ≤ R.locals) (hr : meth.sig.returnType = (some .boolean)) (hlk : meth.locks = false) (hK : ∀ (x2 : Int32) (x3 : Int32) (σ' : tc_S) (H : Heap) (locs : List Loc) (ls : Array Slot), K x2 x3 σ' → tc_ok E σ' H → va_S (fun q => eb E ≤ q) s.heap H locs → lv_has ls 4 [(0, .ref (ea E (1, i))), (1, .ref (ea E (1, j))), (2, .int x2), (3, .int x3)] → W p l e R s m args below meth c H locs 0 0 (MQ below (tc_Qg E (fun r : Int32 => some (.int r)) post) args s 0 0 (fun q => eb E ≤ q)) (F0 m 60 ls [])) :
    ∀ (n : Nat) (x2 : Int32) (x3 : Int32) (s0 : tc_S) (H : Heap) (locs : List Loc) (ls : Array Slot), wp_X3_follows_13 E REC post K i j n x2 x3 s0 → tc_ok E s0 H → va_S (fun q => eb E ≤ q) s.heap H locs → lv_has ls 4 [(0, .ref (ea E (1, i))), (1, .ref (ea E (1, j))), (2, .int x2), (3, .int x3)] → W p l e R s m args below meth c H locs 0 0 (MQ below (tc_Qg E (fun r : Int32 => some (.int r)) post) args s 0 0 (fun q => eb E ≤ q)) (F0 m 13 ls []) := by
  intro n
  induction n with
  | zero =>
    intro x2 x3 s0 H locs ls hk
    exact hk.elim
  | succ n ih =>
    intro x2 x3 s0 H locs ls hk hH hS hl
    rw [wp_X3_follows_13] at hk
    refine lv_iload_n C.hx C.hb dX3_follows_13 rfl (lv_at hl 3 rfl) ?_
    refine lv_aload_n C.hx C.hb dX3_follows_14 rfl (lv_at hl 0 rfl) ?_
    refine tc_getn C hH hi 2 (by decide) rfl (C.L q214) (v := .ref (ea E (2, i + 2))) rfl dX3_follows_15 ?_
    refine tc_run (tc_rV (As := []) (rest := [.int x3]) (L := (2, i + 2)) (ci := 9) (fs := tc_lfs E s0 (i + 2)) (q := (RJ2, TJ2, 3)) C (hH.l _ (Nat.add_lt_add_right hi 2)) rfl rfl (t_J2_size l (Nat.add_lt_add_right hi 2) hk) (cwV 0 C.hts (lw_V q442 q361 q362 q56 q363) rfl rfl rfl (by decide +kernel) (by first | exact ⟨Nat.zero_le _, Nat.zero_le _⟩ | exact ⟨Nat.le_trans (Nat.le_of_ble_eq_true rfl : _ ≤ 20) hR2.1, Nat.le_trans (Nat.le_of_ble_eq_true rfl : _ ≤ 400) hR2.2⟩)) hH hS rfl hl.1 rfl (lv_room (Nat.le_of_ble_eq_true rfl)) dX3_follows_18 (by first | exact ⟨Nat.zero_le _, Nat.zero_le _⟩ | exact ⟨Nat.le_trans (Nat.le_of_ble_eq_true rfl : _ ≤ 20) hR2.1, Nat.le_trans (Nat.le_of_ble_eq_true rfl : _ ≤ 400) hR2.2⟩)) hS (fun r2 s3 H locs hk hH hS => ?_)
    refine W.eq (g2 := F0 m 21 ls [.int r2, .int x3]) rfl ?_
    refine lv_icmp_ge (tgt := 60) C.hx C.hb dX3_follows_21 (by decide) (fun c4 => ?_) (fun c4 => ?_)
    · have hk := hk.1 c4
      exact hK x2 x3 s3 _ _ _ hk hH hS (lv_sub hl [0, 1, 2, 3] rfl)
    · have hk := hk.2 c4
      refine lv_aload_n C.hx C.hb dX3_follows_24 rfl (lv_at hl 0 rfl) ?_
      refine tc_run (r_X3_77 (rest := [])  C hi hk hH hS rfl hl.1 rfl (lv_room (Nat.le_of_ble_eq_true rfl)) dX3_follows_25 (by first | exact ⟨Nat.zero_le _, Nat.zero_le _⟩ | exact ⟨Nat.le_trans (Nat.le_of_ble_eq_true rfl : _ ≤ 20) hR2.1, Nat.le_trans (Nat.le_of_ble_eq_true rfl : _ ≤ 400) hR2.2⟩) (by first | exact ⟨Nat.zero_le _, Nat.zero_le _⟩ | exact ⟨Nat.le_trans (Nat.le_of_ble_eq_true rfl : _ ≤ 20) hR2.1, Nat.le_trans (Nat.le_of_ble_eq_true rfl : _ ≤ 400) hR2.2⟩)) hS (fun r5 s6 H locs hk hH hS => ?_)
      refine W.eq (g2 := F0 m 28 ls [.int r5]) rfl ?_
      refine lv_if_ne (tgt := 60) C.hx C.hb dX3_follows_28 (by decide) (fun c7 => ?_) (fun c7 => ?_)
      · have hk := hk.1 c7
        exact hK x2 x3 s6 _ _ _ hk hH hS (lv_sub hl [0, 1, 2, 3] rfl)
      · have hk := hk.2 c7
        refine lv_iload_n C.hx C.hb dX3_follows_31 rfl (lv_at hl 2 rfl) ?_
        refine lv_if_ne (tgt := 60) C.hx C.hb dX3_follows_32 (by decide) (fun c8 => ?_) (fun c8 => ?_)
        · have hk := hk.1 c8
          exact hK x2 x3 s6 _ _ _ hk hH hS (lv_sub hl [0, 1, 2, 3] rfl)
        · have hk := hk.2 c8
          refine lv_aload_n C.hx C.hb dX3_follows_35 rfl (lv_at hl 0 rfl) ?_
          refine tc_getn C hH hi 2 (by decide) rfl (C.L q214) (v := .ref (ea E (2, i + 2))) rfl dX3_follows_36 ?_
          refine lv_iload_n C.hx C.hb dX3_follows_39 rfl (lv_at hl 3 rfl) ?_
          obtain ⟨h9, hk⟩ := hk
          refine tc_run (tc_rV (As := [.int x3]) (rest := []) (L := (2, i + 2)) (ci := 9) (fs := tc_lfs E s6 (i + 2)) (q := (RJ2, TJ2, 3)) C (hH.l _ (Nat.add_lt_add_right hi 2)) rfl rfl (t_J2_get l (Nat.add_lt_add_right hi 2) h9 hk) (cwV 1 C.hts (lw_V q443 q369 q370 q56 q371) rfl rfl rfl (by decide +kernel) (by first | exact ⟨Nat.zero_le _, Nat.zero_le _⟩ | exact ⟨Nat.le_trans (Nat.le_of_ble_eq_true rfl : _ ≤ 20) hR2.1, Nat.le_trans (Nat.le_of_ble_eq_true rfl : _ ≤ 400) hR2.2⟩)) hH hS rfl hl.1 rfl (lv_room (Nat.le_of_ble_eq_true rfl)) dX3_follows_40 (by first | exact ⟨Nat.zero_le _, Nat.zero_le _⟩ | exact ⟨Nat.le_trans (Nat.le_of_ble_eq_true rfl : _ ≤ 20) hR2.1, Nat.le_trans (Nat.le_of_ble_eq_true rfl : _ ≤ 400) hR2.2⟩)) hS (fun r10 s11 H locs hk hH hS => ?_)
          refine W.eq (g2 := F0 m 43 ls [.ref (ea E (13, r10))]) rfl ?_
          obtain ⟨h12, hk⟩ := hk
          refine tc_castW C hH h12 q444 dX3_follows_43 ?_
          obtain ⟨h13, hk⟩ := hk
          refine tc_get C hH (hH.w _ h12) (Cn := RX11) (T := TX11) (N := 2) (ci := 8) (fs := [.ref (ea E (1, ywf E r10)), .int (ywq E r10)]) in_X11 rfl rfl 0 (by decide) (C.N 24 rfl) (fun _ h => h) (v := .ref (ea E (1, (ywf E r10)))) rfl dX3_follows_46 ?_
          refine lv_aload_n C.hx C.hb dX3_follows_49 rfl (lv_at hl 1 rfl) ?_
          refine tc_run (r_rec (rest := []) C h13 (hrec _ _ _ _ h13 hj hk) hrm hH hS hl.1 (lv_room (Nat.le_of_ble_eq_true rfl)) dX3_follows_50 hR1) hS (fun r14 s15 H locs hk hH hS => ?_)
          refine W.eq (g2 := F0 m 53 ls [.int r14]) rfl ?_
          refine lv_istore_n (lv' := [(2, .int r14), (0, .ref (ea E (1, i))), (1, .ref (ea E (1, j))), (3, .int x3)]) C.hx C.hb dX3_follows_53 rfl hl (by decide) rfl (fun ls hl => ?_)
          obtain ⟨v16, ev16⟩ : ∃ y : Int32, y = x3 + 1 := ⟨_, rfl⟩
          have hk := hk v16 ev16
          refine lv_iinc (v := v16) (lv' := [(3, .int v16), (2, .int r14), (0, .ref (ea E (1, i))), (1, .ref (ea E (1, j)))]) C.hx C.hb dX3_follows_54 hl (k := 3) rfl (by rw [ev16]; rfl) (by decide) rfl (fun ls hl => ?_)
          refine lv_goto (tgt := 13) C.hx C.hb dX3_follows_57 (by decide) ?_
          exact ih r14 v16 s15 _ _ _ hk hH hS (lv_sub hl [2, 3, 1, 0] rfl)
def wb_X3_follows (E : tc_E) (REC : (Int32 → tc_S → Prop) → Nat → Nat → tc_S → Prop) (post : Int32 → tc_S → Prop) (i j : Nat) (s0 : tc_S) : Prop := ((¬ i = j → (∃ n13, wp_X3_follows_13 E REC post (fun y17 y18 s19 => (narrow .boolean (.int y17) = .int y17 ∧ post y17 s19)) i j n13 0 0 s0)) ∧ (i = j → (∃ n13, wp_X3_follows_13 E REC post (fun y21 y22 s23 => (narrow .boolean (.int y21) = .int y21 ∧ post y21 s23)) i j n13 1 0 s0)))
def wp_X3_follows (E : tc_E) : Nat → (Int32 → tc_S → Prop) → Nat → Nat → tc_S → Prop
  | 0 => fun _ _ _ _ => False
  | n + 1 => fun post i j s0 => wb_X3_follows E (wp_X3_follows E n) post i j s0
set_option maxHeartbeats 4000000 in
theorem tb_X3_follows {p : Program} {l : Launch} {e : Env} {s : State} {m : MethodId} {args : Array Value} {below : List Frame} {meth : Method} {c : Code} {E : tc_E} {post : Int32 → tc_S → Prop} {i j : Nat} (C : tc_C p m c cX3_follows 4 s args RX3 E) (hi : i < yn E) (hj : j < yn E) {R : Room} {REC : (Int32 → tc_S → Prop) → Nat → Nat → tc_S → Prop} {rm : Room} (hrec : ∀ (post : Int32 → tc_S → Prop) (i j : Nat) (S : tc_S), i < yn E → j < yn E → REC post i j S → tc_M l yX3_follows (ws_ yX3_follows cX3_follows 4 (some .boolean)) rm E [.ref (ea E (1, i)), .ref (ea E (1, j))] S (fun r : Int32 => some (.int r)) post) (hrm : rm.cells = 0 ∧ rm.slots = 0) (hR1 : rm.frames + 1 ≤ R.frames ∧ 8 + (4 + 11) + rm.locals ≤ R.locals) (hR2 : 20 ≤ R.frames ∧ 400 ≤ R.locals) (hr : meth.sig.returnType = (some .boolean)) (hlk : meth.locks = false) {s0 : tc_S} {H : Heap} {locs : List Loc} {ls : Array Slot} (hH : tc_ok E s0 H) (hS : va_S (fun q => eb E ≤ q) s.heap H locs) (hl : lv_has ls 4 [(0, .ref (ea E (1, i))), (1, .ref (ea E (1, j)))]) (hk : wb_X3_follows E REC post i j s0) : W p l e R s m args below meth c H locs 0 0 (MQ below (tc_Qg E (fun r : Int32 => some (.int r)) post) args s 0 0 (fun q => eb E ≤ q)) (F0 m 0 ls []) := by
  unfold wb_X3_follows at hk
  refine lv_aload_n C.hx C.hb dX3_follows_0 rfl (lv_at hl 0 rfl) ?_
  refine lv_aload_n C.hx C.hb dX3_follows_1 rfl (lv_at hl 1 rfl) ?_
  refine tc_acmpN_ne (tgt := 9) C hH hi hj dX3_follows_2 (by decide) (fun c1 => ?_) (fun c1 => ?_)
  · have hk := hk.1 c1
    refine lv_iconst (v := 0) C.hx C.hb dX3_follows_9 (by decide) ?_
    refine lv_istore_n (lv' := [(2, .int 0), (0, .ref (ea E (1, i))), (1, .ref (ea E (1, j)))]) C.hx C.hb dX3_follows_10 rfl hl (by decide) rfl (fun ls hl => ?_)
    refine lv_iconst (v := 0) C.hx C.hb dX3_follows_11 (by decide) ?_
    refine lv_istore_n (lv' := [(3, .int 0), (2, .int 0), (0, .ref (ea E (1, i))), (1, .ref (ea E (1, j)))]) C.hx C.hb dX3_follows_12 rfl hl (by decide) rfl (fun ls hl => ?_)
    obtain ⟨n13, hk⟩ := hk
    refine tw_X3_follows_13 C hi hj hrec hrm hR1 hR2 hr hlk (fun y17 y18 s19 H locs ls hk hH hS hl => ?_) n13 0 0 s0 _ _ _ hk hH hS (lv_sub hl [2, 3, 1, 0] rfl)
    refine lv_iload_n C.hx C.hb dX3_follows_60 rfl (lv_at hl 2 rfl) ?_
    obtain ⟨h20, hk⟩ := hk
    exact tc_zret (ty := .boolean) y17 rfl C hr hlk h20 hH hS hk dX3_follows_61
  · have hk := hk.2 c1
    refine lv_iconst (v := 1) C.hx C.hb dX3_follows_5 (by decide) ?_
    refine lv_goto (tgt := 10) C.hx C.hb dX3_follows_6 (by decide) ?_
    refine lv_istore_n (lv' := [(2, .int 1), (0, .ref (ea E (1, i))), (1, .ref (ea E (1, j)))]) C.hx C.hb dX3_follows_10 rfl hl (by decide) rfl (fun ls hl => ?_)
    refine lv_iconst (v := 0) C.hx C.hb dX3_follows_11 (by decide) ?_
    refine lv_istore_n (lv' := [(3, .int 0), (2, .int 1), (0, .ref (ea E (1, i))), (1, .ref (ea E (1, j)))]) C.hx C.hb dX3_follows_12 rfl hl (by decide) rfl (fun ls hl => ?_)
    obtain ⟨n13, hk⟩ := hk
    refine tw_X3_follows_13 C hi hj hrec hrm hR1 hR2 hr hlk (fun y21 y22 s23 H locs ls hk hH hS hl => ?_) n13 1 0 s0 _ _ _ hk hH hS (lv_sub hl [2, 3, 1, 0] rfl)
    refine lv_iload_n C.hx C.hb dX3_follows_60 rfl (lv_at hl 2 rfl) ?_
    obtain ⟨h24, hk⟩ := hk
    exact tc_zret (ty := .boolean) y21 rfl C hr hlk h24 hH hS hk dX3_follows_61
def rm_X3_follows (n : Nat) : Room := { frames := n + 20, cells := 0, slots := 0, locals := n * 40 + 400 }
theorem t_X3_follows (l : Launch) {E : tc_E} : ∀ (n : Nat) {i j : Nat} (hi : i < yn E) (hj : j < yn E) {post : Int32 → tc_S → Prop} {s0 : tc_S} (hk : wp_X3_follows E n post i j s0), tc_M l yX3_follows (ws_ yX3_follows cX3_follows 4 (some .boolean)) (rm_X3_follows n) E [.ref (ea E (1, i)), .ref (ea E (1, j))] s0 (fun r : Int32 => some (.int r)) post := by
  intro n
  induction n with
  | zero =>
    intro i j hi hj post s0 hk
    exact hk.elim
  | succ n ih =>
    intro i j hi hj post s0 hk
    refine tc_start cX3_follows 4 (some .boolean) RX3 (by decide) rfl rfl (Nat.le_of_ble_eq_true rfl) ?_
    intro p e s m args below meth c ls C hnm hr hlk hH hS hl
    exact tb_X3_follows (R := rm_X3_follows (n + 1)) (rm := rm_X3_follows n) C hi hj (fun post i j S hi hj h => ih hi hj h) ⟨rfl, rfl⟩ ⟨by show n + 20 + 1 ≤ n + 1 + 20; omega, by show 8 + (4 + 11) + (n * 40 + 400) ≤ (n + 1) * 40 + 400; omega⟩ ⟨Nat.le_add_left 20 (n + 1), Nat.le_add_left 400 ((n + 1) * 40)⟩ hr hlk hH hS hl hk
/-! ToneGraph.begin(II)I -/
def wp_X1_begin (E : tc_E) (post : Int32 → tc_S → Prop) (ex : String → tc_S → Prop) (p1 : Int32) (p2 : Int32) (s0 : tc_S) : Prop := wp_X1_inRange (fun r1 => ((r1 = 0 → wp_X1_checkArgument E (fun _ s4 => False) ex 0 s0) ∧ (¬ r1 = 0 → wp_X1_inRange (fun r5 => ((r5 = 0 → wp_X1_checkArgument E (fun _ s8 => False) ex 0 s0) ∧ (¬ r5 = 0 → wp_X1_checkArgument E (fun _ s10 => wp_X1_voiceForNote E (fun r11 s12 => (r11 < 4 ∧ (∀ s14 : tc_S, s14 = tL s12 1 ((s12.2.2 1) + 1) → wp_X1_waveOf E (fun r15 s16 => (r15 < 3 ∧ ((s16.2.1 0 0 1) < yne E ∧ wp_X5_begin E (fun _ s20 => post (nI r11) s20) r11 r15 (s16.2.1 0 0 1) p1 p2 (s16.2.2 1) s16))) (s14.1 0 0 0) s14)))  s10) ex 1 s0))) p2 1 100))) p1 0 59
set_option maxHeartbeats 4000000 in
theorem t_X1_begin (l : Launch) (hl0 : l.stackTraces = false) {E : tc_E} {post : Int32 → tc_S → Prop} {ex : String → tc_S → Prop} {p1 : Int32} {p2 : Int32} {s0 : tc_S} (hk : wp_X1_begin E post ex p1 p2 s0) : tx_M l yX1_begin (ws_ yX1_begin cX1_begin 4 (some .int)) ({ frames := 7, cells := 1, slots := 6, locals := 3121 } : Room) E [.ref (ea E (0, 0)), .int p1, .int p2] s0 (fun r : Int32 => some (.int r)) post ex 1 6 := by
  refine tx_start cX1_begin 4 (some .int) RX1 (by decide) rfl rfl (Nat.le_of_ble_eq_true rfl) ?_
  intro p e s m args below meth c ls C hnm hnt hr hlk hH hS hl
  have hl : lv_has ls 4 [(0, .ref (ea E (0, 0))), (1, .int p1), (2, .int p2)] := hl
  unfold wp_X1_begin at hk
  refine lv_iload_n C.hx C.hb dX1_begin_0 rfl (lv_at hl 1 rfl) ?_
  refine lv_iconst (v := 0) C.hx C.hb dX1_begin_1 (by decide) ?_
  refine lv_bipush (v := 59) C.hx C.hb dX1_begin_2 (by decide) ?_
  refine gb_call (As := [.int p1, .int 0, .int 59]) (rest := []) C.1 (t_X1_inRange l hk) (va_cwS 3 C.hts (lw_S q542 q543 q53 q544) rfl rfl rfl (by decide +kernel) ⟨Nat.le_of_ble_eq_true rfl, Nat.le_of_ble_eq_true rfl⟩) rfl hl.1 rfl (lv_room (Nat.le_of_ble_eq_true rfl)) dX1_begin_4 ⟨Nat.le_of_ble_eq_true rfl, Nat.le_of_ble_eq_true rfl⟩ (fun r1 hk => ?_)
  refine lv_if_eq (tgt := 24) C.hx C.hb dX1_begin_7 (by decide) (fun c2 => ?_) (fun c2 => ?_)
  · have hk := hk.1 c2
    refine lv_iconst (v := 0) C.hx C.hb dX1_begin_24 (by decide) ?_
    refine tx_run (tx_rS (As := [.int 0]) (rest := []) C (t_X1_checkArgument l hl0  hk) (va_cwS 1 C.hts (lw_S q549 q550 q53 q551) rfl rfl rfl (by decide +kernel) ⟨Nat.le_of_ble_eq_true rfl, Nat.le_of_ble_eq_true rfl⟩) hH hS rfl hl.1 rfl (lv_room (Nat.le_of_ble_eq_true rfl)) dX1_begin_25 ⟨Nat.le_of_ble_eq_true rfl, Nat.le_of_ble_eq_true rfl⟩) hS (fun X ce q9 S9 H1 locs1 hk hH hS h1 h2 h3 => tx_out hnt hlk hk hH hS h1 h2 h3 (Nat.le_of_ble_eq_true rfl) (Nat.le_of_ble_eq_true rfl)) (fun _ s4 H locs hk hH hS => ?_)
    refine W.eq (g2 := F0 m 28 ls []) rfl ?_
    exact hk.elim
  · have hk := hk.2 c2
    refine lv_iload_n C.hx C.hb dX1_begin_10 rfl (lv_at hl 2 rfl) ?_
    refine lv_iconst (v := 1) C.hx C.hb dX1_begin_11 (by decide) ?_
    refine lv_bipush (v := 100) C.hx C.hb dX1_begin_12 (by decide) ?_
    refine gb_call (As := [.int p2, .int 1, .int 100]) (rest := []) C.1 (t_X1_inRange l hk) (va_cwS 3 C.hts (lw_S q542 q543 q53 q544) rfl rfl rfl (by decide +kernel) ⟨Nat.le_of_ble_eq_true rfl, Nat.le_of_ble_eq_true rfl⟩) rfl hl.1 rfl (lv_room (Nat.le_of_ble_eq_true rfl)) dX1_begin_14 ⟨Nat.le_of_ble_eq_true rfl, Nat.le_of_ble_eq_true rfl⟩ (fun r5 hk => ?_)
    refine lv_if_eq (tgt := 24) C.hx C.hb dX1_begin_17 (by decide) (fun c6 => ?_) (fun c6 => ?_)
    · have hk := hk.1 c6
      refine lv_iconst (v := 0) C.hx C.hb dX1_begin_24 (by decide) ?_
      refine tx_run (tx_rS (As := [.int 0]) (rest := []) C (t_X1_checkArgument l hl0  hk) (va_cwS 1 C.hts (lw_S q549 q550 q53 q551) rfl rfl rfl (by decide +kernel) ⟨Nat.le_of_ble_eq_true rfl, Nat.le_of_ble_eq_true rfl⟩) hH hS rfl hl.1 rfl (lv_room (Nat.le_of_ble_eq_true rfl)) dX1_begin_25 ⟨Nat.le_of_ble_eq_true rfl, Nat.le_of_ble_eq_true rfl⟩) hS (fun X ce q9 S9 H1 locs1 hk hH hS h1 h2 h3 => tx_out hnt hlk hk hH hS h1 h2 h3 (Nat.le_of_ble_eq_true rfl) (Nat.le_of_ble_eq_true rfl)) (fun _ s8 H locs hk hH hS => ?_)
      refine W.eq (g2 := F0 m 28 ls []) rfl ?_
      exact hk.elim
    · have hk := hk.2 c6
      refine lv_iconst (v := 1) C.hx C.hb dX1_begin_20 (by decide) ?_
      refine lv_goto (tgt := 25) C.hx C.hb dX1_begin_21 (by decide) ?_
      refine tx_run (tx_rS (As := [.int 1]) (rest := []) C (t_X1_checkArgument l hl0  hk) (va_cwS 1 C.hts (lw_S q549 q550 q53 q551) rfl rfl rfl (by decide +kernel) ⟨Nat.le_of_ble_eq_true rfl, Nat.le_of_ble_eq_true rfl⟩) hH hS rfl hl.1 rfl (lv_room (Nat.le_of_ble_eq_true rfl)) dX1_begin_25 ⟨Nat.le_of_ble_eq_true rfl, Nat.le_of_ble_eq_true rfl⟩) hS (fun X ce q9 S9 H1 locs1 hk hH hS h1 h2 h3 => tx_out hnt hlk hk hH hS h1 h2 h3 (Nat.le_of_ble_eq_true rfl) (Nat.le_of_ble_eq_true rfl)) (fun _ s10 H locs hk hH hS => ?_)
      refine W.eq (g2 := F0 m 28 ls []) rfl ?_
      refine lv_aload_n C.hx C.hb dX1_begin_28 rfl (lv_at hl 0 rfl) ?_
      refine tc_run (tc_rV (As := []) (rest := []) (L := (0, 0)) (ci := 0) (fs := tc_gfs E s10) (q := (RX1, TX1, 13)) C hH.g rfl rfl (t_X1_voiceForNote l  hk) (cwV 0 C.hts (lw_V q1084 q1086 qs19 q53 q1087) rfl rfl rfl (by decide +kernel) ⟨Nat.le_of_ble_eq_true rfl, Nat.le_of_ble_eq_true rfl⟩) hH hS rfl hl.1 rfl (lv_room (Nat.le_of_ble_eq_true rfl)) dX1_begin_29 ⟨Nat.le_of_ble_eq_true rfl, Nat.le_of_ble_eq_true rfl⟩) hS (fun r11 s12 H locs hk hH hS => ?_)
      refine W.eq (g2 := F0 m 32 ls [.ref (ea E (10, r11))]) rfl ?_
      obtain ⟨h13, hk⟩ := hk
      refine lv_astore_n (lv' := [(3, .ref (ea E (10, r11))), (0, .ref (ea E (0, 0))), (1, .int p1), (2, .int p2)]) C.hx C.hb dX1_begin_32 rfl hl (by decide) rfl (fun ls hl => ?_)
      refine lv_aload_n C.hx C.hb dX1_begin_33 rfl (lv_at hl 1 rfl) ?_
      refine lv_dup C.hx C.hb dX1_begin_34 rfl ?_
      refine tc_get C hH hH.g (Cn := RX1) (T := TX1) (N := 13) (ci := 0) (fs := tc_gfs E s12) in_X1 rfl rfl 11 (by decide) (C.L q327) (fun _ h => h) (v := .long (s12.2.2 1)) rfl dX1_begin_35 ?_
      refine lv_lconst (v := 1) C.hx C.hb dX1_begin_38 rfl ?_
      refine lv_ladd C.hx C.hb dX1_begin_39 ?_
      refine tc_put C hH hS hH.g (Cn := RX1) (T := TX1) (N := 13) (ci := 0) (fs := tc_gfs E s12) in_X1 tyX1 tyX1_ok nmX1 rfl rfl 11 (by decide) (C.L q327) (fun _ h => h) rfl (v := .long ((s12.2.2 1) + 1)) rfl rfl (Nat.le_of_ble_eq_true rfl) (tc_ug_turns E s12 ((s12.2.2 1) + 1)) dX1_begin_40 (fun s14 es14 H locs hH hS => ?_)
      have hk := hk s14 es14
      refine lv_aload_n C.hx C.hb dX1_begin_43 rfl (lv_at hl 0 rfl) ?_
      refine lv_iload_n C.hx C.hb dX1_begin_44 rfl (lv_at hl 2 rfl) ?_
      refine lv_iload_n C.hx C.hb dX1_begin_45 rfl (lv_at hl 3 rfl) ?_
      refine lv_aload_n C.hx C.hb dX1_begin_46 rfl (lv_at hl 1 rfl) ?_
      refine tc_get C hH hH.g (Cn := RX1) (T := TX1) (N := 13) (ci := 0) (fs := tc_gfs E s14) in_X1 rfl rfl 4 (by decide) (C.L q320) (fun _ h => h) (v := .int (s14.1 0 0 0)) rfl dX1_begin_47 ?_
      refine tc_run (tc_rS (As := [.int (s14.1 0 0 0)]) (rest := [.int p2, .int p1, .ref (ea E (10, r11))]) C (t_X1_waveOf l  hk) (va_cwS 1 C.hts (lw_S q1100 q1101 q53 q1102) rfl rfl rfl (by decide +kernel) ⟨Nat.le_of_ble_eq_true rfl, Nat.le_of_ble_eq_true rfl⟩) hH hS rfl hl.1 rfl (lv_room (Nat.le_of_ble_eq_true rfl)) dX1_begin_50 ⟨Nat.le_of_ble_eq_true rfl, Nat.le_of_ble_eq_true rfl⟩) hS (fun r15 s16 H locs hk hH hS => ?_)
      refine W.eq (g2 := F0 m 53 ls [.ref (es E (r15 + 2)), .int p2, .int p1, .ref (ea E (10, r11))]) rfl ?_
      obtain ⟨h17, hk⟩ := hk
      refine lv_aload_n C.hx C.hb dX1_begin_53 rfl (lv_at hl 1 rfl) ?_
      obtain ⟨h18, hk⟩ := hk
      refine tc_get C hH hH.g (Cn := RX1) (T := TX1) (N := 13) (ci := 0) (fs := tc_gfs E s16) in_X1 rfl rfl 5 (by decide) (C.L q321) (fun _ h => h) (v := .ref (ea E (12, (s16.2.1 0 0 1)))) rfl dX1_begin_54 ?_
      refine lv_aload_n C.hx C.hb dX1_begin_57 rfl (lv_at hl 1 rfl) ?_
      refine tc_get C hH hH.g (Cn := RX1) (T := TX1) (N := 13) (ci := 0) (fs := tc_gfs E s16) in_X1 rfl rfl 11 (by decide) (C.L q327) (fun _ h => h) (v := .long (s16.2.2 1)) rfl dX1_begin_58 ?_
      refine tc_run (tc_rV (As := [.int p1, .int p2, .ref (es E (r15 + 2)), .ref (ea E (12, (s16.2.1 0 0 1))), .long (s16.2.2 1)]) (rest := []) (L := (10, r11)) (ci := 3) (fs := tc_vfs E s16 r11) (q := (RX5, TX5, 12)) C (hH.v _ h13) rfl rfl (t_X5_begin l h13 h18 hk) (cwV 5 C.hts (lw_V q1111 q1112 q1113 q60 q1114) rfl rfl rfl (by decide +kernel) ⟨Nat.le_of_ble_eq_true rfl, Nat.le_of_ble_eq_true rfl⟩) hH hS rfl hl.1 rfl (lv_room (Nat.le_of_ble_eq_true rfl)) dX1_begin_61 ⟨Nat.le_of_ble_eq_true rfl, Nat.le_of_ble_eq_true rfl⟩) hS (fun _ s20 H locs hk hH hS => ?_)
      refine W.eq (g2 := F0 m 64 ls []) rfl ?_
      refine lv_aload_n C.hx C.hb dX1_begin_64 rfl (lv_at hl 0 rfl) ?_
      refine tc_get C hH (hH.v _ h13) (Cn := RX5) (T := TX5) (N := 12) (ci := 3) (fs := tc_vfs E s20 r11) in_X5 rfl rfl 0 (by decide) (C.N 12 rfl) (fun _ h => h) (v := .int (nI r11)) rfl dX1_begin_65 ?_
      refine tx_ret (Nat.le_of_ble_eq_true rfl) (Nat.le_of_ble_eq_true rfl) ?_
      exact tc_iret (nI r11) rfl C hr hlk hH hS hk dX1_begin_68
/-! ToneGraph.end(I)I -/
def wp_X1_end (E : tc_E) (post : Int32 → tc_S → Prop) (ex : String → tc_S → Prop) (p1 : Int32) (s0 : tc_S) : Prop := wp_X1_inRange (fun r1 => wp_X1_checkArgument E (fun _ s3 => (∀ z4 : Nat, wp_X1_first E (fun r5 s6 => ((r5 = none → ex "java/util/NoSuchElementException" s6) ∧ (∀ q7, r5 = some q7 → (∀ s8 : tc_S, s8 = tL s6 1 ((s6.2.2 1) + 1) → (q7 < 4 ∧ wp_X5_release E (fun _ s11 => post (nI q7) s11) q7 (s8.2.2 1) s8))))) z4 2 p1 s3)) ex r1 s0) p1 0 59
set_option maxHeartbeats 4000000 in
theorem t_X1_end (l : Launch) (hl0 : l.stackTraces = false) {E : tc_E} {post : Int32 → tc_S → Prop} {ex : String → tc_S → Prop} {p1 : Int32} {s0 : tc_S} (hk : wp_X1_end E post ex p1 s0) : tx_M l yX1_end (ws_ yX1_end cX1_end 3 (some .int)) ({ frames := 7, cells := 3, slots := 13, locals := 3100 } : Room) E [.ref (ea E (0, 0)), .int p1] s0 (fun r : Int32 => some (.int r)) post ex 3 13 := by
  refine tx_start cX1_end 3 (some .int) RX1 (by decide) rfl rfl (Nat.le_of_ble_eq_true rfl) ?_
  intro p e s m args below meth c ls C hnm hnt hr hlk hH hS hl
  have hl : lv_has ls 3 [(0, .ref (ea E (0, 0))), (1, .int p1)] := hl
  unfold wp_X1_end at hk
  refine lv_iload_n C.hx C.hb dX1_end_0 rfl (lv_at hl 1 rfl) ?_
  refine lv_iconst (v := 0) C.hx C.hb dX1_end_1 (by decide) ?_
  refine lv_bipush (v := 59) C.hx C.hb dX1_end_2 (by decide) ?_
  refine gb_call (As := [.int p1, .int 0, .int 59]) (rest := []) C.1 (t_X1_inRange l hk) (va_cwS 3 C.hts (lw_S q542 q543 q53 q544) rfl rfl rfl (by decide +kernel) ⟨Nat.le_of_ble_eq_true rfl, Nat.le_of_ble_eq_true rfl⟩) rfl hl.1 rfl (lv_room (Nat.le_of_ble_eq_true rfl)) dX1_end_4 ⟨Nat.le_of_ble_eq_true rfl, Nat.le_of_ble_eq_true rfl⟩ (fun r1 hk => ?_)
  refine tx_run (tx_rS (As := [.int r1]) (rest := []) C (t_X1_checkArgument l hl0  hk) (va_cwS 1 C.hts (lw_S q549 q550 q53 q551) rfl rfl rfl (by decide +kernel) ⟨Nat.le_of_ble_eq_true rfl, Nat.le_of_ble_eq_true rfl⟩) hH hS rfl hl.1 rfl (lv_room (Nat.le_of_ble_eq_true rfl)) dX1_end_7 ⟨Nat.le_of_ble_eq_true rfl, Nat.le_of_ble_eq_true rfl⟩) hS (fun X ce q9 S9 H1 locs1 hk hH hS h1 h2 h3 => tx_out hnt hlk hk hH hS h1 h2 h3 (Nat.le_of_ble_eq_true rfl) (Nat.le_of_ble_eq_true rfl)) (fun _ s3 H locs hk hH hS => ?_)
  refine W.eq (g2 := F0 m 10 ls []) rfl ?_
  refine lv_aload_n C.hx C.hb dX1_end_10 rfl (lv_at hl 0 rfl) ?_
  refine lv_iload_n C.hx C.hb dX1_end_11 rfl (lv_at hl 1 rfl) ?_
  refine lam_makes (rest := [.ref (ea E (0, 0))]) C hH hS hnm hl.1 (lv_room (Nat.le_of_ble_eq_true rfl)) ⟨Nat.le_of_ble_eq_true rfl, Nat.le_of_ble_eq_true rfl, Nat.le_of_ble_eq_true rfl⟩ dX1_end_12 (fun z4 H hz hH hS => ?_)
  have hk := hk z4
  refine tx_first (rest := []) (k := 2) (key := p1) C hz (t_X1_first l hk) (cwV 1 C.hts (lw_V q1090 q1092 qs20 q53 q1093) rfl rfl rfl (by decide +kernel) ⟨Nat.le_of_ble_eq_true rfl, Nat.le_of_ble_eq_true rfl⟩) hH hS hl.1 (lv_room (Nat.le_of_ble_eq_true rfl)) dX1_end_17 ⟨Nat.le_of_ble_eq_true rfl, Nat.le_of_ble_eq_true rfl⟩ (fun r5 s6 hk hH => ?_)
  refine W.eq (g2 := F0 m 20 ls [va_rf (r5.map fun k => ea E (10, k))]) rfl ?_
  refine lv_astore_nQ (lv' := [(2, va_rf (r5.map fun k => ea E (10, k))), (0, .ref (ea E (0, 0))), (1, .int p1)]) C.hx C.hb dX1_end_20 rfl hl (by decide) rfl (fun ls hl => ?_)
  refine lv_aload_nQ C.hx C.hb dX1_end_21 rfl (lv_at hl 0 rfl) ?_
  rcases hq7 : r5 with _ | q7
  · have hk := hk.1 hq7
    try rw [hq7] at hl
    refine W.eq (g2 := F0 m 22 ls [.null]) (by first | rfl | (rw [hq7]; rfl)) ?_
    have hl : lv_has ls 3 [(2, .null), (0, .ref (ea E (0, 0))), (1, .int p1)] := hl
    refine lv_ifnonnullN C.hx C.hb dX1_end_22 ?_
    exact tx_throw C hl0 tx_ok_172 (by decide +kernel) q984 q82 ⟨by decide +kernel, by decide +kernel⟩ hnt hlk hH hS hk hl.1 dX1_end_25 dX1_end_28 dX1_end_29 dX1_end_32 ⟨Nat.le_of_ble_eq_true rfl, Nat.le_of_ble_eq_true rfl⟩ ⟨Nat.le_of_ble_eq_true rfl, Nat.le_of_ble_eq_true rfl⟩ ⟨Nat.le_of_ble_eq_true rfl, Nat.le_of_ble_eq_true rfl⟩
  · have hk := hk.2 q7 hq7
    try rw [hq7] at hl
    refine W.eq (g2 := F0 m 22 ls [.ref (ea E (10, q7))]) (by first | rfl | (rw [hq7]; rfl)) ?_
    have hl : lv_has ls 3 [(2, .ref (ea E (10, q7))), (0, .ref (ea E (0, 0))), (1, .int p1)] := hl
    refine lv_ifnonnull (tgt := 33) C.hx C.hb dX1_end_22 (by decide) ?_
    refine lv_aload_n C.hx C.hb dX1_end_33 rfl (lv_at hl 1 rfl) ?_
    refine lv_dup C.hx C.hb dX1_end_34 rfl ?_
    refine tc_get C hH hH.g (Cn := RX1) (T := TX1) (N := 13) (ci := 0) (fs := tc_gfs E s6) in_X1 rfl rfl 11 (by decide) (C.L q327) (fun _ h => h) (v := .long (s6.2.2 1)) rfl dX1_end_35 ?_
    refine lv_lconst (v := 1) C.hx C.hb dX1_end_38 rfl ?_
    refine lv_ladd C.hx C.hb dX1_end_39 ?_
    refine tc_put C hH hS hH.g (Cn := RX1) (T := TX1) (N := 13) (ci := 0) (fs := tc_gfs E s6) in_X1 tyX1 tyX1_ok nmX1 rfl rfl 11 (by decide) (C.L q327) (fun _ h => h) rfl (v := .long ((s6.2.2 1) + 1)) rfl rfl (Nat.le_of_ble_eq_true rfl) (tc_ug_turns E s6 ((s6.2.2 1) + 1)) dX1_end_40 (fun s8 es8 H locs hH hS => ?_)
    have hk := hk s8 es8
    refine lv_aload_n C.hx C.hb dX1_end_43 rfl (lv_at hl 0 rfl) ?_
    refine lv_aload_n C.hx C.hb dX1_end_44 rfl (lv_at hl 1 rfl) ?_
    refine tc_get C hH hH.g (Cn := RX1) (T := TX1) (N := 13) (ci := 0) (fs := tc_gfs E s8) in_X1 rfl rfl 11 (by decide) (C.L q327) (fun _ h => h) (v := .long (s8.2.2 1)) rfl dX1_end_45 ?_
    obtain ⟨h9, hk⟩ := hk
    refine tc_run (tc_rV (As := [.long (s8.2.2 1)]) (rest := []) (L := (10, q7)) (ci := 3) (fs := tc_vfs E s8 q7) (q := (RX5, TX5, 12)) C (hH.v _ h9) rfl rfl (t_X5_release l h9 hk) (cwV 1 C.hts (lw_V q400 q401 q402 q60 q403) rfl rfl rfl (by decide +kernel) ⟨Nat.le_of_ble_eq_true rfl, Nat.le_of_ble_eq_true rfl⟩) hH hS rfl hl.1 rfl (lv_room (Nat.le_of_ble_eq_true rfl)) dX1_end_48 ⟨Nat.le_of_ble_eq_true rfl, Nat.le_of_ble_eq_true rfl⟩) hS (fun _ s11 H locs hk hH hS => ?_)
    refine W.eq (g2 := F0 m 51 ls []) rfl ?_
    refine lv_aload_n C.hx C.hb dX1_end_51 rfl (lv_at hl 0 rfl) ?_
    refine tc_get C hH (hH.v _ h9) (Cn := RX5) (T := TX5) (N := 12) (ci := 3) (fs := tc_vfs E s11 q7) in_X5 rfl rfl 0 (by decide) (C.N 12 rfl) (fun _ h => h) (v := .int (nI q7)) rfl dX1_end_52 ?_
    refine tx_ret (Nat.le_of_ble_eq_true rfl) (Nat.le_of_ble_eq_true rfl) ?_
    exact tc_iret (nI q7) rfl C hr hlk hH hS hk dX1_end_55
/-! ToneGraph.checkArgument(Z)V -/
def wp_X1_checkArgumentN (E : tc_E) (post : Unit → tc_S → Prop) (p1 : Int32) (s0 : tc_S) : Prop := ((¬ p1 = 0 → post () s0) ∧ (p1 = 0 → False))
set_option maxHeartbeats 4000000 in
theorem t_X1_checkArgumentN (l : Launch) {E : tc_E} {post : Unit → tc_S → Prop} {p1 : Int32} {s0 : tc_S} (hk : wp_X1_checkArgumentN E post p1 s0) : tc_M l yX1_checkArgument (ws_ yX1_checkArgument cX1_checkArgument 1 none) ({ frames := 0, cells := 0, slots := 0, locals := 0 } : Room) E [.int p1] s0 (fun _ : Unit => none) post := by
  refine tc_start cX1_checkArgument 1 none RX1 (by decide) rfl rfl (Nat.le_of_ble_eq_true rfl) ?_
  intro p e s m args below meth c ls C hnm hr hlk hH hS hl
  have hl : lv_has ls 1 [(0, .int p1)] := hl
  unfold wp_X1_checkArgumentN at hk
  refine lv_iload_n C.hx C.hb dX1_checkArgument_0 rfl (lv_at hl 0 rfl) ?_
  refine lv_if_ne (tgt := 12) C.hx C.hb dX1_checkArgument_1 (by decide) (fun c1 => ?_) (fun c1 => ?_)
  · have hk := hk.1 c1
    exact tc_vret () rfl C hr hlk hH hS hk dX1_checkArgument_12
  · have hk := hk.2 c1
    exact hk.elim
/-! ToneGraph.ahead(I)I -/
def wp_X1_aheadN_16 (E : tc_E) (post : Int32 → tc_S → Prop) (K : Int32 → Int32 → tc_S → Prop) : Nat → Int32 → Int32 → tc_S → Prop
  | 0, _, _, _ => False
  | n16 + 1, x1, x2, s0 => ((x1 ≤ x2 → K x1 x2 s0) ∧ (¬ x1 ≤ x2 → wp_X1_tick E (fun _ s8 => (∀ v9, v9 = x2 + 1 → wp_X1_aheadN_16 E post K n16 x1 v9 s8))  s0))
set_option maxHeartbeats 4000000 in
theorem tw_X1_aheadN_16 {p : Program} {l : Launch} {e : Env} {s : State} {m : MethodId} {args : Array Value} {below : List Frame} {meth : Method} {c : Code} {E : tc_E} {post : Int32 → tc_S → Prop} {K : Int32 → Int32 → tc_S → Prop}  (C : tc_C p m c cX1_ahead 3 s args RX1 E) (hr : meth.sig.returnType = (some .int)) (hlk : meth.locks = false) (hK : ∀ (x1 : Int32) (x2 : Int32) (σ' : tc_S) (H : Heap) (locs : List Loc) (ls : Array Slot), K x1 x2 σ' → tc_ok E σ' H → va_S (fun q => eb E ≤ q) s.heap H locs → lv_has ls 3 [(0, .ref (ea E (0, 0))), (1, .int x1), (2, .int x2)] → W p l e ({ frames := 8, cells := 0, slots := 0, locals := 226 } : Room) s m args below meth c H locs 0 0 (MQ below (tc_Qg E (fun r : Int32 => some (.int r)) post) args s 0 0 (fun q => eb E ≤ q)) (F0 m 31 ls [])) :
    ∀ (n : Nat) (x1 : Int32) (x2 : Int32) (s0 : tc_S) (H : Heap) (locs : List Loc) (ls : Array Slot), wp_X1_aheadN_16 E post K n x1 x2 s0 → tc_ok E s0 H → va_S (fun q => eb E ≤ q) s.heap H locs → lv_has ls 3 [(0, .ref (ea E (0, 0))), (1, .int x1), (2, .int x2)] → W p l e ({ frames := 8, cells := 0, slots := 0, locals := 226 } : Room) s m args below meth c H locs 0 0 (MQ below (tc_Qg E (fun r : Int32 => some (.int r)) post) args s 0 0 (fun q => eb E ≤ q)) (F0 m 16 ls []) := by
  intro n
  induction n with
  | zero =>
    intro x1 x2 s0 H locs ls hk
    exact hk.elim
  | succ n ih =>
    intro x1 x2 s0 H locs ls hk hH hS hl
    rw [wp_X1_aheadN_16] at hk
    refine lv_iload_n C.hx C.hb dX1_ahead_16 rfl (lv_at hl 2 rfl) ?_
    refine lv_iload_n C.hx C.hb dX1_ahead_17 rfl (lv_at hl 1 rfl) ?_
    refine lv_icmp_ge (tgt := 31) C.hx C.hb dX1_ahead_18 (by decide) (fun c6 => ?_) (fun c6 => ?_)
    · have hk := hk.1 c6
      exact hK x1 x2 s0 _ _ _ hk hH hS (lv_sub hl [0, 1, 2] rfl)
    · have hk := hk.2 c6
      refine lv_aload_n C.hx C.hb dX1_ahead_21 rfl (lv_at hl 0 rfl) ?_
      refine tc_run (tc_rV (As := []) (rest := []) (L := (0, 0)) (ci := 0) (fs := tc_gfs E s0) (q := (RX1, TX1, 13)) C hH.g rfl rfl (t_X1_tick l  hk) (cwV 0 C.hts (lw_V q420 q422 qs3 q53 q423) rfl rfl rfl (by decide +kernel) ⟨Nat.le_of_ble_eq_true rfl, Nat.le_of_ble_eq_true rfl⟩) hH hS rfl hl.1 rfl (lv_room (Nat.le_of_ble_eq_true rfl)) dX1_ahead_22 ⟨Nat.le_of_ble_eq_true rfl, Nat.le_of_ble_eq_true rfl⟩) hS (fun _ s8 H locs hk hH hS => ?_)
      refine W.eq (g2 := F0 m 25 ls []) rfl ?_
      obtain ⟨v9, ev9⟩ : ∃ y : Int32, y = x2 + 1 := ⟨_, rfl⟩
      have hk := hk v9 ev9
      refine lv_iinc (v := v9) (lv' := [(2, .int v9), (0, .ref (ea E (0, 0))), (1, .int x1)]) C.hx C.hb dX1_ahead_25 hl (k := 2) rfl (by rw [ev9]; rfl) (by decide) rfl (fun ls hl => ?_)
      refine lv_goto (tgt := 16) C.hx C.hb dX1_ahead_28 (by decide) ?_
      exact ih x1 v9 s8 _ _ _ hk hH hS (lv_sub hl [1, 2, 0] rfl)
def wp_X1_aheadN (E : tc_E) (post : Int32 → tc_S → Prop) (p1 : Int32) (s0 : tc_S) : Prop := wp_X1_inRange (fun r1 => wp_X1_checkArgumentN E (fun _ s3 => wp_X1_keep E (fun _ s5 => (∃ n16, wp_X1_aheadN_16 E post (fun y10 y11 s12 => ((s12.2.1 0 0 0) < yn E ∧ (∀ v14, v14 = (s12.1 1 (s12.2.1 0 0 0) 0) → wp_X1_takeBack E (fun _ s16 => post v14 s16)  s12))) n16 p1 0 s5))  s3) r1 s0) p1 1 40
set_option maxHeartbeats 4000000 in
theorem t_X1_aheadN (l : Launch) {E : tc_E} {post : Int32 → tc_S → Prop} {p1 : Int32} {s0 : tc_S} (hk : wp_X1_aheadN E post p1 s0) : tc_M l yX1_ahead (ws_ yX1_ahead cX1_ahead 3 (some .int)) ({ frames := 8, cells := 0, slots := 0, locals := 226 } : Room) E [.ref (ea E (0, 0)), .int p1] s0 (fun r : Int32 => some (.int r)) post := by
  refine tc_start cX1_ahead 3 (some .int) RX1 (by decide) rfl rfl (Nat.le_of_ble_eq_true rfl) ?_
  intro p e s m args below meth c ls C hnm hr hlk hH hS hl
  have hl : lv_has ls 3 [(0, .ref (ea E (0, 0))), (1, .int p1)] := hl
  unfold wp_X1_aheadN at hk
  refine lv_iload_n C.hx C.hb dX1_ahead_0 rfl (lv_at hl 1 rfl) ?_
  refine lv_iconst (v := 1) C.hx C.hb dX1_ahead_1 (by decide) ?_
  refine lv_bipush (v := 40) C.hx C.hb dX1_ahead_2 (by decide) ?_
  refine gb_call (As := [.int p1, .int 1, .int 40]) (rest := []) C.1 (t_X1_inRange l hk) (va_cwS 3 C.hts (lw_S q542 q543 q53 q544) rfl rfl rfl (by decide +kernel) ⟨Nat.le_of_ble_eq_true rfl, Nat.le_of_ble_eq_true rfl⟩) rfl hl.1 rfl (lv_room (Nat.le_of_ble_eq_true rfl)) dX1_ahead_4 ⟨Nat.le_of_ble_eq_true rfl, Nat.le_of_ble_eq_true rfl⟩ (fun r1 hk => ?_)
  refine tc_run (tc_rS (As := [.int r1]) (rest := []) C (t_X1_checkArgumentN l  hk) (va_cwS 1 C.hts (lw_S q549 q550 q53 q551) rfl rfl rfl (by decide +kernel) ⟨Nat.le_of_ble_eq_true rfl, Nat.le_of_ble_eq_true rfl⟩) hH hS rfl hl.1 rfl (lv_room (Nat.le_of_ble_eq_true rfl)) dX1_ahead_7 ⟨Nat.le_of_ble_eq_true rfl, Nat.le_of_ble_eq_true rfl⟩) hS (fun _ s3 H locs hk hH hS => ?_)
  refine W.eq (g2 := F0 m 10 ls []) rfl ?_
  refine lv_aload_n C.hx C.hb dX1_ahead_10 rfl (lv_at hl 0 rfl) ?_
  refine tc_run (tc_rV (As := []) (rest := []) (L := (0, 0)) (ci := 0) (fs := tc_gfs E s3) (q := (RX1, TX1, 13)) C hH.g rfl rfl (t_X1_keep l  hk) (cwV 0 C.hts (lw_V q620 q622 qs10 q53 q623) rfl rfl rfl (by decide +kernel) ⟨Nat.le_of_ble_eq_true rfl, Nat.le_of_ble_eq_true rfl⟩) hH hS rfl hl.1 rfl (lv_room (Nat.le_of_ble_eq_true rfl)) dX1_ahead_11 ⟨Nat.le_of_ble_eq_true rfl, Nat.le_of_ble_eq_true rfl⟩) hS (fun _ s5 H locs hk hH hS => ?_)
  refine W.eq (g2 := F0 m 14 ls []) rfl ?_
  refine lv_iconst (v := 0) C.hx C.hb dX1_ahead_14 (by decide) ?_
  refine lv_istore_n (lv' := [(2, .int 0), (0, .ref (ea E (0, 0))), (1, .int p1)]) C.hx C.hb dX1_ahead_15 rfl hl (by decide) rfl (fun ls hl => ?_)
  obtain ⟨n16, hk⟩ := hk
  refine tw_X1_aheadN_16 C hr hlk (fun y10 y11 s12 H locs ls hk hH hS hl => ?_) n16 p1 0 s5 _ _ _ hk hH hS (lv_sub hl [1, 2, 0] rfl)
  refine lv_aload_n C.hx C.hb dX1_ahead_31 rfl (lv_at hl 0 rfl) ?_
  obtain ⟨h13, hk⟩ := hk
  refine tc_get C hH hH.g (Cn := RX1) (T := TX1) (N := 13) (ci := 0) (fs := tc_gfs E s12) in_X1 rfl rfl 3 (by decide) (C.L q319) (fun _ h => h) (v := .ref (ea E (1, (s12.2.1 0 0 0)))) rfl dX1_ahead_32 ?_
  refine tc_getn C hH h13 4 (by decide) rfl (C.N 17 rfl) (v := .int (s12.1 1 (s12.2.1 0 0 0) 0)) rfl dX1_ahead_35 ?_
  refine lv_topi (fun v14 ev14 => ?_)
  have hk := hk v14 ev14
  refine lv_istore_n (lv' := [(2, .int v14), (0, .ref (ea E (0, 0))), (1, .int y10)]) C.hx C.hb dX1_ahead_38 rfl hl (by decide) rfl (fun ls hl => ?_)
  refine lv_aload_n C.hx C.hb dX1_ahead_39 rfl (lv_at hl 1 rfl) ?_
  refine tc_run (tc_rV (As := []) (rest := []) (L := (0, 0)) (ci := 0) (fs := tc_gfs E s12) (q := (RX1, TX1, 13)) C hH.g rfl rfl (t_X1_takeBack l  hk) (cwV 0 C.hts (lw_V q641 q643 qs11 q53 q644) rfl rfl rfl (by decide +kernel) ⟨Nat.le_of_ble_eq_true rfl, Nat.le_of_ble_eq_true rfl⟩) hH hS rfl hl.1 rfl (lv_room (Nat.le_of_ble_eq_true rfl)) dX1_ahead_40 ⟨Nat.le_of_ble_eq_true rfl, Nat.le_of_ble_eq_true rfl⟩) hS (fun _ s16 H locs hk hH hS => ?_)
  refine W.eq (g2 := F0 m 43 ls []) rfl ?_
  refine lv_iload_n C.hx C.hb dX1_ahead_43 rfl (lv_at hl 0 rfl) ?_
  exact tc_iret v14 rfl C hr hlk hH hS hk dX1_ahead_44
/-! ToneGraph.aheadByBlocks(II)I -/
def wp_X1_aheadByBlocksN_44 (E : tc_E) (post : Int32 → tc_S → Prop) (K : Int32 → Int32 → Int32 → Int32 → tc_S → Prop) : Nat → Int32 → Int32 → Int32 → Int32 → tc_S → Prop
  | 0, _, _, _, _, _ => False
  | n44 + 1, x1, x2, x3, x4, s0 => ((x4 ≤ 0 → K x1 x2 x3 x4 s0) ∧ (¬ x4 ≤ 0 → (∀ r11, r11 = (if x3 < x4 then x3 else x4) → wp_X1_fill E (fun _ s13 => (∀ r14, r14 = (if x3 < x4 then x3 else x4) → (∀ v15, v15 = (x4 - r14) → wp_X1_aheadByBlocksN_44 E post K n44 x1 x2 x3 v15 s13))) r11 s0)))
set_option maxHeartbeats 4000000 in
theorem tw_X1_aheadByBlocksN_44 {p : Program} {l : Launch} {e : Env} {s : State} {m : MethodId} {args : Array Value} {below : List Frame} {meth : Method} {c : Code} {E : tc_E} {post : Int32 → tc_S → Prop} {K : Int32 → Int32 → Int32 → Int32 → tc_S → Prop}  (C : tc_C p m c cX1_aheadByBlocks 6 s args RX1 E) (hr : meth.sig.returnType = (some .int)) (hlk : meth.locks = false) (hK : ∀ (x1 : Int32) (x2 : Int32) (x3 : Int32) (x4 : Int32) (σ' : tc_S) (H : Heap) (locs : List Loc) (ls : Array Slot), K x1 x2 x3 x4 σ' → tc_ok E σ' H → va_S (fun q => eb E ≤ q) s.heap H locs → lv_has ls 6 [(0, .ref (ea E (0, 0))), (1, .int x1), (2, .int x2), (3, .int x3), (4, .int x4)] → W p l e ({ frames := 8, cells := 0, slots := 0, locals := 229 } : Room) s m args below meth c H locs 0 0 (MQ below (tc_Qg E (fun r : Int32 => some (.int r)) post) args s 0 0 (fun q => eb E ≤ q)) (F0 m 73 ls [])) :
    ∀ (n : Nat) (x1 : Int32) (x2 : Int32) (x3 : Int32) (x4 : Int32) (s0 : tc_S) (H : Heap) (locs : List Loc) (ls : Array Slot), wp_X1_aheadByBlocksN_44 E post K n x1 x2 x3 x4 s0 → tc_ok E s0 H → va_S (fun q => eb E ≤ q) s.heap H locs → lv_has ls 6 [(0, .ref (ea E (0, 0))), (1, .int x1), (2, .int x2), (3, .int x3), (4, .int x4)] → W p l e ({ frames := 8, cells := 0, slots := 0, locals := 229 } : Room) s m args below meth c H locs 0 0 (MQ below (tc_Qg E (fun r : Int32 => some (.int r)) post) args s 0 0 (fun q => eb E ≤ q)) (F0 m 44 ls []) := by
  intro n
  induction n with
  | zero =>
    intro x1 x2 x3 x4 s0 H locs ls hk
    exact hk.elim
  | succ n ih =>
    intro x1 x2 x3 x4 s0 H locs ls hk hH hS hl
    rw [wp_X1_aheadByBlocksN_44] at hk
    refine lv_iload C.hx C.hb dX1_aheadByBlocks_44 (lv_at hl 4 rfl) ?_
    refine lv_if_le (tgt := 73) C.hx C.hb dX1_aheadByBlocks_46 (by decide) (fun c10 => ?_) (fun c10 => ?_)
    · have hk := hk.1 c10
      exact hK x1 x2 x3 x4 s0 _ _ _ hk hH hS (lv_sub hl [0, 1, 2, 3, 4] rfl)
    · have hk := hk.2 c10
      refine lv_aload_n C.hx C.hb dX1_aheadByBlocks_49 rfl (lv_at hl 0 rfl) ?_
      refine lv_iload C.hx C.hb dX1_aheadByBlocks_50 (lv_at hl 4 rfl) ?_
      refine lv_iload_n C.hx C.hb dX1_aheadByBlocks_52 rfl (lv_at hl 3 rfl) ?_
      refine va_mmin C.hx C.hb (C.hml.trans hl.1.symm) C.hown (C.hts _ q395) (C.hts _ q309) (C.hts _ q62) (C.hts _ q310) (Nat.le_of_ble_eq_true rfl) (Nat.le_of_ble_eq_true rfl) (Nat.le_of_ble_eq_true rfl) (Nat.le_of_ble_eq_true rfl) dX1_aheadByBlocks_53 ?_
      refine lv_topi (fun r11 er11 => ?_)
      have hk := hk r11 er11
      refine tc_run (tc_rV (As := [.int r11]) (rest := []) (L := (0, 0)) (ci := 0) (fs := tc_gfs E s0) (q := (RX1, TX1, 13)) C hH.g rfl rfl (t_X1_fill l  hk) (cwV 1 C.hts (lw_V q666 q668 qs12 q53 q669) rfl rfl rfl (by decide +kernel) ⟨Nat.le_of_ble_eq_true rfl, Nat.le_of_ble_eq_true rfl⟩) hH hS rfl hl.1 rfl (lv_room (Nat.le_of_ble_eq_true rfl)) dX1_aheadByBlocks_56 ⟨Nat.le_of_ble_eq_true rfl, Nat.le_of_ble_eq_true rfl⟩) hS (fun _ s13 H locs hk hH hS => ?_)
      refine W.eq (g2 := F0 m 59 ls []) rfl ?_
      refine lv_iload C.hx C.hb dX1_aheadByBlocks_59 (lv_at hl 4 rfl) ?_
      refine lv_iload C.hx C.hb dX1_aheadByBlocks_61 (lv_at hl 4 rfl) ?_
      refine lv_iload_n C.hx C.hb dX1_aheadByBlocks_63 rfl (lv_at hl 3 rfl) ?_
      refine va_mmin C.hx C.hb (C.hml.trans hl.1.symm) C.hown (C.hts _ q395) (C.hts _ q309) (C.hts _ q62) (C.hts _ q310) (Nat.le_of_ble_eq_true rfl) (Nat.le_of_ble_eq_true rfl) (Nat.le_of_ble_eq_true rfl) (Nat.le_of_ble_eq_true rfl) dX1_aheadByBlocks_64 ?_
      refine lv_topi (fun r14 er14 => ?_)
      have hk := hk r14 er14
      refine lv_isub C.hx C.hb dX1_aheadByBlocks_67 ?_
      refine lv_topi (fun v15 ev15 => ?_)
      have hk := hk v15 ev15
      refine lv_istore (lv' := [(4, .int v15), (0, .ref (ea E (0, 0))), (1, .int x1), (2, .int x2), (3, .int x3)]) C.hx C.hb dX1_aheadByBlocks_68 hl (by decide) rfl (fun ls hl => ?_)
      refine lv_goto (tgt := 44) C.hx C.hb dX1_aheadByBlocks_70 (by decide) ?_
      exact ih x1 x2 x3 v15 s13 _ _ _ hk hH hS (lv_sub hl [1, 2, 3, 4, 0] rfl)
def wp_X1_aheadByBlocksN (E : tc_E) (post : Int32 → tc_S → Prop) (p1 : Int32) (p2 : Int32) (s0 : tc_S) : Prop := wp_X1_inRange (fun r1 => ((r1 = 0 → wp_X1_checkArgumentN E (fun _ s4 => wp_X1_keep E (fun _ s6 => wp_X1_longestBlock E (fun r7 s8 => (∀ r9, r9 = (if r7 < p2 then r7 else p2) → (∃ n44, wp_X1_aheadByBlocksN_44 E post (fun y16 y17 y18 y19 s20 => ((s20.2.1 0 0 0) < yn E ∧ (∀ v22, v22 = (s20.1 1 (s20.2.1 0 0 0) 0) → wp_X1_takeBack E (fun _ s24 => post v22 s24)  s20))) n44 p1 p2 r9 p1 s8)))  s6)  s4) 0 s0) ∧ (¬ r1 = 0 → wp_X1_inRange (fun r25 => ((r25 = 0 → wp_X1_checkArgumentN E (fun _ s28 => wp_X1_keep E (fun _ s30 => wp_X1_longestBlock E (fun r31 s32 => (∀ r33, r33 = (if r31 < p2 then r31 else p2) → (∃ n44, wp_X1_aheadByBlocksN_44 E post (fun y34 y35 y36 y37 s38 => ((s38.2.1 0 0 0) < yn E ∧ (∀ v40, v40 = (s38.1 1 (s38.2.1 0 0 0) 0) → wp_X1_takeBack E (fun _ s42 => post v40 s42)  s38))) n44 p1 p2 r33 p1 s32)))  s30)  s28) 0 s0) ∧ (¬ r25 = 0 → wp_X1_checkArgumentN E (fun _ s44 => wp_X1_keep E (fun _ s46 => wp_X1_longestBlock E (fun r47 s48 => (∀ r49, r49 = (if r47 < p2 then r47 else p2) → (∃ n44, wp_X1_aheadByBlocksN_44 E post (fun y50 y51 y52 y53 s54 => ((s54.2.1 0 0 0) < yn E ∧ (∀ v56, v56 = (s54.1 1 (s54.2.1 0 0 0) 0) → wp_X1_takeBack E (fun _ s58 => post v56 s58)  s54))) n44 p1 p2 r49 p1 s48)))  s46)  s44) 1 s0))) p2 1 64))) p1 1 40
set_option maxHeartbeats 4000000 in
theorem t_X1_aheadByBlocksN (l : Launch) {E : tc_E} {post : Int32 → tc_S → Prop} {p1 : Int32} {p2 : Int32} {s0 : tc_S} (hk : wp_X1_aheadByBlocksN E post p1 p2 s0) : tc_M l yX1_aheadByBlocks (ws_ yX1_aheadByBlocks cX1_aheadByBlocks 6 (some .int)) ({ frames := 8, cells := 0, slots := 0, locals := 229 } : Room) E [.ref (ea E (0, 0)), .int p1, .int p2] s0 (fun r : Int32 => some (.int r)) post := by
  refine tc_start cX1_aheadByBlocks 6 (some .int) RX1 (by decide) rfl rfl (Nat.le_of_ble_eq_true rfl) ?_
  intro p e s m args below meth c ls C hnm hr hlk hH hS hl
  have hl : lv_has ls 6 [(0, .ref (ea E (0, 0))), (1, .int p1), (2, .int p2)] := hl
  unfold wp_X1_aheadByBlocksN at hk
  refine lv_iload_n C.hx C.hb dX1_aheadByBlocks_0 rfl (lv_at hl 1 rfl) ?_
  refine lv_iconst (v := 1) C.hx C.hb dX1_aheadByBlocks_1 (by decide) ?_
  refine lv_bipush (v := 40) C.hx C.hb dX1_aheadByBlocks_2 (by decide) ?_
  refine gb_call (As := [.int p1, .int 1, .int 40]) (rest := []) C.1 (t_X1_inRange l hk) (va_cwS 3 C.hts (lw_S q542 q543 q53 q544) rfl rfl rfl (by decide +kernel) ⟨Nat.le_of_ble_eq_true rfl, Nat.le_of_ble_eq_true rfl⟩) rfl hl.1 rfl (lv_room (Nat.le_of_ble_eq_true rfl)) dX1_aheadByBlocks_4 ⟨Nat.le_of_ble_eq_true rfl, Nat.le_of_ble_eq_true rfl⟩ (fun r1 hk => ?_)
  refine lv_if_eq (tgt := 24) C.hx C.hb dX1_aheadByBlocks_7 (by decide) (fun c2 => ?_) (fun c2 => ?_)
  · have hk := hk.1 c2
    refine lv_iconst (v := 0) C.hx C.hb dX1_aheadByBlocks_24 (by decide) ?_
    refine tc_run (tc_rS (As := [.int 0]) (rest := []) C (t_X1_checkArgumentN l  hk) (va_cwS 1 C.hts (lw_S q549 q550 q53 q551) rfl rfl rfl (by decide +kernel) ⟨Nat.le_of_ble_eq_true rfl, Nat.le_of_ble_eq_true rfl⟩) hH hS rfl hl.1 rfl (lv_room (Nat.le_of_ble_eq_true rfl)) dX1_aheadByBlocks_25 ⟨Nat.le_of_ble_eq_true rfl, Nat.le_of_ble_eq_true rfl⟩) hS (fun _ s4 H locs hk hH hS => ?_)
    refine W.eq (g2 := F0 m 28 ls []) rfl ?_
    refine lv_aload_n C.hx C.hb dX1_aheadByBlocks_28 rfl (lv_at hl 0 rfl) ?_
    refine tc_run (tc_rV (As := []) (rest := []) (L := (0, 0)) (ci := 0) (fs := tc_gfs E s4) (q := (RX1, TX1, 13)) C hH.g rfl rfl (t_X1_keep l  hk) (cwV 0 C.hts (lw_V q620 q622 qs10 q53 q623) rfl rfl rfl (by decide +kernel) ⟨Nat.le_of_ble_eq_true rfl, Nat.le_of_ble_eq_true rfl⟩) hH hS rfl hl.1 rfl (lv_room (Nat.le_of_ble_eq_true rfl)) dX1_aheadByBlocks_29 ⟨Nat.le_of_ble_eq_true rfl, Nat.le_of_ble_eq_true rfl⟩) hS (fun _ s6 H locs hk hH hS => ?_)
    refine W.eq (g2 := F0 m 32 ls []) rfl ?_
    refine lv_iload_n C.hx C.hb dX1_aheadByBlocks_32 rfl (lv_at hl 2 rfl) ?_
    refine lv_aload_n C.hx C.hb dX1_aheadByBlocks_33 rfl (lv_at hl 0 rfl) ?_
    refine tc_run (tc_rV (As := []) (rest := [.int p2]) (L := (0, 0)) (ci := 0) (fs := tc_gfs E s6) (q := (RX1, TX1, 13)) C hH.g rfl rfl (t_X1_longestBlock l  hk) (cwV 0 C.hts (lw_V q665 q365 q366 q53 q367) rfl rfl rfl (by decide +kernel) ⟨Nat.le_of_ble_eq_true rfl, Nat.le_of_ble_eq_true rfl⟩) hH hS rfl hl.1 rfl (lv_room (Nat.le_of_ble_eq_true rfl)) dX1_aheadByBlocks_34 ⟨Nat.le_of_ble_eq_true rfl, Nat.le_of_ble_eq_true rfl⟩) hS (fun r7 s8 H locs hk hH hS => ?_)
    refine W.eq (g2 := F0 m 37 ls [.int r7, .int p2]) rfl ?_
    refine va_mmin C.hx C.hb (C.hml.trans hl.1.symm) C.hown (C.hts _ q395) (C.hts _ q309) (C.hts _ q62) (C.hts _ q310) (Nat.le_of_ble_eq_true rfl) (Nat.le_of_ble_eq_true rfl) (Nat.le_of_ble_eq_true rfl) (Nat.le_of_ble_eq_true rfl) dX1_aheadByBlocks_37 ?_
    refine lv_topi (fun r9 er9 => ?_)
    have hk := hk r9 er9
    refine lv_istore_n (lv' := [(3, .int r9), (0, .ref (ea E (0, 0))), (1, .int p1), (2, .int p2)]) C.hx C.hb dX1_aheadByBlocks_40 rfl hl (by decide) rfl (fun ls hl => ?_)
    refine lv_iload_n C.hx C.hb dX1_aheadByBlocks_41 rfl (lv_at hl 2 rfl) ?_
    refine lv_istore (lv' := [(4, .int p1), (3, .int r9), (0, .ref (ea E (0, 0))), (1, .int p1), (2, .int p2)]) C.hx C.hb dX1_aheadByBlocks_42 hl (by decide) rfl (fun ls hl => ?_)
    obtain ⟨n44, hk⟩ := hk
    refine tw_X1_aheadByBlocksN_44 C hr hlk (fun y16 y17 y18 y19 s20 H locs ls hk hH hS hl => ?_) n44 p1 p2 r9 p1 s8 _ _ _ hk hH hS (lv_sub hl [2, 3, 4, 1, 0] rfl)
    refine lv_aload_n C.hx C.hb dX1_aheadByBlocks_73 rfl (lv_at hl 0 rfl) ?_
    obtain ⟨h21, hk⟩ := hk
    refine tc_get C hH hH.g (Cn := RX1) (T := TX1) (N := 13) (ci := 0) (fs := tc_gfs E s20) in_X1 rfl rfl 3 (by decide) (C.L q319) (fun _ h => h) (v := .ref (ea E (1, (s20.2.1 0 0 0)))) rfl dX1_aheadByBlocks_74 ?_
    refine tc_getn C hH h21 4 (by decide) rfl (C.N 17 rfl) (v := .int (s20.1 1 (s20.2.1 0 0 0) 0)) rfl dX1_aheadByBlocks_77 ?_
    refine lv_topi (fun v22 ev22 => ?_)
    have hk := hk v22 ev22
    refine lv_istore (lv' := [(5, .int v22), (0, .ref (ea E (0, 0))), (1, .int y16), (2, .int y17), (3, .int y18), (4, .int y19)]) C.hx C.hb dX1_aheadByBlocks_80 hl (by decide) rfl (fun ls hl => ?_)
    refine lv_aload_n C.hx C.hb dX1_aheadByBlocks_82 rfl (lv_at hl 1 rfl) ?_
    refine tc_run (tc_rV (As := []) (rest := []) (L := (0, 0)) (ci := 0) (fs := tc_gfs E s20) (q := (RX1, TX1, 13)) C hH.g rfl rfl (t_X1_takeBack l  hk) (cwV 0 C.hts (lw_V q641 q643 qs11 q53 q644) rfl rfl rfl (by decide +kernel) ⟨Nat.le_of_ble_eq_true rfl, Nat.le_of_ble_eq_true rfl⟩) hH hS rfl hl.1 rfl (lv_room (Nat.le_of_ble_eq_true rfl)) dX1_aheadByBlocks_83 ⟨Nat.le_of_ble_eq_true rfl, Nat.le_of_ble_eq_true rfl⟩) hS (fun _ s24 H locs hk hH hS => ?_)
    refine W.eq (g2 := F0 m 86 ls []) rfl ?_
    refine lv_iload C.hx C.hb dX1_aheadByBlocks_86 (lv_at hl 0 rfl) ?_
    exact tc_iret v22 rfl C hr hlk hH hS hk dX1_aheadByBlocks_88
  · have hk := hk.2 c2
    refine lv_iload_n C.hx C.hb dX1_aheadByBlocks_10 rfl (lv_at hl 2 rfl) ?_
    refine lv_iconst (v := 1) C.hx C.hb dX1_aheadByBlocks_11 (by decide) ?_
    refine lv_bipush (v := 64) C.hx C.hb dX1_aheadByBlocks_12 (by decide) ?_
    refine gb_call (As := [.int p2, .int 1, .int 64]) (rest := []) C.1 (t_X1_inRange l hk) (va_cwS 3 C.hts (lw_S q542 q543 q53 q544) rfl rfl rfl (by decide +kernel) ⟨Nat.le_of_ble_eq_true rfl, Nat.le_of_ble_eq_true rfl⟩) rfl hl.1 rfl (lv_room (Nat.le_of_ble_eq_true rfl)) dX1_aheadByBlocks_14 ⟨Nat.le_of_ble_eq_true rfl, Nat.le_of_ble_eq_true rfl⟩ (fun r25 hk => ?_)
    refine lv_if_eq (tgt := 24) C.hx C.hb dX1_aheadByBlocks_17 (by decide) (fun c26 => ?_) (fun c26 => ?_)
    · have hk := hk.1 c26
      refine lv_iconst (v := 0) C.hx C.hb dX1_aheadByBlocks_24 (by decide) ?_
      refine tc_run (tc_rS (As := [.int 0]) (rest := []) C (t_X1_checkArgumentN l  hk) (va_cwS 1 C.hts (lw_S q549 q550 q53 q551) rfl rfl rfl (by decide +kernel) ⟨Nat.le_of_ble_eq_true rfl, Nat.le_of_ble_eq_true rfl⟩) hH hS rfl hl.1 rfl (lv_room (Nat.le_of_ble_eq_true rfl)) dX1_aheadByBlocks_25 ⟨Nat.le_of_ble_eq_true rfl, Nat.le_of_ble_eq_true rfl⟩) hS (fun _ s28 H locs hk hH hS => ?_)
      refine W.eq (g2 := F0 m 28 ls []) rfl ?_
      refine lv_aload_n C.hx C.hb dX1_aheadByBlocks_28 rfl (lv_at hl 0 rfl) ?_
      refine tc_run (tc_rV (As := []) (rest := []) (L := (0, 0)) (ci := 0) (fs := tc_gfs E s28) (q := (RX1, TX1, 13)) C hH.g rfl rfl (t_X1_keep l  hk) (cwV 0 C.hts (lw_V q620 q622 qs10 q53 q623) rfl rfl rfl (by decide +kernel) ⟨Nat.le_of_ble_eq_true rfl, Nat.le_of_ble_eq_true rfl⟩) hH hS rfl hl.1 rfl (lv_room (Nat.le_of_ble_eq_true rfl)) dX1_aheadByBlocks_29 ⟨Nat.le_of_ble_eq_true rfl, Nat.le_of_ble_eq_true rfl⟩) hS (fun _ s30 H locs hk hH hS => ?_)
      refine W.eq (g2 := F0 m 32 ls []) rfl ?_
      refine lv_iload_n C.hx C.hb dX1_aheadByBlocks_32 rfl (lv_at hl 2 rfl) ?_
      refine lv_aload_n C.hx C.hb dX1_aheadByBlocks_33 rfl (lv_at hl 0 rfl) ?_
      refine tc_run (tc_rV (As := []) (rest := [.int p2]) (L := (0, 0)) (ci := 0) (fs := tc_gfs E s30) (q := (RX1, TX1, 13)) C hH.g rfl rfl (t_X1_longestBlock l  hk) (cwV 0 C.hts (lw_V q665 q365 q366 q53 q367) rfl rfl rfl (by decide +kernel) ⟨Nat.le_of_ble_eq_true rfl, Nat.le_of_ble_eq_true rfl⟩) hH hS rfl hl.1 rfl (lv_room (Nat.le_of_ble_eq_true rfl)) dX1_aheadByBlocks_34 ⟨Nat.le_of_ble_eq_true rfl, Nat.le_of_ble_eq_true rfl⟩) hS (fun r31 s32 H locs hk hH hS => ?_)
      refine W.eq (g2 := F0 m 37 ls [.int r31, .int p2]) rfl ?_
      refine va_mmin C.hx C.hb (C.hml.trans hl.1.symm) C.hown (C.hts _ q395) (C.hts _ q309) (C.hts _ q62) (C.hts _ q310) (Nat.le_of_ble_eq_true rfl) (Nat.le_of_ble_eq_true rfl) (Nat.le_of_ble_eq_true rfl) (Nat.le_of_ble_eq_true rfl) dX1_aheadByBlocks_37 ?_
      refine lv_topi (fun r33 er33 => ?_)
      have hk := hk r33 er33
      refine lv_istore_n (lv' := [(3, .int r33), (0, .ref (ea E (0, 0))), (1, .int p1), (2, .int p2)]) C.hx C.hb dX1_aheadByBlocks_40 rfl hl (by decide) rfl (fun ls hl => ?_)
      refine lv_iload_n C.hx C.hb dX1_aheadByBlocks_41 rfl (lv_at hl 2 rfl) ?_
      refine lv_istore (lv' := [(4, .int p1), (3, .int r33), (0, .ref (ea E (0, 0))), (1, .int p1), (2, .int p2)]) C.hx C.hb dX1_aheadByBlocks_42 hl (by decide) rfl (fun ls hl => ?_)
      obtain ⟨n44, hk⟩ := hk
      refine tw_X1_aheadByBlocksN_44 C hr hlk (fun y34 y35 y36 y37 s38 H locs ls hk hH hS hl => ?_) n44 p1 p2 r33 p1 s32 _ _ _ hk hH hS (lv_sub hl [2, 3, 4, 1, 0] rfl)
      refine lv_aload_n C.hx C.hb dX1_aheadByBlocks_73 rfl (lv_at hl 0 rfl) ?_
      obtain ⟨h39, hk⟩ := hk
      refine tc_get C hH hH.g (Cn := RX1) (T := TX1) (N := 13) (ci := 0) (fs := tc_gfs E s38) in_X1 rfl rfl 3 (by decide) (C.L q319) (fun _ h => h) (v := .ref (ea E (1, (s38.2.1 0 0 0)))) rfl dX1_aheadByBlocks_74 ?_
      refine tc_getn C hH h39 4 (by decide) rfl (C.N 17 rfl) (v := .int (s38.1 1 (s38.2.1 0 0 0) 0)) rfl dX1_aheadByBlocks_77 ?_
      refine lv_topi (fun v40 ev40 => ?_)
      have hk := hk v40 ev40
      refine lv_istore (lv' := [(5, .int v40), (0, .ref (ea E (0, 0))), (1, .int y34), (2, .int y35), (3, .int y36), (4, .int y37)]) C.hx C.hb dX1_aheadByBlocks_80 hl (by decide) rfl (fun ls hl => ?_)
      refine lv_aload_n C.hx C.hb dX1_aheadByBlocks_82 rfl (lv_at hl 1 rfl) ?_
      refine tc_run (tc_rV (As := []) (rest := []) (L := (0, 0)) (ci := 0) (fs := tc_gfs E s38) (q := (RX1, TX1, 13)) C hH.g rfl rfl (t_X1_takeBack l  hk) (cwV 0 C.hts (lw_V q641 q643 qs11 q53 q644) rfl rfl rfl (by decide +kernel) ⟨Nat.le_of_ble_eq_true rfl, Nat.le_of_ble_eq_true rfl⟩) hH hS rfl hl.1 rfl (lv_room (Nat.le_of_ble_eq_true rfl)) dX1_aheadByBlocks_83 ⟨Nat.le_of_ble_eq_true rfl, Nat.le_of_ble_eq_true rfl⟩) hS (fun _ s42 H locs hk hH hS => ?_)
      refine W.eq (g2 := F0 m 86 ls []) rfl ?_
      refine lv_iload C.hx C.hb dX1_aheadByBlocks_86 (lv_at hl 0 rfl) ?_
      exact tc_iret v40 rfl C hr hlk hH hS hk dX1_aheadByBlocks_88
    · have hk := hk.2 c26
      refine lv_iconst (v := 1) C.hx C.hb dX1_aheadByBlocks_20 (by decide) ?_
      refine lv_goto (tgt := 25) C.hx C.hb dX1_aheadByBlocks_21 (by decide) ?_
      refine tc_run (tc_rS (As := [.int 1]) (rest := []) C (t_X1_checkArgumentN l  hk) (va_cwS 1 C.hts (lw_S q549 q550 q53 q551) rfl rfl rfl (by decide +kernel) ⟨Nat.le_of_ble_eq_true rfl, Nat.le_of_ble_eq_true rfl⟩) hH hS rfl hl.1 rfl (lv_room (Nat.le_of_ble_eq_true rfl)) dX1_aheadByBlocks_25 ⟨Nat.le_of_ble_eq_true rfl, Nat.le_of_ble_eq_true rfl⟩) hS (fun _ s44 H locs hk hH hS => ?_)
      refine W.eq (g2 := F0 m 28 ls []) rfl ?_
      refine lv_aload_n C.hx C.hb dX1_aheadByBlocks_28 rfl (lv_at hl 0 rfl) ?_
      refine tc_run (tc_rV (As := []) (rest := []) (L := (0, 0)) (ci := 0) (fs := tc_gfs E s44) (q := (RX1, TX1, 13)) C hH.g rfl rfl (t_X1_keep l  hk) (cwV 0 C.hts (lw_V q620 q622 qs10 q53 q623) rfl rfl rfl (by decide +kernel) ⟨Nat.le_of_ble_eq_true rfl, Nat.le_of_ble_eq_true rfl⟩) hH hS rfl hl.1 rfl (lv_room (Nat.le_of_ble_eq_true rfl)) dX1_aheadByBlocks_29 ⟨Nat.le_of_ble_eq_true rfl, Nat.le_of_ble_eq_true rfl⟩) hS (fun _ s46 H locs hk hH hS => ?_)
      refine W.eq (g2 := F0 m 32 ls []) rfl ?_
      refine lv_iload_n C.hx C.hb dX1_aheadByBlocks_32 rfl (lv_at hl 2 rfl) ?_
      refine lv_aload_n C.hx C.hb dX1_aheadByBlocks_33 rfl (lv_at hl 0 rfl) ?_
      refine tc_run (tc_rV (As := []) (rest := [.int p2]) (L := (0, 0)) (ci := 0) (fs := tc_gfs E s46) (q := (RX1, TX1, 13)) C hH.g rfl rfl (t_X1_longestBlock l  hk) (cwV 0 C.hts (lw_V q665 q365 q366 q53 q367) rfl rfl rfl (by decide +kernel) ⟨Nat.le_of_ble_eq_true rfl, Nat.le_of_ble_eq_true rfl⟩) hH hS rfl hl.1 rfl (lv_room (Nat.le_of_ble_eq_true rfl)) dX1_aheadByBlocks_34 ⟨Nat.le_of_ble_eq_true rfl, Nat.le_of_ble_eq_true rfl⟩) hS (fun r47 s48 H locs hk hH hS => ?_)
      refine W.eq (g2 := F0 m 37 ls [.int r47, .int p2]) rfl ?_
      refine va_mmin C.hx C.hb (C.hml.trans hl.1.symm) C.hown (C.hts _ q395) (C.hts _ q309) (C.hts _ q62) (C.hts _ q310) (Nat.le_of_ble_eq_true rfl) (Nat.le_of_ble_eq_true rfl) (Nat.le_of_ble_eq_true rfl) (Nat.le_of_ble_eq_true rfl) dX1_aheadByBlocks_37 ?_
      refine lv_topi (fun r49 er49 => ?_)
      have hk := hk r49 er49
      refine lv_istore_n (lv' := [(3, .int r49), (0, .ref (ea E (0, 0))), (1, .int p1), (2, .int p2)]) C.hx C.hb dX1_aheadByBlocks_40 rfl hl (by decide) rfl (fun ls hl => ?_)
      refine lv_iload_n C.hx C.hb dX1_aheadByBlocks_41 rfl (lv_at hl 2 rfl) ?_
      refine lv_istore (lv' := [(4, .int p1), (3, .int r49), (0, .ref (ea E (0, 0))), (1, .int p1), (2, .int p2)]) C.hx C.hb dX1_aheadByBlocks_42 hl (by decide) rfl (fun ls hl => ?_)
      obtain ⟨n44, hk⟩ := hk
      refine tw_X1_aheadByBlocksN_44 C hr hlk (fun y50 y51 y52 y53 s54 H locs ls hk hH hS hl => ?_) n44 p1 p2 r49 p1 s48 _ _ _ hk hH hS (lv_sub hl [2, 3, 4, 1, 0] rfl)
      refine lv_aload_n C.hx C.hb dX1_aheadByBlocks_73 rfl (lv_at hl 0 rfl) ?_
      obtain ⟨h55, hk⟩ := hk
      refine tc_get C hH hH.g (Cn := RX1) (T := TX1) (N := 13) (ci := 0) (fs := tc_gfs E s54) in_X1 rfl rfl 3 (by decide) (C.L q319) (fun _ h => h) (v := .ref (ea E (1, (s54.2.1 0 0 0)))) rfl dX1_aheadByBlocks_74 ?_
      refine tc_getn C hH h55 4 (by decide) rfl (C.N 17 rfl) (v := .int (s54.1 1 (s54.2.1 0 0 0) 0)) rfl dX1_aheadByBlocks_77 ?_
      refine lv_topi (fun v56 ev56 => ?_)
      have hk := hk v56 ev56
      refine lv_istore (lv' := [(5, .int v56), (0, .ref (ea E (0, 0))), (1, .int y50), (2, .int y51), (3, .int y52), (4, .int y53)]) C.hx C.hb dX1_aheadByBlocks_80 hl (by decide) rfl (fun ls hl => ?_)
      refine lv_aload_n C.hx C.hb dX1_aheadByBlocks_82 rfl (lv_at hl 1 rfl) ?_
      refine tc_run (tc_rV (As := []) (rest := []) (L := (0, 0)) (ci := 0) (fs := tc_gfs E s54) (q := (RX1, TX1, 13)) C hH.g rfl rfl (t_X1_takeBack l  hk) (cwV 0 C.hts (lw_V q641 q643 qs11 q53 q644) rfl rfl rfl (by decide +kernel) ⟨Nat.le_of_ble_eq_true rfl, Nat.le_of_ble_eq_true rfl⟩) hH hS rfl hl.1 rfl (lv_room (Nat.le_of_ble_eq_true rfl)) dX1_aheadByBlocks_83 ⟨Nat.le_of_ble_eq_true rfl, Nat.le_of_ble_eq_true rfl⟩) hS (fun _ s58 H locs hk hH hS => ?_)
      refine W.eq (g2 := F0 m 86 ls []) rfl ?_
      refine lv_iload C.hx C.hb dX1_aheadByBlocks_86 (lv_at hl 0 rfl) ?_
      exact tc_iret v56 rfl C hr hlk hH hS hk dX1_aheadByBlocks_88
/-! ToneGraph.isConsistent()Z -/
def wp_X1_isConsistent_4 (E : tc_E) (post : Int32 → tc_S → Prop) (K : Int32 → Int32 → tc_S → Prop) : Nat → Int32 → Int32 → tc_S → Prop
  | 0, _, _, _ => False
  | n4 + 1, x1, x2, s0 => wp_J2_size E (fun r1 s2 => ((r1 ≤ x2 → K x1 x2 s2) ∧ (¬ r1 ≤ x2 → wp_X1_isBehind E (fun r4 s5 => (∀ v6, v6 = (x1 &&& r4) → (∀ v7, v7 = x2 + 1 → wp_X1_isConsistent_4 E post K n4 v6 v7 s5))) x2 s2))) 1 s0
set_option maxHeartbeats 4000000 in
theorem tw_X1_isConsistent_4 {p : Program} {l : Launch} {e : Env} {s : State} {m : MethodId} {args : Array Value} {below : List Frame} {meth : Method} {c : Code} {E : tc_E} {post : Int32 → tc_S → Prop} {K : Int32 → Int32 → tc_S → Prop}  (C : tc_C p m c cX1_isConsistent 3 s args RX1 E) (hr : meth.sig.returnType = (some .boolean)) (hlk : meth.locks = false) (hK : ∀ (x1 : Int32) (x2 : Int32) (σ' : tc_S) (H : Heap) (locs : List Loc) (ls : Array Slot), K x1 x2 σ' → tc_ok E σ' H → va_S (fun q => eb E ≤ q) s.heap H locs → lv_has ls 3 [(0, .ref (ea E (0, 0))), (1, .int x1), (2, .int x2)] → W p l e ({ frames := 9, cells := 0, slots := 0, locals := 254 } : Room) s m args below meth c H locs 0 0 (MQ below (tc_Qg E (fun r : Int32 => some (.int r)) post) args s 0 0 (fun q => eb E ≤ q)) (F0 m 29 ls [])) :
    ∀ (n : Nat) (x1 : Int32) (x2 : Int32) (s0 : tc_S) (H : Heap) (locs : List Loc) (ls : Array Slot), wp_X1_isConsistent_4 E post K n x1 x2 s0 → tc_ok E s0 H → va_S (fun q => eb E ≤ q) s.heap H locs → lv_has ls 3 [(0, .ref (ea E (0, 0))), (1, .int x1), (2, .int x2)] → W p l e ({ frames := 9, cells := 0, slots := 0, locals := 254 } : Room) s m args below meth c H locs 0 0 (MQ below (tc_Qg E (fun r : Int32 => some (.int r)) post) args s 0 0 (fun q => eb E ≤ q)) (F0 m 4 ls []) := by
  intro n
  induction n with
  | zero =>
    intro x1 x2 s0 H locs ls hk
    exact hk.elim
  | succ n ih =>
    intro x1 x2 s0 H locs ls hk hH hS hl
    rw [wp_X1_isConsistent_4] at hk
    refine lv_iload_n C.hx C.hb dX1_isConsistent_4 rfl (lv_at hl 2 rfl) ?_
    refine lv_aload_n C.hx C.hb dX1_isConsistent_5 rfl (lv_at hl 0 rfl) ?_
    refine tc_get C hH hH.g (Cn := RX1) (T := TX1) (N := 13) (ci := 0) (fs := tc_gfs E s0) in_X1 rfl rfl 2 (by decide) (C.L q318) (fun _ h => h) (v := .ref (ea E (2, 1))) rfl dX1_isConsistent_6 ?_
    refine tc_run (tc_rV (As := []) (rest := [.int x2]) (L := (2, 1)) (ci := 9) (fs := tc_lfs E s0 1) (q := (RJ2, TJ2, 3)) C (hH.l _ (by omega)) rfl rfl (t_J2_size l (by omega) hk) (cwV 0 C.hts (lw_V q360 q361 q362 q56 q363) rfl rfl rfl (by decide +kernel) ⟨Nat.le_of_ble_eq_true rfl, Nat.le_of_ble_eq_true rfl⟩) hH hS rfl hl.1 rfl (lv_room (Nat.le_of_ble_eq_true rfl)) dX1_isConsistent_9 ⟨Nat.le_of_ble_eq_true rfl, Nat.le_of_ble_eq_true rfl⟩) hS (fun r1 s2 H locs hk hH hS => ?_)
    refine W.eq (g2 := F0 m 12 ls [.int r1, .int x2]) rfl ?_
    refine lv_icmp_ge (tgt := 29) C.hx C.hb dX1_isConsistent_12 (by decide) (fun c3 => ?_) (fun c3 => ?_)
    · have hk := hk.1 c3
      exact hK x1 x2 s2 _ _ _ hk hH hS (lv_sub hl [0, 1, 2] rfl)
    · have hk := hk.2 c3
      refine lv_iload_n C.hx C.hb dX1_isConsistent_15 rfl (lv_at hl 1 rfl) ?_
      refine lv_aload_n C.hx C.hb dX1_isConsistent_16 rfl (lv_at hl 0 rfl) ?_
      refine lv_iload_n C.hx C.hb dX1_isConsistent_17 rfl (lv_at hl 2 rfl) ?_
      refine tc_run (tc_rV (As := [.int x2]) (rest := [.int x1]) (L := (0, 0)) (ci := 0) (fs := tc_gfs E s2) (q := (RX1, TX1, 13)) C hH.g rfl rfl (t_X1_isBehind l  hk) (cwV 1 C.hts (lw_V q536 q538 qs8 q53 q539) rfl rfl rfl (by decide +kernel) ⟨Nat.le_of_ble_eq_true rfl, Nat.le_of_ble_eq_true rfl⟩) hH hS rfl hl.1 rfl (lv_room (Nat.le_of_ble_eq_true rfl)) dX1_isConsistent_18 ⟨Nat.le_of_ble_eq_true rfl, Nat.le_of_ble_eq_true rfl⟩) hS (fun r4 s5 H locs hk hH hS => ?_)
      refine W.eq (g2 := F0 m 21 ls [.int r4, .int x1]) rfl ?_
      refine lv_iand C.hx C.hb dX1_isConsistent_21 ?_
      refine lv_topi (fun v6 ev6 => ?_)
      have hk := hk v6 ev6
      refine lv_istore_n (lv' := [(1, .int v6), (0, .ref (ea E (0, 0))), (2, .int x2)]) C.hx C.hb dX1_isConsistent_22 rfl hl (by decide) rfl (fun ls hl => ?_)
      obtain ⟨v7, ev7⟩ : ∃ y : Int32, y = x2 + 1 := ⟨_, rfl⟩
      have hk := hk v7 ev7
      refine lv_iinc (v := v7) (lv' := [(2, .int v7), (1, .int v6), (0, .ref (ea E (0, 0)))]) C.hx C.hb dX1_isConsistent_23 hl (k := 2) rfl (by rw [ev7]; rfl) (by decide) rfl (fun ls hl => ?_)
      refine lv_goto (tgt := 4) C.hx C.hb dX1_isConsistent_26 (by decide) ?_
      exact ih v6 v7 s5 _ _ _ hk hH hS (lv_sub hl [2, 1, 0] rfl)
def wp_X1_isConsistent_31 (E : tc_E) (post : Int32 → tc_S → Prop) (K : Int32 → Int32 → tc_S → Prop) : Nat → Int32 → Int32 → tc_S → Prop
  | 0, _, _, _ => False
  | n31 + 1, x1, x2, s0 => ((4 ≤ x2 → K x1 x2 s0) ∧ (¬ 4 ≤ x2 → (vp_in x2 4 ∧ wp_X5_level E (fun r13 s14 => wp_X1_inRange (fun r15 => (∀ v16, v16 = (x1 &&& r15) → (∀ v17, v17 = x2 + 1 → wp_X1_isConsistent_31 E post K n31 v16 v17 s14))) r13 0 1000) x2.toNatClampNeg s0)))
set_option maxHeartbeats 4000000 in
theorem tw_X1_isConsistent_31 {p : Program} {l : Launch} {e : Env} {s : State} {m : MethodId} {args : Array Value} {below : List Frame} {meth : Method} {c : Code} {E : tc_E} {post : Int32 → tc_S → Prop} {K : Int32 → Int32 → tc_S → Prop}  (C : tc_C p m c cX1_isConsistent 3 s args RX1 E) (hr : meth.sig.returnType = (some .boolean)) (hlk : meth.locks = false) (hK : ∀ (x1 : Int32) (x2 : Int32) (σ' : tc_S) (H : Heap) (locs : List Loc) (ls : Array Slot), K x1 x2 σ' → tc_ok E σ' H → va_S (fun q => eb E ≤ q) s.heap H locs → lv_has ls 3 [(0, .ref (ea E (0, 0))), (1, .int x1), (2, .int x2)] → W p l e ({ frames := 9, cells := 0, slots := 0, locals := 254 } : Room) s m args below meth c H locs 0 0 (MQ below (tc_Qg E (fun r : Int32 => some (.int r)) post) args s 0 0 (fun q => eb E ≤ q)) (F0 m 64 ls [])) :
    ∀ (n : Nat) (x1 : Int32) (x2 : Int32) (s0 : tc_S) (H : Heap) (locs : List Loc) (ls : Array Slot), wp_X1_isConsistent_31 E post K n x1 x2 s0 → tc_ok E s0 H → va_S (fun q => eb E ≤ q) s.heap H locs → lv_has ls 3 [(0, .ref (ea E (0, 0))), (1, .int x1), (2, .int x2)] → W p l e ({ frames := 9, cells := 0, slots := 0, locals := 254 } : Room) s m args below meth c H locs 0 0 (MQ below (tc_Qg E (fun r : Int32 => some (.int r)) post) args s 0 0 (fun q => eb E ≤ q)) (F0 m 31 ls []) := by
  intro n
  induction n with
  | zero =>
    intro x1 x2 s0 H locs ls hk
    exact hk.elim
  | succ n ih =>
    intro x1 x2 s0 H locs ls hk hH hS hl
    rw [wp_X1_isConsistent_31] at hk
    refine lv_iload_n C.hx C.hb dX1_isConsistent_31 rfl (lv_at hl 2 rfl) ?_
    refine lv_iconst (v := 4) C.hx C.hb dX1_isConsistent_32 (by decide) ?_
    refine lv_icmp_ge (tgt := 64) C.hx C.hb dX1_isConsistent_33 (by decide) (fun c11 => ?_) (fun c11 => ?_)
    · have hk := hk.1 c11
      exact hK x1 x2 s0 _ _ _ hk hH hS (lv_sub hl [0, 1, 2] rfl)
    · have hk := hk.2 c11
      refine lv_iload_n C.hx C.hb dX1_isConsistent_36 rfl (lv_at hl 1 rfl) ?_
      refine lv_aload_n C.hx C.hb dX1_isConsistent_37 rfl (lv_at hl 0 rfl) ?_
      refine tc_get C hH hH.g (Cn := RX1) (T := TX1) (N := 13) (ci := 0) (fs := tc_gfs E s0) in_X1 rfl rfl 0 (by decide) (C.L q316) (fun _ h => h) (v := .ref (ea E (1, 0))) rfl dX1_isConsistent_38 ?_
      refine tc_get C hH (hH.n _ hH.n0.1) (Cn := RX4) (T := TX4) (N := 10) (ci := 2) (fs := tc_nfs E s0 0) in_X4 (tc_e0 hH.n0.2) rfl 9 (by decide) (C.N 0 rfl) (fun _ h => h) (v := .ref (ea E (9, 0))) (tc_x0_9 hH.n0.2) dX1_isConsistent_41 ?_
      refine lv_iload_n C.hx C.hb dX1_isConsistent_44 rfl (lv_at hl 2 rfl) ?_
      obtain ⟨h12, hk⟩ := hk
      refine tc_aaldV C hH h12 dX1_isConsistent_45 ?_
      refine tc_run (tc_rV (As := []) (rest := [.int x1]) (L := (10, x2.toNatClampNeg)) (ci := 3) (fs := tc_vfs E s0 x2.toNatClampNeg) (q := (RX5, TX5, 12)) C (hH.v _ (tc_lt h12)) rfl rfl (t_X5_level l (tc_lt h12) hk) (cwV 0 C.hts (lw_V q541 q462 q463 q60 q464) rfl rfl rfl (by decide +kernel) ⟨Nat.le_of_ble_eq_true rfl, Nat.le_of_ble_eq_true rfl⟩) hH hS rfl hl.1 rfl (lv_room (Nat.le_of_ble_eq_true rfl)) dX1_isConsistent_46 ⟨Nat.le_of_ble_eq_true rfl, Nat.le_of_ble_eq_true rfl⟩) hS (fun r13 s14 H locs hk hH hS => ?_)
      refine W.eq (g2 := F0 m 49 ls [.int r13, .int x1]) rfl ?_
      refine lv_iconst (v := 0) C.hx C.hb dX1_isConsistent_49 (by decide) ?_
      refine lv_sipush (v := 1000) C.hx C.hb dX1_isConsistent_50 (by decide) ?_
      refine gb_call (As := [.int r13, .int 0, .int 1000]) (rest := [.int x1]) C.1 (t_X1_inRange l hk) (va_cwS 3 C.hts (lw_S q542 q543 q53 q544) rfl rfl rfl (by decide +kernel) ⟨Nat.le_of_ble_eq_true rfl, Nat.le_of_ble_eq_true rfl⟩) rfl hl.1 rfl (lv_room (Nat.le_of_ble_eq_true rfl)) dX1_isConsistent_53 ⟨Nat.le_of_ble_eq_true rfl, Nat.le_of_ble_eq_true rfl⟩ (fun r15 hk => ?_)
      refine lv_iand C.hx C.hb dX1_isConsistent_56 ?_
      refine lv_topi (fun v16 ev16 => ?_)
      have hk := hk v16 ev16
      refine lv_istore_n (lv' := [(1, .int v16), (0, .ref (ea E (0, 0))), (2, .int x2)]) C.hx C.hb dX1_isConsistent_57 rfl hl (by decide) rfl (fun ls hl => ?_)
      obtain ⟨v17, ev17⟩ : ∃ y : Int32, y = x2 + 1 := ⟨_, rfl⟩
      have hk := hk v17 ev17
      refine lv_iinc (v := v17) (lv' := [(2, .int v17), (1, .int v16), (0, .ref (ea E (0, 0)))]) C.hx C.hb dX1_isConsistent_58 hl (k := 2) rfl (by rw [ev17]; rfl) (by decide) rfl (fun ls hl => ?_)
      refine lv_goto (tgt := 31) C.hx C.hb dX1_isConsistent_61 (by decide) ?_
      exact ih v16 v17 s14 _ _ _ hk hH hS (lv_sub hl [2, 1, 0] rfl)
def wp_X1_isConsistent_66 (E : tc_E) (post : Int32 → tc_S → Prop) (K : Int32 → Int32 → tc_S → Prop) : Nat → Int32 → Int32 → tc_S → Prop
  | 0, _, _, _ => False
  | n66 + 1, x1, x2, s0 => ((20 < x2 → K x1 x2 s0) ∧ (¬ 20 < x2 → wp_X1_aheadN E (fun r22 s23 => wp_X1_aheadByBlocksN E (fun r24 s25 => ((¬ r22 = r24 → (∀ v27, v27 = (x1 &&& 0) → (∀ v28, v28 = x2 + 1 → wp_X1_isConsistent_66 E post K n66 v27 v28 s25))) ∧ (r22 = r24 → (∀ v29, v29 = (x1 &&& 1) → (∀ v30, v30 = x2 + 1 → wp_X1_isConsistent_66 E post K n66 v29 v30 s25))))) x2 7 s23) x2 s0))
set_option maxHeartbeats 4000000 in
theorem tw_X1_isConsistent_66 {p : Program} {l : Launch} {e : Env} {s : State} {m : MethodId} {args : Array Value} {below : List Frame} {meth : Method} {c : Code} {E : tc_E} {post : Int32 → tc_S → Prop} {K : Int32 → Int32 → tc_S → Prop}  (C : tc_C p m c cX1_isConsistent 3 s args RX1 E) (hr : meth.sig.returnType = (some .boolean)) (hlk : meth.locks = false) (hK : ∀ (x1 : Int32) (x2 : Int32) (σ' : tc_S) (H : Heap) (locs : List Loc) (ls : Array Slot), K x1 x2 σ' → tc_ok E σ' H → va_S (fun q => eb E ≤ q) s.heap H locs → lv_has ls 3 [(0, .ref (ea E (0, 0))), (1, .int x1), (2, .int x2)] → W p l e ({ frames := 9, cells := 0, slots := 0, locals := 254 } : Room) s m args below meth c H locs 0 0 (MQ below (tc_Qg E (fun r : Int32 => some (.int r)) post) args s 0 0 (fun q => eb E ≤ q)) (F0 m 101 ls [])) :
    ∀ (n : Nat) (x1 : Int32) (x2 : Int32) (s0 : tc_S) (H : Heap) (locs : List Loc) (ls : Array Slot), wp_X1_isConsistent_66 E post K n x1 x2 s0 → tc_ok E s0 H → va_S (fun q => eb E ≤ q) s.heap H locs → lv_has ls 3 [(0, .ref (ea E (0, 0))), (1, .int x1), (2, .int x2)] → W p l e ({ frames := 9, cells := 0, slots := 0, locals := 254 } : Room) s m args below meth c H locs 0 0 (MQ below (tc_Qg E (fun r : Int32 => some (.int r)) post) args s 0 0 (fun q => eb E ≤ q)) (F0 m 66 ls []) := by
  intro n
  induction n with
  | zero =>
    intro x1 x2 s0 H locs ls hk
    exact hk.elim
  | succ n ih =>
    intro x1 x2 s0 H locs ls hk hH hS hl
    rw [wp_X1_isConsistent_66] at hk
    refine lv_iload_n C.hx C.hb dX1_isConsistent_66 rfl (lv_at hl 2 rfl) ?_
    refine lv_bipush (v := 20) C.hx C.hb dX1_isConsistent_67 (by decide) ?_
    refine lv_icmp_gt (tgt := 101) C.hx C.hb dX1_isConsistent_69 (by decide) (fun c21 => ?_) (fun c21 => ?_)
    · have hk := hk.1 c21
      exact hK x1 x2 s0 _ _ _ hk hH hS (lv_sub hl [0, 1, 2] rfl)
    · have hk := hk.2 c21
      refine lv_iload_n C.hx C.hb dX1_isConsistent_72 rfl (lv_at hl 1 rfl) ?_
      refine lv_aload_n C.hx C.hb dX1_isConsistent_73 rfl (lv_at hl 0 rfl) ?_
      refine lv_iload_n C.hx C.hb dX1_isConsistent_74 rfl (lv_at hl 2 rfl) ?_
      refine tc_run (tc_rV (As := [.int x2]) (rest := [.int x1]) (L := (0, 0)) (ci := 0) (fs := tc_gfs E s0) (q := (RX1, TX1, 13)) C hH.g rfl rfl (t_X1_aheadN l  hk) (cwV 1 C.hts (lw_V q545 q546 q547 q53 q548) rfl rfl rfl (by decide +kernel) ⟨Nat.le_of_ble_eq_true rfl, Nat.le_of_ble_eq_true rfl⟩) hH hS rfl hl.1 rfl (lv_room (Nat.le_of_ble_eq_true rfl)) dX1_isConsistent_75 ⟨Nat.le_of_ble_eq_true rfl, Nat.le_of_ble_eq_true rfl⟩) hS (fun r22 s23 H locs hk hH hS => ?_)
      refine W.eq (g2 := F0 m 78 ls [.int r22, .int x1]) rfl ?_
      refine lv_aload_n C.hx C.hb dX1_isConsistent_78 rfl (lv_at hl 0 rfl) ?_
      refine lv_iload_n C.hx C.hb dX1_isConsistent_79 rfl (lv_at hl 2 rfl) ?_
      refine lv_bipush (v := 7) C.hx C.hb dX1_isConsistent_80 (by decide) ?_
      refine tc_run (tc_rV (As := [.int x2, .int 7]) (rest := [.int r22, .int x1]) (L := (0, 0)) (ci := 0) (fs := tc_gfs E s23) (q := (RX1, TX1, 13)) C hH.g rfl rfl (t_X1_aheadByBlocksN l  hk) (cwV 2 C.hts (lw_V q661 q662 q663 q53 q664) rfl rfl rfl (by decide +kernel) ⟨Nat.le_of_ble_eq_true rfl, Nat.le_of_ble_eq_true rfl⟩) hH hS rfl hl.1 rfl (lv_room (Nat.le_of_ble_eq_true rfl)) dX1_isConsistent_82 ⟨Nat.le_of_ble_eq_true rfl, Nat.le_of_ble_eq_true rfl⟩) hS (fun r24 s25 H locs hk hH hS => ?_)
      refine W.eq (g2 := F0 m 85 ls [.int r24, .int r22, .int x1]) rfl ?_
      refine lv_icmp_ne (tgt := 92) C.hx C.hb dX1_isConsistent_85 (by decide) (fun c26 => ?_) (fun c26 => ?_)
      · have hk := hk.1 c26
        refine lv_iconst (v := 0) C.hx C.hb dX1_isConsistent_92 (by decide) ?_
        refine lv_iand C.hx C.hb dX1_isConsistent_93 ?_
        refine lv_topi (fun v27 ev27 => ?_)
        have hk := hk v27 ev27
        refine lv_istore_n (lv' := [(1, .int v27), (0, .ref (ea E (0, 0))), (2, .int x2)]) C.hx C.hb dX1_isConsistent_94 rfl hl (by decide) rfl (fun ls hl => ?_)
        obtain ⟨v28, ev28⟩ : ∃ y : Int32, y = x2 + 1 := ⟨_, rfl⟩
        have hk := hk v28 ev28
        refine lv_iinc (v := v28) (lv' := [(2, .int v28), (1, .int v27), (0, .ref (ea E (0, 0)))]) C.hx C.hb dX1_isConsistent_95 hl (k := 2) rfl (by rw [ev28]; rfl) (by decide) rfl (fun ls hl => ?_)
        refine lv_goto (tgt := 66) C.hx C.hb dX1_isConsistent_98 (by decide) ?_
        exact ih v27 v28 s25 _ _ _ hk hH hS (lv_sub hl [2, 1, 0] rfl)
      · have hk := hk.2 c26
        refine lv_iconst (v := 1) C.hx C.hb dX1_isConsistent_88 (by decide) ?_
        refine lv_goto (tgt := 93) C.hx C.hb dX1_isConsistent_89 (by decide) ?_
        refine lv_iand C.hx C.hb dX1_isConsistent_93 ?_
        refine lv_topi (fun v29 ev29 => ?_)
        have hk := hk v29 ev29
        refine lv_istore_n (lv' := [(1, .int v29), (0, .ref (ea E (0, 0))), (2, .int x2)]) C.hx C.hb dX1_isConsistent_94 rfl hl (by decide) rfl (fun ls hl => ?_)
        obtain ⟨v30, ev30⟩ : ∃ y : Int32, y = x2 + 1 := ⟨_, rfl⟩
        have hk := hk v30 ev30
        refine lv_iinc (v := v30) (lv' := [(2, .int v30), (1, .int v29), (0, .ref (ea E (0, 0)))]) C.hx C.hb dX1_isConsistent_95 hl (k := 2) rfl (by rw [ev30]; rfl) (by decide) rfl (fun ls hl => ?_)
        refine lv_goto (tgt := 66) C.hx C.hb dX1_isConsistent_98 (by decide) ?_
        exact ih v29 v30 s25 _ _ _ hk hH hS (lv_sub hl [2, 1, 0] rfl)
def wp_X1_isConsistent (E : tc_E) (post : Int32 → tc_S → Prop) (s0 : tc_S) : Prop := (∃ n4, wp_X1_isConsistent_4 E post (fun y8 y9 s10 => (∃ n31, wp_X1_isConsistent_31 E post (fun y18 y19 s20 => (∃ n66, wp_X1_isConsistent_66 E post (fun y31 y32 s33 => (narrow .boolean (.int y31) = .int y31 ∧ post y31 s33)) n66 y18 1 s20)) n31 y8 0 s10)) n4 1 0 s0)
set_option maxHeartbeats 4000000 in
theorem t_X1_isConsistent (l : Launch) {E : tc_E} {post : Int32 → tc_S → Prop} {s0 : tc_S} (hk : wp_X1_isConsistent E post  s0) : tc_M l yX1_isConsistent (ws_ yX1_isConsistent cX1_isConsistent 3 (some .boolean)) ({ frames := 9, cells := 0, slots := 0, locals := 254 } : Room) E [.ref (ea E (0, 0))] s0 (fun r : Int32 => some (.int r)) post := by
  refine tc_start cX1_isConsistent 3 (some .boolean) RX1 (by decide) rfl rfl (Nat.le_of_ble_eq_true rfl) ?_
  intro p e s m args below meth c ls C hnm hr hlk hH hS hl
  have hl : lv_has ls 3 [(0, .ref (ea E (0, 0)))] := hl
  unfold wp_X1_isConsistent at hk
  refine lv_iconst (v := 1) C.hx C.hb dX1_isConsistent_0 (by decide) ?_
  refine lv_istore_n (lv' := [(1, .int 1), (0, .ref (ea E (0, 0)))]) C.hx C.hb dX1_isConsistent_1 rfl hl (by decide) rfl (fun ls hl => ?_)
  refine lv_iconst (v := 0) C.hx C.hb dX1_isConsistent_2 (by decide) ?_
  refine lv_istore_n (lv' := [(2, .int 0), (1, .int 1), (0, .ref (ea E (0, 0)))]) C.hx C.hb dX1_isConsistent_3 rfl hl (by decide) rfl (fun ls hl => ?_)
  obtain ⟨n4, hk⟩ := hk
  refine tw_X1_isConsistent_4 C hr hlk (fun y8 y9 s10 H locs ls hk hH hS hl => ?_) n4 1 0 s0 _ _ _ hk hH hS (lv_sub hl [2, 1, 0] rfl)
  refine lv_iconst (v := 0) C.hx C.hb dX1_isConsistent_29 (by decide) ?_
  refine lv_istore_n (lv' := [(2, .int 0), (0, .ref (ea E (0, 0))), (1, .int y8)]) C.hx C.hb dX1_isConsistent_30 rfl hl (by decide) rfl (fun ls hl => ?_)
  obtain ⟨n31, hk⟩ := hk
  refine tw_X1_isConsistent_31 C hr hlk (fun y18 y19 s20 H locs ls hk hH hS hl => ?_) n31 y8 0 s10 _ _ _ hk hH hS (lv_sub hl [1, 2, 0] rfl)
  refine lv_iconst (v := 1) C.hx C.hb dX1_isConsistent_64 (by decide) ?_
  refine lv_istore_n (lv' := [(2, .int 1), (0, .ref (ea E (0, 0))), (1, .int y18)]) C.hx C.hb dX1_isConsistent_65 rfl hl (by decide) rfl (fun ls hl => ?_)
  obtain ⟨n66, hk⟩ := hk
  refine tw_X1_isConsistent_66 C hr hlk (fun y31 y32 s33 H locs ls hk hH hS hl => ?_) n66 y18 1 s20 _ _ _ hk hH hS (lv_sub hl [1, 2, 0] rfl)
  refine lv_iload_n C.hx C.hb dX1_isConsistent_101 rfl (lv_at hl 1 rfl) ?_
  obtain ⟨h34, hk⟩ := hk
  exact tc_zret (ty := .boolean) y31 rfl C hr hlk h34 hH hS hk dX1_isConsistent_102

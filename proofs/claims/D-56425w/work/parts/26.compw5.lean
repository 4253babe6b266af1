/-! the component's methods: wp and walk, by program (gen/decc.py) -/
set_option maxRecDepth 100000
/-! java/util/ArrayList.size()I -/
def wp_J2_sizeR (E : tc_E) (post : Int32 → tc_S → Prop) (x : Nat) (s0 : tc_S) : Prop := post (s0.1 11 x 1) s0
set_option maxHeartbeats 4000000 in
theorem t_J2_sizeR (l : Launch) {E : tc_E} {x : Nat} (hx : x < yn E + 2) {post : Int32 → tc_S → Prop} {s0 : tc_S} (hk : wp_J2_sizeR E post x s0) : tc_R l yJ2_size (ws_ yJ2_size cJ2_size 1 (some .int)) ({ frames := 0, cells := 0, slots := 0, locals := 0 } : Room) E [.ref (ea E (2, x))] s0 (fun _ _ => True) (fun r : Int32 => some (.int r)) post := by
  refine tc_startR cJ2_size 1 (some .int) RJ2 (by decide) rfl rfl (Nat.le_of_ble_eq_true rfl) ?_
  intro p e s m args below meth c ls C hz hnm hr hlk hH hS hl
  have hl : lv_has ls 1 [(0, .ref (ea E (2, x)))] := hl
  unfold wp_J2_sizeR at hk
  refine lv_aload_n C.hx C.hb dJ2_size_0 rfl (lv_at hl 0 rfl) ?_
  refine tc_get C hH (hH.l _ hx) (Cn := RJ2) (T := TJ2) (N := 3) (ci := 9) (fs := tc_lfs E s0 x) in_J2 rfl rfl 2 (by decide) (C.L q107) (fun _ h => h) (v := .int (s0.1 11 x 1)) rfl dJ2_size_1 ?_
  exact tc_iretR (s0.1 11 x 1) rfl C hr hlk hH hS hk dJ2_size_4
/-! ToneGraph.added(LToneGraph$Node;)I -/
def wp_X1_added (E : tc_E) (post : Int32 → tc_S → Prop) (j : Nat) (s0 : tc_S) : Prop := wp_J2_addN E (fun r1 s2 => wp_X1_sort E (fun _ s4 => post (nI j) s4)  s2) 0 j s0
set_option maxHeartbeats 4000000 in
theorem t_X1_added (l : Launch) {E : tc_E} {j : Nat} (hj : j < yn E) {post : Int32 → tc_S → Prop} {s0 : tc_S} (hk : wp_X1_added E post j s0) : tc_M l yX1_added (ws_ yX1_added cX1_added 2 (some .int)) ({ frames := 5, cells := 0, slots := 0, locals := 106 } : Room) E [.ref (ea E (0, 0)), .ref (ea E (1, j))] s0 (fun r : Int32 => some (.int r)) post := by
  refine tc_start cX1_added 2 (some .int) RX1 (by decide) rfl rfl (Nat.le_of_ble_eq_true rfl) ?_
  intro p e s m args below meth c ls C hnm hr hlk hH hS hl
  have hl : lv_has ls 2 [(0, .ref (ea E (0, 0))), (1, .ref (ea E (1, j)))] := hl
  unfold wp_X1_added at hk
  refine lv_aload_n C.hx C.hb dX1_added_0 rfl (lv_at hl 0 rfl) ?_
  refine tc_get C hH hH.g (Cn := RX1) (T := TX1) (N := 13) (ci := 0) (fs := tc_gfs E s0) in_X1 rfl rfl 1 (by decide) (C.L q317) (fun _ h => h) (v := .ref (ea E (2, 0))) rfl dX1_added_1 ?_
  refine lv_aload_n C.hx C.hb dX1_added_4 rfl (lv_at hl 1 rfl) ?_
  refine tc_run (tc_rV (As := [.ref (ea E (1, j))]) (rest := []) (L := (2, 0)) (ci := 9) (fs := tc_lfs E s0 0) (q := (RJ2, TJ2, 3)) C (hH.l _ (by omega)) rfl rfl (t_J2_addN l (by omega) hH.gr0 rfl hj hk) (cwV 1 C.hts (lw_V q251 q252 q253 q56 q254) rfl rfl rfl (by decide +kernel) ⟨Nat.le_of_ble_eq_true rfl, Nat.le_of_ble_eq_true rfl⟩) hH hS rfl hl.1 rfl (lv_room (Nat.le_of_ble_eq_true rfl)) dX1_added_5 ⟨Nat.le_of_ble_eq_true rfl, Nat.le_of_ble_eq_true rfl⟩) hS (fun r1 s2 H locs hk hH hS => ?_)
  refine W.eq (g2 := F0 m 8 ls [.int r1]) rfl ?_
  refine lv_pop C.hx C.hb dX1_added_8 rfl ?_
  refine lv_aload_n C.hx C.hb dX1_added_9 rfl (lv_at hl 0 rfl) ?_
  refine tc_run (tc_rV (As := []) (rest := []) (L := (0, 0)) (ci := 0) (fs := tc_gfs E s2) (q := (RX1, TX1, 13)) C hH.g rfl rfl (t_X1_sort l  hk) (cwV 0 C.hts (lw_V q774 q776 qs15 q53 q777) rfl rfl rfl (by decide +kernel) ⟨Nat.le_of_ble_eq_true rfl, Nat.le_of_ble_eq_true rfl⟩) hH hS rfl hl.1 rfl (lv_room (Nat.le_of_ble_eq_true rfl)) dX1_added_10 ⟨Nat.le_of_ble_eq_true rfl, Nat.le_of_ble_eq_true rfl⟩) hS (fun _ s4 H locs hk hH hS => ?_)
  refine W.eq (g2 := F0 m 13 ls []) rfl ?_
  refine lv_aload_n C.hx C.hb dX1_added_13 rfl (lv_at hl 1 rfl) ?_
  refine tc_getn C hH hj 0 (by decide) rfl (C.N 4 rfl) (v := .int (nI j)) rfl dX1_added_14 ?_
  exact tc_iret (nI j) rfl C hr hlk hH hS hk dX1_added_17
theorem r_rec1 {p : Program} {l : Launch} {e : Env} {R : Room} {s : State} {m : MethodId} {args : Array Value} {below : List Frame} {meth : Method} {c : Code} {H : Heap} {locs : List Loc} {cells slots pc nL : Nat} {cc : ByteArray} {ls : Array Slot} {rest : List Value} {E : tc_E} {S : tc_S} {i j : Nat} {post : Int32 → tc_S → Prop} {rm : Room} (C : tc_C p m c cc nL s args RX1 E) (hi : i < yn E) (hM : tc_M l yX3_follows (ws_ yX3_follows cX3_follows 4 (some .boolean)) rm E [.ref (ea E (1, i)), .ref (ea E (1, j))] S (fun r : Int32 => some (.int r)) post) (hrm : rm.cells = 0 ∧ rm.slots = 0) (hH : tc_ok E S H) (hS : va_S (fun q => eb E ≤ q) s.heap H locs) (hsize : ls.size = nL) (hW : 2 * (F0 m pc ls (.ref (ea E (1, j)) :: .ref (ea E (1, i)) :: rest)).monitorRoom + (rest.map fun v => v.category).sum ≤ 8) (hdg : decode cc pc = .ok (.invokevirtual 161, 3)) (hR : rm.frames + 1 ≤ R.frames ∧ 8 + (4 + 11) + rm.locals ≤ R.locals) (hf : cells ≤ R.cells ∧ slots ≤ R.slots := by exact ⟨Nat.zero_le _, Nat.zero_le _⟩) : va_Run p l e R s m args below meth c H locs cells slots 0 0 (F0 m pc ls (.ref (ea E (1, j)) :: .ref (ea E (1, i)) :: rest)) rest (tc_Qg E (fun r : Int32 => some (.int r)) post [.ref (ea E (1, i)), .ref (ea E (1, j))].toArray) (fun q => eb E ≤ q) := by
  rcases tc_kinds (hH.kd i hi) with h | h | h | h | h
  · exact tc_rU (q := (RX4, TX4, 10)) (owner := "ToneGraph$Node") (As := [.ref (ea E (1, j))]) C (hH.n _ hi) (tc_e0 h) rfl hM (va_cwU 1 C.hts (lw_Uw q934 q936 q938 q935 q58 q942) rfl hrm.1 hrm.2 rfl (by decide +kernel) hR) hH hS rfl hsize rfl hW hdg hf
  · exact tc_rU (q := (RX7, TX7, 10)) (owner := "ToneGraph$Node") (As := [.ref (ea E (1, j))]) C (hH.n _ hi) (tc_e1 h) rfl hM (va_cwU 1 C.hts (lw_Uw q934 q936 q941 q935 q58 q942) rfl hrm.1 hrm.2 rfl (by decide +kernel) hR) hH hS rfl hsize rfl hW hdg hf
  · exact tc_rU (q := (RX8, TX8, 11)) (owner := "ToneGraph$Node") (As := [.ref (ea E (1, j))]) C (hH.n _ hi) (tc_e2 h) rfl hM (va_cwU 1 C.hts (lw_Uw q934 q936 q939 q935 q58 q942) rfl hrm.1 hrm.2 rfl (by decide +kernel) hR) hH hS rfl hsize rfl hW hdg hf
  · exact tc_rU (q := (RX9, TX9, 10)) (owner := "ToneGraph$Node") (As := [.ref (ea E (1, j))]) C (hH.n _ hi) (tc_e3 h) rfl hM (va_cwU 1 C.hts (lw_Uw q934 q936 q940 q935 q58 q942) rfl hrm.1 hrm.2 rfl (by decide +kernel) hR) hH hS rfl hsize rfl hW hdg hf
  · exact tc_rU (q := (RX10, TX10, 10)) (owner := "ToneGraph$Node") (As := [.ref (ea E (1, j))]) C (hH.n _ hi) (tc_e4 h) rfl hM (va_cwU 1 C.hts (lw_Uw q934 q936 q937 q935 q58 q942) rfl hrm.1 hrm.2 rfl (by decide +kernel) hR) hH hS rfl hsize rfl hW hdg hf
/-! ToneGraph.setEnvelope(IIII)I -/
def wp_X1_setEnvelope (E : tc_E) (post : Int32 → tc_E → tc_S → Prop) (ex : String → tc_S → Prop) (p1 : Int32) (p2 : Int32) (p3 : Int32) (p4 : Int32) (s0 : tc_S) : Prop := wp_X1_inRange (fun r1 => ((r1 = 0 → wp_X1_checkArgument E (fun _ s4 => False) ex 0 s0) ∧ (¬ r1 = 0 → wp_X1_inRange (fun r5 => ((r5 = 0 → wp_X1_checkArgument E (fun _ s8 => False) ex 0 s0) ∧ (¬ r5 = 0 → wp_X1_inRange (fun r9 => ((r9 = 0 → wp_X1_checkArgument E (fun _ s12 => False) ex 0 s0) ∧ (¬ r9 = 0 → wp_X1_inRange (fun r13 => ((r13 = 0 → wp_X1_checkArgument E (fun _ s16 => False) ex 0 s0) ∧ (¬ r13 = 0 → wp_X1_checkArgument E (fun _ s18 => ((s18.2.1 0 0 1) < yne E ∧ (∀ v20, v20 = (yev E (s18.2.1 0 0 1) 2) → ((¬ ((p1 + p2) + p4) = 0 → (∀ b22 : Nat, (∃ (E24 : tc_E) (s25 : tc_S) (k23 : Nat), xn_cl E s18 [(b22, .inr (1, [.int p1, .int p2, .int p3, .int p4]))] [(12, k23)] E24 s25 ∧ xn_ea E E24 ∧ ea E24 (12, k23) = b22 ∧ (∀ s26 : tc_S, s26 = tP s25 0 0 1 k23 → post v20 E24 s26)))) ∧ (((p1 + p2) + p4) = 0 → (∀ b27 : Nat, (∃ (E29 : tc_E) (s30 : tc_S) (k28 : Nat), xn_cl E s18 [(b27, .inr (1, [.int 0, .int 0, .int p3, .int 0]))] [(12, k28)] E29 s30 ∧ xn_ea E E29 ∧ ea E29 (12, k28) = b27 ∧ (∀ s31 : tc_S, s31 = tP s30 0 0 1 k28 → post v20 E29 s31)))))))) ex 1 s0))) p4 0 200))) p3 0 1000))) p2 0 200))) p1 0 200
set_option maxHeartbeats 4000000 in
theorem t_X1_setEnvelope (l : Launch) (hl0 : l.stackTraces = false) {E : tc_E} {post : Int32 → tc_E → tc_S → Prop} {ex : String → tc_S → Prop} {p1 : Int32} {p2 : Int32} {p3 : Int32} {p4 : Int32} {s0 : tc_S} (hk : wp_X1_setEnvelope E post ex p1 p2 p3 p4 s0) : ty_M l yX1_setEnvelope (ws_ yX1_setEnvelope cX1_setEnvelope 6 (some .int)) ({ frames := 7, cells := 2, slots := 10, locals := 120 } : Room) E [.ref (ea E (0, 0)), .int p1, .int p2, .int p3, .int p4] s0 (fun r : Int32 => some (.int r)) post ex 2 10 := by
  refine ty_start cX1_setEnvelope 6 (some .int) RX1 (by decide) rfl rfl (Nat.le_of_ble_eq_true rfl) ?_
  intro p e s m args below meth c ls C hnm hnt hr hlk hH hS hl
  have hl : lv_has ls 6 [(0, .ref (ea E (0, 0))), (1, .int p1), (2, .int p2), (3, .int p3), (4, .int p4)] := hl
  unfold wp_X1_setEnvelope at hk
  have hsim := tc_sim.rf E
  refine lv_iload_n C.hx C.hb dX1_setEnvelope_0 rfl (lv_at hl 1 rfl) ?_
  refine lv_iconst (v := 0) C.hx C.hb dX1_setEnvelope_1 (by decide) ?_
  refine lv_sipush (v := 200) C.hx C.hb dX1_setEnvelope_2 (by decide) ?_
  refine gb_call (As := [.int p1, .int 0, .int 200]) (rest := []) C.1 (t_X1_inRange l hk) (va_cwS 3 C.hts (lw_S q542 q543 q53 q544) rfl rfl rfl (by decide +kernel) ⟨Nat.le_of_ble_eq_true rfl, Nat.le_of_ble_eq_true rfl⟩) rfl hl.1 rfl (lv_room (Nat.le_of_ble_eq_true rfl)) dX1_setEnvelope_5 ⟨Nat.le_of_ble_eq_true rfl, Nat.le_of_ble_eq_true rfl⟩ (fun r1 hk => ?_)
  refine lv_if_eq (tgt := 49) C.hx C.hb dX1_setEnvelope_8 (by decide) (fun c2 => ?_) (fun c2 => ?_)
  · have hk := hk.1 c2
    refine lv_iconst (v := 0) C.hx C.hb dX1_setEnvelope_49 (by decide) ?_
    refine tx_run (tx_rS (As := [.int 0]) (rest := []) C (t_X1_checkArgument l hl0  hk) (va_cwS 1 C.hts (lw_S q549 q550 q53 q551) rfl rfl rfl (by decide +kernel) ⟨Nat.le_of_ble_eq_true rfl, Nat.le_of_ble_eq_true rfl⟩) hH hS rfl hl.1 rfl (lv_room (Nat.le_of_ble_eq_true rfl)) dX1_setEnvelope_50 ⟨Nat.le_of_ble_eq_true rfl, Nat.le_of_ble_eq_true rfl⟩) hS (fun X ce q9 S9 H1 locs1 hk hH hS h1 h2 h3 => tx_out hnt hlk hk hH hS h1 h2 h3 (Nat.le_of_ble_eq_true rfl) (Nat.le_of_ble_eq_true rfl)) (fun _ s4 H locs hk hH hS => ?_)
    refine W.eq (g2 := F0 m 53 ls []) rfl ?_
    exact hk.elim
  · have hk := hk.2 c2
    refine lv_iload_n C.hx C.hb dX1_setEnvelope_11 rfl (lv_at hl 2 rfl) ?_
    refine lv_iconst (v := 0) C.hx C.hb dX1_setEnvelope_12 (by decide) ?_
    refine lv_sipush (v := 200) C.hx C.hb dX1_setEnvelope_13 (by decide) ?_
    refine gb_call (As := [.int p2, .int 0, .int 200]) (rest := []) C.1 (t_X1_inRange l hk) (va_cwS 3 C.hts (lw_S q542 q543 q53 q544) rfl rfl rfl (by decide +kernel) ⟨Nat.le_of_ble_eq_true rfl, Nat.le_of_ble_eq_true rfl⟩) rfl hl.1 rfl (lv_room (Nat.le_of_ble_eq_true rfl)) dX1_setEnvelope_16 ⟨Nat.le_of_ble_eq_true rfl, Nat.le_of_ble_eq_true rfl⟩ (fun r5 hk => ?_)
    refine lv_if_eq (tgt := 49) C.hx C.hb dX1_setEnvelope_19 (by decide) (fun c6 => ?_) (fun c6 => ?_)
    · have hk := hk.1 c6
      refine lv_iconst (v := 0) C.hx C.hb dX1_setEnvelope_49 (by decide) ?_
      refine tx_run (tx_rS (As := [.int 0]) (rest := []) C (t_X1_checkArgument l hl0  hk) (va_cwS 1 C.hts (lw_S q549 q550 q53 q551) rfl rfl rfl (by decide +kernel) ⟨Nat.le_of_ble_eq_true rfl, Nat.le_of_ble_eq_true rfl⟩) hH hS rfl hl.1 rfl (lv_room (Nat.le_of_ble_eq_true rfl)) dX1_setEnvelope_50 ⟨Nat.le_of_ble_eq_true rfl, Nat.le_of_ble_eq_true rfl⟩) hS (fun X ce q9 S9 H1 locs1 hk hH hS h1 h2 h3 => tx_out hnt hlk hk hH hS h1 h2 h3 (Nat.le_of_ble_eq_true rfl) (Nat.le_of_ble_eq_true rfl)) (fun _ s8 H locs hk hH hS => ?_)
      refine W.eq (g2 := F0 m 53 ls []) rfl ?_
      exact hk.elim
    · have hk := hk.2 c6
      refine lv_iload_n C.hx C.hb dX1_setEnvelope_22 rfl (lv_at hl 3 rfl) ?_
      refine lv_iconst (v := 0) C.hx C.hb dX1_setEnvelope_23 (by decide) ?_
      refine lv_sipush (v := 1000) C.hx C.hb dX1_setEnvelope_24 (by decide) ?_
      refine gb_call (As := [.int p3, .int 0, .int 1000]) (rest := []) C.1 (t_X1_inRange l hk) (va_cwS 3 C.hts (lw_S q542 q543 q53 q544) rfl rfl rfl (by decide +kernel) ⟨Nat.le_of_ble_eq_true rfl, Nat.le_of_ble_eq_true rfl⟩) rfl hl.1 rfl (lv_room (Nat.le_of_ble_eq_true rfl)) dX1_setEnvelope_27 ⟨Nat.le_of_ble_eq_true rfl, Nat.le_of_ble_eq_true rfl⟩ (fun r9 hk => ?_)
      refine lv_if_eq (tgt := 49) C.hx C.hb dX1_setEnvelope_30 (by decide) (fun c10 => ?_) (fun c10 => ?_)
      · have hk := hk.1 c10
        refine lv_iconst (v := 0) C.hx C.hb dX1_setEnvelope_49 (by decide) ?_
        refine tx_run (tx_rS (As := [.int 0]) (rest := []) C (t_X1_checkArgument l hl0  hk) (va_cwS 1 C.hts (lw_S q549 q550 q53 q551) rfl rfl rfl (by decide +kernel) ⟨Nat.le_of_ble_eq_true rfl, Nat.le_of_ble_eq_true rfl⟩) hH hS rfl hl.1 rfl (lv_room (Nat.le_of_ble_eq_true rfl)) dX1_setEnvelope_50 ⟨Nat.le_of_ble_eq_true rfl, Nat.le_of_ble_eq_true rfl⟩) hS (fun X ce q9 S9 H1 locs1 hk hH hS h1 h2 h3 => tx_out hnt hlk hk hH hS h1 h2 h3 (Nat.le_of_ble_eq_true rfl) (Nat.le_of_ble_eq_true rfl)) (fun _ s12 H locs hk hH hS => ?_)
        refine W.eq (g2 := F0 m 53 ls []) rfl ?_
        exact hk.elim
      · have hk := hk.2 c10
        refine lv_iload C.hx C.hb dX1_setEnvelope_33 (lv_at hl 4 rfl) ?_
        refine lv_iconst (v := 0) C.hx C.hb dX1_setEnvelope_35 (by decide) ?_
        refine lv_sipush (v := 200) C.hx C.hb dX1_setEnvelope_36 (by decide) ?_
        refine gb_call (As := [.int p4, .int 0, .int 200]) (rest := []) C.1 (t_X1_inRange l hk) (va_cwS 3 C.hts (lw_S q542 q543 q53 q544) rfl rfl rfl (by decide +kernel) ⟨Nat.le_of_ble_eq_true rfl, Nat.le_of_ble_eq_true rfl⟩) rfl hl.1 rfl (lv_room (Nat.le_of_ble_eq_true rfl)) dX1_setEnvelope_39 ⟨Nat.le_of_ble_eq_true rfl, Nat.le_of_ble_eq_true rfl⟩ (fun r13 hk => ?_)
        refine lv_if_eq (tgt := 49) C.hx C.hb dX1_setEnvelope_42 (by decide) (fun c14 => ?_) (fun c14 => ?_)
        · have hk := hk.1 c14
          refine lv_iconst (v := 0) C.hx C.hb dX1_setEnvelope_49 (by decide) ?_
          refine tx_run (tx_rS (As := [.int 0]) (rest := []) C (t_X1_checkArgument l hl0  hk) (va_cwS 1 C.hts (lw_S q549 q550 q53 q551) rfl rfl rfl (by decide +kernel) ⟨Nat.le_of_ble_eq_true rfl, Nat.le_of_ble_eq_true rfl⟩) hH hS rfl hl.1 rfl (lv_room (Nat.le_of_ble_eq_true rfl)) dX1_setEnvelope_50 ⟨Nat.le_of_ble_eq_true rfl, Nat.le_of_ble_eq_true rfl⟩) hS (fun X ce q9 S9 H1 locs1 hk hH hS h1 h2 h3 => tx_out hnt hlk hk hH hS h1 h2 h3 (Nat.le_of_ble_eq_true rfl) (Nat.le_of_ble_eq_true rfl)) (fun _ s16 H locs hk hH hS => ?_)
          refine W.eq (g2 := F0 m 53 ls []) rfl ?_
          exact hk.elim
        · have hk := hk.2 c14
          refine lv_iconst (v := 1) C.hx C.hb dX1_setEnvelope_45 (by decide) ?_
          refine lv_goto (tgt := 50) C.hx C.hb dX1_setEnvelope_46 (by decide) ?_
          refine tx_run (tx_rS (As := [.int 1]) (rest := []) C (t_X1_checkArgument l hl0  hk) (va_cwS 1 C.hts (lw_S q549 q550 q53 q551) rfl rfl rfl (by decide +kernel) ⟨Nat.le_of_ble_eq_true rfl, Nat.le_of_ble_eq_true rfl⟩) hH hS rfl hl.1 rfl (lv_room (Nat.le_of_ble_eq_true rfl)) dX1_setEnvelope_50 ⟨Nat.le_of_ble_eq_true rfl, Nat.le_of_ble_eq_true rfl⟩) hS (fun X ce q9 S9 H1 locs1 hk hH hS h1 h2 h3 => tx_out hnt hlk hk hH hS h1 h2 h3 (Nat.le_of_ble_eq_true rfl) (Nat.le_of_ble_eq_true rfl)) (fun _ s18 H locs hk hH hS => ?_)
          refine W.eq (g2 := F0 m 53 ls []) rfl ?_
          refine lv_aload_n C.hx C.hb dX1_setEnvelope_53 rfl (lv_at hl 0 rfl) ?_
          obtain ⟨h19, hk⟩ := hk
          refine tc_get C hH hH.g (Cn := RX1) (T := TX1) (N := 13) (ci := 0) (fs := tc_gfs E s18) in_X1 rfl rfl 5 (by decide) (C.L q321) (fun _ h => h) (v := .ref (ea E (12, (s18.2.1 0 0 1)))) rfl dX1_setEnvelope_54 ?_
          refine tc_get C hH (hH.e _ h19) (Cn := RX2) (T := TX2) (N := 4) (ci := 1) (fs := [.int (yev E (s18.2.1 0 0 1) 0), .int (yev E (s18.2.1 0 0 1) 1), .int (yev E (s18.2.1 0 0 1) 2), .int (yev E (s18.2.1 0 0 1) 3)]) in_X2 rfl rfl 2 (by decide) (C.N 9 rfl) (fun _ h => h) (v := .int (yev E (s18.2.1 0 0 1) 2)) rfl dX1_setEnvelope_57 ?_
          refine lv_topi (fun v20 ev20 => ?_)
          have hk := hk v20 ev20
          refine lv_istore (lv' := [(5, .int v20), (0, .ref (ea E (0, 0))), (1, .int p1), (2, .int p2), (3, .int p3), (4, .int p4)]) C.hx C.hb dX1_setEnvelope_60 hl (by decide) rfl (fun ls hl => ?_)
          refine lv_aload_n C.hx C.hb dX1_setEnvelope_62 rfl (lv_at hl 1 rfl) ?_
          refine lv_iload_n C.hx C.hb dX1_setEnvelope_63 rfl (lv_at hl 2 rfl) ?_
          refine lv_iload_n C.hx C.hb dX1_setEnvelope_64 rfl (lv_at hl 3 rfl) ?_
          refine lv_iadd C.hx C.hb dX1_setEnvelope_65 ?_
          refine lv_iload C.hx C.hb dX1_setEnvelope_66 (lv_at hl 5 rfl) ?_
          refine lv_iadd C.hx C.hb dX1_setEnvelope_68 ?_
          refine lv_if_ne (tgt := 83) C.hx C.hb dX1_setEnvelope_69 (by decide) (fun c21 => ?_) (fun c21 => ?_)
          · have hk := hk.1 c21
            refine xn_new (N := []) (Cn := RX2) (T := TX2) (N9 := 4) (ci := 1) C (xn_ok.of hH) hS in_X2 tyX2 tyX2_ok q118 q119 q57 rfl (fs := [.int 0, .int 0, .int 0, .int 0]) tn_zX2 (Nat.le_of_ble_eq_true rfl) (Nat.le_of_ble_eq_true rfl) dX1_setEnvelope_83 (fun b22 H hX hS => ?_)
            have hX : xn_ok E s18 [(b22, .inr (1, [.int 0, .int 0, .int 0, .int 0]))] H := hX
            have hH := hX.tc
            have hk := hk b22
            refine lv_dup C.hx C.hb dX1_setEnvelope_86 rfl ?_
            refine lv_iload_n C.hx C.hb dX1_setEnvelope_87 rfl (lv_at hl 2 rfl) ?_
            refine lv_iload_n C.hx C.hb dX1_setEnvelope_88 rfl (lv_at hl 3 rfl) ?_
            refine lv_iload_n C.hx C.hb dX1_setEnvelope_89 rfl (lv_at hl 4 rfl) ?_
            refine lv_iload C.hx C.hb dX1_setEnvelope_90 (lv_at hl 5 rfl) ?_
            refine xn_ctor (As := [.int p1, .int p2, .int p3, .int p4]) (rest := [.ref b22, .ref (ea E (0, 0))]) (x0 := (b22, .inr (1, [.int 0, .int 0, .int 0, .int 0]))) (N2 := []) C hX hS (t_X2_init_3 l (a := b22) (p1 := p1) (p2 := p2) (p3 := p3) (p4 := p4)) (cwI 4 C.hts (lw_meth q128) rfl rfl rfl (C.hts _ q57) (C.hts _ q1076) (C.hts _ q127) rfl (by decide +kernel) ⟨Nat.le_of_ble_eq_true rfl, Nat.le_of_ble_eq_true rfl⟩) rfl hl.1 rfl (lv_room (Nat.le_of_ble_eq_true rfl)) dX1_setEnvelope_92 ⟨Nat.le_of_ble_eq_true rfl, Nat.le_of_ble_eq_true rfl⟩ (fun W9 H locs hk9 hX hS => ?_)
            subst hk9
            have hX : xn_ok E s18 [(b22, .inr (1, [.int p1, .int p2, .int p3, .int p4]))] H := hX
            have hH := hX.tc
            obtain ⟨E24, s25, k23, hcl, hea, hnew, hk⟩ := hk
            have hH0 := hH
            have hH := xn_close hX hcl
            have hsim2 := hcl.2.2.2.2.1
            have CE24 := C.sim hsim2
            rw [← hsim2.1] at hS
            have hsim := hsim.trans hsim2
            have z0 := hea (0, 0) hH0.g
            have hl : lv_has ls 6 [(5, .int v20), (0, .ref (ea E24 (0, 0))), (1, .int p1), (2, .int p2), (3, .int p3), (4, .int p4)] := by rw [z0]; exact hl
            refine W.eq (g2 := F0 m 95 ls [.ref (ea E24 (12, k23)), .ref (ea E24 (0, 0))]) (by first | (rw [hnew, (hea (0, 0) hH0.g)]; done) | (rw [hnew, (hea (0, 0) hH0.g)]; rfl)) ?_
            refine tc_put CE24 hH hS hH.g (Cn := RX1) (T := TX1) (N := 13) (ci := 0) (fs := tc_gfs E24 s25) in_X1 tyX1 tyX1_ok nmX1 rfl rfl 5 (by decide) (CE24.L q321) (fun _ h => h) rfl (v := .ref (ea E24 (12, k23))) rfl rfl (Nat.le_of_ble_eq_true rfl) (tc_ug_envelope E24 s25 k23) dX1_setEnvelope_95 (fun s26 es26 H locs hH hS => ?_)
            have hk := hk s26 es26
            refine lv_iload CE24.hx CE24.hb dX1_setEnvelope_98 (lv_at hl 0 rfl) ?_
            exact ty_iret v20 rfl CE24 hsim hr hlk hH hS hk dX1_setEnvelope_100 (Nat.le_of_ble_eq_true rfl) (Nat.le_of_ble_eq_true rfl)
          · have hk := hk.2 c21
            refine xn_new (N := []) (Cn := RX2) (T := TX2) (N9 := 4) (ci := 1) C (xn_ok.of hH) hS in_X2 tyX2 tyX2_ok q118 q119 q57 rfl (fs := [.int 0, .int 0, .int 0, .int 0]) tn_zX2 (Nat.le_of_ble_eq_true rfl) (Nat.le_of_ble_eq_true rfl) dX1_setEnvelope_72 (fun b27 H hX hS => ?_)
            have hX : xn_ok E s18 [(b27, .inr (1, [.int 0, .int 0, .int 0, .int 0]))] H := hX
            have hH := hX.tc
            have hk := hk b27
            refine lv_dup C.hx C.hb dX1_setEnvelope_75 rfl ?_
            refine lv_iload_n C.hx C.hb dX1_setEnvelope_76 rfl (lv_at hl 4 rfl) ?_
            refine xn_ctor (As := [.int p3]) (rest := [.ref b27, .ref (ea E (0, 0))]) (x0 := (b27, .inr (1, [.int 0, .int 0, .int 0, .int 0]))) (N2 := []) C hX hS (t_X2_init_2 l (a := b27) (p1 := p3)) (cwI 1 C.hts (lw_meth q125) rfl rfl rfl (C.hts _ q57) (C.hts _ q1075) (C.hts _ q124) rfl (by decide +kernel) ⟨Nat.le_of_ble_eq_true rfl, Nat.le_of_ble_eq_true rfl⟩) rfl hl.1 rfl (lv_room (Nat.le_of_ble_eq_true rfl)) dX1_setEnvelope_77 ⟨Nat.le_of_ble_eq_true rfl, Nat.le_of_ble_eq_true rfl⟩ (fun W9 H locs hk9 hX hS => ?_)
            subst hk9
            have hX : xn_ok E s18 [(b27, .inr (1, [.int 0, .int 0, .int p3, .int 0]))] H := hX
            have hH := hX.tc
            obtain ⟨E29, s30, k28, hcl, hea, hnew, hk⟩ := hk
            have hH0 := hH
            have hH := xn_close hX hcl
            have hsim2 := hcl.2.2.2.2.1
            have CE29 := C.sim hsim2
            rw [← hsim2.1] at hS
            have hsim := hsim.trans hsim2
            have z0 := hea (0, 0) hH0.g
            have hl : lv_has ls 6 [(5, .int v20), (0, .ref (ea E29 (0, 0))), (1, .int p1), (2, .int p2), (3, .int p3), (4, .int p4)] := by rw [z0]; exact hl
            refine W.eq (g2 := F0 m 80 ls [.ref (ea E29 (12, k28)), .ref (ea E29 (0, 0))]) (by first | (rw [hnew, (hea (0, 0) hH0.g)]; done) | (rw [hnew, (hea (0, 0) hH0.g)]; rfl)) ?_
            refine lv_goto (tgt := 95) CE29.hx CE29.hb dX1_setEnvelope_80 (by decide) ?_
            refine tc_put CE29 hH hS hH.g (Cn := RX1) (T := TX1) (N := 13) (ci := 0) (fs := tc_gfs E29 s30) in_X1 tyX1 tyX1_ok nmX1 rfl rfl 5 (by decide) (CE29.L q321) (fun _ h => h) rfl (v := .ref (ea E29 (12, k28))) rfl rfl (Nat.le_of_ble_eq_true rfl) (tc_ug_envelope E29 s30 k28) dX1_setEnvelope_95 (fun s31 es31 H locs hH hS => ?_)
            have hk := hk s31 es31
            refine lv_iload CE29.hx CE29.hb dX1_setEnvelope_98 (lv_at hl 0 rfl) ?_
            exact ty_iret v20 rfl CE29 hsim hr hlk hH hS hk dX1_setEnvelope_100 (Nat.le_of_ble_eq_true rfl) (Nat.le_of_ble_eq_true rfl)
/-! ToneGraph.addGain(I)I -/
def wp_X1_addGain (E : tc_E) (post : Int32 → tc_E → tc_S → Prop) (ex : String → tc_S → Prop) (p1 : Int32) (s0 : tc_S) : Prop := wp_X1_inRange (fun r1 => wp_X1_checkArgument E (fun _ s3 => wp_X1_checkRoom E (fun _ s5 => (∀ b6 : Nat, wp_J2_sizeR E (fun r7 _ => (∀ b9 b10 b11 b12 : Nat, (∃ (E14 : tc_E) (s15 : tc_S) (k13 : Nat), xn_cl E s5 [(b6, .inr (4, [.int r7, .int 103, .ref b10, .ref b11, .int 0, .int 0, .ref b9, .ref b12, .int 0, .int p1])), (b9, .inl (ec E 0, 0, .inl (fun _ => 0))), (b10, .inr (9, [.int 0, .ref (es E 0), .int 0])), (b11, .inl (ec E 0, 64, .inl (fun _ => 0))), (b12, .inl (ec E 0, 0, .inl (fun _ => 0)))] [(1, k13), (5, k13), (2, k13 + 2), (4, k13), (6, k13)] E14 s15 ∧ xn_ea E E14 ∧ ea E14 (1, k13) = b6 ∧ (k13 < yn E14 ∧ wp_X1_added E14 (fun r17 s18 => post r17 E14 s18) k13 s15)))) 0 s5)) ex  s3) ex r1 s0) p1 (-200) 200
set_option maxHeartbeats 4000000 in
theorem t_X1_addGain (l : Launch) (hl0 : l.stackTraces = false) {E : tc_E} {post : Int32 → tc_E → tc_S → Prop} {ex : String → tc_S → Prop} {p1 : Int32} {s0 : tc_S} (hk : wp_X1_addGain E post ex p1 s0) : ty_M l yX1_addGain (ws_ yX1_addGain cX1_addGain 2 (some .int)) ({ frames := 8, cells := 7, slots := 150, locals := 140 } : Room) E [.ref (ea E (0, 0)), .int p1] s0 (fun r : Int32 => some (.int r)) post ex 7 150 := by
  refine ty_start cX1_addGain 2 (some .int) RX1 (by decide) rfl rfl (Nat.le_of_ble_eq_true rfl) ?_
  intro p e s m args below meth c ls C hnm hnt hr hlk hH hS hl
  have hl : lv_has ls 2 [(0, .ref (ea E (0, 0))), (1, .int p1)] := hl
  unfold wp_X1_addGain at hk
  have hsim := tc_sim.rf E
  refine lv_iload_n C.hx C.hb dX1_addGain_0 rfl (lv_at hl 1 rfl) ?_
  refine lv_sipush (v := (-200)) C.hx C.hb dX1_addGain_1 (by decide) ?_
  refine lv_sipush (v := 200) C.hx C.hb dX1_addGain_4 (by decide) ?_
  refine gb_call (As := [.int p1, .int (-200), .int 200]) (rest := []) C.1 (t_X1_inRange l hk) (va_cwS 3 C.hts (lw_S q542 q543 q53 q544) rfl rfl rfl (by decide +kernel) ⟨Nat.le_of_ble_eq_true rfl, Nat.le_of_ble_eq_true rfl⟩) rfl hl.1 rfl (lv_room (Nat.le_of_ble_eq_true rfl)) dX1_addGain_7 ⟨Nat.le_of_ble_eq_true rfl, Nat.le_of_ble_eq_true rfl⟩ (fun r1 hk => ?_)
  refine tx_run (tx_rS (As := [.int r1]) (rest := []) C (t_X1_checkArgument l hl0  hk) (va_cwS 1 C.hts (lw_S q549 q550 q53 q551) rfl rfl rfl (by decide +kernel) ⟨Nat.le_of_ble_eq_true rfl, Nat.le_of_ble_eq_true rfl⟩) hH hS rfl hl.1 rfl (lv_room (Nat.le_of_ble_eq_true rfl)) dX1_addGain_10 ⟨Nat.le_of_ble_eq_true rfl, Nat.le_of_ble_eq_true rfl⟩) hS (fun X ce q9 S9 H1 locs1 hk hH hS h1 h2 h3 => tx_out hnt hlk hk hH hS h1 h2 h3 (Nat.le_of_ble_eq_true rfl) (Nat.le_of_ble_eq_true rfl)) (fun _ s3 H locs hk hH hS => ?_)
  refine W.eq (g2 := F0 m 13 ls []) rfl ?_
  refine lv_aload_n C.hx C.hb dX1_addGain_13 rfl (lv_at hl 0 rfl) ?_
  refine tx_run (tx_rV (As := []) (rest := []) (L := (0, 0)) (ci := 0) (fs := tc_gfs E s3) (q := (RX1, TX1, 13)) C hH.g rfl rfl (t_X1_checkRoom l hl0  hk) (cwV 0 C.hts (lw_V q728 q730 qs13 q53 q731) rfl rfl rfl (by decide +kernel) ⟨Nat.le_of_ble_eq_true rfl, Nat.le_of_ble_eq_true rfl⟩) hH hS rfl hl.1 rfl (lv_room (Nat.le_of_ble_eq_true rfl)) dX1_addGain_14 ⟨Nat.le_of_ble_eq_true rfl, Nat.le_of_ble_eq_true rfl⟩) hS (fun X ce q9 S9 H1 locs1 hk hH hS h1 h2 h3 => tx_out hnt hlk hk hH hS h1 h2 h3 (Nat.le_of_ble_eq_true rfl) (Nat.le_of_ble_eq_true rfl)) (fun _ s5 H locs hk hH hS => ?_)
  refine W.eq (g2 := F0 m 17 ls []) rfl ?_
  refine lv_aload_n C.hx C.hb dX1_addGain_17 rfl (lv_at hl 0 rfl) ?_
  refine xn_new (N := []) (Cn := RX7) (T := TX7) (N9 := 10) (ci := 4) C (xn_ok.of hH) hS in_X7 tyX7 tyX7_ok q750 q751 q71 rfl (fs := [.int 0, .int 0, .null, .null, .int 0, .int 0, .null, .null, .int 0, .int 0]) tn_zX7 (Nat.le_of_ble_eq_true rfl) (Nat.le_of_ble_eq_true rfl) dX1_addGain_18 (fun b6 H hX hS => ?_)
  have hX : xn_ok E s5 [(b6, .inr (4, [.int 0, .int 0, .null, .null, .int 0, .int 0, .null, .null, .int 0, .int 0]))] H := hX
  have hH := hX.tc
  have hk := hk b6
  refine lv_dup C.hx C.hb dX1_addGain_21 rfl ?_
  refine lv_aload_n C.hx C.hb dX1_addGain_22 rfl (lv_at hl 0 rfl) ?_
  refine tc_get C hH hH.g (Cn := RX1) (T := TX1) (N := 13) (ci := 0) (fs := tc_gfs E s5) in_X1 rfl rfl 1 (by decide) (C.L q317) (fun _ h => h) (v := .ref (ea E (2, 0))) rfl dX1_addGain_23 ?_
  refine xn_read (As := []) (rest := [.ref b6, .ref b6, .ref (ea E (0, 0))]) (L := (2, 0)) (ci := 9) (fs := tc_lfs E s5 0) (q := (RJ2, TJ2, 3)) C hH hS (hH.l _ (by omega)) rfl rfl (t_J2_sizeR l (by omega) hk) (cwV 0 C.hts (lw_V q360 q361 q362 q56 q363) rfl rfl rfl (by decide +kernel) ⟨Nat.le_of_ble_eq_true rfl, Nat.le_of_ble_eq_true rfl⟩) rfl hl.1 rfl (lv_room (Nat.le_of_ble_eq_true rfl)) dX1_addGain_26 ⟨Nat.le_of_ble_eq_true rfl, Nat.le_of_ble_eq_true rfl⟩ (fun r7 _ hk => ?_)
  refine W.eq (g2 := F0 m 29 ls [.int r7, .ref b6, .ref b6, .ref (ea E (0, 0))]) rfl ?_
  refine lv_iload_n C.hx C.hb dX1_addGain_29 rfl (lv_at hl 1 rfl) ?_
  refine xn_ctor (As := [.int r7, .int p1]) (rest := [.ref b6, .ref (ea E (0, 0))]) (x0 := (b6, .inr (4, [.int 0, .int 0, .null, .null, .int 0, .int 0, .null, .null, .int 0, .int 0]))) (N2 := []) C hX hS (t_X7_init l (a := b6) (p1 := r7) (p2 := p1)) (cwI 2 C.hts (lw_meth q754) rfl rfl rfl (C.hts _ q71) (C.hts _ q752) (C.hts _ q753) rfl (by decide +kernel) ⟨Nat.le_of_ble_eq_true rfl, Nat.le_of_ble_eq_true rfl⟩) rfl hl.1 rfl (lv_room (Nat.le_of_ble_eq_true rfl)) dX1_addGain_30 ⟨Nat.le_of_ble_eq_true rfl, Nat.le_of_ble_eq_true rfl⟩ (fun W9 H locs hk9 hX hS => ?_)
  obtain ⟨b9, b10, b11, b12, rfl⟩ := hk9
  have hk := hk b9 b10 b11 b12
  have hX : xn_ok E s5 [(b6, .inr (4, [.int r7, .int 103, .ref b10, .ref b11, .int 0, .int 0, .ref b9, .ref b12, .int 0, .int p1])), (b9, .inl (ec E 0, 0, .inl (fun _ => 0))), (b10, .inr (9, [.int 0, .ref (es E 0), .int 0])), (b11, .inl (ec E 0, 64, .inl (fun _ => 0))), (b12, .inl (ec E 0, 0, .inl (fun _ => 0)))] H := hX
  have hH := hX.tc
  obtain ⟨E14, s15, k13, hcl, hea, hnew, hk⟩ := hk
  have hH0 := hH
  have hH := xn_close hX hcl
  have hsim2 := hcl.2.2.2.2.1
  have CE14 := C.sim hsim2
  rw [← hsim2.1] at hS
  have hsim := hsim.trans hsim2
  have z0 := hea (0, 0) hH0.g
  have hl : lv_has ls 2 [(0, .ref (ea E14 (0, 0))), (1, .int p1)] := by rw [z0]; exact hl
  refine W.eq (g2 := F0 m 33 ls [.ref (ea E14 (1, k13)), .ref (ea E14 (0, 0))]) (by first | (rw [hnew, (hea (0, 0) hH0.g)]; done) | (rw [hnew, (hea (0, 0) hH0.g)]; rfl)) ?_
  obtain ⟨h16, hk⟩ := hk
  refine tc_run (tc_rV (As := [.ref (ea E14 (1, k13))]) (rest := []) (L := (0, 0)) (ci := 0) (fs := tc_gfs E14 s15) (q := (RX1, TX1, 13)) CE14 hH.g rfl rfl (t_X1_added l h16 hk) (cwV 1 CE14.hts (lw_V q770 q772 qs14 q53 q773) rfl rfl rfl (by decide +kernel) ⟨Nat.le_of_ble_eq_true rfl, Nat.le_of_ble_eq_true rfl⟩) hH hS rfl hl.1 rfl (lv_room (Nat.le_of_ble_eq_true rfl)) dX1_addGain_33 ⟨Nat.le_of_ble_eq_true rfl, Nat.le_of_ble_eq_true rfl⟩) hS (fun r17 s18 H locs hk hH hS => ?_)
  refine W.eq (g2 := F0 m 36 ls [.int r17]) rfl ?_
  exact ty_iret r17 rfl CE14 hsim hr hlk hH hS hk dX1_addGain_36 (Nat.le_of_ble_eq_true rfl) (Nat.le_of_ble_eq_true rfl)
/-! ToneGraph.addDelay(II)I -/
def wp_X1_addDelay (E : tc_E) (post : Int32 → tc_E → tc_S → Prop) (ex : String → tc_S → Prop) (p1 : Int32) (p2 : Int32) (s0 : tc_S) : Prop := wp_X1_inRange (fun r1 => ((r1 = 0 → wp_X1_checkArgument E (fun _ s4 => False) ex 0 s0) ∧ (¬ r1 = 0 → wp_X1_inRange (fun r5 => ((r5 = 0 → wp_X1_checkArgument E (fun _ s8 => False) ex 0 s0) ∧ (¬ r5 = 0 → wp_X1_checkArgument E (fun _ s10 => wp_X1_checkRoom E (fun _ s12 => (∀ b13 : Nat, wp_J2_sizeR E (fun r14 _ => (¬ (p1 + 1) < 0 ∧ (p1 + 1).toNatClampNeg ≤ 61 ∧ (∀ b18 b19 b20 b21 : Nat, (∃ (E23 : tc_E) (s24 : tc_S) (k22 : Nat), xn_cl E s12 [(b13, .inr (5, [.int r14, .int 100, .ref b19, .ref b20, .int 0, .int 0, .ref b18, .ref b21, .int 0, .int p1, .int p2])), (b18, .inl (ec E 0, ((p1 + 1).toNatClampNeg), .inl (fun _ => 0))), (b19, .inr (9, [.int 0, .ref (es E 0), .int 0])), (b20, .inl (ec E 0, 64, .inl (fun _ => 0))), (b21, .inl (ec E 0, ((p1 + 1).toNatClampNeg), .inl (fun _ => 0)))] [(1, k22), (5, k22), (2, k22 + 2), (4, k22), (6, k22)] E23 s24 ∧ xn_ea E E23 ∧ ea E23 (1, k22) = b13 ∧ (k22 < yn E23 ∧ wp_X1_added E23 (fun r26 s27 => post r26 E23 s27) k22 s24))))) 0 s12)) ex  s10) ex 1 s0))) p2 (-95) 95))) p1 1 60
set_option maxHeartbeats 4000000 in
theorem t_X1_addDelay (l : Launch) (hl0 : l.stackTraces = false) {E : tc_E} {post : Int32 → tc_E → tc_S → Prop} {ex : String → tc_S → Prop} {p1 : Int32} {p2 : Int32} {s0 : tc_S} (hk : wp_X1_addDelay E post ex p1 p2 s0) : ty_M l yX1_addDelay (ws_ yX1_addDelay cX1_addDelay 3 (some .int)) ({ frames := 8, cells := 7, slots := 212, locals := 140 } : Room) E [.ref (ea E (0, 0)), .int p1, .int p2] s0 (fun r : Int32 => some (.int r)) post ex 7 212 := by
  refine ty_start cX1_addDelay 3 (some .int) RX1 (by decide) rfl rfl (Nat.le_of_ble_eq_true rfl) ?_
  intro p e s m args below meth c ls C hnm hnt hr hlk hH hS hl
  have hl : lv_has ls 3 [(0, .ref (ea E (0, 0))), (1, .int p1), (2, .int p2)] := hl
  unfold wp_X1_addDelay at hk
  have hsim := tc_sim.rf E
  refine lv_iload_n C.hx C.hb dX1_addDelay_0 rfl (lv_at hl 1 rfl) ?_
  refine lv_iconst (v := 1) C.hx C.hb dX1_addDelay_1 (by decide) ?_
  refine lv_bipush (v := 60) C.hx C.hb dX1_addDelay_2 (by decide) ?_
  refine gb_call (As := [.int p1, .int 1, .int 60]) (rest := []) C.1 (t_X1_inRange l hk) (va_cwS 3 C.hts (lw_S q542 q543 q53 q544) rfl rfl rfl (by decide +kernel) ⟨Nat.le_of_ble_eq_true rfl, Nat.le_of_ble_eq_true rfl⟩) rfl hl.1 rfl (lv_room (Nat.le_of_ble_eq_true rfl)) dX1_addDelay_4 ⟨Nat.le_of_ble_eq_true rfl, Nat.le_of_ble_eq_true rfl⟩ (fun r1 hk => ?_)
  refine lv_if_eq (tgt := 25) C.hx C.hb dX1_addDelay_7 (by decide) (fun c2 => ?_) (fun c2 => ?_)
  · have hk := hk.1 c2
    refine lv_iconst (v := 0) C.hx C.hb dX1_addDelay_25 (by decide) ?_
    refine tx_run (tx_rS (As := [.int 0]) (rest := []) C (t_X1_checkArgument l hl0  hk) (va_cwS 1 C.hts (lw_S q549 q550 q53 q551) rfl rfl rfl (by decide +kernel) ⟨Nat.le_of_ble_eq_true rfl, Nat.le_of_ble_eq_true rfl⟩) hH hS rfl hl.1 rfl (lv_room (Nat.le_of_ble_eq_true rfl)) dX1_addDelay_26 ⟨Nat.le_of_ble_eq_true rfl, Nat.le_of_ble_eq_true rfl⟩) hS (fun X ce q9 S9 H1 locs1 hk hH hS h1 h2 h3 => tx_out hnt hlk hk hH hS h1 h2 h3 (Nat.le_of_ble_eq_true rfl) (Nat.le_of_ble_eq_true rfl)) (fun _ s4 H locs hk hH hS => ?_)
    refine W.eq (g2 := F0 m 29 ls []) rfl ?_
    exact hk.elim
  · have hk := hk.2 c2
    refine lv_iload_n C.hx C.hb dX1_addDelay_10 rfl (lv_at hl 2 rfl) ?_
    refine lv_bipush (v := (-95)) C.hx C.hb dX1_addDelay_11 (by decide) ?_
    refine lv_bipush (v := 95) C.hx C.hb dX1_addDelay_13 (by decide) ?_
    refine gb_call (As := [.int p2, .int (-95), .int 95]) (rest := []) C.1 (t_X1_inRange l hk) (va_cwS 3 C.hts (lw_S q542 q543 q53 q544) rfl rfl rfl (by decide +kernel) ⟨Nat.le_of_ble_eq_true rfl, Nat.le_of_ble_eq_true rfl⟩) rfl hl.1 rfl (lv_room (Nat.le_of_ble_eq_true rfl)) dX1_addDelay_15 ⟨Nat.le_of_ble_eq_true rfl, Nat.le_of_ble_eq_true rfl⟩ (fun r5 hk => ?_)
    refine lv_if_eq (tgt := 25) C.hx C.hb dX1_addDelay_18 (by decide) (fun c6 => ?_) (fun c6 => ?_)
    · have hk := hk.1 c6
      refine lv_iconst (v := 0) C.hx C.hb dX1_addDelay_25 (by decide) ?_
      refine tx_run (tx_rS (As := [.int 0]) (rest := []) C (t_X1_checkArgument l hl0  hk) (va_cwS 1 C.hts (lw_S q549 q550 q53 q551) rfl rfl rfl (by decide +kernel) ⟨Nat.le_of_ble_eq_true rfl, Nat.le_of_ble_eq_true rfl⟩) hH hS rfl hl.1 rfl (lv_room (Nat.le_of_ble_eq_true rfl)) dX1_addDelay_26 ⟨Nat.le_of_ble_eq_true rfl, Nat.le_of_ble_eq_true rfl⟩) hS (fun X ce q9 S9 H1 locs1 hk hH hS h1 h2 h3 => tx_out hnt hlk hk hH hS h1 h2 h3 (Nat.le_of_ble_eq_true rfl) (Nat.le_of_ble_eq_true rfl)) (fun _ s8 H locs hk hH hS => ?_)
      refine W.eq (g2 := F0 m 29 ls []) rfl ?_
      exact hk.elim
    · have hk := hk.2 c6
      refine lv_iconst (v := 1) C.hx C.hb dX1_addDelay_21 (by decide) ?_
      refine lv_goto (tgt := 26) C.hx C.hb dX1_addDelay_22 (by decide) ?_
      refine tx_run (tx_rS (As := [.int 1]) (rest := []) C (t_X1_checkArgument l hl0  hk) (va_cwS 1 C.hts (lw_S q549 q550 q53 q551) rfl rfl rfl (by decide +kernel) ⟨Nat.le_of_ble_eq_true rfl, Nat.le_of_ble_eq_true rfl⟩) hH hS rfl hl.1 rfl (lv_room (Nat.le_of_ble_eq_true rfl)) dX1_addDelay_26 ⟨Nat.le_of_ble_eq_true rfl, Nat.le_of_ble_eq_true rfl⟩) hS (fun X ce q9 S9 H1 locs1 hk hH hS h1 h2 h3 => tx_out hnt hlk hk hH hS h1 h2 h3 (Nat.le_of_ble_eq_true rfl) (Nat.le_of_ble_eq_true rfl)) (fun _ s10 H locs hk hH hS => ?_)
      refine W.eq (g2 := F0 m 29 ls []) rfl ?_
      refine lv_aload_n C.hx C.hb dX1_addDelay_29 rfl (lv_at hl 0 rfl) ?_
      refine tx_run (tx_rV (As := []) (rest := []) (L := (0, 0)) (ci := 0) (fs := tc_gfs E s10) (q := (RX1, TX1, 13)) C hH.g rfl rfl (t_X1_checkRoom l hl0  hk) (cwV 0 C.hts (lw_V q728 q730 qs13 q53 q731) rfl rfl rfl (by decide +kernel) ⟨Nat.le_of_ble_eq_true rfl, Nat.le_of_ble_eq_true rfl⟩) hH hS rfl hl.1 rfl (lv_room (Nat.le_of_ble_eq_true rfl)) dX1_addDelay_30 ⟨Nat.le_of_ble_eq_true rfl, Nat.le_of_ble_eq_true rfl⟩) hS (fun X ce q9 S9 H1 locs1 hk hH hS h1 h2 h3 => tx_out hnt hlk hk hH hS h1 h2 h3 (Nat.le_of_ble_eq_true rfl) (Nat.le_of_ble_eq_true rfl)) (fun _ s12 H locs hk hH hS => ?_)
      refine W.eq (g2 := F0 m 33 ls []) rfl ?_
      refine lv_aload_n C.hx C.hb dX1_addDelay_33 rfl (lv_at hl 0 rfl) ?_
      refine xn_new (N := []) (Cn := RX8) (T := TX8) (N9 := 11) (ci := 5) C (xn_ok.of hH) hS in_X8 tyX8 tyX8_ok q394 q509 q74 rfl (fs := [.int 0, .int 0, .null, .null, .int 0, .int 0, .null, .null, .int 0, .int 0, .int 0]) tn_zX8 (Nat.le_of_ble_eq_true rfl) (Nat.le_of_ble_eq_true rfl) dX1_addDelay_34 (fun b13 H hX hS => ?_)
      have hX : xn_ok E s12 [(b13, .inr (5, [.int 0, .int 0, .null, .null, .int 0, .int 0, .null, .null, .int 0, .int 0, .int 0]))] H := hX
      have hH := hX.tc
      have hk := hk b13
      refine lv_dup C.hx C.hb dX1_addDelay_37 rfl ?_
      refine lv_aload_n C.hx C.hb dX1_addDelay_38 rfl (lv_at hl 0 rfl) ?_
      refine tc_get C hH hH.g (Cn := RX1) (T := TX1) (N := 13) (ci := 0) (fs := tc_gfs E s12) in_X1 rfl rfl 1 (by decide) (C.L q317) (fun _ h => h) (v := .ref (ea E (2, 0))) rfl dX1_addDelay_39 ?_
      refine xn_read (As := []) (rest := [.ref b13, .ref b13, .ref (ea E (0, 0))]) (L := (2, 0)) (ci := 9) (fs := tc_lfs E s12 0) (q := (RJ2, TJ2, 3)) C hH hS (hH.l _ (by omega)) rfl rfl (t_J2_sizeR l (by omega) hk) (cwV 0 C.hts (lw_V q360 q361 q362 q56 q363) rfl rfl rfl (by decide +kernel) ⟨Nat.le_of_ble_eq_true rfl, Nat.le_of_ble_eq_true rfl⟩) rfl hl.1 rfl (lv_room (Nat.le_of_ble_eq_true rfl)) dX1_addDelay_42 ⟨Nat.le_of_ble_eq_true rfl, Nat.le_of_ble_eq_true rfl⟩ (fun r14 _ hk => ?_)
      refine W.eq (g2 := F0 m 45 ls [.int r14, .ref b13, .ref b13, .ref (ea E (0, 0))]) rfl ?_
      refine lv_iload_n C.hx C.hb dX1_addDelay_45 rfl (lv_at hl 1 rfl) ?_
      refine lv_iload_n C.hx C.hb dX1_addDelay_46 rfl (lv_at hl 2 rfl) ?_
      obtain ⟨h16, h17, hk⟩ := hk
      refine xn_ctor (As := [.int r14, .int p1, .int p2]) (rest := [.ref b13, .ref (ea E (0, 0))]) (x0 := (b13, .inr (5, [.int 0, .int 0, .null, .null, .int 0, .int 0, .null, .null, .int 0, .int 0, .int 0]))) (N2 := []) C hX hS (t_X8_init l (a := b13) (n := ((p1 + 1).toNatClampNeg)) (p1 := r14) (p2 := p1) (p3 := p2) h16 rfl h17) (cwI 3 C.hts (lw_meth q794) rfl rfl rfl (C.hts _ q74) (C.hts _ q792) (C.hts _ q793) rfl (by decide +kernel) ⟨Nat.le_of_ble_eq_true rfl, Nat.le_of_ble_eq_true rfl⟩) rfl hl.1 rfl (lv_room (Nat.le_of_ble_eq_true rfl)) dX1_addDelay_47 ⟨Nat.le_of_ble_eq_true rfl, Nat.le_of_ble_eq_true rfl⟩ (fun W9 H locs hk9 hX hS => ?_)
      obtain ⟨b18, b19, b20, b21, rfl⟩ := hk9
      have hk := hk b18 b19 b20 b21
      have hX : xn_ok E s12 [(b13, .inr (5, [.int r14, .int 100, .ref b19, .ref b20, .int 0, .int 0, .ref b18, .ref b21, .int 0, .int p1, .int p2])), (b18, .inl (ec E 0, ((p1 + 1).toNatClampNeg), .inl (fun _ => 0))), (b19, .inr (9, [.int 0, .ref (es E 0), .int 0])), (b20, .inl (ec E 0, 64, .inl (fun _ => 0))), (b21, .inl (ec E 0, ((p1 + 1).toNatClampNeg), .inl (fun _ => 0)))] H := hX
      have hH := hX.tc
      obtain ⟨E23, s24, k22, hcl, hea, hnew, hk⟩ := hk
      have hH0 := hH
      have hH := xn_close hX hcl
      have hsim2 := hcl.2.2.2.2.1
      have CE23 := C.sim hsim2
      rw [← hsim2.1] at hS
      have hsim := hsim.trans hsim2
      have z0 := hea (0, 0) hH0.g
      have hl : lv_has ls 3 [(0, .ref (ea E23 (0, 0))), (1, .int p1), (2, .int p2)] := by rw [z0]; exact hl
      refine W.eq (g2 := F0 m 50 ls [.ref (ea E23 (1, k22)), .ref (ea E23 (0, 0))]) (by first | (rw [hnew, (hea (0, 0) hH0.g)]; done) | (rw [hnew, (hea (0, 0) hH0.g)]; rfl)) ?_
      obtain ⟨h25, hk⟩ := hk
      refine tc_run (tc_rV (As := [.ref (ea E23 (1, k22))]) (rest := []) (L := (0, 0)) (ci := 0) (fs := tc_gfs E23 s24) (q := (RX1, TX1, 13)) CE23 hH.g rfl rfl (t_X1_added l h25 hk) (cwV 1 CE23.hts (lw_V q770 q772 qs14 q53 q773) rfl rfl rfl (by decide +kernel) ⟨Nat.le_of_ble_eq_true rfl, Nat.le_of_ble_eq_true rfl⟩) hH hS rfl hl.1 rfl (lv_room (Nat.le_of_ble_eq_true rfl)) dX1_addDelay_50 ⟨Nat.le_of_ble_eq_true rfl, Nat.le_of_ble_eq_true rfl⟩) hS (fun r26 s27 H locs hk hH hS => ?_)
      refine W.eq (g2 := F0 m 53 ls [.int r26]) rfl ?_
      exact ty_iret r26 rfl CE23 hsim hr hlk hH hS hk dX1_addDelay_53 (Nat.le_of_ble_eq_true rfl) (Nat.le_of_ble_eq_true rfl)
/-! ToneGraph.addFilter(III)I -/
def wp_X1_addFilter (E : tc_E) (post : Int32 → tc_E → tc_S → Prop) (ex : String → tc_S → Prop) (p1 : Int32) (p2 : Int32) (p3 : Int32) (s0 : tc_S) : Prop := wp_X1_inRange (fun r1 => ((r1 = 0 → wp_X1_checkArgument E (fun _ s4 => False) ex 0 s0) ∧ (¬ r1 = 0 → wp_X1_inRange (fun r5 => ((r5 = 0 → wp_X1_checkArgument E (fun _ s8 => False) ex 0 s0) ∧ (¬ r5 = 0 → wp_X1_inRange (fun r9 => ((r9 = 0 → wp_X1_checkArgument E (fun _ s12 => False) ex 0 s0) ∧ (¬ r9 = 0 → wp_X1_checkArgument E (fun _ s14 => wp_X1_checkRoom E (fun _ s16 => (∀ b17 : Nat, wp_J2_sizeR E (fun r18 _ => (∀ b20 : Nat, (∀ b21 b22 b23 b24 : Nat, (∃ (E26 : tc_E) (s27 : tc_S) (k25 : Nat), xn_cl E s16 [(b20, .inl (ec E 0, 3, .inl (upd (upd (upd (fun _ => 0) (0 : Int32).toNatClampNeg p1) (1 : Int32).toNatClampNeg p2) (2 : Int32).toNatClampNeg p3))), (b17, .inr (6, [.int r18, .int 102, .ref b22, .ref b23, .int 0, .int 0, .ref b21, .ref b24, .int 0, .ref b20])), (b21, .inl (ec E 0, 2, .inl (upd (upd (fun _ => 0) (0 : Int32).toNatClampNeg 0) (1 : Int32).toNatClampNeg 0))), (b22, .inr (9, [.int 0, .ref (es E 0), .int 0])), (b23, .inl (ec E 0, 64, .inl (fun _ => 0))), (b24, .inl (ec E 0, 2, .inl (fun _ => 0)))] [(7, k25), (1, k25), (5, k25), (2, k25 + 2), (4, k25), (6, k25)] E26 s27 ∧ xn_ea E E26 ∧ ea E26 (1, k25) = b17 ∧ (k25 < yn E26 ∧ wp_X1_added E26 (fun r29 s30 => post r29 E26 s30) k25 s27))))) 0 s16)) ex  s14) ex 1 s0))) p3 (-64) 64))) p2 (-64) 64))) p1 (-64) 64
set_option maxHeartbeats 4000000 in
theorem t_X1_addFilter (l : Launch) (hl0 : l.stackTraces = false) {E : tc_E} {post : Int32 → tc_E → tc_S → Prop} {ex : String → tc_S → Prop} {p1 : Int32} {p2 : Int32} {p3 : Int32} {s0 : tc_S} (hk : wp_X1_addFilter E post ex p1 p2 p3 s0) : ty_M l yX1_addFilter (ws_ yX1_addFilter cX1_addFilter 4 (some .int)) ({ frames := 8, cells := 8, slots := 155, locals := 140 } : Room) E [.ref (ea E (0, 0)), .int p1, .int p2, .int p3] s0 (fun r : Int32 => some (.int r)) post ex 8 155 := by
  refine ty_start cX1_addFilter 4 (some .int) RX1 (by decide) rfl rfl (Nat.le_of_ble_eq_true rfl) ?_
  intro p e s m args below meth c ls C hnm hnt hr hlk hH hS hl
  have hl : lv_has ls 4 [(0, .ref (ea E (0, 0))), (1, .int p1), (2, .int p2), (3, .int p3)] := hl
  unfold wp_X1_addFilter at hk
  have hsim := tc_sim.rf E
  refine lv_iload_n C.hx C.hb dX1_addFilter_0 rfl (lv_at hl 1 rfl) ?_
  refine lv_bipush (v := (-64)) C.hx C.hb dX1_addFilter_1 (by decide) ?_
  refine lv_bipush (v := 64) C.hx C.hb dX1_addFilter_3 (by decide) ?_
  refine gb_call (As := [.int p1, .int (-64), .int 64]) (rest := []) C.1 (t_X1_inRange l hk) (va_cwS 3 C.hts (lw_S q542 q543 q53 q544) rfl rfl rfl (by decide +kernel) ⟨Nat.le_of_ble_eq_true rfl, Nat.le_of_ble_eq_true rfl⟩) rfl hl.1 rfl (lv_room (Nat.le_of_ble_eq_true rfl)) dX1_addFilter_5 ⟨Nat.le_of_ble_eq_true rfl, Nat.le_of_ble_eq_true rfl⟩ (fun r1 hk => ?_)
  refine lv_if_eq (tgt := 37) C.hx C.hb dX1_addFilter_8 (by decide) (fun c2 => ?_) (fun c2 => ?_)
  · have hk := hk.1 c2
    refine lv_iconst (v := 0) C.hx C.hb dX1_addFilter_37 (by decide) ?_
    refine tx_run (tx_rS (As := [.int 0]) (rest := []) C (t_X1_checkArgument l hl0  hk) (va_cwS 1 C.hts (lw_S q549 q550 q53 q551) rfl rfl rfl (by decide +kernel) ⟨Nat.le_of_ble_eq_true rfl, Nat.le_of_ble_eq_true rfl⟩) hH hS rfl hl.1 rfl (lv_room (Nat.le_of_ble_eq_true rfl)) dX1_addFilter_38 ⟨Nat.le_of_ble_eq_true rfl, Nat.le_of_ble_eq_true rfl⟩) hS (fun X ce q9 S9 H1 locs1 hk hH hS h1 h2 h3 => tx_out hnt hlk hk hH hS h1 h2 h3 (Nat.le_of_ble_eq_true rfl) (Nat.le_of_ble_eq_true rfl)) (fun _ s4 H locs hk hH hS => ?_)
    refine W.eq (g2 := F0 m 41 ls []) rfl ?_
    exact hk.elim
  · have hk := hk.2 c2
    refine lv_iload_n C.hx C.hb dX1_addFilter_11 rfl (lv_at hl 2 rfl) ?_
    refine lv_bipush (v := (-64)) C.hx C.hb dX1_addFilter_12 (by decide) ?_
    refine lv_bipush (v := 64) C.hx C.hb dX1_addFilter_14 (by decide) ?_
    refine gb_call (As := [.int p2, .int (-64), .int 64]) (rest := []) C.1 (t_X1_inRange l hk) (va_cwS 3 C.hts (lw_S q542 q543 q53 q544) rfl rfl rfl (by decide +kernel) ⟨Nat.le_of_ble_eq_true rfl, Nat.le_of_ble_eq_true rfl⟩) rfl hl.1 rfl (lv_room (Nat.le_of_ble_eq_true rfl)) dX1_addFilter_16 ⟨Nat.le_of_ble_eq_true rfl, Nat.le_of_ble_eq_true rfl⟩ (fun r5 hk => ?_)
    refine lv_if_eq (tgt := 37) C.hx C.hb dX1_addFilter_19 (by decide) (fun c6 => ?_) (fun c6 => ?_)
    · have hk := hk.1 c6
      refine lv_iconst (v := 0) C.hx C.hb dX1_addFilter_37 (by decide) ?_
      refine tx_run (tx_rS (As := [.int 0]) (rest := []) C (t_X1_checkArgument l hl0  hk) (va_cwS 1 C.hts (lw_S q549 q550 q53 q551) rfl rfl rfl (by decide +kernel) ⟨Nat.le_of_ble_eq_true rfl, Nat.le_of_ble_eq_true rfl⟩) hH hS rfl hl.1 rfl (lv_room (Nat.le_of_ble_eq_true rfl)) dX1_addFilter_38 ⟨Nat.le_of_ble_eq_true rfl, Nat.le_of_ble_eq_true rfl⟩) hS (fun X ce q9 S9 H1 locs1 hk hH hS h1 h2 h3 => tx_out hnt hlk hk hH hS h1 h2 h3 (Nat.le_of_ble_eq_true rfl) (Nat.le_of_ble_eq_true rfl)) (fun _ s8 H locs hk hH hS => ?_)
      refine W.eq (g2 := F0 m 41 ls []) rfl ?_
      exact hk.elim
    · have hk := hk.2 c6
      refine lv_iload_n C.hx C.hb dX1_addFilter_22 rfl (lv_at hl 3 rfl) ?_
      refine lv_bipush (v := (-64)) C.hx C.hb dX1_addFilter_23 (by decide) ?_
      refine lv_bipush (v := 64) C.hx C.hb dX1_addFilter_25 (by decide) ?_
      refine gb_call (As := [.int p3, .int (-64), .int 64]) (rest := []) C.1 (t_X1_inRange l hk) (va_cwS 3 C.hts (lw_S q542 q543 q53 q544) rfl rfl rfl (by decide +kernel) ⟨Nat.le_of_ble_eq_true rfl, Nat.le_of_ble_eq_true rfl⟩) rfl hl.1 rfl (lv_room (Nat.le_of_ble_eq_true rfl)) dX1_addFilter_27 ⟨Nat.le_of_ble_eq_true rfl, Nat.le_of_ble_eq_true rfl⟩ (fun r9 hk => ?_)
      refine lv_if_eq (tgt := 37) C.hx C.hb dX1_addFilter_30 (by decide) (fun c10 => ?_) (fun c10 => ?_)
      · have hk := hk.1 c10
        refine lv_iconst (v := 0) C.hx C.hb dX1_addFilter_37 (by decide) ?_
        refine tx_run (tx_rS (As := [.int 0]) (rest := []) C (t_X1_checkArgument l hl0  hk) (va_cwS 1 C.hts (lw_S q549 q550 q53 q551) rfl rfl rfl (by decide +kernel) ⟨Nat.le_of_ble_eq_true rfl, Nat.le_of_ble_eq_true rfl⟩) hH hS rfl hl.1 rfl (lv_room (Nat.le_of_ble_eq_true rfl)) dX1_addFilter_38 ⟨Nat.le_of_ble_eq_true rfl, Nat.le_of_ble_eq_true rfl⟩) hS (fun X ce q9 S9 H1 locs1 hk hH hS h1 h2 h3 => tx_out hnt hlk hk hH hS h1 h2 h3 (Nat.le_of_ble_eq_true rfl) (Nat.le_of_ble_eq_true rfl)) (fun _ s12 H locs hk hH hS => ?_)
        refine W.eq (g2 := F0 m 41 ls []) rfl ?_
        exact hk.elim
      · have hk := hk.2 c10
        refine lv_iconst (v := 1) C.hx C.hb dX1_addFilter_33 (by decide) ?_
        refine lv_goto (tgt := 38) C.hx C.hb dX1_addFilter_34 (by decide) ?_
        refine tx_run (tx_rS (As := [.int 1]) (rest := []) C (t_X1_checkArgument l hl0  hk) (va_cwS 1 C.hts (lw_S q549 q550 q53 q551) rfl rfl rfl (by decide +kernel) ⟨Nat.le_of_ble_eq_true rfl, Nat.le_of_ble_eq_true rfl⟩) hH hS rfl hl.1 rfl (lv_room (Nat.le_of_ble_eq_true rfl)) dX1_addFilter_38 ⟨Nat.le_of_ble_eq_true rfl, Nat.le_of_ble_eq_true rfl⟩) hS (fun X ce q9 S9 H1 locs1 hk hH hS h1 h2 h3 => tx_out hnt hlk hk hH hS h1 h2 h3 (Nat.le_of_ble_eq_true rfl) (Nat.le_of_ble_eq_true rfl)) (fun _ s14 H locs hk hH hS => ?_)
        refine W.eq (g2 := F0 m 41 ls []) rfl ?_
        refine lv_aload_n C.hx C.hb dX1_addFilter_41 rfl (lv_at hl 0 rfl) ?_
        refine tx_run (tx_rV (As := []) (rest := []) (L := (0, 0)) (ci := 0) (fs := tc_gfs E s14) (q := (RX1, TX1, 13)) C hH.g rfl rfl (t_X1_checkRoom l hl0  hk) (cwV 0 C.hts (lw_V q728 q730 qs13 q53 q731) rfl rfl rfl (by decide +kernel) ⟨Nat.le_of_ble_eq_true rfl, Nat.le_of_ble_eq_true rfl⟩) hH hS rfl hl.1 rfl (lv_room (Nat.le_of_ble_eq_true rfl)) dX1_addFilter_42 ⟨Nat.le_of_ble_eq_true rfl, Nat.le_of_ble_eq_true rfl⟩) hS (fun X ce q9 S9 H1 locs1 hk hH hS h1 h2 h3 => tx_out hnt hlk hk hH hS h1 h2 h3 (Nat.le_of_ble_eq_true rfl) (Nat.le_of_ble_eq_true rfl)) (fun _ s16 H locs hk hH hS => ?_)
        refine W.eq (g2 := F0 m 45 ls []) rfl ?_
        refine lv_aload_n C.hx C.hb dX1_addFilter_45 rfl (lv_at hl 0 rfl) ?_
        refine xn_new (N := []) (Cn := RX9) (T := TX9) (N9 := 10) (ci := 6) C (xn_ok.of hH) hS in_X9 tyX9 tyX9_ok q820 q821 q75 rfl (fs := [.int 0, .int 0, .null, .null, .int 0, .int 0, .null, .null, .int 0, .null]) tn_zX9 (Nat.le_of_ble_eq_true rfl) (Nat.le_of_ble_eq_true rfl) dX1_addFilter_46 (fun b17 H hX hS => ?_)
        have hX : xn_ok E s16 [(b17, .inr (6, [.int 0, .int 0, .null, .null, .int 0, .int 0, .null, .null, .int 0, .null]))] H := hX
        have hH := hX.tc
        have hk := hk b17
        refine lv_dup C.hx C.hb dX1_addFilter_49 rfl ?_
        refine lv_aload_n C.hx C.hb dX1_addFilter_50 rfl (lv_at hl 0 rfl) ?_
        refine tc_get C hH hH.g (Cn := RX1) (T := TX1) (N := 13) (ci := 0) (fs := tc_gfs E s16) in_X1 rfl rfl 1 (by decide) (C.L q317) (fun _ h => h) (v := .ref (ea E (2, 0))) rfl dX1_addFilter_51 ?_
        refine xn_read (As := []) (rest := [.ref b17, .ref b17, .ref (ea E (0, 0))]) (L := (2, 0)) (ci := 9) (fs := tc_lfs E s16 0) (q := (RJ2, TJ2, 3)) C hH hS (hH.l _ (by omega)) rfl rfl (t_J2_sizeR l (by omega) hk) (cwV 0 C.hts (lw_V q360 q361 q362 q56 q363) rfl rfl rfl (by decide +kernel) ⟨Nat.le_of_ble_eq_true rfl, Nat.le_of_ble_eq_true rfl⟩) rfl hl.1 rfl (lv_room (Nat.le_of_ble_eq_true rfl)) dX1_addFilter_54 ⟨Nat.le_of_ble_eq_true rfl, Nat.le_of_ble_eq_true rfl⟩ (fun r18 _ hk => ?_)
        refine W.eq (g2 := F0 m 57 ls [.int r18, .ref b17, .ref b17, .ref (ea E (0, 0))]) rfl ?_
        refine lv_iconst (v := 3) C.hx C.hb dX1_addFilter_57 (by decide) ?_
        refine xn_newI (N' := 3) C hX hS (by decide) (by decide) (by decide) (Nat.le_of_ble_eq_true rfl) (Nat.le_of_ble_eq_true rfl) dX1_addFilter_58 (fun b20 H hX hS => ?_)
        have hX : xn_ok E s16 [(b17, .inr (6, [.int 0, .int 0, .null, .null, .int 0, .int 0, .null, .null, .int 0, .null])), (b20, .inl (ec E 0, 3, .inl (fun _ => 0)))] H := hX
        have hH := hX.tc
        have hk := hk b20
        refine lv_dup C.hx C.hb dX1_addFilter_60 rfl ?_
        refine lv_iconst (v := 0) C.hx C.hb dX1_addFilter_61 (by decide) ?_
        refine lv_iload_n C.hx C.hb dX1_addFilter_62 rfl (lv_at hl 1 rfl) ?_
        refine xn_iast C hX hS 1 rfl (by unfold vp_in; decide) dX1_addFilter_63 (fun H locs hX hS => ?_)
        have hX : xn_ok E s16 [(b17, .inr (6, [.int 0, .int 0, .null, .null, .int 0, .int 0, .null, .null, .int 0, .null])), (b20, .inl (ec E 0, 3, .inl (upd (fun _ => 0) (0 : Int32).toNatClampNeg p1)))] H := hX
        have hH := hX.tc
        refine lv_dup C.hx C.hb dX1_addFilter_64 rfl ?_
        refine lv_iconst (v := 1) C.hx C.hb dX1_addFilter_65 (by decide) ?_
        refine lv_iload_n C.hx C.hb dX1_addFilter_66 rfl (lv_at hl 2 rfl) ?_
        refine xn_iast C hX hS 1 rfl (by unfold vp_in; decide) dX1_addFilter_67 (fun H locs hX hS => ?_)
        have hX : xn_ok E s16 [(b17, .inr (6, [.int 0, .int 0, .null, .null, .int 0, .int 0, .null, .null, .int 0, .null])), (b20, .inl (ec E 0, 3, .inl (upd (upd (fun _ => 0) (0 : Int32).toNatClampNeg p1) (1 : Int32).toNatClampNeg p2)))] H := hX
        have hH := hX.tc
        refine lv_dup C.hx C.hb dX1_addFilter_68 rfl ?_
        refine lv_iconst (v := 2) C.hx C.hb dX1_addFilter_69 (by decide) ?_
        refine lv_iload_n C.hx C.hb dX1_addFilter_70 rfl (lv_at hl 3 rfl) ?_
        refine xn_iast C hX hS 1 rfl (by unfold vp_in; decide) dX1_addFilter_71 (fun H locs hX hS => ?_)
        have hX : xn_ok E s16 [(b17, .inr (6, [.int 0, .int 0, .null, .null, .int 0, .int 0, .null, .null, .int 0, .null])), (b20, .inl (ec E 0, 3, .inl (upd (upd (upd (fun _ => 0) (0 : Int32).toNatClampNeg p1) (1 : Int32).toNatClampNeg p2) (2 : Int32).toNatClampNeg p3)))] H := hX
        have hH := hX.tc
        refine xn_ctor (As := [.int r18, .ref b20]) (rest := [.ref b17, .ref (ea E (0, 0))]) (x0 := (b17, .inr (6, [.int 0, .int 0, .null, .null, .int 0, .int 0, .null, .null, .int 0, .null]))) (N2 := [(b20, .inl (ec E 0, 3, .inl (upd (upd (upd (fun _ => 0) (0 : Int32).toNatClampNeg p1) (1 : Int32).toNatClampNeg p2) (2 : Int32).toNatClampNeg p3)))]) C hX hS (t_X9_init l (a := b17) (p1 := r18) (q2 := b20)) (cwI 2 C.hts (lw_meth q824) rfl rfl rfl (C.hts _ q75) (C.hts _ q822) (C.hts _ q823) rfl (by decide +kernel) ⟨Nat.le_of_ble_eq_true rfl, Nat.le_of_ble_eq_true rfl⟩) rfl hl.1 rfl (lv_room (Nat.le_of_ble_eq_true rfl)) dX1_addFilter_72 ⟨Nat.le_of_ble_eq_true rfl, Nat.le_of_ble_eq_true rfl⟩ (fun W9 H locs hk9 hX hS => ?_)
        obtain ⟨b21, b22, b23, b24, rfl⟩ := hk9
        have hk := hk b21 b22 b23 b24
        have hX : xn_ok E s16 [(b20, .inl (ec E 0, 3, .inl (upd (upd (upd (fun _ => 0) (0 : Int32).toNatClampNeg p1) (1 : Int32).toNatClampNeg p2) (2 : Int32).toNatClampNeg p3))), (b17, .inr (6, [.int r18, .int 102, .ref b22, .ref b23, .int 0, .int 0, .ref b21, .ref b24, .int 0, .ref b20])), (b21, .inl (ec E 0, 2, .inl (upd (upd (fun _ => 0) (0 : Int32).toNatClampNeg 0) (1 : Int32).toNatClampNeg 0))), (b22, .inr (9, [.int 0, .ref (es E 0), .int 0])), (b23, .inl (ec E 0, 64, .inl (fun _ => 0))), (b24, .inl (ec E 0, 2, .inl (fun _ => 0)))] H := hX
        have hH := hX.tc
        obtain ⟨E26, s27, k25, hcl, hea, hnew, hk⟩ := hk
        have hH0 := hH
        have hH := xn_close hX hcl
        have hsim2 := hcl.2.2.2.2.1
        have CE26 := C.sim hsim2
        rw [← hsim2.1] at hS
        have hsim := hsim.trans hsim2
        have z0 := hea (0, 0) hH0.g
        have hl : lv_has ls 4 [(0, .ref (ea E26 (0, 0))), (1, .int p1), (2, .int p2), (3, .int p3)] := by rw [z0]; exact hl
        refine W.eq (g2 := F0 m 75 ls [.ref (ea E26 (1, k25)), .ref (ea E26 (0, 0))]) (by first | (rw [hnew, (hea (0, 0) hH0.g)]; done) | (rw [hnew, (hea (0, 0) hH0.g)]; rfl)) ?_
        obtain ⟨h28, hk⟩ := hk
        refine tc_run (tc_rV (As := [.ref (ea E26 (1, k25))]) (rest := []) (L := (0, 0)) (ci := 0) (fs := tc_gfs E26 s27) (q := (RX1, TX1, 13)) CE26 hH.g rfl rfl (t_X1_added l h28 hk) (cwV 1 CE26.hts (lw_V q770 q772 qs14 q53 q773) rfl rfl rfl (by decide +kernel) ⟨Nat.le_of_ble_eq_true rfl, Nat.le_of_ble_eq_true rfl⟩) hH hS rfl hl.1 rfl (lv_room (Nat.le_of_ble_eq_true rfl)) dX1_addFilter_75 ⟨Nat.le_of_ble_eq_true rfl, Nat.le_of_ble_eq_true rfl⟩) hS (fun r29 s30 H locs hk hH hS => ?_)
        refine W.eq (g2 := F0 m 78 ls [.int r29]) rfl ?_
        exact ty_iret r29 rfl CE26 hsim hr hlk hH hS hk dX1_addFilter_78 (Nat.le_of_ble_eq_true rfl) (Nat.le_of_ble_eq_true rfl)
/-! ToneGraph.addBus(I)I -/
def wp_X1_addBus (E : tc_E) (post : Int32 → tc_E → tc_S → Prop) (ex : String → tc_S → Prop) (p1 : Int32) (s0 : tc_S) : Prop := wp_X1_inRange (fun r1 => wp_X1_checkArgument E (fun _ s3 => wp_X1_checkRoom E (fun _ s5 => (∀ b6 : Nat, wp_J2_sizeR E (fun r7 _ => (∀ b9 b10 b11 b12 : Nat, (∃ (E14 : tc_E) (s15 : tc_S) (k13 : Nat), xn_cl E s5 [(b6, .inr (7, [.int r7, .int 98, .ref b10, .ref b11, .int 0, .int 0, .ref b9, .ref b12, .int 0, .int p1])), (b9, .inl (ec E 0, 0, .inl (fun _ => 0))), (b10, .inr (9, [.int 0, .ref (es E 0), .int 0])), (b11, .inl (ec E 0, 64, .inl (fun _ => 0))), (b12, .inl (ec E 0, 0, .inl (fun _ => 0)))] [(1, k13), (5, k13), (2, k13 + 2), (4, k13), (6, k13)] E14 s15 ∧ xn_ea E E14 ∧ ea E14 (1, k13) = b6 ∧ (k13 < yn E14 ∧ wp_X1_added E14 (fun r17 s18 => post r17 E14 s18) k13 s15)))) 0 s5)) ex  s3) ex r1 s0) p1 0 32767
set_option maxHeartbeats 4000000 in
theorem t_X1_addBus (l : Launch) (hl0 : l.stackTraces = false) {E : tc_E} {post : Int32 → tc_E → tc_S → Prop} {ex : String → tc_S → Prop} {p1 : Int32} {s0 : tc_S} (hk : wp_X1_addBus E post ex p1 s0) : ty_M l yX1_addBus (ws_ yX1_addBus cX1_addBus 2 (some .int)) ({ frames := 8, cells := 7, slots := 150, locals := 140 } : Room) E [.ref (ea E (0, 0)), .int p1] s0 (fun r : Int32 => some (.int r)) post ex 7 150 := by
  refine ty_start cX1_addBus 2 (some .int) RX1 (by decide) rfl rfl (Nat.le_of_ble_eq_true rfl) ?_
  intro p e s m args below meth c ls C hnm hnt hr hlk hH hS hl
  have hl : lv_has ls 2 [(0, .ref (ea E (0, 0))), (1, .int p1)] := hl
  unfold wp_X1_addBus at hk
  have hsim := tc_sim.rf E
  refine lv_iload_n C.hx C.hb dX1_addBus_0 rfl (lv_at hl 1 rfl) ?_
  refine lv_iconst (v := 0) C.hx C.hb dX1_addBus_1 (by decide) ?_
  refine lv_sipush (v := 32767) C.hx C.hb dX1_addBus_2 (by decide) ?_
  refine gb_call (As := [.int p1, .int 0, .int 32767]) (rest := []) C.1 (t_X1_inRange l hk) (va_cwS 3 C.hts (lw_S q542 q543 q53 q544) rfl rfl rfl (by decide +kernel) ⟨Nat.le_of_ble_eq_true rfl, Nat.le_of_ble_eq_true rfl⟩) rfl hl.1 rfl (lv_room (Nat.le_of_ble_eq_true rfl)) dX1_addBus_5 ⟨Nat.le_of_ble_eq_true rfl, Nat.le_of_ble_eq_true rfl⟩ (fun r1 hk => ?_)
  refine tx_run (tx_rS (As := [.int r1]) (rest := []) C (t_X1_checkArgument l hl0  hk) (va_cwS 1 C.hts (lw_S q549 q550 q53 q551) rfl rfl rfl (by decide +kernel) ⟨Nat.le_of_ble_eq_true rfl, Nat.le_of_ble_eq_true rfl⟩) hH hS rfl hl.1 rfl (lv_room (Nat.le_of_ble_eq_true rfl)) dX1_addBus_8 ⟨Nat.le_of_ble_eq_true rfl, Nat.le_of_ble_eq_true rfl⟩) hS (fun X ce q9 S9 H1 locs1 hk hH hS h1 h2 h3 => tx_out hnt hlk hk hH hS h1 h2 h3 (Nat.le_of_ble_eq_true rfl) (Nat.le_of_ble_eq_true rfl)) (fun _ s3 H locs hk hH hS => ?_)
  refine W.eq (g2 := F0 m 11 ls []) rfl ?_
  refine lv_aload_n C.hx C.hb dX1_addBus_11 rfl (lv_at hl 0 rfl) ?_
  refine tx_run (tx_rV (As := []) (rest := []) (L := (0, 0)) (ci := 0) (fs := tc_gfs E s3) (q := (RX1, TX1, 13)) C hH.g rfl rfl (t_X1_checkRoom l hl0  hk) (cwV 0 C.hts (lw_V q728 q730 qs13 q53 q731) rfl rfl rfl (by decide +kernel) ⟨Nat.le_of_ble_eq_true rfl, Nat.le_of_ble_eq_true rfl⟩) hH hS rfl hl.1 rfl (lv_room (Nat.le_of_ble_eq_true rfl)) dX1_addBus_12 ⟨Nat.le_of_ble_eq_true rfl, Nat.le_of_ble_eq_true rfl⟩) hS (fun X ce q9 S9 H1 locs1 hk hH hS h1 h2 h3 => tx_out hnt hlk hk hH hS h1 h2 h3 (Nat.le_of_ble_eq_true rfl) (Nat.le_of_ble_eq_true rfl)) (fun _ s5 H locs hk hH hS => ?_)
  refine W.eq (g2 := F0 m 15 ls []) rfl ?_
  refine lv_aload_n C.hx C.hb dX1_addBus_15 rfl (lv_at hl 0 rfl) ?_
  refine xn_new (N := []) (Cn := RX10) (T := TX10) (N9 := 10) (ci := 7) C (xn_ok.of hH) hS in_X10 tyX10 tyX10_ok q846 q847 q76 rfl (fs := [.int 0, .int 0, .null, .null, .int 0, .int 0, .null, .null, .int 0, .int 0]) tn_zX10 (Nat.le_of_ble_eq_true rfl) (Nat.le_of_ble_eq_true rfl) dX1_addBus_16 (fun b6 H hX hS => ?_)
  have hX : xn_ok E s5 [(b6, .inr (7, [.int 0, .int 0, .null, .null, .int 0, .int 0, .null, .null, .int 0, .int 0]))] H := hX
  have hH := hX.tc
  have hk := hk b6
  refine lv_dup C.hx C.hb dX1_addBus_19 rfl ?_
  refine lv_aload_n C.hx C.hb dX1_addBus_20 rfl (lv_at hl 0 rfl) ?_
  refine tc_get C hH hH.g (Cn := RX1) (T := TX1) (N := 13) (ci := 0) (fs := tc_gfs E s5) in_X1 rfl rfl 1 (by decide) (C.L q317) (fun _ h => h) (v := .ref (ea E (2, 0))) rfl dX1_addBus_21 ?_
  refine xn_read (As := []) (rest := [.ref b6, .ref b6, .ref (ea E (0, 0))]) (L := (2, 0)) (ci := 9) (fs := tc_lfs E s5 0) (q := (RJ2, TJ2, 3)) C hH hS (hH.l _ (by omega)) rfl rfl (t_J2_sizeR l (by omega) hk) (cwV 0 C.hts (lw_V q360 q361 q362 q56 q363) rfl rfl rfl (by decide +kernel) ⟨Nat.le_of_ble_eq_true rfl, Nat.le_of_ble_eq_true rfl⟩) rfl hl.1 rfl (lv_room (Nat.le_of_ble_eq_true rfl)) dX1_addBus_24 ⟨Nat.le_of_ble_eq_true rfl, Nat.le_of_ble_eq_true rfl⟩ (fun r7 _ hk => ?_)
  refine W.eq (g2 := F0 m 27 ls [.int r7, .ref b6, .ref b6, .ref (ea E (0, 0))]) rfl ?_
  refine lv_iload_n C.hx C.hb dX1_addBus_27 rfl (lv_at hl 1 rfl) ?_
  refine xn_ctor (As := [.int r7, .int p1]) (rest := [.ref b6, .ref (ea E (0, 0))]) (x0 := (b6, .inr (7, [.int 0, .int 0, .null, .null, .int 0, .int 0, .null, .null, .int 0, .int 0]))) (N2 := []) C hX hS (t_X10_init l (a := b6) (p1 := r7) (p2 := p1)) (cwI 2 C.hts (lw_meth q850) rfl rfl rfl (C.hts _ q76) (C.hts _ q848) (C.hts _ q849) rfl (by decide +kernel) ⟨Nat.le_of_ble_eq_true rfl, Nat.le_of_ble_eq_true rfl⟩) rfl hl.1 rfl (lv_room (Nat.le_of_ble_eq_true rfl)) dX1_addBus_28 ⟨Nat.le_of_ble_eq_true rfl, Nat.le_of_ble_eq_true rfl⟩ (fun W9 H locs hk9 hX hS => ?_)
  obtain ⟨b9, b10, b11, b12, rfl⟩ := hk9
  have hk := hk b9 b10 b11 b12
  have hX : xn_ok E s5 [(b6, .inr (7, [.int r7, .int 98, .ref b10, .ref b11, .int 0, .int 0, .ref b9, .ref b12, .int 0, .int p1])), (b9, .inl (ec E 0, 0, .inl (fun _ => 0))), (b10, .inr (9, [.int 0, .ref (es E 0), .int 0])), (b11, .inl (ec E 0, 64, .inl (fun _ => 0))), (b12, .inl (ec E 0, 0, .inl (fun _ => 0)))] H := hX
  have hH := hX.tc
  obtain ⟨E14, s15, k13, hcl, hea, hnew, hk⟩ := hk
  have hH0 := hH
  have hH := xn_close hX hcl
  have hsim2 := hcl.2.2.2.2.1
  have CE14 := C.sim hsim2
  rw [← hsim2.1] at hS
  have hsim := hsim.trans hsim2
  have z0 := hea (0, 0) hH0.g
  have hl : lv_has ls 2 [(0, .ref (ea E14 (0, 0))), (1, .int p1)] := by rw [z0]; exact hl
  refine W.eq (g2 := F0 m 31 ls [.ref (ea E14 (1, k13)), .ref (ea E14 (0, 0))]) (by first | (rw [hnew, (hea (0, 0) hH0.g)]; done) | (rw [hnew, (hea (0, 0) hH0.g)]; rfl)) ?_
  obtain ⟨h16, hk⟩ := hk
  refine tc_run (tc_rV (As := [.ref (ea E14 (1, k13))]) (rest := []) (L := (0, 0)) (ci := 0) (fs := tc_gfs E14 s15) (q := (RX1, TX1, 13)) CE14 hH.g rfl rfl (t_X1_added l h16 hk) (cwV 1 CE14.hts (lw_V q770 q772 qs14 q53 q773) rfl rfl rfl (by decide +kernel) ⟨Nat.le_of_ble_eq_true rfl, Nat.le_of_ble_eq_true rfl⟩) hH hS rfl hl.1 rfl (lv_room (Nat.le_of_ble_eq_true rfl)) dX1_addBus_31 ⟨Nat.le_of_ble_eq_true rfl, Nat.le_of_ble_eq_true rfl⟩) hS (fun r17 s18 H locs hk hH hS => ?_)
  refine W.eq (g2 := F0 m 34 ls [.int r17]) rfl ?_
  exact ty_iret r17 rfl CE14 hsim hr hlk hH hS hk dX1_addBus_34 (Nat.le_of_ble_eq_true rfl) (Nat.le_of_ble_eq_true rfl)
/-! ToneGraph.connect(III)I -/
def wp_X1_connect (E : tc_E) (post : Int32 → tc_E → tc_S → Prop) (ex : String → tc_S → Prop) (p1 : Int32) (p2 : Int32) (p3 : Int32) (s0 : tc_S) : Prop := wp_X1_node E (fun r1 s2 => (r1 < yn E ∧ wp_X1_node E (fun r4 s5 => (r4 < yn E ∧ ((p3 = 0 → wp_X1_checkArgument E (fun _ s9 => False) ex 0 s5) ∧ (¬ p3 = 0 → wp_X1_inRange (fun r10 => ((r10 = 0 → wp_X1_checkArgument E (fun _ s13 => False) ex 0 s5) ∧ (¬ r10 = 0 → wp_X1_checkArgument E (fun _ s15 => wp_X3_wireFrom E (fun r16 s17 => ((r16 = none → wp_J2_size E (fun r19 s20 => ((4 ≤ r19 → wp_X1_checkState E (fun _ s23 => False) ex 0 s20) ∧ (¬ 4 ≤ r19 → wp_X1_checkState E (fun _ s25 => ((r4 = 0 → ex "java/lang/UnsupportedOperationException" s25) ∧ (¬ r4 = 0 → wd_isDelay E (fun r27 s28 => ((¬ r27 = 0 → (∀ b30 : Nat, (∃ (E32 : tc_E) (s33 : tc_S) (k31 : Nat), xn_cl E s28 [(b30, .inr (8, [.ref (ea E (1, r1)), .int p3]))] [(13, k31)] E32 s33 ∧ xn_ea E E32 ∧ ea E32 (13, k31) = b30 ∧ (r4 < yn E32 ∧ (k31 < ynw E32 ∧ (r1 < yn E32 ∧ ((ygr E32 (r4 + 2) = true → wp_J2_addW E32 (fun r38 s39 => wp_X1_sort E32 (fun _ s41 => wp_J2_size E32 (fun r42 s43 => post r42 E32 s43) (r4 + 2) s41)  s39) (r4 + 2) k31 s33) ∧ (¬ ygr E32 (r4 + 2) = true → (s33.1 11 (r4 + 2) 1 = 0 ∧ ∀ b46 : Nat, (∃ (E44 : tc_E) (s45 : tc_S), xn_cl E32 s33 [(ea E32 (13, k31), tc_w E32 s33 (13, k31)), (ea E32 (2, r4 + 2), .inr (9, [.int (s33.1 11 (r4 + 2) 0 + 1), .ref b46, .int 1])), (b46, tc_ref (ec E32 4) 10 (va_up (fun _ => none) (0 : Int32).toNatClampNeg (some (ea E32 (13, k31)))))] [(13, k31), (2, r4 + 2), (3, r4 + 2)] E44 s45 ∧ xn_ea E32 E44 ∧ wp_X1_sort E44 (fun _ s49 => (r4 < yn E44 ∧ wp_J2_size E44 (fun r51 s52 => post r51 E44 s52) (r4 + 2) s49))  s45)))))))))) ∧ (r27 = 0 → wp_X3_follows E 12 (fun r53 s54 => ((r53 = 0 → (∀ b56 : Nat, (∃ (E58 : tc_E) (s59 : tc_S) (k57 : Nat), xn_cl E s54 [(b56, .inr (8, [.ref (ea E (1, r1)), .int p3]))] [(13, k57)] E58 s59 ∧ xn_ea E E58 ∧ ea E58 (13, k57) = b56 ∧ (r4 < yn E58 ∧ (k57 < ynw E58 ∧ (r1 < yn E58 ∧ ((ygr E58 (r4 + 2) = true → wp_J2_addW E58 (fun r64 s65 => wp_X1_sort E58 (fun _ s67 => wp_J2_size E58 (fun r68 s69 => post r68 E58 s69) (r4 + 2) s67)  s65) (r4 + 2) k57 s59) ∧ (¬ ygr E58 (r4 + 2) = true → (s59.1 11 (r4 + 2) 1 = 0 ∧ ∀ b72 : Nat, (∃ (E70 : tc_E) (s71 : tc_S), xn_cl E58 s59 [(ea E58 (13, k57), tc_w E58 s59 (13, k57)), (ea E58 (2, r4 + 2), .inr (9, [.int (s59.1 11 (r4 + 2) 0 + 1), .ref b72, .int 1])), (b72, tc_ref (ec E58 4) 10 (va_up (fun _ => none) (0 : Int32).toNatClampNeg (some (ea E58 (13, k57)))))] [(13, k57), (2, r4 + 2), (3, r4 + 2)] E70 s71 ∧ xn_ea E58 E70 ∧ wp_X1_sort E70 (fun _ s75 => (r4 < yn E70 ∧ wp_J2_size E70 (fun r77 s78 => post r77 E70 s78) (r4 + 2) s75))  s71)))))))))) ∧ (¬ r53 = 0 → ex "java/lang/UnsupportedOperationException" s54))) r1 r4 s28))) r4 s25))) ex 1 s20))) (r4 + 2) s17) ∧ (∀ q18, r16 = some q18 → wp_X1_checkState E (fun _ s80 => False) ex 0 s17))) r4 r1 s15) ex 1 s5))) p3 (-100) 100)))) ex p2 s2)) ex p1 s0
set_option maxHeartbeats 4000000 in
theorem t_X1_connect (l : Launch) (hl0 : l.stackTraces = false) {E : tc_E} {post : Int32 → tc_E → tc_S → Prop} {ex : String → tc_S → Prop} {p1 : Int32} {p2 : Int32} {p3 : Int32} {s0 : tc_S} (hk : wp_X1_connect E post ex p1 p2 p3 s0) : ty_M l yX1_connect (ws_ yX1_connect cX1_connect 6 (some .int)) ({ frames := 33, cells := 6, slots := 36, locals := 1000 } : Room) E [.ref (ea E (0, 0)), .int p1, .int p2, .int p3] s0 (fun r : Int32 => some (.int r)) post ex 6 36 := by
  refine ty_start cX1_connect 6 (some .int) RX1 (by decide) rfl rfl (Nat.le_of_ble_eq_true rfl) ?_
  intro p e s m args below meth c ls C hnm hnt hr hlk hH hS hl
  have hl : lv_has ls 6 [(0, .ref (ea E (0, 0))), (1, .int p1), (2, .int p2), (3, .int p3)] := hl
  unfold wp_X1_connect at hk
  have hsim := tc_sim.rf E
  refine lv_aload_n C.hx C.hb dX1_connect_0 rfl (lv_at hl 0 rfl) ?_
  refine lv_iload_n C.hx C.hb dX1_connect_1 rfl (lv_at hl 1 rfl) ?_
  refine tx_run (tx_rV (As := [.int p1]) (rest := []) (L := (0, 0)) (ci := 0) (fs := tc_gfs E s0) (q := (RX1, TX1, 13)) C hH.g rfl rfl (t_X1_node l hl0  hk) (cwV 1 C.hts (lw_V q906 q908 qs16 q53 q909) rfl rfl rfl (by decide +kernel) ⟨Nat.le_of_ble_eq_true rfl, Nat.le_of_ble_eq_true rfl⟩) hH hS rfl hl.1 rfl (lv_room (Nat.le_of_ble_eq_true rfl)) dX1_connect_2 ⟨Nat.le_of_ble_eq_true rfl, Nat.le_of_ble_eq_true rfl⟩) hS (fun X ce q9 S9 H1 locs1 hk hH hS h1 h2 h3 => tx_out hnt hlk hk hH hS h1 h2 h3 (Nat.le_of_ble_eq_true rfl) (Nat.le_of_ble_eq_true rfl)) (fun r1 s2 H locs hk hH hS => ?_)
  refine W.eq (g2 := F0 m 5 ls [.ref (ea E (1, r1))]) rfl ?_
  obtain ⟨h3, hk⟩ := hk
  refine lv_astore (lv' := [(4, .ref (ea E (1, r1))), (0, .ref (ea E (0, 0))), (1, .int p1), (2, .int p2), (3, .int p3)]) C.hx C.hb dX1_connect_5 hl (by decide) rfl (fun ls hl => ?_)
  refine lv_aload_n C.hx C.hb dX1_connect_7 rfl (lv_at hl 1 rfl) ?_
  refine lv_iload_n C.hx C.hb dX1_connect_8 rfl (lv_at hl 3 rfl) ?_
  refine tx_run (tx_rV (As := [.int p2]) (rest := []) (L := (0, 0)) (ci := 0) (fs := tc_gfs E s2) (q := (RX1, TX1, 13)) C hH.g rfl rfl (t_X1_node l hl0  hk) (cwV 1 C.hts (lw_V q906 q908 qs16 q53 q909) rfl rfl rfl (by decide +kernel) ⟨Nat.le_of_ble_eq_true rfl, Nat.le_of_ble_eq_true rfl⟩) hH hS rfl hl.1 rfl (lv_room (Nat.le_of_ble_eq_true rfl)) dX1_connect_9 ⟨Nat.le_of_ble_eq_true rfl, Nat.le_of_ble_eq_true rfl⟩) hS (fun X ce q9 S9 H1 locs1 hk hH hS h1 h2 h3 => tx_out hnt hlk hk hH hS h1 h2 h3 (Nat.le_of_ble_eq_true rfl) (Nat.le_of_ble_eq_true rfl)) (fun r4 s5 H locs hk hH hS => ?_)
  refine W.eq (g2 := F0 m 12 ls [.ref (ea E (1, r4))]) rfl ?_
  obtain ⟨h6, hk⟩ := hk
  refine lv_astore (lv' := [(5, .ref (ea E (1, r4))), (4, .ref (ea E (1, r1))), (0, .ref (ea E (0, 0))), (1, .int p1), (2, .int p2), (3, .int p3)]) C.hx C.hb dX1_connect_12 hl (by decide) rfl (fun ls hl => ?_)
  refine lv_iload_n C.hx C.hb dX1_connect_14 rfl (lv_at hl 5 rfl) ?_
  refine lv_if_eq (tgt := 33) C.hx C.hb dX1_connect_15 (by decide) (fun c7 => ?_) (fun c7 => ?_)
  · have hk := hk.1 c7
    refine lv_iconst (v := 0) C.hx C.hb dX1_connect_33 (by decide) ?_
    refine tx_run (tx_rS (As := [.int 0]) (rest := []) C (t_X1_checkArgument l hl0  hk) (va_cwS 1 C.hts (lw_S q549 q550 q53 q551) rfl rfl rfl (by decide +kernel) ⟨Nat.le_of_ble_eq_true rfl, Nat.le_of_ble_eq_true rfl⟩) hH hS rfl hl.1 rfl (lv_room (Nat.le_of_ble_eq_true rfl)) dX1_connect_34 ⟨Nat.le_of_ble_eq_true rfl, Nat.le_of_ble_eq_true rfl⟩) hS (fun X ce q9 S9 H1 locs1 hk hH hS h1 h2 h3 => tx_out hnt hlk hk hH hS h1 h2 h3 (Nat.le_of_ble_eq_true rfl) (Nat.le_of_ble_eq_true rfl)) (fun _ s9 H locs hk hH hS => ?_)
    refine W.eq (g2 := F0 m 37 ls []) rfl ?_
    exact hk.elim
  · have hk := hk.2 c7
    refine lv_iload_n C.hx C.hb dX1_connect_18 rfl (lv_at hl 5 rfl) ?_
    refine lv_bipush (v := (-100)) C.hx C.hb dX1_connect_19 (by decide) ?_
    refine lv_bipush (v := 100) C.hx C.hb dX1_connect_21 (by decide) ?_
    refine gb_call (As := [.int p3, .int (-100), .int 100]) (rest := []) C.1 (t_X1_inRange l hk) (va_cwS 3 C.hts (lw_S q542 q543 q53 q544) rfl rfl rfl (by decide +kernel) ⟨Nat.le_of_ble_eq_true rfl, Nat.le_of_ble_eq_true rfl⟩) rfl hl.1 rfl (lv_room (Nat.le_of_ble_eq_true rfl)) dX1_connect_23 ⟨Nat.le_of_ble_eq_true rfl, Nat.le_of_ble_eq_true rfl⟩ (fun r10 hk => ?_)
    refine lv_if_eq (tgt := 33) C.hx C.hb dX1_connect_26 (by decide) (fun c11 => ?_) (fun c11 => ?_)
    · have hk := hk.1 c11
      refine lv_iconst (v := 0) C.hx C.hb dX1_connect_33 (by decide) ?_
      refine tx_run (tx_rS (As := [.int 0]) (rest := []) C (t_X1_checkArgument l hl0  hk) (va_cwS 1 C.hts (lw_S q549 q550 q53 q551) rfl rfl rfl (by decide +kernel) ⟨Nat.le_of_ble_eq_true rfl, Nat.le_of_ble_eq_true rfl⟩) hH hS rfl hl.1 rfl (lv_room (Nat.le_of_ble_eq_true rfl)) dX1_connect_34 ⟨Nat.le_of_ble_eq_true rfl, Nat.le_of_ble_eq_true rfl⟩) hS (fun X ce q9 S9 H1 locs1 hk hH hS h1 h2 h3 => tx_out hnt hlk hk hH hS h1 h2 h3 (Nat.le_of_ble_eq_true rfl) (Nat.le_of_ble_eq_true rfl)) (fun _ s13 H locs hk hH hS => ?_)
      refine W.eq (g2 := F0 m 37 ls []) rfl ?_
      exact hk.elim
    · have hk := hk.2 c11
      refine lv_iconst (v := 1) C.hx C.hb dX1_connect_29 (by decide) ?_
      refine lv_goto (tgt := 34) C.hx C.hb dX1_connect_30 (by decide) ?_
      refine tx_run (tx_rS (As := [.int 1]) (rest := []) C (t_X1_checkArgument l hl0  hk) (va_cwS 1 C.hts (lw_S q549 q550 q53 q551) rfl rfl rfl (by decide +kernel) ⟨Nat.le_of_ble_eq_true rfl, Nat.le_of_ble_eq_true rfl⟩) hH hS rfl hl.1 rfl (lv_room (Nat.le_of_ble_eq_true rfl)) dX1_connect_34 ⟨Nat.le_of_ble_eq_true rfl, Nat.le_of_ble_eq_true rfl⟩) hS (fun X ce q9 S9 H1 locs1 hk hH hS h1 h2 h3 => tx_out hnt hlk hk hH hS h1 h2 h3 (Nat.le_of_ble_eq_true rfl) (Nat.le_of_ble_eq_true rfl)) (fun _ s15 H locs hk hH hS => ?_)
      refine W.eq (g2 := F0 m 37 ls []) rfl ?_
      refine lv_aload C.hx C.hb dX1_connect_37 (lv_at hl 0 rfl) ?_
      refine lv_aload C.hx C.hb dX1_connect_39 (lv_at hl 1 rfl) ?_
      refine tc_run (r_X1_157 (rest := [])  C h6 h3 hk hH hS rfl hl.1 rfl (lv_room (Nat.le_of_ble_eq_true rfl)) dX1_connect_41 ⟨Nat.le_of_ble_eq_true rfl, Nat.le_of_ble_eq_true rfl⟩ ⟨Nat.le_of_ble_eq_true rfl, Nat.le_of_ble_eq_true rfl⟩) hS (fun r16 s17 H locs hk hH hS => ?_)
      refine W.eq (g2 := F0 m 44 ls [va_rf (r16.map fun k => ea E (13, k))]) rfl ?_
      rcases hq18 : r16 with _ | q18
      · have hk := hk.1 hq18
        try rw [hq18] at hl
        refine W.eq (g2 := F0 m 44 ls [.null]) (by first | rfl | (rw [hq18]; rfl)) ?_
        have hl : lv_has ls 6 [(5, .ref (ea E (1, r4))), (4, .ref (ea E (1, r1))), (0, .ref (ea E (0, 0))), (1, .int p1), (2, .int p2), (3, .int p3)] := hl
        refine lv_ifnonnullN C.hx C.hb dX1_connect_44 ?_
        refine lv_aload C.hx C.hb dX1_connect_47 (lv_at hl 0 rfl) ?_
        refine tc_getn C hH h6 2 (by decide) rfl (C.N 1 rfl) (v := .ref (ea E (2, r4 + 2))) rfl dX1_connect_49 ?_
        refine tc_run (tc_rV (As := []) (rest := []) (L := (2, r4 + 2)) (ci := 9) (fs := tc_lfs E s17 (r4 + 2)) (q := (RJ2, TJ2, 3)) C (hH.l _ (Nat.add_lt_add_right h6 2)) rfl rfl (t_J2_size l (Nat.add_lt_add_right h6 2) hk) (cwV 0 C.hts (lw_V q360 q361 q362 q56 q363) rfl rfl rfl (by decide +kernel) ⟨Nat.le_of_ble_eq_true rfl, Nat.le_of_ble_eq_true rfl⟩) hH hS rfl hl.1 rfl (lv_room (Nat.le_of_ble_eq_true rfl)) dX1_connect_52 ⟨Nat.le_of_ble_eq_true rfl, Nat.le_of_ble_eq_true rfl⟩) hS (fun r19 s20 H locs hk hH hS => ?_)
        refine W.eq (g2 := F0 m 55 ls [.int r19]) rfl ?_
        refine lv_iconst (v := 4) C.hx C.hb dX1_connect_55 (by decide) ?_
        refine lv_icmp_ge (tgt := 63) C.hx C.hb dX1_connect_56 (by decide) (fun c21 => ?_) (fun c21 => ?_)
        · have hk := hk.1 c21
          refine lv_iconst (v := 0) C.hx C.hb dX1_connect_63 (by decide) ?_
          refine tx_run (tx_rS (As := [.int 0]) (rest := []) C (t_X1_checkState l hl0  hk) (va_cwS 1 C.hts (lw_S q732 q733 q53 q734) rfl rfl rfl (by decide +kernel) ⟨Nat.le_of_ble_eq_true rfl, Nat.le_of_ble_eq_true rfl⟩) hH hS rfl hl.1 rfl (lv_room (Nat.le_of_ble_eq_true rfl)) dX1_connect_64 ⟨Nat.le_of_ble_eq_true rfl, Nat.le_of_ble_eq_true rfl⟩) hS (fun X ce q9 S9 H1 locs1 hk hH hS h1 h2 h3 => tx_out hnt hlk hk hH hS h1 h2 h3 (Nat.le_of_ble_eq_true rfl) (Nat.le_of_ble_eq_true rfl)) (fun _ s23 H locs hk hH hS => ?_)
          refine W.eq (g2 := F0 m 67 ls []) rfl ?_
          exact hk.elim
        · have hk := hk.2 c21
          refine lv_iconst (v := 1) C.hx C.hb dX1_connect_59 (by decide) ?_
          refine lv_goto (tgt := 64) C.hx C.hb dX1_connect_60 (by decide) ?_
          refine tx_run (tx_rS (As := [.int 1]) (rest := []) C (t_X1_checkState l hl0  hk) (va_cwS 1 C.hts (lw_S q732 q733 q53 q734) rfl rfl rfl (by decide +kernel) ⟨Nat.le_of_ble_eq_true rfl, Nat.le_of_ble_eq_true rfl⟩) hH hS rfl hl.1 rfl (lv_room (Nat.le_of_ble_eq_true rfl)) dX1_connect_64 ⟨Nat.le_of_ble_eq_true rfl, Nat.le_of_ble_eq_true rfl⟩) hS (fun X ce q9 S9 H1 locs1 hk hH hS h1 h2 h3 => tx_out hnt hlk hk hH hS h1 h2 h3 (Nat.le_of_ble_eq_true rfl) (Nat.le_of_ble_eq_true rfl)) (fun _ s25 H locs hk hH hS => ?_)
          refine W.eq (g2 := F0 m 67 ls []) rfl ?_
          refine lv_aload C.hx C.hb dX1_connect_67 (lv_at hl 0 rfl) ?_
          refine lv_aload_n C.hx C.hb dX1_connect_69 rfl (lv_at hl 2 rfl) ?_
          refine tc_get C hH hH.g (Cn := RX1) (T := TX1) (N := 13) (ci := 0) (fs := tc_gfs E s25) in_X1 rfl rfl 0 (by decide) (C.L q316) (fun _ h => h) (v := .ref (ea E (1, 0))) rfl dX1_connect_70 ?_
          refine tc_acmpN_eq (tgt := 94) C hH h6 hH.n0.1 dX1_connect_73 (by decide) (fun c26 => ?_) (fun c26 => ?_)
          · have hk := hk.1 c26
            exact tx_throw C hl0 tx_ok_166 (by decide +kernel) q945 q80 ⟨by decide +kernel, by decide +kernel⟩ hnt hlk hH hS hk hl.1 dX1_connect_94 dX1_connect_97 dX1_connect_98 dX1_connect_101 ⟨Nat.le_of_ble_eq_true rfl, Nat.le_of_ble_eq_true rfl⟩ ⟨Nat.le_of_ble_eq_true rfl, Nat.le_of_ble_eq_true rfl⟩ ⟨Nat.le_of_ble_eq_true rfl, Nat.le_of_ble_eq_true rfl⟩
          · have hk := hk.2 c26
            refine lv_aload C.hx C.hb dX1_connect_76 (lv_at hl 0 rfl) ?_
            refine tc_run (r_X1_94 (rest := [])  C h6 hk hH hS rfl hl.1 rfl (lv_room (Nat.le_of_ble_eq_true rfl)) dX1_connect_78 ⟨Nat.le_of_ble_eq_true rfl, Nat.le_of_ble_eq_true rfl⟩ ⟨Nat.le_of_ble_eq_true rfl, Nat.le_of_ble_eq_true rfl⟩) hS (fun r27 s28 H locs hk hH hS => ?_)
            refine W.eq (g2 := F0 m 81 ls [.int r27]) rfl ?_
            refine lv_if_ne (tgt := 102) C.hx C.hb dX1_connect_81 (by decide) (fun c29 => ?_) (fun c29 => ?_)
            · have hk := hk.1 c29
              refine lv_aload C.hx C.hb dX1_connect_102 (lv_at hl 0 rfl) ?_
              refine tc_getn C hH h6 2 (by decide) rfl (C.N 1 rfl) (v := .ref (ea E (2, r4 + 2))) rfl dX1_connect_104 ?_
              refine xn_new (N := []) (Cn := RX11) (T := TX11) (N9 := 2) (ci := 8) C (xn_ok.of hH) hS in_X11 tyX11 tyX11_ok q540 q960 q81 rfl (fs := [.null, .int 0]) tn_zX11 (Nat.le_of_ble_eq_true rfl) (Nat.le_of_ble_eq_true rfl) dX1_connect_107 (fun b30 H hX hS => ?_)
              have hX : xn_ok E s28 [(b30, .inr (8, [.null, .int 0]))] H := hX
              have hH := hX.tc
              have hk := hk b30
              refine lv_dup C.hx C.hb dX1_connect_110 rfl ?_
              refine lv_aload C.hx C.hb dX1_connect_111 (lv_at hl 1 rfl) ?_
              refine lv_iload_n C.hx C.hb dX1_connect_113 rfl (lv_at hl 5 rfl) ?_
              refine xn_ctor (As := [.ref (ea E (1, r1)), .int p3]) (rest := [.ref b30, .ref (ea E (2, r4 + 2))]) (x0 := (b30, .inr (8, [.null, .int 0]))) (N2 := []) C hX hS (t_X11_init l (a := b30) (q := (ea E (1, r1))) (p2 := p3)) (cwI 2 C.hts (lw_meth q963) rfl rfl rfl (C.hts _ q81) (C.hts _ q961) (C.hts _ q962) rfl (by decide +kernel) ⟨Nat.le_of_ble_eq_true rfl, Nat.le_of_ble_eq_true rfl⟩) rfl hl.1 rfl (lv_room (Nat.le_of_ble_eq_true rfl)) dX1_connect_114 ⟨Nat.le_of_ble_eq_true rfl, Nat.le_of_ble_eq_true rfl⟩ (fun W9 H locs hk9 hX hS => ?_)
              subst hk9
              have hX : xn_ok E s28 [(b30, .inr (8, [.ref (ea E (1, r1)), .int p3]))] H := hX
              have hH := hX.tc
              obtain ⟨E32, s33, k31, hcl, hea, hnew, hk⟩ := hk
              have hH0 := hH
              have hH := xn_close hX hcl
              have hsim2 := hcl.2.2.2.2.1
              have CE32 := C.sim hsim2
              rw [← hsim2.1] at hS
              have hsim := hsim.trans hsim2
              have z0 := hea (1, r4) (hH0.n _ h6)
              have z1 := hea (1, r1) (hH0.n _ h3)
              have z2 := hea (0, 0) hH0.g
              have hl : lv_has ls 6 [(5, .ref (ea E32 (1, r4))), (4, .ref (ea E32 (1, r1))), (0, .ref (ea E32 (0, 0))), (1, .int p1), (2, .int p2), (3, .int p3)] := by rw [z0, z1, z2]; exact hl
              refine W.eq (g2 := F0 m 117 ls [.ref (ea E32 (13, k31)), .ref (ea E32 (2, r4 + 2))]) (by first | (rw [hnew, (hea (2, r4 + 2) (hH0.l _ (Nat.add_lt_add_right h6 2)))]; done) | (rw [hnew, (hea (2, r4 + 2) (hH0.l _ (Nat.add_lt_add_right h6 2)))]; rfl)) ?_
              obtain ⟨h34, hk⟩ := hk
              obtain ⟨h35, hk⟩ := hk
              obtain ⟨h37, hk⟩ := hk
              by_cases g36 : ygr E32 (r4 + 2) = true
              · have hk := hk.1 g36
                refine tc_run (tc_rV (As := [.ref (ea E32 (13, k31))]) (rest := []) (L := (2, r4 + 2)) (ci := 9) (fs := tc_lfs E32 s33 (r4 + 2)) (q := (RJ2, TJ2, 3)) CE32 (hH.l _ (Nat.add_lt_add_right h34 2)) rfl rfl (t_J2_addW l (Nat.add_lt_add_right h34 2) g36 rfl h35 hk) (cwV 1 CE32.hts (lw_V q251 q252 q253 q56 q254) rfl rfl rfl (by decide +kernel) ⟨Nat.le_of_ble_eq_true rfl, Nat.le_of_ble_eq_true rfl⟩) hH hS rfl hl.1 rfl (lv_room (Nat.le_of_ble_eq_true rfl)) dX1_connect_117 ⟨Nat.le_of_ble_eq_true rfl, Nat.le_of_ble_eq_true rfl⟩) hS (fun r38 s39 H locs hk hH hS => ?_)
                refine W.eq (g2 := F0 m 120 ls [.int r38]) rfl ?_
                refine lv_pop CE32.hx CE32.hb dX1_connect_120 rfl ?_
                refine lv_aload_n CE32.hx CE32.hb dX1_connect_121 rfl (lv_at hl 2 rfl) ?_
                refine tc_run (tc_rV (As := []) (rest := []) (L := (0, 0)) (ci := 0) (fs := tc_gfs E32 s39) (q := (RX1, TX1, 13)) CE32 hH.g rfl rfl (t_X1_sort l  hk) (cwV 0 CE32.hts (lw_V q774 q776 qs15 q53 q777) rfl rfl rfl (by decide +kernel) ⟨Nat.le_of_ble_eq_true rfl, Nat.le_of_ble_eq_true rfl⟩) hH hS rfl hl.1 rfl (lv_room (Nat.le_of_ble_eq_true rfl)) dX1_connect_122 ⟨Nat.le_of_ble_eq_true rfl, Nat.le_of_ble_eq_true rfl⟩) hS (fun _ s41 H locs hk hH hS => ?_)
                refine W.eq (g2 := F0 m 125 ls []) rfl ?_
                refine lv_aload CE32.hx CE32.hb dX1_connect_125 (lv_at hl 0 rfl) ?_
                refine tc_getn CE32 hH h34 2 (by decide) rfl (CE32.N 1 rfl) (v := .ref (ea E32 (2, r4 + 2))) rfl dX1_connect_127 ?_
                refine tc_run (tc_rV (As := []) (rest := []) (L := (2, r4 + 2)) (ci := 9) (fs := tc_lfs E32 s41 (r4 + 2)) (q := (RJ2, TJ2, 3)) CE32 (hH.l _ (Nat.add_lt_add_right h34 2)) rfl rfl (t_J2_size l (Nat.add_lt_add_right h34 2) hk) (cwV 0 CE32.hts (lw_V q360 q361 q362 q56 q363) rfl rfl rfl (by decide +kernel) ⟨Nat.le_of_ble_eq_true rfl, Nat.le_of_ble_eq_true rfl⟩) hH hS rfl hl.1 rfl (lv_room (Nat.le_of_ble_eq_true rfl)) dX1_connect_130 ⟨Nat.le_of_ble_eq_true rfl, Nat.le_of_ble_eq_true rfl⟩) hS (fun r42 s43 H locs hk hH hS => ?_)
                refine W.eq (g2 := F0 m 133 ls [.int r42]) rfl ?_
                exact ty_iret r42 rfl CE32 hsim hr hlk hH hS hk dX1_connect_133 (Nat.le_of_ble_eq_true rfl) (Nat.le_of_ble_eq_true rfl)
              · have hk := hk.2 g36
                obtain ⟨h47, hk⟩ := hk
                refine xn_add (rest := []) CE32 hH hS (Nat.add_lt_add_right h34 2) g36 h35 h47 (cwV 1 CE32.hts (lw_V q251 q252 q253 q56 q254) rfl rfl rfl (by decide +kernel) ⟨Nat.le_of_ble_eq_true rfl, Nat.le_of_ble_eq_true rfl⟩) hl.1 (lv_room (Nat.le_of_ble_eq_true rfl)) dX1_connect_117 ⟨Nat.le_of_ble_eq_true rfl, Nat.le_of_ble_eq_true rfl⟩ (fun b46 => ?_)
                obtain ⟨E44, s45, hcl, hea, hk⟩ := hk b46
                refine ⟨E44, s45, hcl, fun H locs hH9 hS => ?_⟩
                have hH0 := hH
                have hH := hH9
                have hsim2 := hcl.2.2.2.2.1
                have CE44 := CE32.sim hsim2
                rw [← hsim2.1] at hS
                have hsim := hsim.trans hsim2
                have z0 := hea (1, r4) (hH0.n _ h34)
                have z1 := hea (1, r1) (hH0.n _ h37)
                have z2 := hea (0, 0) hH0.g
                have hl : lv_has ls 6 [(5, .ref (ea E44 (1, r4))), (4, .ref (ea E44 (1, r1))), (0, .ref (ea E44 (0, 0))), (1, .int p1), (2, .int p2), (3, .int p3)] := by rw [z0, z1, z2]; exact hl
                refine W.eq (g2 := F0 m 120 ls [.int 1]) rfl ?_
                refine lv_pop CE44.hx CE44.hb dX1_connect_120 rfl ?_
                refine lv_aload_n CE44.hx CE44.hb dX1_connect_121 rfl (lv_at hl 2 rfl) ?_
                refine tc_run (tc_rV (As := []) (rest := []) (L := (0, 0)) (ci := 0) (fs := tc_gfs E44 s45) (q := (RX1, TX1, 13)) CE44 hH.g rfl rfl (t_X1_sort l  hk) (cwV 0 CE44.hts (lw_V q774 q776 qs15 q53 q777) rfl rfl rfl (by decide +kernel) ⟨Nat.le_of_ble_eq_true rfl, Nat.le_of_ble_eq_true rfl⟩) hH hS rfl hl.1 rfl (lv_room (Nat.le_of_ble_eq_true rfl)) dX1_connect_122 ⟨Nat.le_of_ble_eq_true rfl, Nat.le_of_ble_eq_true rfl⟩) hS (fun _ s49 H locs hk hH hS => ?_)
                refine W.eq (g2 := F0 m 125 ls []) rfl ?_
                refine lv_aload CE44.hx CE44.hb dX1_connect_125 (lv_at hl 0 rfl) ?_
                obtain ⟨h50, hk⟩ := hk
                refine tc_getn CE44 hH h50 2 (by decide) rfl (CE44.N 1 rfl) (v := .ref (ea E44 (2, r4 + 2))) rfl dX1_connect_127 ?_
                refine tc_run (tc_rV (As := []) (rest := []) (L := (2, r4 + 2)) (ci := 9) (fs := tc_lfs E44 s49 (r4 + 2)) (q := (RJ2, TJ2, 3)) CE44 (hH.l _ (Nat.add_lt_add_right h50 2)) rfl rfl (t_J2_size l (Nat.add_lt_add_right h50 2) hk) (cwV 0 CE44.hts (lw_V q360 q361 q362 q56 q363) rfl rfl rfl (by decide +kernel) ⟨Nat.le_of_ble_eq_true rfl, Nat.le_of_ble_eq_true rfl⟩) hH hS rfl hl.1 rfl (lv_room (Nat.le_of_ble_eq_true rfl)) dX1_connect_130 ⟨Nat.le_of_ble_eq_true rfl, Nat.le_of_ble_eq_true rfl⟩) hS (fun r51 s52 H locs hk hH hS => ?_)
                refine W.eq (g2 := F0 m 133 ls [.int r51]) rfl ?_
                exact ty_iret r51 rfl CE44 hsim hr hlk hH hS hk dX1_connect_133 (Nat.le_of_ble_eq_true rfl) (Nat.le_of_ble_eq_true rfl)
            · have hk := hk.2 c29
              refine lv_aload C.hx C.hb dX1_connect_84 (lv_at hl 1 rfl) ?_
              refine lv_aload C.hx C.hb dX1_connect_86 (lv_at hl 0 rfl) ?_
              refine tc_run (r_rec1 (rest := []) C h3 (t_X3_follows l 12 h3 h6 hk) ⟨rfl, rfl⟩ hH hS hl.1 (lv_room (Nat.le_of_ble_eq_true rfl)) dX1_connect_88 ⟨Nat.le_of_ble_eq_true rfl, Nat.le_of_ble_eq_true rfl⟩ ⟨Nat.le_of_ble_eq_true rfl, Nat.le_of_ble_eq_true rfl⟩) hS (fun r53 s54 H locs hk hH hS => ?_)
              refine W.eq (g2 := F0 m 91 ls [.int r53]) rfl ?_
              refine lv_if_eq (tgt := 102) C.hx C.hb dX1_connect_91 (by decide) (fun c55 => ?_) (fun c55 => ?_)
              · have hk := hk.1 c55
                refine lv_aload C.hx C.hb dX1_connect_102 (lv_at hl 0 rfl) ?_
                refine tc_getn C hH h6 2 (by decide) rfl (C.N 1 rfl) (v := .ref (ea E (2, r4 + 2))) rfl dX1_connect_104 ?_
                refine xn_new (N := []) (Cn := RX11) (T := TX11) (N9 := 2) (ci := 8) C (xn_ok.of hH) hS in_X11 tyX11 tyX11_ok q540 q960 q81 rfl (fs := [.null, .int 0]) tn_zX11 (Nat.le_of_ble_eq_true rfl) (Nat.le_of_ble_eq_true rfl) dX1_connect_107 (fun b56 H hX hS => ?_)
                have hX : xn_ok E s54 [(b56, .inr (8, [.null, .int 0]))] H := hX
                have hH := hX.tc
                have hk := hk b56
                refine lv_dup C.hx C.hb dX1_connect_110 rfl ?_
                refine lv_aload C.hx C.hb dX1_connect_111 (lv_at hl 1 rfl) ?_
                refine lv_iload_n C.hx C.hb dX1_connect_113 rfl (lv_at hl 5 rfl) ?_
                refine xn_ctor (As := [.ref (ea E (1, r1)), .int p3]) (rest := [.ref b56, .ref (ea E (2, r4 + 2))]) (x0 := (b56, .inr (8, [.null, .int 0]))) (N2 := []) C hX hS (t_X11_init l (a := b56) (q := (ea E (1, r1))) (p2 := p3)) (cwI 2 C.hts (lw_meth q963) rfl rfl rfl (C.hts _ q81) (C.hts _ q961) (C.hts _ q962) rfl (by decide +kernel) ⟨Nat.le_of_ble_eq_true rfl, Nat.le_of_ble_eq_true rfl⟩) rfl hl.1 rfl (lv_room (Nat.le_of_ble_eq_true rfl)) dX1_connect_114 ⟨Nat.le_of_ble_eq_true rfl, Nat.le_of_ble_eq_true rfl⟩ (fun W9 H locs hk9 hX hS => ?_)
                subst hk9
                have hX : xn_ok E s54 [(b56, .inr (8, [.ref (ea E (1, r1)), .int p3]))] H := hX
                have hH := hX.tc
                obtain ⟨E58, s59, k57, hcl, hea, hnew, hk⟩ := hk
                have hH0 := hH
                have hH := xn_close hX hcl
                have hsim2 := hcl.2.2.2.2.1
                have CE58 := C.sim hsim2
                rw [← hsim2.1] at hS
                have hsim := hsim.trans hsim2
                have z0 := hea (1, r4) (hH0.n _ h6)
                have z1 := hea (1, r1) (hH0.n _ h3)
                have z2 := hea (0, 0) hH0.g
                have hl : lv_has ls 6 [(5, .ref (ea E58 (1, r4))), (4, .ref (ea E58 (1, r1))), (0, .ref (ea E58 (0, 0))), (1, .int p1), (2, .int p2), (3, .int p3)] := by rw [z0, z1, z2]; exact hl
                refine W.eq (g2 := F0 m 117 ls [.ref (ea E58 (13, k57)), .ref (ea E58 (2, r4 + 2))]) (by first | (rw [hnew, (hea (2, r4 + 2) (hH0.l _ (Nat.add_lt_add_right h6 2)))]; done) | (rw [hnew, (hea (2, r4 + 2) (hH0.l _ (Nat.add_lt_add_right h6 2)))]; rfl)) ?_
                obtain ⟨h60, hk⟩ := hk
                obtain ⟨h61, hk⟩ := hk
                obtain ⟨h63, hk⟩ := hk
                by_cases g62 : ygr E58 (r4 + 2) = true
                · have hk := hk.1 g62
                  refine tc_run (tc_rV (As := [.ref (ea E58 (13, k57))]) (rest := []) (L := (2, r4 + 2)) (ci := 9) (fs := tc_lfs E58 s59 (r4 + 2)) (q := (RJ2, TJ2, 3)) CE58 (hH.l _ (Nat.add_lt_add_right h60 2)) rfl rfl (t_J2_addW l (Nat.add_lt_add_right h60 2) g62 rfl h61 hk) (cwV 1 CE58.hts (lw_V q251 q252 q253 q56 q254) rfl rfl rfl (by decide +kernel) ⟨Nat.le_of_ble_eq_true rfl, Nat.le_of_ble_eq_true rfl⟩) hH hS rfl hl.1 rfl (lv_room (Nat.le_of_ble_eq_true rfl)) dX1_connect_117 ⟨Nat.le_of_ble_eq_true rfl, Nat.le_of_ble_eq_true rfl⟩) hS (fun r64 s65 H locs hk hH hS => ?_)
                  refine W.eq (g2 := F0 m 120 ls [.int r64]) rfl ?_
                  refine lv_pop CE58.hx CE58.hb dX1_connect_120 rfl ?_
                  refine lv_aload_n CE58.hx CE58.hb dX1_connect_121 rfl (lv_at hl 2 rfl) ?_
                  refine tc_run (tc_rV (As := []) (rest := []) (L := (0, 0)) (ci := 0) (fs := tc_gfs E58 s65) (q := (RX1, TX1, 13)) CE58 hH.g rfl rfl (t_X1_sort l  hk) (cwV 0 CE58.hts (lw_V q774 q776 qs15 q53 q777) rfl rfl rfl (by decide +kernel) ⟨Nat.le_of_ble_eq_true rfl, Nat.le_of_ble_eq_true rfl⟩) hH hS rfl hl.1 rfl (lv_room (Nat.le_of_ble_eq_true rfl)) dX1_connect_122 ⟨Nat.le_of_ble_eq_true rfl, Nat.le_of_ble_eq_true rfl⟩) hS (fun _ s67 H locs hk hH hS => ?_)
                  refine W.eq (g2 := F0 m 125 ls []) rfl ?_
                  refine lv_aload CE58.hx CE58.hb dX1_connect_125 (lv_at hl 0 rfl) ?_
                  refine tc_getn CE58 hH h60 2 (by decide) rfl (CE58.N 1 rfl) (v := .ref (ea E58 (2, r4 + 2))) rfl dX1_connect_127 ?_
                  refine tc_run (tc_rV (As := []) (rest := []) (L := (2, r4 + 2)) (ci := 9) (fs := tc_lfs E58 s67 (r4 + 2)) (q := (RJ2, TJ2, 3)) CE58 (hH.l _ (Nat.add_lt_add_right h60 2)) rfl rfl (t_J2_size l (Nat.add_lt_add_right h60 2) hk) (cwV 0 CE58.hts (lw_V q360 q361 q362 q56 q363) rfl rfl rfl (by decide +kernel) ⟨Nat.le_of_ble_eq_true rfl, Nat.le_of_ble_eq_true rfl⟩) hH hS rfl hl.1 rfl (lv_room (Nat.le_of_ble_eq_true rfl)) dX1_connect_130 ⟨Nat.le_of_ble_eq_true rfl, Nat.le_of_ble_eq_true rfl⟩) hS (fun r68 s69 H locs hk hH hS => ?_)
                  refine W.eq (g2 := F0 m 133 ls [.int r68]) rfl ?_
                  exact ty_iret r68 rfl CE58 hsim hr hlk hH hS hk dX1_connect_133 (Nat.le_of_ble_eq_true rfl) (Nat.le_of_ble_eq_true rfl)
                · have hk := hk.2 g62
                  obtain ⟨h73, hk⟩ := hk
                  refine xn_add (rest := []) CE58 hH hS (Nat.add_lt_add_right h60 2) g62 h61 h73 (cwV 1 CE58.hts (lw_V q251 q252 q253 q56 q254) rfl rfl rfl (by decide +kernel) ⟨Nat.le_of_ble_eq_true rfl, Nat.le_of_ble_eq_true rfl⟩) hl.1 (lv_room (Nat.le_of_ble_eq_true rfl)) dX1_connect_117 ⟨Nat.le_of_ble_eq_true rfl, Nat.le_of_ble_eq_true rfl⟩ (fun b72 => ?_)
                  obtain ⟨E70, s71, hcl, hea, hk⟩ := hk b72
                  refine ⟨E70, s71, hcl, fun H locs hH9 hS => ?_⟩
                  have hH0 := hH
                  have hH := hH9
                  have hsim2 := hcl.2.2.2.2.1
                  have CE70 := CE58.sim hsim2
                  rw [← hsim2.1] at hS
                  have hsim := hsim.trans hsim2
                  have z0 := hea (1, r4) (hH0.n _ h60)
                  have z1 := hea (1, r1) (hH0.n _ h63)
                  have z2 := hea (0, 0) hH0.g
                  have hl : lv_has ls 6 [(5, .ref (ea E70 (1, r4))), (4, .ref (ea E70 (1, r1))), (0, .ref (ea E70 (0, 0))), (1, .int p1), (2, .int p2), (3, .int p3)] := by rw [z0, z1, z2]; exact hl
                  refine W.eq (g2 := F0 m 120 ls [.int 1]) rfl ?_
                  refine lv_pop CE70.hx CE70.hb dX1_connect_120 rfl ?_
                  refine lv_aload_n CE70.hx CE70.hb dX1_connect_121 rfl (lv_at hl 2 rfl) ?_
                  refine tc_run (tc_rV (As := []) (rest := []) (L := (0, 0)) (ci := 0) (fs := tc_gfs E70 s71) (q := (RX1, TX1, 13)) CE70 hH.g rfl rfl (t_X1_sort l  hk) (cwV 0 CE70.hts (lw_V q774 q776 qs15 q53 q777) rfl rfl rfl (by decide +kernel) ⟨Nat.le_of_ble_eq_true rfl, Nat.le_of_ble_eq_true rfl⟩) hH hS rfl hl.1 rfl (lv_room (Nat.le_of_ble_eq_true rfl)) dX1_connect_122 ⟨Nat.le_of_ble_eq_true rfl, Nat.le_of_ble_eq_true rfl⟩) hS (fun _ s75 H locs hk hH hS => ?_)
                  refine W.eq (g2 := F0 m 125 ls []) rfl ?_
                  refine lv_aload CE70.hx CE70.hb dX1_connect_125 (lv_at hl 0 rfl) ?_
                  obtain ⟨h76, hk⟩ := hk
                  refine tc_getn CE70 hH h76 2 (by decide) rfl (CE70.N 1 rfl) (v := .ref (ea E70 (2, r4 + 2))) rfl dX1_connect_127 ?_
                  refine tc_run (tc_rV (As := []) (rest := []) (L := (2, r4 + 2)) (ci := 9) (fs := tc_lfs E70 s75 (r4 + 2)) (q := (RJ2, TJ2, 3)) CE70 (hH.l _ (Nat.add_lt_add_right h76 2)) rfl rfl (t_J2_size l (Nat.add_lt_add_right h76 2) hk) (cwV 0 CE70.hts (lw_V q360 q361 q362 q56 q363) rfl rfl rfl (by decide +kernel) ⟨Nat.le_of_ble_eq_true rfl, Nat.le_of_ble_eq_true rfl⟩) hH hS rfl hl.1 rfl (lv_room (Nat.le_of_ble_eq_true rfl)) dX1_connect_130 ⟨Nat.le_of_ble_eq_true rfl, Nat.le_of_ble_eq_true rfl⟩) hS (fun r77 s78 H locs hk hH hS => ?_)
                  refine W.eq (g2 := F0 m 133 ls [.int r77]) rfl ?_
                  exact ty_iret r77 rfl CE70 hsim hr hlk hH hS hk dX1_connect_133 (Nat.le_of_ble_eq_true rfl) (Nat.le_of_ble_eq_true rfl)
              · have hk := hk.2 c55
                exact tx_throw C hl0 tx_ok_166 (by decide +kernel) q945 q80 ⟨by decide +kernel, by decide +kernel⟩ hnt hlk hH hS hk hl.1 dX1_connect_94 dX1_connect_97 dX1_connect_98 dX1_connect_101 ⟨Nat.le_of_ble_eq_true rfl, Nat.le_of_ble_eq_true rfl⟩ ⟨Nat.le_of_ble_eq_true rfl, Nat.le_of_ble_eq_true rfl⟩ ⟨Nat.le_of_ble_eq_true rfl, Nat.le_of_ble_eq_true rfl⟩
      · have hk := hk.2 q18 hq18
        try rw [hq18] at hl
        refine W.eq (g2 := F0 m 44 ls [.ref (ea E (13, q18))]) (by first | rfl | (rw [hq18]; rfl)) ?_
        have hl : lv_has ls 6 [(5, .ref (ea E (1, r4))), (4, .ref (ea E (1, r1))), (0, .ref (ea E (0, 0))), (1, .int p1), (2, .int p2), (3, .int p3)] := hl
        refine lv_ifnonnull (tgt := 63) C.hx C.hb dX1_connect_44 (by decide) ?_
        refine lv_iconst (v := 0) C.hx C.hb dX1_connect_63 (by decide) ?_
        refine tx_run (tx_rS (As := [.int 0]) (rest := []) C (t_X1_checkState l hl0  hk) (va_cwS 1 C.hts (lw_S q732 q733 q53 q734) rfl rfl rfl (by decide +kernel) ⟨Nat.le_of_ble_eq_true rfl, Nat.le_of_ble_eq_true rfl⟩) hH hS rfl hl.1 rfl (lv_room (Nat.le_of_ble_eq_true rfl)) dX1_connect_64 ⟨Nat.le_of_ble_eq_true rfl, Nat.le_of_ble_eq_true rfl⟩) hS (fun X ce q9 S9 H1 locs1 hk hH hS h1 h2 h3 => tx_out hnt hlk hk hH hS h1 h2 h3 (Nat.le_of_ble_eq_true rfl) (Nat.le_of_ble_eq_true rfl)) (fun _ s80 H locs hk hH hS => ?_)
        refine W.eq (g2 := F0 m 67 ls []) rfl ?_
        exact hk.elim

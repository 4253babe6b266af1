/-! the component's methods: wp and walk, by program (gen/decc.py) -/
set_option maxRecDepth 100000
/-! ToneGraph$Node.input()I -/
def wp_X3_input_4 (E : tc_E) (post : Int32 → tc_S → Prop) (K : Int32 → Int32 → tc_S → Prop) (i : Nat) : Nat → Int32 → Int32 → tc_S → Prop
  | 0, _, _, _ => False
  | n4 + 1, x1, x2, s0 => wp_J2_size E (fun r1 s2 => ((r1 ≤ x2 → K x1 x2 s2) ∧ (¬ r1 ≤ x2 → (ygr E (i + 2) = true ∧ wp_J2_get E (fun r5 s6 => (r5 < ynw E ∧ ((ywf E r5) < yn E ∧ (∀ v9, v9 = (x1 + (((s6.1 1 (ywf E r5) 0) * (ywq E r5)) / 100)) → (∀ v10, v10 = x2 + 1 → wp_X3_input_4 E post K i n4 v9 v10 s6))))) (i + 2) x2 s2)))) (i + 2) s0
set_option maxHeartbeats 4000000 in
theorem tw_X3_input_4 {p : Program} {l : Launch} {e : Env} {s : State} {m : MethodId} {args : Array Value} {below : List Frame} {meth : Method} {c : Code} {E : tc_E} {post : Int32 → tc_S → Prop} {K : Int32 → Int32 → tc_S → Prop}  {i : Nat} (C : tc_C p m c cX3_input 4 s args RX3 E) (hi : i < yn E) (hr : meth.sig.returnType = (some .int)) (hlk : meth.locks = false) (hK : ∀ (x1 : Int32) (x2 : Int32) (σ' : tc_S) (H : Heap) (locs : List Loc) (ls : Array Slot), K x1 x2 σ' → tc_ok E σ' H → va_S (fun q => eb E ≤ q) s.heap H locs → lv_has ls 4 [(0, .ref (ea E (1, i))), (1, .int x1), (2, .int x2)] → W p l e ({ frames := 3, cells := 0, slots := 0, locals := 64 } : Room) s m args below meth c H locs 0 0 (MQ below (tc_Qg E (fun r : Int32 => some (.int r)) post) args s 0 0 (fun q => eb E ≤ q)) (F0 m 51 ls [])) :
    ∀ (n : Nat) (x1 : Int32) (x2 : Int32) (s0 : tc_S) (H : Heap) (locs : List Loc) (ls : Array Slot), wp_X3_input_4 E post K i n x1 x2 s0 → tc_ok E s0 H → va_S (fun q => eb E ≤ q) s.heap H locs → lv_has ls 4 [(0, .ref (ea E (1, i))), (1, .int x1), (2, .int x2)] → W p l e ({ frames := 3, cells := 0, slots := 0, locals := 64 } : Room) s m args below meth c H locs 0 0 (MQ below (tc_Qg E (fun r : Int32 => some (.int r)) post) args s 0 0 (fun q => eb E ≤ q)) (F0 m 4 ls []) := by
  intro n
  induction n with
  | zero =>
    intro x1 x2 s0 H locs ls hk
    exact hk.elim
  | succ n ih =>
    intro x1 x2 s0 H locs ls hk hH hS hl
    rw [wp_X3_input_4] at hk
    refine lv_iload_n C.hx C.hb dX3_input_4 rfl (lv_at hl 2 rfl) ?_
    refine lv_aload_n C.hx C.hb dX3_input_5 rfl (lv_at hl 0 rfl) ?_
    refine tc_getn C hH hi 2 (by decide) rfl (C.L q214) (v := .ref (ea E (2, i + 2))) rfl dX3_input_6 ?_
    refine tc_run (tc_rV (As := []) (rest := [.int x2]) (L := (2, i + 2)) (ci := 9) (fs := tc_lfs E s0 (i + 2)) (q := (RJ2, TJ2, 3)) C (hH.l _ (Nat.add_lt_add_right hi 2)) rfl rfl (t_J2_size l (Nat.add_lt_add_right hi 2) hk) (cwV 0 C.hts (lw_V q442 q361 q362 q56 q363) rfl rfl rfl (by decide +kernel) ⟨Nat.le_of_ble_eq_true rfl, Nat.le_of_ble_eq_true rfl⟩) hH hS rfl hl.1 rfl (lv_room (Nat.le_of_ble_eq_true rfl)) dX3_input_9 ⟨Nat.le_of_ble_eq_true rfl, Nat.le_of_ble_eq_true rfl⟩) hS (fun r1 s2 H locs hk hH hS => ?_)
    refine W.eq (g2 := F0 m 12 ls [.int r1, .int x2]) rfl ?_
    refine lv_icmp_ge (tgt := 51) C.hx C.hb dX3_input_12 (by decide) (fun c3 => ?_) (fun c3 => ?_)
    · have hk := hk.1 c3
      exact hK x1 x2 s2 _ _ _ hk hH hS (lv_sub hl [0, 1, 2] rfl)
    · have hk := hk.2 c3
      refine lv_aload_n C.hx C.hb dX3_input_15 rfl (lv_at hl 0 rfl) ?_
      refine tc_getn C hH hi 2 (by decide) rfl (C.L q214) (v := .ref (ea E (2, i + 2))) rfl dX3_input_16 ?_
      refine lv_iload_n C.hx C.hb dX3_input_19 rfl (lv_at hl 2 rfl) ?_
      obtain ⟨h4, hk⟩ := hk
      refine tc_run (tc_rV (As := [.int x2]) (rest := []) (L := (2, i + 2)) (ci := 9) (fs := tc_lfs E s2 (i + 2)) (q := (RJ2, TJ2, 3)) C (hH.l _ (Nat.add_lt_add_right hi 2)) rfl rfl (t_J2_get l (Nat.add_lt_add_right hi 2) h4 hk) (cwV 1 C.hts (lw_V q443 q369 q370 q56 q371) rfl rfl rfl (by decide +kernel) ⟨Nat.le_of_ble_eq_true rfl, Nat.le_of_ble_eq_true rfl⟩) hH hS rfl hl.1 rfl (lv_room (Nat.le_of_ble_eq_true rfl)) dX3_input_20 ⟨Nat.le_of_ble_eq_true rfl, Nat.le_of_ble_eq_true rfl⟩) hS (fun r5 s6 H locs hk hH hS => ?_)
      refine W.eq (g2 := F0 m 23 ls [.ref (ea E (13, r5))]) rfl ?_
      obtain ⟨h7, hk⟩ := hk
      refine tc_castW C hH h7 q444 dX3_input_23 ?_
      refine lv_astore_n (lv' := [(3, .ref (ea E (13, r5))), (0, .ref (ea E (1, i))), (1, .int x1), (2, .int x2)]) C.hx C.hb dX3_input_26 rfl hl (by decide) rfl (fun ls hl => ?_)
      refine lv_iload_n C.hx C.hb dX3_input_27 rfl (lv_at hl 2 rfl) ?_
      refine lv_aload_n C.hx C.hb dX3_input_28 rfl (lv_at hl 0 rfl) ?_
      obtain ⟨h8, hk⟩ := hk
      refine tc_get C hH (hH.w _ h7) (Cn := RX11) (T := TX11) (N := 2) (ci := 8) (fs := [.ref (ea E (1, ywf E r5)), .int (ywq E r5)]) in_X11 rfl rfl 0 (by decide) (C.N 24 rfl) (fun _ h => h) (v := .ref (ea E (1, (ywf E r5)))) rfl dX3_input_29 ?_
      refine tc_getn C hH h8 4 (by decide) rfl (C.L q220) (v := .int (s6.1 1 (ywf E r5) 0)) rfl dX3_input_32 ?_
      refine lv_aload_n C.hx C.hb dX3_input_35 rfl (lv_at hl 0 rfl) ?_
      refine tc_get C hH (hH.w _ h7) (Cn := RX11) (T := TX11) (N := 2) (ci := 8) (fs := [.ref (ea E (1, ywf E r5)), .int (ywq E r5)]) in_X11 rfl rfl 1 (by decide) (C.N 25 rfl) (fun _ h => h) (v := .int (ywq E r5)) rfl dX3_input_36 ?_
      refine lv_imul C.hx C.hb dX3_input_39 ?_
      refine lv_bipush (v := 100) C.hx C.hb dX3_input_40 (by decide) ?_
      refine lv_idiv C.hx C.hb dX3_input_42 (by decide) ?_
      refine lv_iadd C.hx C.hb dX3_input_43 ?_
      refine lv_topi (fun v9 ev9 => ?_)
      have hk := hk v9 ev9
      refine lv_istore_n (lv' := [(1, .int v9), (3, .ref (ea E (13, r5))), (0, .ref (ea E (1, i))), (2, .int x2)]) C.hx C.hb dX3_input_44 rfl hl (by decide) rfl (fun ls hl => ?_)
      obtain ⟨v10, ev10⟩ : ∃ y : Int32, y = x2 + 1 := ⟨_, rfl⟩
      have hk := hk v10 ev10
      refine lv_iinc (v := v10) (lv' := [(2, .int v10), (1, .int v9), (3, .ref (ea E (13, r5))), (0, .ref (ea E (1, i)))]) C.hx C.hb dX3_input_45 hl (k := 3) rfl (by rw [ev10]; rfl) (by decide) rfl (fun ls hl => ?_)
      refine lv_goto (tgt := 4) C.hx C.hb dX3_input_48 (by decide) ?_
      exact ih v9 v10 s6 _ _ _ hk hH hS (lv_sub hl [3, 1, 0] rfl)
def wp_X3_input (E : tc_E) (post : Int32 → tc_S → Prop) (i : Nat) (s0 : tc_S) : Prop := (∃ n4, wp_X3_input_4 E post (fun y11 y12 s13 => post y11 s13) i n4 0 0 s0)
set_option maxHeartbeats 4000000 in
theorem t_X3_input (l : Launch) {E : tc_E} {i : Nat} (hi : i < yn E) {post : Int32 → tc_S → Prop} {s0 : tc_S} (hk : wp_X3_input E post i s0) : tc_M l yX3_input (ws_ yX3_input cX3_input 4 (some .int)) ({ frames := 3, cells := 0, slots := 0, locals := 64 } : Room) E [.ref (ea E (1, i))] s0 (fun r : Int32 => some (.int r)) post := by
  refine tc_start cX3_input 4 (some .int) RX3 (by decide) rfl rfl (Nat.le_of_ble_eq_true rfl) ?_
  intro p e s m args below meth c ls C hnm hr hlk hH hS hl
  have hl : lv_has ls 4 [(0, .ref (ea E (1, i)))] := hl
  unfold wp_X3_input at hk
  refine lv_iconst (v := 0) C.hx C.hb dX3_input_0 (by decide) ?_
  refine lv_istore_n (lv' := [(1, .int 0), (0, .ref (ea E (1, i)))]) C.hx C.hb dX3_input_1 rfl hl (by decide) rfl (fun ls hl => ?_)
  refine lv_iconst (v := 0) C.hx C.hb dX3_input_2 (by decide) ?_
  refine lv_istore_n (lv' := [(2, .int 0), (1, .int 0), (0, .ref (ea E (1, i)))]) C.hx C.hb dX3_input_3 rfl hl (by decide) rfl (fun ls hl => ?_)
  obtain ⟨n4, hk⟩ := hk
  refine tw_X3_input_4 C hi hr hlk (fun y11 y12 s13 H locs ls hk hH hS hl => ?_) n4 0 0 s0 _ _ _ hk hH hS (lv_sub hl [2, 1, 0] rfl)
  refine lv_iload_n C.hx C.hb dX3_input_51 rfl (lv_at hl 1 rfl) ?_
  exact tc_iret y11 rfl C hr hlk hH hS hk dX3_input_52
/-! ToneGraph$Node.input(I)I -/
def wp_X3_input_2_4 (E : tc_E) (post : Int32 → tc_S → Prop) (K : Int32 → Int32 → Int32 → tc_S → Prop) (i : Nat) : Nat → Int32 → Int32 → Int32 → tc_S → Prop
  | 0, _, _, _, _ => False
  | n4 + 1, x1, x2, x3, s0 => wp_J2_size E (fun r1 s2 => ((r1 ≤ x3 → K x1 x2 x3 s2) ∧ (¬ r1 ≤ x3 → (ygr E (i + 2) = true ∧ wp_J2_get E (fun r5 s6 => (r5 < ynw E ∧ ((ywf E r5) < yn E ∧ (vp_in x1 64 ∧ (∀ v10, v10 = (x2 + ((((s6.1 2 (ywf E r5)) x1.toNatClampNeg) * (ywq E r5)) / 100)) → (∀ v11, v11 = x3 + 1 → wp_X3_input_2_4 E post K i n4 x1 v10 v11 s6)))))) (i + 2) x3 s2)))) (i + 2) s0
set_option maxHeartbeats 4000000 in
theorem tw_X3_input_2_4 {p : Program} {l : Launch} {e : Env} {s : State} {m : MethodId} {args : Array Value} {below : List Frame} {meth : Method} {c : Code} {E : tc_E} {post : Int32 → tc_S → Prop} {K : Int32 → Int32 → Int32 → tc_S → Prop}  {i : Nat} (C : tc_C p m c cX3_input_2 5 s args RX3 E) (hi : i < yn E) (hr : meth.sig.returnType = (some .int)) (hlk : meth.locks = false) (hK : ∀ (x1 : Int32) (x2 : Int32) (x3 : Int32) (σ' : tc_S) (H : Heap) (locs : List Loc) (ls : Array Slot), K x1 x2 x3 σ' → tc_ok E σ' H → va_S (fun q => eb E ≤ q) s.heap H locs → lv_has ls 5 [(0, .ref (ea E (1, i))), (1, .int x1), (2, .int x2), (3, .int x3)] → W p l e ({ frames := 3, cells := 0, slots := 0, locals := 64 } : Room) s m args below meth c H locs 0 0 (MQ below (tc_Qg E (fun r : Int32 => some (.int r)) post) args s 0 0 (fun q => eb E ≤ q)) (F0 m 56 ls [])) :
    ∀ (n : Nat) (x1 : Int32) (x2 : Int32) (x3 : Int32) (s0 : tc_S) (H : Heap) (locs : List Loc) (ls : Array Slot), wp_X3_input_2_4 E post K i n x1 x2 x3 s0 → tc_ok E s0 H → va_S (fun q => eb E ≤ q) s.heap H locs → lv_has ls 5 [(0, .ref (ea E (1, i))), (1, .int x1), (2, .int x2), (3, .int x3)] → W p l e ({ frames := 3, cells := 0, slots := 0, locals := 64 } : Room) s m args below meth c H locs 0 0 (MQ below (tc_Qg E (fun r : Int32 => some (.int r)) post) args s 0 0 (fun q => eb E ≤ q)) (F0 m 4 ls []) := by
  intro n
  induction n with
  | zero =>
    intro x1 x2 x3 s0 H locs ls hk
    exact hk.elim
  | succ n ih =>
    intro x1 x2 x3 s0 H locs ls hk hH hS hl
    rw [wp_X3_input_2_4] at hk
    refine lv_iload_n C.hx C.hb dX3_input_2_4 rfl (lv_at hl 3 rfl) ?_
    refine lv_aload_n C.hx C.hb dX3_input_2_5 rfl (lv_at hl 0 rfl) ?_
    refine tc_getn C hH hi 2 (by decide) rfl (C.L q214) (v := .ref (ea E (2, i + 2))) rfl dX3_input_2_6 ?_
    refine tc_run (tc_rV (As := []) (rest := [.int x3]) (L := (2, i + 2)) (ci := 9) (fs := tc_lfs E s0 (i + 2)) (q := (RJ2, TJ2, 3)) C (hH.l _ (Nat.add_lt_add_right hi 2)) rfl rfl (t_J2_size l (Nat.add_lt_add_right hi 2) hk) (cwV 0 C.hts (lw_V q442 q361 q362 q56 q363) rfl rfl rfl (by decide +kernel) ⟨Nat.le_of_ble_eq_true rfl, Nat.le_of_ble_eq_true rfl⟩) hH hS rfl hl.1 rfl (lv_room (Nat.le_of_ble_eq_true rfl)) dX3_input_2_9 ⟨Nat.le_of_ble_eq_true rfl, Nat.le_of_ble_eq_true rfl⟩) hS (fun r1 s2 H locs hk hH hS => ?_)
    refine W.eq (g2 := F0 m 12 ls [.int r1, .int x3]) rfl ?_
    refine lv_icmp_ge (tgt := 56) C.hx C.hb dX3_input_2_12 (by decide) (fun c3 => ?_) (fun c3 => ?_)
    · have hk := hk.1 c3
      exact hK x1 x2 x3 s2 _ _ _ hk hH hS (lv_sub hl [0, 1, 2, 3] rfl)
    · have hk := hk.2 c3
      refine lv_aload_n C.hx C.hb dX3_input_2_15 rfl (lv_at hl 0 rfl) ?_
      refine tc_getn C hH hi 2 (by decide) rfl (C.L q214) (v := .ref (ea E (2, i + 2))) rfl dX3_input_2_16 ?_
      refine lv_iload_n C.hx C.hb dX3_input_2_19 rfl (lv_at hl 3 rfl) ?_
      obtain ⟨h4, hk⟩ := hk
      refine tc_run (tc_rV (As := [.int x3]) (rest := []) (L := (2, i + 2)) (ci := 9) (fs := tc_lfs E s2 (i + 2)) (q := (RJ2, TJ2, 3)) C (hH.l _ (Nat.add_lt_add_right hi 2)) rfl rfl (t_J2_get l (Nat.add_lt_add_right hi 2) h4 hk) (cwV 1 C.hts (lw_V q443 q369 q370 q56 q371) rfl rfl rfl (by decide +kernel) ⟨Nat.le_of_ble_eq_true rfl, Nat.le_of_ble_eq_true rfl⟩) hH hS rfl hl.1 rfl (lv_room (Nat.le_of_ble_eq_true rfl)) dX3_input_2_20 ⟨Nat.le_of_ble_eq_true rfl, Nat.le_of_ble_eq_true rfl⟩) hS (fun r5 s6 H locs hk hH hS => ?_)
      refine W.eq (g2 := F0 m 23 ls [.ref (ea E (13, r5))]) rfl ?_
      obtain ⟨h7, hk⟩ := hk
      refine tc_castW C hH h7 q444 dX3_input_2_23 ?_
      refine lv_astore (lv' := [(4, .ref (ea E (13, r5))), (0, .ref (ea E (1, i))), (1, .int x1), (2, .int x2), (3, .int x3)]) C.hx C.hb dX3_input_2_26 hl (by decide) rfl (fun ls hl => ?_)
      refine lv_iload_n C.hx C.hb dX3_input_2_28 rfl (lv_at hl 3 rfl) ?_
      refine lv_aload C.hx C.hb dX3_input_2_29 (lv_at hl 0 rfl) ?_
      obtain ⟨h8, hk⟩ := hk
      refine tc_get C hH (hH.w _ h7) (Cn := RX11) (T := TX11) (N := 2) (ci := 8) (fs := [.ref (ea E (1, ywf E r5)), .int (ywq E r5)]) in_X11 rfl rfl 0 (by decide) (C.N 24 rfl) (fun _ h => h) (v := .ref (ea E (1, (ywf E r5)))) rfl dX3_input_2_31 ?_
      refine tc_getn C hH h8 3 (by decide) rfl (C.L q216) (v := .ref (ea E (4, (ywf E r5)))) rfl dX3_input_2_34 ?_
      refine lv_iload_n C.hx C.hb dX3_input_2_37 rfl (lv_at hl 2 rfl) ?_
      obtain ⟨h9, hk⟩ := hk
      refine tc_ald C hH (hH.row _ h8) (N := 64) (f := (s6.1 2 (ywf E r5))) rfl h9 dX3_input_2_38 ?_
      refine lv_aload C.hx C.hb dX3_input_2_39 (lv_at hl 0 rfl) ?_
      refine tc_get C hH (hH.w _ h7) (Cn := RX11) (T := TX11) (N := 2) (ci := 8) (fs := [.ref (ea E (1, ywf E r5)), .int (ywq E r5)]) in_X11 rfl rfl 1 (by decide) (C.N 25 rfl) (fun _ h => h) (v := .int (ywq E r5)) rfl dX3_input_2_41 ?_
      refine lv_imul C.hx C.hb dX3_input_2_44 ?_
      refine lv_bipush (v := 100) C.hx C.hb dX3_input_2_45 (by decide) ?_
      refine lv_idiv C.hx C.hb dX3_input_2_47 (by decide) ?_
      refine lv_iadd C.hx C.hb dX3_input_2_48 ?_
      refine lv_topi (fun v10 ev10 => ?_)
      have hk := hk v10 ev10
      refine lv_istore_n (lv' := [(2, .int v10), (4, .ref (ea E (13, r5))), (0, .ref (ea E (1, i))), (1, .int x1), (3, .int x3)]) C.hx C.hb dX3_input_2_49 rfl hl (by decide) rfl (fun ls hl => ?_)
      obtain ⟨v11, ev11⟩ : ∃ y : Int32, y = x3 + 1 := ⟨_, rfl⟩
      have hk := hk v11 ev11
      refine lv_iinc (v := v11) (lv' := [(3, .int v11), (2, .int v10), (4, .ref (ea E (13, r5))), (0, .ref (ea E (1, i))), (1, .int x1)]) C.hx C.hb dX3_input_2_50 hl (k := 4) rfl (by rw [ev11]; rfl) (by decide) rfl (fun ls hl => ?_)
      refine lv_goto (tgt := 4) C.hx C.hb dX3_input_2_53 (by decide) ?_
      exact ih x1 v10 v11 s6 _ _ _ hk hH hS (lv_sub hl [3, 4, 1, 0] rfl)
def wp_X3_input_2 (E : tc_E) (post : Int32 → tc_S → Prop) (i : Nat) (p1 : Int32) (s0 : tc_S) : Prop := (∃ n4, wp_X3_input_2_4 E post (fun y12 y13 y14 s15 => post y13 s15) i n4 p1 0 0 s0)
set_option maxHeartbeats 4000000 in
theorem t_X3_input_2 (l : Launch) {E : tc_E} {i : Nat} (hi : i < yn E) {post : Int32 → tc_S → Prop} {p1 : Int32} {s0 : tc_S} (hk : wp_X3_input_2 E post i p1 s0) : tc_M l yX3_input_2 (ws_ yX3_input_2 cX3_input_2 5 (some .int)) ({ frames := 3, cells := 0, slots := 0, locals := 64 } : Room) E [.ref (ea E (1, i)), .int p1] s0 (fun r : Int32 => some (.int r)) post := by
  refine tc_start cX3_input_2 5 (some .int) RX3 (by decide) rfl rfl (Nat.le_of_ble_eq_true rfl) ?_
  intro p e s m args below meth c ls C hnm hr hlk hH hS hl
  have hl : lv_has ls 5 [(0, .ref (ea E (1, i))), (1, .int p1)] := hl
  unfold wp_X3_input_2 at hk
  refine lv_iconst (v := 0) C.hx C.hb dX3_input_2_0 (by decide) ?_
  refine lv_istore_n (lv' := [(2, .int 0), (0, .ref (ea E (1, i))), (1, .int p1)]) C.hx C.hb dX3_input_2_1 rfl hl (by decide) rfl (fun ls hl => ?_)
  refine lv_iconst (v := 0) C.hx C.hb dX3_input_2_2 (by decide) ?_
  refine lv_istore_n (lv' := [(3, .int 0), (2, .int 0), (0, .ref (ea E (1, i))), (1, .int p1)]) C.hx C.hb dX3_input_2_3 rfl hl (by decide) rfl (fun ls hl => ?_)
  obtain ⟨n4, hk⟩ := hk
  refine tw_X3_input_2_4 C hi hr hlk (fun y12 y13 y14 s15 H locs ls hk hH hS hl => ?_) n4 p1 0 0 s0 _ _ _ hk hH hS (lv_sub hl [2, 3, 1, 0] rfl)
  refine lv_iload_n C.hx C.hb dX3_input_2_56 rfl (lv_at hl 2 rfl) ?_
  exact tc_iret y13 rfl C hr hlk hH hS hk dX3_input_2_57
/-! ToneGraph$Node.isDelay()Z -/
def wp_X3_isDelay (E : tc_E) (post : Int32 → tc_S → Prop) (i : Nat) (s0 : tc_S) : Prop := post 0 s0
set_option maxHeartbeats 4000000 in
theorem t_X3_isDelay (l : Launch) {E : tc_E} {i : Nat} (hi : i < yn E) {post : Int32 → tc_S → Prop} {s0 : tc_S} (hk : wp_X3_isDelay E post i s0) : tc_M l yX3_isDelay (ws_ yX3_isDelay cX3_isDelay 1 (some .boolean)) ({ frames := 0, cells := 0, slots := 0, locals := 0 } : Room) E [.ref (ea E (1, i))] s0 (fun r : Int32 => some (.int r)) post := by
  refine tc_start cX3_isDelay 1 (some .boolean) RX3 (by decide) rfl rfl (Nat.le_of_ble_eq_true rfl) ?_
  intro p e s m args below meth c ls C hnm hr hlk hH hS hl
  have hl : lv_has ls 1 [(0, .ref (ea E (1, i)))] := hl
  unfold wp_X3_isDelay at hk
  refine lv_iconst (v := 0) C.hx C.hb dX3_isDelay_0 (by decide) ?_
  exact tc_zret (ty := .boolean) 0 rfl C hr hlk (by decide) hH hS hk dX3_isDelay_1
/-! ToneGraph$Delay.isDelay()Z -/
def wp_X8_isDelay (E : tc_E) (post : Int32 → tc_S → Prop) (i : Nat) (s0 : tc_S) : Prop := post 1 s0
set_option maxHeartbeats 4000000 in
theorem t_X8_isDelay (l : Launch) {E : tc_E} {i : Nat} (hi : i < yn E) (hkd : ykd E i = 2) {post : Int32 → tc_S → Prop} {s0 : tc_S} (hk : wp_X8_isDelay E post i s0) : tc_M l yX8_isDelay (ws_ yX8_isDelay cX8_isDelay 1 (some .boolean)) ({ frames := 0, cells := 0, slots := 0, locals := 0 } : Room) E [.ref (ea E (1, i))] s0 (fun r : Int32 => some (.int r)) post := by
  refine tc_start cX8_isDelay 1 (some .boolean) RX8 (by decide) rfl rfl (Nat.le_of_ble_eq_true rfl) ?_
  intro p e s m args below meth c ls C hnm hr hlk hH hS hl
  have hl : lv_has ls 1 [(0, .ref (ea E (1, i)))] := hl
  unfold wp_X8_isDelay at hk
  refine lv_iconst (v := 1) C.hx C.hb dX8_isDelay_0 (by decide) ?_
  exact tc_zret (ty := .boolean) 1 rfl C hr hlk (by decide) hH hS hk dX8_isDelay_1
/-! ToneGraph$Gain.made(I)I -/
def wp_X7_made (E : tc_E) (post : Int32 → tc_S → Prop) (i : Nat) (p1 : Int32) (s0 : tc_S) : Prop := post ((p1 * (s0.1 1 i 3)) / 100) s0
set_option maxHeartbeats 4000000 in
theorem t_X7_made (l : Launch) {E : tc_E} {i : Nat} (hi : i < yn E) (hkd : ykd E i = 1) {post : Int32 → tc_S → Prop} {p1 : Int32} {s0 : tc_S} (hk : wp_X7_made E post i p1 s0) : tc_M l yX7_made (ws_ yX7_made cX7_made 2 (some .int)) ({ frames := 0, cells := 0, slots := 0, locals := 0 } : Room) E [.ref (ea E (1, i)), .int p1] s0 (fun r : Int32 => some (.int r)) post := by
  refine tc_start cX7_made 2 (some .int) RX7 (by decide) rfl rfl (Nat.le_of_ble_eq_true rfl) ?_
  intro p e s m args below meth c ls C hnm hr hlk hH hS hl
  have hl : lv_has ls 2 [(0, .ref (ea E (1, i))), (1, .int p1)] := hl
  unfold wp_X7_made at hk
  refine lv_iload_n C.hx C.hb dX7_made_0 rfl (lv_at hl 1 rfl) ?_
  refine lv_aload_n C.hx C.hb dX7_made_1 rfl (lv_at hl 0 rfl) ?_
  refine tc_get C hH (hH.n _ hi) (Cn := RX7) (T := TX7) (N := 10) (ci := 4) (fs := tc_nfs E s0 i) in_X7 (tc_e1 hkd) rfl 9 (by decide) (C.L q756) (fun _ h => h) (v := .int (s0.1 1 i 3)) (tc_x1_9 hkd) dX7_made_2 ?_
  refine lv_imul C.hx C.hb dX7_made_5 ?_
  refine lv_bipush (v := 100) C.hx C.hb dX7_made_6 (by decide) ?_
  refine lv_idiv C.hx C.hb dX7_made_8 (by decide) ?_
  exact tc_iret ((p1 * (s0.1 1 i 3)) / 100) rfl C hr hlk hH hS hk dX7_made_9
/-! ToneGraph$Bus.made(I)I -/
def wp_X10_made (E : tc_E) (post : Int32 → tc_S → Prop) (i : Nat) (p1 : Int32) (s0 : tc_S) : Prop := (∀ r1, r1 = (if 0 ≤ p1 then p1 else 0 - p1) → (((yim E i 0) < r1 → (∀ v3, v3 = ((yim E i 0) + ((r1 - (yim E i 0)) / 4)) → ((0 ≤ p1 → post v3 s0) ∧ (¬ 0 ≤ p1 → post (-v3) s0)))) ∧ (¬ (yim E i 0) < r1 → ((0 ≤ p1 → post r1 s0) ∧ (¬ 0 ≤ p1 → post (-r1) s0)))))
set_option maxHeartbeats 4000000 in
theorem t_X10_made (l : Launch) {E : tc_E} {i : Nat} (hi : i < yn E) (hkd : ykd E i = 4) {post : Int32 → tc_S → Prop} {p1 : Int32} {s0 : tc_S} (hk : wp_X10_made E post i p1 s0) : tc_M l yX10_made (ws_ yX10_made cX10_made 4 (some .int)) ({ frames := 1, cells := 0, slots := 0, locals := 21 } : Room) E [.ref (ea E (1, i)), .int p1] s0 (fun r : Int32 => some (.int r)) post := by
  refine tc_start cX10_made 4 (some .int) RX10 (by decide) rfl rfl (Nat.le_of_ble_eq_true rfl) ?_
  intro p e s m args below meth c ls C hnm hr hlk hH hS hl
  have hl : lv_has ls 4 [(0, .ref (ea E (1, i))), (1, .int p1)] := hl
  unfold wp_X10_made at hk
  refine lv_iload_n C.hx C.hb dX10_made_0 rfl (lv_at hl 1 rfl) ?_
  refine va_mabs C.hx C.hb (C.hml.trans hl.1.symm) C.hown (C.hts _ q451) (C.hts _ q452) (C.hts _ q62) (C.hts _ q453) (Nat.le_of_ble_eq_true rfl) (Nat.le_of_ble_eq_true rfl) (Nat.le_of_ble_eq_true rfl) (Nat.le_of_ble_eq_true rfl) dX10_made_1 ?_
  refine lv_topi (fun r1 er1 => ?_)
  have hk := hk r1 er1
  refine lv_istore_n (lv' := [(2, .int r1), (0, .ref (ea E (1, i))), (1, .int p1)]) C.hx C.hb dX10_made_4 rfl hl (by decide) rfl (fun ls hl => ?_)
  refine lv_iload_n C.hx C.hb dX10_made_5 rfl (lv_at hl 0 rfl) ?_
  refine lv_aload_n C.hx C.hb dX10_made_6 rfl (lv_at hl 1 rfl) ?_
  refine tc_get C hH (hH.n _ hi) (Cn := RX10) (T := TX10) (N := 10) (ci := 7) (fs := tc_nfs E s0 i) in_X10 (tc_e4 hkd) rfl 9 (by decide) (C.L q852) (fun _ h => h) (v := .int (yim E i 0)) (tc_x4_9 hkd) dX10_made_7 ?_
  refine lv_icmp_gt (tgt := 17) C.hx C.hb dX10_made_10 (by decide) (fun c2 => ?_) (fun c2 => ?_)
  · have hk := hk.1 c2
    refine lv_aload_n C.hx C.hb dX10_made_17 rfl (lv_at hl 1 rfl) ?_
    refine tc_get C hH (hH.n _ hi) (Cn := RX10) (T := TX10) (N := 10) (ci := 7) (fs := tc_nfs E s0 i) in_X10 (tc_e4 hkd) rfl 9 (by decide) (C.L q852) (fun _ h => h) (v := .int (yim E i 0)) (tc_x4_9 hkd) dX10_made_18 ?_
    refine lv_iload_n C.hx C.hb dX10_made_21 rfl (lv_at hl 0 rfl) ?_
    refine lv_aload_n C.hx C.hb dX10_made_22 rfl (lv_at hl 1 rfl) ?_
    refine tc_get C hH (hH.n _ hi) (Cn := RX10) (T := TX10) (N := 10) (ci := 7) (fs := tc_nfs E s0 i) in_X10 (tc_e4 hkd) rfl 9 (by decide) (C.L q852) (fun _ h => h) (v := .int (yim E i 0)) (tc_x4_9 hkd) dX10_made_23 ?_
    refine lv_isub C.hx C.hb dX10_made_26 ?_
    refine lv_iconst (v := 4) C.hx C.hb dX10_made_27 (by decide) ?_
    refine lv_idiv C.hx C.hb dX10_made_28 (by decide) ?_
    refine lv_iadd C.hx C.hb dX10_made_29 ?_
    refine lv_topi (fun v3 ev3 => ?_)
    have hk := hk v3 ev3
    refine lv_istore_n (lv' := [(3, .int v3), (2, .int r1), (0, .ref (ea E (1, i))), (1, .int p1)]) C.hx C.hb dX10_made_30 rfl hl (by decide) rfl (fun ls hl => ?_)
    refine lv_iload_n C.hx C.hb dX10_made_31 rfl (lv_at hl 3 rfl) ?_
    refine lv_if_ge (tgt := 40) C.hx C.hb dX10_made_32 (by decide) (fun c4 => ?_) (fun c4 => ?_)
    · have hk := hk.1 c4
      refine lv_iload_n C.hx C.hb dX10_made_40 rfl (lv_at hl 0 rfl) ?_
      exact tc_iret v3 rfl C hr hlk hH hS hk dX10_made_41
    · have hk := hk.2 c4
      refine lv_iload_n C.hx C.hb dX10_made_35 rfl (lv_at hl 0 rfl) ?_
      refine lv_ineg C.hx C.hb dX10_made_36 ?_
      refine lv_goto (tgt := 41) C.hx C.hb dX10_made_37 (by decide) ?_
      exact tc_iret (-v3) rfl C hr hlk hH hS hk dX10_made_41
  · have hk := hk.2 c2
    refine lv_iload_n C.hx C.hb dX10_made_13 rfl (lv_at hl 0 rfl) ?_
    refine lv_goto (tgt := 30) C.hx C.hb dX10_made_14 (by decide) ?_
    refine lv_istore_n (lv' := [(3, .int r1), (2, .int r1), (0, .ref (ea E (1, i))), (1, .int p1)]) C.hx C.hb dX10_made_30 rfl hl (by decide) rfl (fun ls hl => ?_)
    refine lv_iload_n C.hx C.hb dX10_made_31 rfl (lv_at hl 3 rfl) ?_
    refine lv_if_ge (tgt := 40) C.hx C.hb dX10_made_32 (by decide) (fun c5 => ?_) (fun c5 => ?_)
    · have hk := hk.1 c5
      refine lv_iload_n C.hx C.hb dX10_made_40 rfl (lv_at hl 0 rfl) ?_
      exact tc_iret r1 rfl C hr hlk hH hS hk dX10_made_41
    · have hk := hk.2 c5
      refine lv_iload_n C.hx C.hb dX10_made_35 rfl (lv_at hl 0 rfl) ?_
      refine lv_ineg C.hx C.hb dX10_made_36 ?_
      refine lv_goto (tgt := 41) C.hx C.hb dX10_made_37 (by decide) ?_
      exact tc_iret (-r1) rfl C hr hlk hH hS hk dX10_made_41
/-! ToneGraph$Delay.made(I)I -/
def wp_X8_made (E : tc_E) (post : Int32 → tc_S → Prop) (i : Nat) (p1 : Int32) (s0 : tc_S) : Prop := (vp_in (yim E i 0) (ynl E i) ∧ (vp_in ((s0.1 3 i) (yim E i 0).toNatClampNeg) (ynl E i) ∧ post ((s0.1 3 i) ((s0.1 3 i) (yim E i 0).toNatClampNeg).toNatClampNeg) s0))
set_option maxHeartbeats 4000000 in
theorem t_X8_made (l : Launch) {E : tc_E} {i : Nat} (hi : i < yn E) (hkd : ykd E i = 2) {post : Int32 → tc_S → Prop} {p1 : Int32} {s0 : tc_S} (hk : wp_X8_made E post i p1 s0) : tc_M l yX8_made (ws_ yX8_made cX8_made 2 (some .int)) ({ frames := 0, cells := 0, slots := 0, locals := 0 } : Room) E [.ref (ea E (1, i)), .int p1] s0 (fun r : Int32 => some (.int r)) post := by
  refine tc_start cX8_made 2 (some .int) RX8 (by decide) rfl rfl (Nat.le_of_ble_eq_true rfl) ?_
  intro p e s m args below meth c ls C hnm hr hlk hH hS hl
  have hl : lv_has ls 2 [(0, .ref (ea E (1, i))), (1, .int p1)] := hl
  unfold wp_X8_made at hk
  refine lv_aload_n C.hx C.hb dX8_made_0 rfl (lv_at hl 0 rfl) ?_
  refine tc_getn C hH hi 6 (by decide) rfl (C.N 20 rfl) (v := .ref (ea E (5, i))) rfl dX8_made_1 ?_
  refine lv_aload_n C.hx C.hb dX8_made_4 rfl (lv_at hl 0 rfl) ?_
  refine tc_getn C hH hi 6 (by decide) rfl (C.N 20 rfl) (v := .ref (ea E (5, i))) rfl dX8_made_5 ?_
  refine lv_aload_n C.hx C.hb dX8_made_8 rfl (lv_at hl 0 rfl) ?_
  refine tc_get C hH (hH.n _ hi) (Cn := RX8) (T := TX8) (N := 11) (ci := 5) (fs := tc_nfs E s0 i) in_X8 (tc_e2 hkd) rfl 9 (by decide) (C.L q796) (fun _ h => h) (v := .int (yim E i 0)) (tc_x2_9 hkd) dX8_made_9 ?_
  obtain ⟨h1, hk⟩ := hk
  refine tc_ald C hH (hH.num _ hi) (N := ynl E i) (f := (s0.1 3 i)) rfl h1 dX8_made_12 ?_
  obtain ⟨h2, hk⟩ := hk
  refine tc_ald C hH (hH.num _ hi) (N := ynl E i) (f := (s0.1 3 i)) rfl h2 dX8_made_13 ?_
  exact tc_iret ((s0.1 3 i) ((s0.1 3 i) (yim E i 0).toNatClampNeg).toNatClampNeg) rfl C hr hlk hH hS hk dX8_made_14
/-! ToneGraph$Filter.made(I)I -/
def wp_X9_made (E : tc_E) (post : Int32 → tc_S → Prop) (i : Nat) (p1 : Int32) (s0 : tc_S) : Prop := (vp_in 0 3 ∧ (vp_in 1 3 ∧ (vp_in 0 (ynl E i) ∧ (vp_in 2 3 ∧ (vp_in 1 (ynl E i) ∧ (∀ v6, v6 = ((((((yco E i) (0 : Int32).toNatClampNeg) * p1) + (((yco E i) (1 : Int32).toNatClampNeg) * ((s0.1 3 i) (0 : Int32).toNatClampNeg))) + (((yco E i) (2 : Int32).toNatClampNeg) * ((s0.1 3 i) (1 : Int32).toNatClampNeg))) / 64) → (vp_in 0 (ynl E i) ∧ (∀ s8 : tc_S, s8 = tI s0 3 i (0 : Int32).toNatClampNeg p1 → wp_X1_cut (fun r9 => (vp_in 1 (ynl E i) ∧ (∀ s11 : tc_S, s11 = tI s8 3 i (1 : Int32).toNatClampNeg r9 → post v6 s11))) v6))))))))
set_option maxHeartbeats 4000000 in
theorem t_X9_made (l : Launch) {E : tc_E} {i : Nat} (hi : i < yn E) (hkd : ykd E i = 3) {post : Int32 → tc_S → Prop} {p1 : Int32} {s0 : tc_S} (hk : wp_X9_made E post i p1 s0) : tc_M l yX9_made (ws_ yX9_made cX9_made 3 (some .int)) ({ frames := 2, cells := 0, slots := 0, locals := 41 } : Room) E [.ref (ea E (1, i)), .int p1] s0 (fun r : Int32 => some (.int r)) post := by
  refine tc_start cX9_made 3 (some .int) RX9 (by decide) rfl rfl (Nat.le_of_ble_eq_true rfl) ?_
  intro p e s m args below meth c ls C hnm hr hlk hH hS hl
  have hl : lv_has ls 3 [(0, .ref (ea E (1, i))), (1, .int p1)] := hl
  unfold wp_X9_made at hk
  refine lv_aload_n C.hx C.hb dX9_made_0 rfl (lv_at hl 0 rfl) ?_
  refine tc_get C hH (hH.n _ hi) (Cn := RX9) (T := TX9) (N := 10) (ci := 6) (fs := tc_nfs E s0 i) in_X9 (tc_e3 hkd) rfl 9 (by decide) (C.L q826) (fun _ h => h) (v := .ref (ea E (7, i))) (tc_x3_9 hkd) dX9_made_1 ?_
  refine lv_iconst (v := 0) C.hx C.hb dX9_made_4 (by decide) ?_
  obtain ⟨h1, hk⟩ := hk
  refine tc_ald C hH (hH.co _ hi hkd) (N := 3) (f := (yco E i)) rfl h1 dX9_made_5 ?_
  refine lv_iload_n C.hx C.hb dX9_made_6 rfl (lv_at hl 1 rfl) ?_
  refine lv_imul C.hx C.hb dX9_made_7 ?_
  refine lv_aload_n C.hx C.hb dX9_made_8 rfl (lv_at hl 0 rfl) ?_
  refine tc_get C hH (hH.n _ hi) (Cn := RX9) (T := TX9) (N := 10) (ci := 6) (fs := tc_nfs E s0 i) in_X9 (tc_e3 hkd) rfl 9 (by decide) (C.L q826) (fun _ h => h) (v := .ref (ea E (7, i))) (tc_x3_9 hkd) dX9_made_9 ?_
  refine lv_iconst (v := 1) C.hx C.hb dX9_made_12 (by decide) ?_
  obtain ⟨h2, hk⟩ := hk
  refine tc_ald C hH (hH.co _ hi hkd) (N := 3) (f := (yco E i)) rfl h2 dX9_made_13 ?_
  refine lv_aload_n C.hx C.hb dX9_made_14 rfl (lv_at hl 0 rfl) ?_
  refine tc_getn C hH hi 6 (by decide) rfl (C.N 23 rfl) (v := .ref (ea E (5, i))) rfl dX9_made_15 ?_
  refine lv_iconst (v := 0) C.hx C.hb dX9_made_18 (by decide) ?_
  obtain ⟨h3, hk⟩ := hk
  refine tc_ald C hH (hH.num _ hi) (N := ynl E i) (f := (s0.1 3 i)) rfl h3 dX9_made_19 ?_
  refine lv_imul C.hx C.hb dX9_made_20 ?_
  refine lv_iadd C.hx C.hb dX9_made_21 ?_
  refine lv_aload_n C.hx C.hb dX9_made_22 rfl (lv_at hl 0 rfl) ?_
  refine tc_get C hH (hH.n _ hi) (Cn := RX9) (T := TX9) (N := 10) (ci := 6) (fs := tc_nfs E s0 i) in_X9 (tc_e3 hkd) rfl 9 (by decide) (C.L q826) (fun _ h => h) (v := .ref (ea E (7, i))) (tc_x3_9 hkd) dX9_made_23 ?_
  refine lv_iconst (v := 2) C.hx C.hb dX9_made_26 (by decide) ?_
  obtain ⟨h4, hk⟩ := hk
  refine tc_ald C hH (hH.co _ hi hkd) (N := 3) (f := (yco E i)) rfl h4 dX9_made_27 ?_
  refine lv_aload_n C.hx C.hb dX9_made_28 rfl (lv_at hl 0 rfl) ?_
  refine tc_getn C hH hi 6 (by decide) rfl (C.N 23 rfl) (v := .ref (ea E (5, i))) rfl dX9_made_29 ?_
  refine lv_iconst (v := 1) C.hx C.hb dX9_made_32 (by decide) ?_
  obtain ⟨h5, hk⟩ := hk
  refine tc_ald C hH (hH.num _ hi) (N := ynl E i) (f := (s0.1 3 i)) rfl h5 dX9_made_33 ?_
  refine lv_imul C.hx C.hb dX9_made_34 ?_
  refine lv_iadd C.hx C.hb dX9_made_35 ?_
  refine lv_bipush (v := 64) C.hx C.hb dX9_made_36 (by decide) ?_
  refine lv_idiv C.hx C.hb dX9_made_38 (by decide) ?_
  refine lv_topi (fun v6 ev6 => ?_)
  have hk := hk v6 ev6
  refine lv_istore_n (lv' := [(2, .int v6), (0, .ref (ea E (1, i))), (1, .int p1)]) C.hx C.hb dX9_made_39 rfl hl (by decide) rfl (fun ls hl => ?_)
  refine lv_aload_n C.hx C.hb dX9_made_40 rfl (lv_at hl 1 rfl) ?_
  refine tc_getn C hH hi 6 (by decide) rfl (C.N 23 rfl) (v := .ref (ea E (5, i))) rfl dX9_made_41 ?_
  refine lv_iconst (v := 0) C.hx C.hb dX9_made_44 (by decide) ?_
  refine lv_iload_n C.hx C.hb dX9_made_45 rfl (lv_at hl 2 rfl) ?_
  obtain ⟨h7, hk⟩ := hk
  refine tc_ast C hH hS (hH.num _ hi) (N := ynl E i) (f := (s0.1 3 i)) rfl h7 (tc_ua_num E s0 i (0 : Int32).toNatClampNeg p1) dX9_made_46 (fun s8 es8 H locs hH hS => ?_)
  have hk := hk s8 es8
  refine lv_aload_n C.hx C.hb dX9_made_47 rfl (lv_at hl 1 rfl) ?_
  refine tc_getn C hH hi 6 (by decide) rfl (C.N 23 rfl) (v := .ref (ea E (5, i))) rfl dX9_made_48 ?_
  refine lv_iconst (v := 1) C.hx C.hb dX9_made_51 (by decide) ?_
  refine lv_iload_n C.hx C.hb dX9_made_52 rfl (lv_at hl 0 rfl) ?_
  refine gb_callN (As := [.int v6]) (rest := [.int 1, .ref (ea E (5, i))]) C.1 (t_X1_cut l hk) ⟨va_cnB 1 C.hts (lw_meth q488) rfl rfl rfl (C.nw 30 rfl) (C.hts _ q53) (by decide +kernel) ⟨Nat.le_of_ble_eq_true rfl, Nat.le_of_ble_eq_true rfl⟩, C.hts _ q487, trivial⟩ rfl hl.1 rfl (lv_room (Nat.le_of_ble_eq_true rfl)) dX9_made_53 ⟨Nat.le_of_ble_eq_true rfl, Nat.le_of_ble_eq_true rfl⟩ (fun r9 hk => ?_)
  obtain ⟨h10, hk⟩ := hk
  refine tc_ast C hH hS (hH.num _ hi) (N := ynl E i) (f := (s8.1 3 i)) rfl h10 (tc_ua_num E s8 i (1 : Int32).toNatClampNeg r9) dX9_made_56 (fun s11 es11 H locs hH hS => ?_)
  have hk := hk s11 es11
  refine lv_iload_n C.hx C.hb dX9_made_57 rfl (lv_at hl 0 rfl) ?_
  exact tc_iret v6 rfl C hr hlk hH hS hk dX9_made_58
/-! ToneGraph$Node.keep()V -/
def wp_X3_keep (E : tc_E) (post : Unit → tc_S → Prop) (i : Nat) (s0 : tc_S) : Prop := (∀ s1 : tc_S, s1 = tI s0 1 i 1 (s0.1 1 i 0) → (ynl E i < 2 ^ 31 ∧ (∀ s2 : tc_S, s2 = tA s1 4 i (va_cpy (s1.1 3 i) (s1.1 4 i) 0 0 (ynl E i)) → post () s2)))
set_option maxHeartbeats 4000000 in
theorem t_X3_keep (l : Launch) {E : tc_E} {i : Nat} (hi : i < yn E) {post : Unit → tc_S → Prop} {s0 : tc_S} (hk : wp_X3_keep E post i s0) : tc_M l yX3_keep (ws_ yX3_keep cX3_keep 1 none) ({ frames := 1, cells := 0, slots := 0, locals := 30 } : Room) E [.ref (ea E (1, i))] s0 (fun _ : Unit => none) post := by
  refine tc_start cX3_keep 1 none RX3 (by decide) rfl rfl (Nat.le_of_ble_eq_true rfl) ?_
  intro p e s m args below meth c ls C hnm hr hlk hH hS hl
  have hl : lv_has ls 1 [(0, .ref (ea E (1, i)))] := hl
  unfold wp_X3_keep at hk
  refine lv_aload_n C.hx C.hb dX3_keep_0 rfl (lv_at hl 0 rfl) ?_
  refine lv_aload_n C.hx C.hb dX3_keep_1 rfl (lv_at hl 0 rfl) ?_
  refine tc_getn C hH hi 4 (by decide) rfl (C.L q220) (v := .int (s0.1 1 i 0)) rfl dX3_keep_2 ?_
  refine tc_putn C hH hS hi 5 (by decide) rfl (C.L q224) rfl (v := .int (s0.1 1 i 0)) rfl rfl (tc_un_nowKept E s0 i (s0.1 1 i 0)) dX3_keep_5 (fun s1 es1 H locs hH hS => ?_)
  have hk := hk s1 es1
  refine lv_aload_n C.hx C.hb dX3_keep_8 rfl (lv_at hl 0 rfl) ?_
  refine tc_getn C hH hi 6 (by decide) rfl (C.L q225) (v := .ref (ea E (5, i))) rfl dX3_keep_9 ?_
  refine lv_iconst (v := 0) C.hx C.hb dX3_keep_12 (by decide) ?_
  refine lv_aload_n C.hx C.hb dX3_keep_13 rfl (lv_at hl 0 rfl) ?_
  refine tc_getn C hH hi 7 (by decide) rfl (C.L q228) (v := .ref (ea E (6, i))) rfl dX3_keep_14 ?_
  refine lv_iconst (v := 0) C.hx C.hb dX3_keep_17 (by decide) ?_
  refine lv_aload_n C.hx C.hb dX3_keep_18 rfl (lv_at hl 0 rfl) ?_
  refine tc_getn C hH hi 6 (by decide) rfl (C.L q225) (v := .ref (ea E (5, i))) rfl dX3_keep_19 ?_
  refine tc_alen C hH (hH.num _ hi) (N := ynl E i) (f := (s1.1 3 i)) rfl dX3_keep_22 ?_
  obtain ⟨h3, hk⟩ := hk
  refine tc_copy_keep C hH hS hl.1.symm hi q633 h3 (Nat.le_of_ble_eq_true rfl) (Nat.le_of_ble_eq_true rfl) dX3_keep_23 (fun s2 es2 H locs hH hS => ?_)
  have hk := hk s2 es2
  exact tc_vret () rfl C hr hlk hH hS hk dX3_keep_26
/-! ToneGraph$Node.takeBack()V -/
def wp_X3_takeBack (E : tc_E) (post : Unit → tc_S → Prop) (i : Nat) (s0 : tc_S) : Prop := (∀ s1 : tc_S, s1 = tI s0 1 i 0 (s0.1 1 i 1) → (ynl E i < 2 ^ 31 ∧ (∀ s2 : tc_S, s2 = tA s1 3 i (va_cpy (s1.1 4 i) (s1.1 3 i) 0 0 (ynl E i)) → post () s2)))
set_option maxHeartbeats 4000000 in
theorem t_X3_takeBack (l : Launch) {E : tc_E} {i : Nat} (hi : i < yn E) {post : Unit → tc_S → Prop} {s0 : tc_S} (hk : wp_X3_takeBack E post i s0) : tc_M l yX3_takeBack (ws_ yX3_takeBack cX3_takeBack 1 none) ({ frames := 1, cells := 0, slots := 0, locals := 30 } : Room) E [.ref (ea E (1, i))] s0 (fun _ : Unit => none) post := by
  refine tc_start cX3_takeBack 1 none RX3 (by decide) rfl rfl (Nat.le_of_ble_eq_true rfl) ?_
  intro p e s m args below meth c ls C hnm hr hlk hH hS hl
  have hl : lv_has ls 1 [(0, .ref (ea E (1, i)))] := hl
  unfold wp_X3_takeBack at hk
  refine lv_aload_n C.hx C.hb dX3_takeBack_0 rfl (lv_at hl 0 rfl) ?_
  refine lv_aload_n C.hx C.hb dX3_takeBack_1 rfl (lv_at hl 0 rfl) ?_
  refine tc_getn C hH hi 5 (by decide) rfl (C.L q224) (v := .int (s0.1 1 i 1)) rfl dX3_takeBack_2 ?_
  refine tc_putn C hH hS hi 4 (by decide) rfl (C.L q220) rfl (v := .int (s0.1 1 i 1)) rfl rfl (tc_un_now E s0 i (s0.1 1 i 1)) dX3_takeBack_5 (fun s1 es1 H locs hH hS => ?_)
  have hk := hk s1 es1
  refine lv_aload_n C.hx C.hb dX3_takeBack_8 rfl (lv_at hl 0 rfl) ?_
  refine tc_getn C hH hi 7 (by decide) rfl (C.L q228) (v := .ref (ea E (6, i))) rfl dX3_takeBack_9 ?_
  refine lv_iconst (v := 0) C.hx C.hb dX3_takeBack_12 (by decide) ?_
  refine lv_aload_n C.hx C.hb dX3_takeBack_13 rfl (lv_at hl 0 rfl) ?_
  refine tc_getn C hH hi 6 (by decide) rfl (C.L q225) (v := .ref (ea E (5, i))) rfl dX3_takeBack_14 ?_
  refine lv_iconst (v := 0) C.hx C.hb dX3_takeBack_17 (by decide) ?_
  refine lv_aload_n C.hx C.hb dX3_takeBack_18 rfl (lv_at hl 0 rfl) ?_
  refine tc_getn C hH hi 6 (by decide) rfl (C.L q225) (v := .ref (ea E (5, i))) rfl dX3_takeBack_19 ?_
  refine tc_alen C hH (hH.num _ hi) (N := ynl E i) (f := (s1.1 3 i)) rfl dX3_takeBack_22 ?_
  obtain ⟨h3, hk⟩ := hk
  refine tc_copy_back C hH hS hl.1.symm hi q633 h3 (Nat.le_of_ble_eq_true rfl) (Nat.le_of_ble_eq_true rfl) dX3_takeBack_23 (fun s2 es2 H locs hH hS => ?_)
  have hk := hk s2 es2
  exact tc_vret () rfl C hr hlk hH hS hk dX3_takeBack_26
/-! ToneGraph$Node.takeIn()V -/
def wp_X3_takeIn (E : tc_E) (post : Unit → tc_S → Prop) (i : Nat) (s0 : tc_S) : Prop := post () s0
set_option maxHeartbeats 4000000 in
theorem t_X3_takeIn (l : Launch) {E : tc_E} {i : Nat} (hi : i < yn E) {post : Unit → tc_S → Prop} {s0 : tc_S} (hk : wp_X3_takeIn E post i s0) : tc_M l yX3_takeIn (ws_ yX3_takeIn cX3_takeIn 1 none) ({ frames := 0, cells := 0, slots := 0, locals := 0 } : Room) E [.ref (ea E (1, i))] s0 (fun _ : Unit => none) post := by
  refine tc_start cX3_takeIn 1 none RX3 (by decide) rfl rfl (Nat.le_of_ble_eq_true rfl) ?_
  intro p e s m args below meth c ls C hnm hr hlk hH hS hl
  have hl : lv_has ls 1 [(0, .ref (ea E (1, i)))] := hl
  unfold wp_X3_takeIn at hk
  exact tc_vret () rfl C hr hlk hH hS hk dX3_takeIn_0
/-! ToneGraph$Node.takeIn(I)V -/
def wp_X3_takeIn_2 (E : tc_E) (post : Unit → tc_S → Prop) (i : Nat) (p1 : Int32) (s0 : tc_S) : Prop := post () s0
set_option maxHeartbeats 4000000 in
theorem t_X3_takeIn_2 (l : Launch) {E : tc_E} {i : Nat} (hi : i < yn E) {post : Unit → tc_S → Prop} {p1 : Int32} {s0 : tc_S} (hk : wp_X3_takeIn_2 E post i p1 s0) : tc_M l yX3_takeIn_2 (ws_ yX3_takeIn_2 cX3_takeIn_2 2 none) ({ frames := 0, cells := 0, slots := 0, locals := 0 } : Room) E [.ref (ea E (1, i)), .int p1] s0 (fun _ : Unit => none) post := by
  refine tc_start cX3_takeIn_2 2 none RX3 (by decide) rfl rfl (Nat.le_of_ble_eq_true rfl) ?_
  intro p e s m args below meth c ls C hnm hr hlk hH hS hl
  have hl : lv_has ls 2 [(0, .ref (ea E (1, i))), (1, .int p1)] := hl
  unfold wp_X3_takeIn_2 at hk
  exact tc_vret () rfl C hr hlk hH hS hk dX3_takeIn_2_0
/-! ToneGraph$Delay.fill(I)V -/
def wp_X8_fill_2 (E : tc_E) (post : Unit → tc_S → Prop) (K : Int32 → Int32 → tc_S → Prop) (i : Nat) : Nat → Int32 → Int32 → tc_S → Prop
  | 0, _, _, _ => False
  | n2 + 1, x1, x2, s0 => ((x1 ≤ x2 → K x1 x2 s0) ∧ (¬ x1 ≤ x2 → (vp_in (yim E i 0) (ynl E i) ∧ (¬ (yim E i 0) = 0 ∧ (vp_in ((((s0.1 3 i) (yim E i 0).toNatClampNeg) + x2) - (((s0.1 3 i) (yim E i 0).toNatClampNeg) + x2) / (yim E i 0) * (yim E i 0)) (ynl E i) ∧ (vp_in x2 64 ∧ (∀ s6 : tc_S, s6 = tI s0 2 i x2.toNatClampNeg ((s0.1 3 i) ((((s0.1 3 i) (yim E i 0).toNatClampNeg) + x2) - (((s0.1 3 i) (yim E i 0).toNatClampNeg) + x2) / (yim E i 0) * (yim E i 0)).toNatClampNeg) → (∀ v7, v7 = x2 + 1 → wp_X8_fill_2 E post K i n2 x1 v7 s6))))))))
set_option maxHeartbeats 4000000 in
theorem tw_X8_fill_2 {p : Program} {l : Launch} {e : Env} {s : State} {m : MethodId} {args : Array Value} {below : List Frame} {meth : Method} {c : Code} {E : tc_E} {post : Unit → tc_S → Prop} {K : Int32 → Int32 → tc_S → Prop}  {i : Nat} (C : tc_C p m c cX8_fill 3 s args RX8 E) (hi : i < yn E) (hkd : ykd E i = 2) (hr : meth.sig.returnType = none) (hlk : meth.locks = false) (hK : ∀ (x1 : Int32) (x2 : Int32) (σ' : tc_S) (H : Heap) (locs : List Loc) (ls : Array Slot), K x1 x2 σ' → tc_ok E σ' H → va_S (fun q => eb E ≤ q) s.heap H locs → lv_has ls 3 [(0, .ref (ea E (1, i))), (1, .int x1), (2, .int x2)] → W p l e ({ frames := 0, cells := 0, slots := 0, locals := 0 } : Room) s m args below meth c H locs 0 0 (MQ below (tc_Qg E (fun _ : Unit => none) post) args s 0 0 (fun q => eb E ≤ q)) (F0 m 40 ls [])) :
    ∀ (n : Nat) (x1 : Int32) (x2 : Int32) (s0 : tc_S) (H : Heap) (locs : List Loc) (ls : Array Slot), wp_X8_fill_2 E post K i n x1 x2 s0 → tc_ok E s0 H → va_S (fun q => eb E ≤ q) s.heap H locs → lv_has ls 3 [(0, .ref (ea E (1, i))), (1, .int x1), (2, .int x2)] → W p l e ({ frames := 0, cells := 0, slots := 0, locals := 0 } : Room) s m args below meth c H locs 0 0 (MQ below (tc_Qg E (fun _ : Unit => none) post) args s 0 0 (fun q => eb E ≤ q)) (F0 m 2 ls []) := by
  intro n
  induction n with
  | zero =>
    intro x1 x2 s0 H locs ls hk
    exact hk.elim
  | succ n ih =>
    intro x1 x2 s0 H locs ls hk hH hS hl
    rw [wp_X8_fill_2] at hk
    refine lv_iload_n C.hx C.hb dX8_fill_2 rfl (lv_at hl 2 rfl) ?_
    refine lv_iload_n C.hx C.hb dX8_fill_3 rfl (lv_at hl 1 rfl) ?_
    refine lv_icmp_ge (tgt := 40) C.hx C.hb dX8_fill_4 (by decide) (fun c1 => ?_) (fun c1 => ?_)
    · have hk := hk.1 c1
      exact hK x1 x2 s0 _ _ _ hk hH hS (lv_sub hl [0, 1, 2] rfl)
    · have hk := hk.2 c1
      refine lv_aload_n C.hx C.hb dX8_fill_7 rfl (lv_at hl 0 rfl) ?_
      refine tc_getn C hH hi 3 (by decide) rfl (C.N 21 rfl) (v := .ref (ea E (4, i))) rfl dX8_fill_8 ?_
      refine lv_iload_n C.hx C.hb dX8_fill_11 rfl (lv_at hl 2 rfl) ?_
      refine lv_aload_n C.hx C.hb dX8_fill_12 rfl (lv_at hl 0 rfl) ?_
      refine tc_getn C hH hi 6 (by decide) rfl (C.N 20 rfl) (v := .ref (ea E (5, i))) rfl dX8_fill_13 ?_
      refine lv_aload_n C.hx C.hb dX8_fill_16 rfl (lv_at hl 0 rfl) ?_
      refine tc_getn C hH hi 6 (by decide) rfl (C.N 20 rfl) (v := .ref (ea E (5, i))) rfl dX8_fill_17 ?_
      refine lv_aload_n C.hx C.hb dX8_fill_20 rfl (lv_at hl 0 rfl) ?_
      refine tc_get C hH (hH.n _ hi) (Cn := RX8) (T := TX8) (N := 11) (ci := 5) (fs := tc_nfs E s0 i) in_X8 (tc_e2 hkd) rfl 9 (by decide) (C.L q796) (fun _ h => h) (v := .int (yim E i 0)) (tc_x2_9 hkd) dX8_fill_21 ?_
      obtain ⟨h2, hk⟩ := hk
      refine tc_ald C hH (hH.num _ hi) (N := ynl E i) (f := (s0.1 3 i)) rfl h2 dX8_fill_24 ?_
      refine lv_iload_n C.hx C.hb dX8_fill_25 rfl (lv_at hl 2 rfl) ?_
      refine lv_iadd C.hx C.hb dX8_fill_26 ?_
      refine lv_aload_n C.hx C.hb dX8_fill_27 rfl (lv_at hl 0 rfl) ?_
      refine tc_get C hH (hH.n _ hi) (Cn := RX8) (T := TX8) (N := 11) (ci := 5) (fs := tc_nfs E s0 i) in_X8 (tc_e2 hkd) rfl 9 (by decide) (C.L q796) (fun _ h => h) (v := .int (yim E i 0)) (tc_x2_9 hkd) dX8_fill_28 ?_
      obtain ⟨h3, hk⟩ := hk
      refine lv_irem C.hx C.hb dX8_fill_31 h3 ?_
      obtain ⟨h4, hk⟩ := hk
      refine tc_ald C hH (hH.num _ hi) (N := ynl E i) (f := (s0.1 3 i)) rfl h4 dX8_fill_32 ?_
      obtain ⟨h5, hk⟩ := hk
      refine tc_ast C hH hS (hH.row _ hi) (N := 64) (f := (s0.1 2 i)) rfl h5 (tc_ua_row E s0 i x2.toNatClampNeg ((s0.1 3 i) ((((s0.1 3 i) (yim E i 0).toNatClampNeg) + x2) - (((s0.1 3 i) (yim E i 0).toNatClampNeg) + x2) / (yim E i 0) * (yim E i 0)).toNatClampNeg)) dX8_fill_33 (fun s6 es6 H locs hH hS => ?_)
      have hk := hk s6 es6
      obtain ⟨v7, ev7⟩ : ∃ y : Int32, y = x2 + 1 := ⟨_, rfl⟩
      have hk := hk v7 ev7
      refine lv_iinc (v := v7) (lv' := [(2, .int v7), (0, .ref (ea E (1, i))), (1, .int x1)]) C.hx C.hb dX8_fill_34 hl (k := 2) rfl (by rw [ev7]; rfl) (by decide) rfl (fun ls hl => ?_)
      refine lv_goto (tgt := 2) C.hx C.hb dX8_fill_37 (by decide) ?_
      exact ih x1 v7 s6 _ _ _ hk hH hS (lv_sub hl [1, 2, 0] rfl)
def wp_X8_fill (E : tc_E) (post : Unit → tc_S → Prop) (i : Nat) (p1 : Int32) (s0 : tc_S) : Prop := (∃ n2, wp_X8_fill_2 E post (fun y8 y9 s10 => (vp_in (y8 - 1) 64 ∧ (∀ s12 : tc_S, s12 = tI s10 1 i 0 ((s10.1 2 i) (y8 - 1).toNatClampNeg) → post () s12))) i n2 p1 0 s0)
set_option maxHeartbeats 4000000 in
theorem t_X8_fill (l : Launch) {E : tc_E} {i : Nat} (hi : i < yn E) (hkd : ykd E i = 2) {post : Unit → tc_S → Prop} {p1 : Int32} {s0 : tc_S} (hk : wp_X8_fill E post i p1 s0) : tc_M l yX8_fill (ws_ yX8_fill cX8_fill 3 none) ({ frames := 0, cells := 0, slots := 0, locals := 0 } : Room) E [.ref (ea E (1, i)), .int p1] s0 (fun _ : Unit => none) post := by
  refine tc_start cX8_fill 3 none RX8 (by decide) rfl rfl (Nat.le_of_ble_eq_true rfl) ?_
  intro p e s m args below meth c ls C hnm hr hlk hH hS hl
  have hl : lv_has ls 3 [(0, .ref (ea E (1, i))), (1, .int p1)] := hl
  unfold wp_X8_fill at hk
  refine lv_iconst (v := 0) C.hx C.hb dX8_fill_0 (by decide) ?_
  refine lv_istore_n (lv' := [(2, .int 0), (0, .ref (ea E (1, i))), (1, .int p1)]) C.hx C.hb dX8_fill_1 rfl hl (by decide) rfl (fun ls hl => ?_)
  obtain ⟨n2, hk⟩ := hk
  refine tw_X8_fill_2 C hi hkd hr hlk (fun y8 y9 s10 H locs ls hk hH hS hl => ?_) n2 p1 0 s0 _ _ _ hk hH hS (lv_sub hl [1, 2, 0] rfl)
  refine lv_aload_n C.hx C.hb dX8_fill_40 rfl (lv_at hl 0 rfl) ?_
  refine lv_aload_n C.hx C.hb dX8_fill_41 rfl (lv_at hl 0 rfl) ?_
  refine tc_getn C hH hi 3 (by decide) rfl (C.N 21 rfl) (v := .ref (ea E (4, i))) rfl dX8_fill_42 ?_
  refine lv_iload_n C.hx C.hb dX8_fill_45 rfl (lv_at hl 1 rfl) ?_
  refine lv_iconst (v := 1) C.hx C.hb dX8_fill_46 (by decide) ?_
  refine lv_isub C.hx C.hb dX8_fill_47 ?_
  obtain ⟨h11, hk⟩ := hk
  refine tc_ald C hH (hH.row _ hi) (N := 64) (f := (s10.1 2 i)) rfl h11 dX8_fill_48 ?_
  refine tc_putn C hH hS hi 4 (by decide) rfl (C.N 22 rfl) rfl (v := .int ((s10.1 2 i) (y8 - 1).toNatClampNeg)) rfl rfl (tc_un_now E s10 i ((s10.1 2 i) (y8 - 1).toNatClampNeg)) dX8_fill_49 (fun s12 es12 H locs hH hS => ?_)
  have hk := hk s12 es12
  exact tc_vret () rfl C hr hlk hH hS hk dX8_fill_52
/-! ToneGraph$Delay.put(II)V -/
def wp_X8_put (E : tc_E) (post : Unit → tc_S → Prop) (i : Nat) (p1 : Int32) (p2 : Int32) (s0 : tc_S) : Prop := (vp_in (yim E i 0) (ynl E i) ∧ wp_X1_cut (fun r2 => (vp_in ((s0.1 3 i) (yim E i 0).toNatClampNeg) (ynl E i) ∧ (∀ s4 : tc_S, s4 = tI s0 3 i ((s0.1 3 i) (yim E i 0).toNatClampNeg).toNatClampNeg r2 → (vp_in (yim E i 0) (ynl E i) ∧ (¬ (yim E i 0) = 0 ∧ (vp_in (yim E i 0) (ynl E i) ∧ (∀ s8 : tc_S, s8 = tI s4 3 i (yim E i 0).toNatClampNeg ((((s4.1 3 i) (yim E i 0).toNatClampNeg) + 1) - (((s4.1 3 i) (yim E i 0).toNatClampNeg) + 1) / (yim E i 0) * (yim E i 0)) → post () s8))))))) (p1 + ((p2 * (yim E i 1)) / 100)))
set_option maxHeartbeats 4000000 in
theorem t_X8_put (l : Launch) {E : tc_E} {i : Nat} (hi : i < yn E) (hkd : ykd E i = 2) {post : Unit → tc_S → Prop} {p1 : Int32} {p2 : Int32} {s0 : tc_S} (hk : wp_X8_put E post i p1 p2 s0) : tc_M l yX8_put (ws_ yX8_put cX8_put 3 none) ({ frames := 2, cells := 0, slots := 0, locals := 41 } : Room) E [.ref (ea E (1, i)), .int p1, .int p2] s0 (fun _ : Unit => none) post := by
  refine tc_start cX8_put 3 none RX8 (by decide) rfl rfl (Nat.le_of_ble_eq_true rfl) ?_
  intro p e s m args below meth c ls C hnm hr hlk hH hS hl
  have hl : lv_has ls 3 [(0, .ref (ea E (1, i))), (1, .int p1), (2, .int p2)] := hl
  unfold wp_X8_put at hk
  refine lv_aload_n C.hx C.hb dX8_put_0 rfl (lv_at hl 0 rfl) ?_
  refine tc_getn C hH hi 6 (by decide) rfl (C.N 20 rfl) (v := .ref (ea E (5, i))) rfl dX8_put_1 ?_
  refine lv_aload_n C.hx C.hb dX8_put_4 rfl (lv_at hl 0 rfl) ?_
  refine tc_getn C hH hi 6 (by decide) rfl (C.N 20 rfl) (v := .ref (ea E (5, i))) rfl dX8_put_5 ?_
  refine lv_aload_n C.hx C.hb dX8_put_8 rfl (lv_at hl 0 rfl) ?_
  refine tc_get C hH (hH.n _ hi) (Cn := RX8) (T := TX8) (N := 11) (ci := 5) (fs := tc_nfs E s0 i) in_X8 (tc_e2 hkd) rfl 9 (by decide) (C.L q796) (fun _ h => h) (v := .int (yim E i 0)) (tc_x2_9 hkd) dX8_put_9 ?_
  obtain ⟨h1, hk⟩ := hk
  refine tc_ald C hH (hH.num _ hi) (N := ynl E i) (f := (s0.1 3 i)) rfl h1 dX8_put_12 ?_
  refine lv_iload_n C.hx C.hb dX8_put_13 rfl (lv_at hl 1 rfl) ?_
  refine lv_iload_n C.hx C.hb dX8_put_14 rfl (lv_at hl 2 rfl) ?_
  refine lv_aload_n C.hx C.hb dX8_put_15 rfl (lv_at hl 0 rfl) ?_
  refine tc_get C hH (hH.n _ hi) (Cn := RX8) (T := TX8) (N := 11) (ci := 5) (fs := tc_nfs E s0 i) in_X8 (tc_e2 hkd) rfl 10 (by decide) (C.L q798) (fun _ h => h) (v := .int (yim E i 1)) (tc_x2_10 hkd) dX8_put_16 ?_
  refine lv_imul C.hx C.hb dX8_put_19 ?_
  refine lv_bipush (v := 100) C.hx C.hb dX8_put_20 (by decide) ?_
  refine lv_idiv C.hx C.hb dX8_put_22 (by decide) ?_
  refine lv_iadd C.hx C.hb dX8_put_23 ?_
  refine gb_callN (As := [.int (p1 + ((p2 * (yim E i 1)) / 100))]) (rest := [.int ((s0.1 3 i) (yim E i 0).toNatClampNeg), .ref (ea E (5, i))]) C.1 (t_X1_cut l hk) ⟨va_cnB 1 C.hts (lw_meth q488) rfl rfl rfl (C.nw 29 rfl) (C.hts _ q53) (by decide +kernel) ⟨Nat.le_of_ble_eq_true rfl, Nat.le_of_ble_eq_true rfl⟩, C.hts _ q487, trivial⟩ rfl hl.1 rfl (lv_room (Nat.le_of_ble_eq_true rfl)) dX8_put_24 ⟨Nat.le_of_ble_eq_true rfl, Nat.le_of_ble_eq_true rfl⟩ (fun r2 hk => ?_)
  obtain ⟨h3, hk⟩ := hk
  refine tc_ast C hH hS (hH.num _ hi) (N := ynl E i) (f := (s0.1 3 i)) rfl h3 (tc_ua_num E s0 i ((s0.1 3 i) (yim E i 0).toNatClampNeg).toNatClampNeg r2) dX8_put_27 (fun s4 es4 H locs hH hS => ?_)
  have hk := hk s4 es4
  refine lv_aload_n C.hx C.hb dX8_put_28 rfl (lv_at hl 0 rfl) ?_
  refine tc_getn C hH hi 6 (by decide) rfl (C.N 20 rfl) (v := .ref (ea E (5, i))) rfl dX8_put_29 ?_
  refine lv_aload_n C.hx C.hb dX8_put_32 rfl (lv_at hl 0 rfl) ?_
  refine tc_get C hH (hH.n _ hi) (Cn := RX8) (T := TX8) (N := 11) (ci := 5) (fs := tc_nfs E s4 i) in_X8 (tc_e2 hkd) rfl 9 (by decide) (C.L q796) (fun _ h => h) (v := .int (yim E i 0)) (tc_x2_9 hkd) dX8_put_33 ?_
  refine lv_aload_n C.hx C.hb dX8_put_36 rfl (lv_at hl 0 rfl) ?_
  refine tc_getn C hH hi 6 (by decide) rfl (C.N 20 rfl) (v := .ref (ea E (5, i))) rfl dX8_put_37 ?_
  refine lv_aload_n C.hx C.hb dX8_put_40 rfl (lv_at hl 0 rfl) ?_
  refine tc_get C hH (hH.n _ hi) (Cn := RX8) (T := TX8) (N := 11) (ci := 5) (fs := tc_nfs E s4 i) in_X8 (tc_e2 hkd) rfl 9 (by decide) (C.L q796) (fun _ h => h) (v := .int (yim E i 0)) (tc_x2_9 hkd) dX8_put_41 ?_
  obtain ⟨h5, hk⟩ := hk
  refine tc_ald C hH (hH.num _ hi) (N := ynl E i) (f := (s4.1 3 i)) rfl h5 dX8_put_44 ?_
  refine lv_iconst (v := 1) C.hx C.hb dX8_put_45 (by decide) ?_
  refine lv_iadd C.hx C.hb dX8_put_46 ?_
  refine lv_aload_n C.hx C.hb dX8_put_47 rfl (lv_at hl 0 rfl) ?_
  refine tc_get C hH (hH.n _ hi) (Cn := RX8) (T := TX8) (N := 11) (ci := 5) (fs := tc_nfs E s4 i) in_X8 (tc_e2 hkd) rfl 9 (by decide) (C.L q796) (fun _ h => h) (v := .int (yim E i 0)) (tc_x2_9 hkd) dX8_put_48 ?_
  obtain ⟨h6, hk⟩ := hk
  refine lv_irem C.hx C.hb dX8_put_51 h6 ?_
  obtain ⟨h7, hk⟩ := hk
  refine tc_ast C hH hS (hH.num _ hi) (N := ynl E i) (f := (s4.1 3 i)) rfl h7 (tc_ua_num E s4 i (yim E i 0).toNatClampNeg ((((s4.1 3 i) (yim E i 0).toNatClampNeg) + 1) - (((s4.1 3 i) (yim E i 0).toNatClampNeg) + 1) / (yim E i 0) * (yim E i 0))) dX8_put_52 (fun s8 es8 H locs hH hS => ?_)
  have hk := hk s8 es8
  exact tc_vret () rfl C hr hlk hH hS hk dX8_put_53
set_option maxHeartbeats 4000000 in
theorem r_X8_32 {p : Program} {l : Launch} {e : Env} {R : Room} {s : State} {m : MethodId} {args : Array Value} {below : List Frame} {meth : Method} {c : Code} {H : Heap} {locs : List Loc} {cells slots pc nL : Nat} {cc : ByteArray} {ls : Array Slot} {st rest : List Value} {E : tc_E} {S : tc_S} {i : Nat} {post : Int32 → tc_S → Prop} (C : tc_C p m c cc nL s args RX8 E) (hi : i < yn E) (hkd : ykd E i = 2) (hk : wp_X3_input E post i  S) (hH : tc_ok E S H) (hS : va_S (fun q => eb E ≤ q) s.heap H locs) (hn : ([] : List Value).length = 0) (hsize : ls.size = nL) (hst : st = [] ++ .ref (ea E (1, i)) :: rest) (hW : 2 * (F0 m pc ls st).monitorRoom + (rest.map fun v => v.category).sum ≤ 8) (hdg : decode cc pc = .ok (.invokevirtual 32, 3)) (hf : cells ≤ R.cells ∧ slots ≤ R.slots) (hR : 4 ≤ R.frames ∧ 87 ≤ R.locals) : va_Run p l e R s m args below meth c H locs cells slots 0 0 (F0 m pc ls st) rest (tc_Qg E (fun r : Int32 => some (.int r)) post (Value.ref (ea E (1, i)) :: []).toArray) (fun q => eb E ≤ q) := by
  exact tc_rU (q := (RX8, TX8, 11)) (owner := "ToneGraph$Node") C (hH.n _ hi) (tc_e2 hkd) rfl (t_X3_input l hi hk) (va_cwU 0 C.hts (lw_Uw q502 q503 q505 q434 q58 q441) rfl rfl rfl rfl (by decide +kernel) ⟨by have := hR.1; show 4 ≤ _; omega, by have := hR.2; show 87 ≤ _; omega⟩) hH hS hn hsize hst hW hdg hf
/-! ToneGraph$Delay.takeIn()V -/
def wp_X8_takeIn (E : tc_E) (post : Unit → tc_S → Prop) (i : Nat) (s0 : tc_S) : Prop := wp_X3_input E (fun r1 s2 => wp_X8_put E (fun _ s4 => post () s4) i r1 (s2.1 1 i 0) s2) i s0
set_option maxHeartbeats 4000000 in
theorem t_X8_takeIn (l : Launch) {E : tc_E} {i : Nat} (hi : i < yn E) (hkd : ykd E i = 2) {post : Unit → tc_S → Prop} {s0 : tc_S} (hk : wp_X8_takeIn E post i s0) : tc_M l yX8_takeIn (ws_ yX8_takeIn cX8_takeIn 1 none) ({ frames := 4, cells := 0, slots := 0, locals := 87 } : Room) E [.ref (ea E (1, i))] s0 (fun _ : Unit => none) post := by
  refine tc_start cX8_takeIn 1 none RX8 (by decide) rfl rfl (Nat.le_of_ble_eq_true rfl) ?_
  intro p e s m args below meth c ls C hnm hr hlk hH hS hl
  have hl : lv_has ls 1 [(0, .ref (ea E (1, i)))] := hl
  unfold wp_X8_takeIn at hk
  refine lv_aload_n C.hx C.hb dX8_takeIn_0 rfl (lv_at hl 0 rfl) ?_
  refine lv_aload_n C.hx C.hb dX8_takeIn_1 rfl (lv_at hl 0 rfl) ?_
  refine tc_run (r_X8_32 (rest := [.ref (ea E (1, i))])  C hi hkd hk hH hS rfl hl.1 rfl (lv_room (Nat.le_of_ble_eq_true rfl)) dX8_takeIn_2 ⟨Nat.le_of_ble_eq_true rfl, Nat.le_of_ble_eq_true rfl⟩ ⟨Nat.le_of_ble_eq_true rfl, Nat.le_of_ble_eq_true rfl⟩) hS (fun r1 s2 H locs hk hH hS => ?_)
  refine W.eq (g2 := F0 m 5 ls [.int r1, .ref (ea E (1, i))]) rfl ?_
  refine lv_aload_n C.hx C.hb dX8_takeIn_5 rfl (lv_at hl 0 rfl) ?_
  refine tc_getn C hH hi 4 (by decide) rfl (C.N 22 rfl) (v := .int (s2.1 1 i 0)) rfl dX8_takeIn_6 ?_
  refine tc_run (tc_rV (As := [.int r1, .int (s2.1 1 i 0)]) (rest := []) (L := (1, i)) (ci := 5) (fs := tc_nfs E s2 i) (q := (RX8, TX8, 11)) C (hH.n _ hi) (tc_e2 hkd) rfl (t_X8_put l hi hkd hk) (cwV 2 C.hts (lw_V q506 q508 qs6 q74 q510) rfl rfl rfl (by decide +kernel) ⟨Nat.le_of_ble_eq_true rfl, Nat.le_of_ble_eq_true rfl⟩) hH hS rfl hl.1 rfl (lv_room (Nat.le_of_ble_eq_true rfl)) dX8_takeIn_9 ⟨Nat.le_of_ble_eq_true rfl, Nat.le_of_ble_eq_true rfl⟩) hS (fun _ s4 H locs hk hH hS => ?_)
  refine W.eq (g2 := F0 m 12 ls []) rfl ?_
  exact tc_vret () rfl C hr hlk hH hS hk dX8_takeIn_12
set_option maxHeartbeats 4000000 in
theorem r_X8_40 {p : Program} {l : Launch} {e : Env} {R : Room} {s : State} {m : MethodId} {args : Array Value} {below : List Frame} {meth : Method} {c : Code} {H : Heap} {locs : List Loc} {cells slots pc nL : Nat} {cc : ByteArray} {ls : Array Slot} {st rest : List Value} {E : tc_E} {S : tc_S} {i : Nat} {p1 : Int32} {post : Int32 → tc_S → Prop} (C : tc_C p m c cc nL s args RX8 E) (hi : i < yn E) (hkd : ykd E i = 2) (hk : wp_X3_input_2 E post i p1 S) (hH : tc_ok E S H) (hS : va_S (fun q => eb E ≤ q) s.heap H locs) (hn : ([.int p1] : List Value).length = 1) (hsize : ls.size = nL) (hst : st = [.int p1] ++ .ref (ea E (1, i)) :: rest) (hW : 2 * (F0 m pc ls st).monitorRoom + (rest.map fun v => v.category).sum ≤ 8) (hdg : decode cc pc = .ok (.invokevirtual 40, 3)) (hf : cells ≤ R.cells ∧ slots ≤ R.slots) (hR : 4 ≤ R.frames ∧ 88 ≤ R.locals) : va_Run p l e R s m args below meth c H locs cells slots 0 0 (F0 m pc ls st) rest (tc_Qg E (fun r : Int32 => some (.int r)) post (Value.ref (ea E (1, i)) :: [.int p1]).toArray) (fun q => eb E ≤ q) := by
  exact tc_rU (q := (RX8, TX8, 11)) (owner := "ToneGraph$Node") C (hH.n _ hi) (tc_e2 hkd) rfl (t_X3_input_2 l hi hk) (va_cwU 1 C.hts (lw_Uw q712 q713 q715 q696 q58 q703) rfl rfl rfl rfl (by decide +kernel) ⟨by have := hR.1; show 4 ≤ _; omega, by have := hR.2; show 88 ≤ _; omega⟩) hH hS hn hsize hst hW hdg hf
/-! ToneGraph$Delay.takeIn(I)V -/
def wp_X8_takeIn_2_2 (E : tc_E) (post : Unit → tc_S → Prop) (K : Int32 → Int32 → tc_S → Prop) (i : Nat) : Nat → Int32 → Int32 → tc_S → Prop
  | 0, _, _, _ => False
  | n2 + 1, x1, x2, s0 => ((x1 ≤ x2 → K x1 x2 s0) ∧ (¬ x1 ≤ x2 → wp_X3_input_2 E (fun r2 s3 => (vp_in x2 64 ∧ wp_X8_put E (fun _ s6 => (∀ v7, v7 = x2 + 1 → wp_X8_takeIn_2_2 E post K i n2 x1 v7 s6)) i r2 ((s3.1 2 i) x2.toNatClampNeg) s3)) i x2 s0))
set_option maxHeartbeats 4000000 in
theorem tw_X8_takeIn_2_2 {p : Program} {l : Launch} {e : Env} {s : State} {m : MethodId} {args : Array Value} {below : List Frame} {meth : Method} {c : Code} {E : tc_E} {post : Unit → tc_S → Prop} {K : Int32 → Int32 → tc_S → Prop}  {i : Nat} (C : tc_C p m c cX8_takeIn_2 3 s args RX8 E) (hi : i < yn E) (hkd : ykd E i = 2) (hr : meth.sig.returnType = none) (hlk : meth.locks = false) (hK : ∀ (x1 : Int32) (x2 : Int32) (σ' : tc_S) (H : Heap) (locs : List Loc) (ls : Array Slot), K x1 x2 σ' → tc_ok E σ' H → va_S (fun q => eb E ≤ q) s.heap H locs → lv_has ls 3 [(0, .ref (ea E (1, i))), (1, .int x1), (2, .int x2)] → W p l e ({ frames := 4, cells := 0, slots := 0, locals := 88 } : Room) s m args below meth c H locs 0 0 (MQ below (tc_Qg E (fun _ : Unit => none) post) args s 0 0 (fun q => eb E ≤ q)) (F0 m 28 ls [])) :
    ∀ (n : Nat) (x1 : Int32) (x2 : Int32) (s0 : tc_S) (H : Heap) (locs : List Loc) (ls : Array Slot), wp_X8_takeIn_2_2 E post K i n x1 x2 s0 → tc_ok E s0 H → va_S (fun q => eb E ≤ q) s.heap H locs → lv_has ls 3 [(0, .ref (ea E (1, i))), (1, .int x1), (2, .int x2)] → W p l e ({ frames := 4, cells := 0, slots := 0, locals := 88 } : Room) s m args below meth c H locs 0 0 (MQ below (tc_Qg E (fun _ : Unit => none) post) args s 0 0 (fun q => eb E ≤ q)) (F0 m 2 ls []) := by
  intro n
  induction n with
  | zero =>
    intro x1 x2 s0 H locs ls hk
    exact hk.elim
  | succ n ih =>
    intro x1 x2 s0 H locs ls hk hH hS hl
    rw [wp_X8_takeIn_2_2] at hk
    refine lv_iload_n C.hx C.hb dX8_takeIn_2_2 rfl (lv_at hl 2 rfl) ?_
    refine lv_iload_n C.hx C.hb dX8_takeIn_2_3 rfl (lv_at hl 1 rfl) ?_
    refine lv_icmp_ge (tgt := 28) C.hx C.hb dX8_takeIn_2_4 (by decide) (fun c1 => ?_) (fun c1 => ?_)
    · have hk := hk.1 c1
      exact hK x1 x2 s0 _ _ _ hk hH hS (lv_sub hl [0, 1, 2] rfl)
    · have hk := hk.2 c1
      refine lv_aload_n C.hx C.hb dX8_takeIn_2_7 rfl (lv_at hl 0 rfl) ?_
      refine lv_aload_n C.hx C.hb dX8_takeIn_2_8 rfl (lv_at hl 0 rfl) ?_
      refine lv_iload_n C.hx C.hb dX8_takeIn_2_9 rfl (lv_at hl 2 rfl) ?_
      refine tc_run (r_X8_40 (rest := [.ref (ea E (1, i))]) (p1 := x2)  C hi hkd hk hH hS rfl hl.1 rfl (lv_room (Nat.le_of_ble_eq_true rfl)) dX8_takeIn_2_10 ⟨Nat.le_of_ble_eq_true rfl, Nat.le_of_ble_eq_true rfl⟩ ⟨Nat.le_of_ble_eq_true rfl, Nat.le_of_ble_eq_true rfl⟩) hS (fun r2 s3 H locs hk hH hS => ?_)
      refine W.eq (g2 := F0 m 13 ls [.int r2, .ref (ea E (1, i))]) rfl ?_
      refine lv_aload_n C.hx C.hb dX8_takeIn_2_13 rfl (lv_at hl 0 rfl) ?_
      refine tc_getn C hH hi 3 (by decide) rfl (C.N 21 rfl) (v := .ref (ea E (4, i))) rfl dX8_takeIn_2_14 ?_
      refine lv_iload_n C.hx C.hb dX8_takeIn_2_17 rfl (lv_at hl 2 rfl) ?_
      obtain ⟨h4, hk⟩ := hk
      refine tc_ald C hH (hH.row _ hi) (N := 64) (f := (s3.1 2 i)) rfl h4 dX8_takeIn_2_18 ?_
      refine tc_run (tc_rV (As := [.int r2, .int ((s3.1 2 i) x2.toNatClampNeg)]) (rest := []) (L := (1, i)) (ci := 5) (fs := tc_nfs E s3 i) (q := (RX8, TX8, 11)) C (hH.n _ hi) (tc_e2 hkd) rfl (t_X8_put l hi hkd hk) (cwV 2 C.hts (lw_V q506 q508 qs6 q74 q510) rfl rfl rfl (by decide +kernel) ⟨Nat.le_of_ble_eq_true rfl, Nat.le_of_ble_eq_true rfl⟩) hH hS rfl hl.1 rfl (lv_room (Nat.le_of_ble_eq_true rfl)) dX8_takeIn_2_19 ⟨Nat.le_of_ble_eq_true rfl, Nat.le_of_ble_eq_true rfl⟩) hS (fun _ s6 H locs hk hH hS => ?_)
      refine W.eq (g2 := F0 m 22 ls []) rfl ?_
      obtain ⟨v7, ev7⟩ : ∃ y : Int32, y = x2 + 1 := ⟨_, rfl⟩
      have hk := hk v7 ev7
      refine lv_iinc (v := v7) (lv' := [(2, .int v7), (0, .ref (ea E (1, i))), (1, .int x1)]) C.hx C.hb dX8_takeIn_2_22 hl (k := 2) rfl (by rw [ev7]; rfl) (by decide) rfl (fun ls hl => ?_)
      refine lv_goto (tgt := 2) C.hx C.hb dX8_takeIn_2_25 (by decide) ?_
      exact ih x1 v7 s6 _ _ _ hk hH hS (lv_sub hl [1, 2, 0] rfl)
def wp_X8_takeIn_2 (E : tc_E) (post : Unit → tc_S → Prop) (i : Nat) (p1 : Int32) (s0 : tc_S) : Prop := (∃ n2, wp_X8_takeIn_2_2 E post (fun y8 y9 s10 => post () s10) i n2 p1 0 s0)
set_option maxHeartbeats 4000000 in
theorem t_X8_takeIn_2 (l : Launch) {E : tc_E} {i : Nat} (hi : i < yn E) (hkd : ykd E i = 2) {post : Unit → tc_S → Prop} {p1 : Int32} {s0 : tc_S} (hk : wp_X8_takeIn_2 E post i p1 s0) : tc_M l yX8_takeIn_2 (ws_ yX8_takeIn_2 cX8_takeIn_2 3 none) ({ frames := 4, cells := 0, slots := 0, locals := 88 } : Room) E [.ref (ea E (1, i)), .int p1] s0 (fun _ : Unit => none) post := by
  refine tc_start cX8_takeIn_2 3 none RX8 (by decide) rfl rfl (Nat.le_of_ble_eq_true rfl) ?_
  intro p e s m args below meth c ls C hnm hr hlk hH hS hl
  have hl : lv_has ls 3 [(0, .ref (ea E (1, i))), (1, .int p1)] := hl
  unfold wp_X8_takeIn_2 at hk
  refine lv_iconst (v := 0) C.hx C.hb dX8_takeIn_2_0 (by decide) ?_
  refine lv_istore_n (lv' := [(2, .int 0), (0, .ref (ea E (1, i))), (1, .int p1)]) C.hx C.hb dX8_takeIn_2_1 rfl hl (by decide) rfl (fun ls hl => ?_)
  obtain ⟨n2, hk⟩ := hk
  refine tw_X8_takeIn_2_2 C hi hkd hr hlk (fun y8 y9 s10 H locs ls hk hH hS hl => ?_) n2 p1 0 s0 _ _ _ hk hH hS (lv_sub hl [1, 2, 0] rfl)
  exact tc_vret () rfl C hr hlk hH hS hk dX8_takeIn_2_28
/-! ToneGraph$Chorus.keep()V -/
def wp_X4_keep_6 (E : tc_E) (post : Unit → tc_S → Prop) (K : Int32 → tc_S → Prop) : Nat → Int32 → tc_S → Prop
  | 0, _, _ => False
  | n6 + 1, x1, s0 => ((4 ≤ x1 → K x1 s0) ∧ (¬ 4 ≤ x1 → (vp_in x1 4 ∧ wp_X5_keep E (fun _ s6 => (∀ v7, v7 = x1 + 1 → wp_X4_keep_6 E post K n6 v7 s6)) x1.toNatClampNeg s0)))
set_option maxHeartbeats 4000000 in
theorem tw_X4_keep_6 {p : Program} {l : Launch} {e : Env} {s : State} {m : MethodId} {args : Array Value} {below : List Frame} {meth : Method} {c : Code} {E : tc_E} {post : Unit → tc_S → Prop} {K : Int32 → tc_S → Prop}  (C : tc_C p m c cX4_keep 2 s args RX4 E) (hr : meth.sig.returnType = none) (hlk : meth.locks = false) (hK : ∀ (x1 : Int32) (σ' : tc_S) (H : Heap) (locs : List Loc) (ls : Array Slot), K x1 σ' → tc_ok E σ' H → va_S (fun q => eb E ≤ q) s.heap H locs → lv_has ls 2 [(0, .ref (ea E (1, 0))), (1, .int x1)] → W p l e ({ frames := 2, cells := 0, slots := 0, locals := 50 } : Room) s m args below meth c H locs 0 0 (MQ below (tc_Qg E (fun _ : Unit => none) post) args s 0 0 (fun q => eb E ≤ q)) (F0 m 26 ls [])) :
    ∀ (n : Nat) (x1 : Int32) (s0 : tc_S) (H : Heap) (locs : List Loc) (ls : Array Slot), wp_X4_keep_6 E post K n x1 s0 → tc_ok E s0 H → va_S (fun q => eb E ≤ q) s.heap H locs → lv_has ls 2 [(0, .ref (ea E (1, 0))), (1, .int x1)] → W p l e ({ frames := 2, cells := 0, slots := 0, locals := 50 } : Room) s m args below meth c H locs 0 0 (MQ below (tc_Qg E (fun _ : Unit => none) post) args s 0 0 (fun q => eb E ≤ q)) (F0 m 6 ls []) := by
  intro n
  induction n with
  | zero =>
    intro x1 s0 H locs ls hk
    exact hk.elim
  | succ n ih =>
    intro x1 s0 H locs ls hk hH hS hl
    rw [wp_X4_keep_6] at hk
    refine lv_iload_n C.hx C.hb dX4_keep_6 rfl (lv_at hl 1 rfl) ?_
    refine lv_iconst (v := 4) C.hx C.hb dX4_keep_7 (by decide) ?_
    refine lv_icmp_ge (tgt := 26) C.hx C.hb dX4_keep_8 (by decide) (fun c3 => ?_) (fun c3 => ?_)
    · have hk := hk.1 c3
      exact hK x1 s0 _ _ _ hk hH hS (lv_sub hl [0, 1] rfl)
    · have hk := hk.2 c3
      refine lv_aload_n C.hx C.hb dX4_keep_11 rfl (lv_at hl 0 rfl) ?_
      refine tc_get C hH (hH.n _ hH.n0.1) (Cn := RX4) (T := TX4) (N := 10) (ci := 2) (fs := tc_nfs E s0 0) in_X4 (tc_e0 hH.n0.2) rfl 9 (by decide) (C.L q208) (fun _ h => h) (v := .ref (ea E (9, 0))) (tc_x0_9 hH.n0.2) dX4_keep_12 ?_
      refine lv_iload_n C.hx C.hb dX4_keep_15 rfl (lv_at hl 1 rfl) ?_
      obtain ⟨h4, hk⟩ := hk
      refine tc_aaldV C hH h4 dX4_keep_16 ?_
      refine tc_run (tc_rV (As := []) (rest := []) (L := (10, x1.toNatClampNeg)) (ci := 3) (fs := tc_vfs E s0 x1.toNatClampNeg) (q := (RX5, TX5, 12)) C (hH.v _ (tc_lt h4)) rfl rfl (t_X5_keep l (tc_lt h4) hk) (cwV 0 C.hts (lw_V q634 q635 q636 q60 q637) rfl rfl rfl (by decide +kernel) ⟨Nat.le_of_ble_eq_true rfl, Nat.le_of_ble_eq_true rfl⟩) hH hS rfl hl.1 rfl (lv_room (Nat.le_of_ble_eq_true rfl)) dX4_keep_17 ⟨Nat.le_of_ble_eq_true rfl, Nat.le_of_ble_eq_true rfl⟩) hS (fun _ s6 H locs hk hH hS => ?_)
      refine W.eq (g2 := F0 m 20 ls []) rfl ?_
      obtain ⟨v7, ev7⟩ : ∃ y : Int32, y = x1 + 1 := ⟨_, rfl⟩
      have hk := hk v7 ev7
      refine lv_iinc (v := v7) (lv' := [(1, .int v7), (0, .ref (ea E (1, 0)))]) C.hx C.hb dX4_keep_20 hl (k := 1) rfl (by rw [ev7]; rfl) (by decide) rfl (fun ls hl => ?_)
      refine lv_goto (tgt := 6) C.hx C.hb dX4_keep_23 (by decide) ?_
      exact ih v7 s6 _ _ _ hk hH hS (lv_sub hl [1, 0] rfl)
def wp_X4_keep (E : tc_E) (post : Unit → tc_S → Prop) (s0 : tc_S) : Prop := wp_X3_keep E (fun _ s2 => (∃ n6, wp_X4_keep_6 E post (fun y8 s9 => post () s9) n6 0 s2)) 0 s0
set_option maxHeartbeats 4000000 in
theorem t_X4_keep (l : Launch) {E : tc_E} {post : Unit → tc_S → Prop} {s0 : tc_S} (hk : wp_X4_keep E post  s0) : tc_M l yX4_keep (ws_ yX4_keep cX4_keep 2 none) ({ frames := 2, cells := 0, slots := 0, locals := 50 } : Room) E [.ref (ea E (1, 0))] s0 (fun _ : Unit => none) post := by
  refine tc_start cX4_keep 2 none RX4 (by decide) rfl rfl (Nat.le_of_ble_eq_true rfl) ?_
  intro p e s m args below meth c ls C hnm hr hlk hH hS hl
  have hl : lv_has ls 2 [(0, .ref (ea E (1, 0)))] := hl
  unfold wp_X4_keep at hk
  refine lv_aload_n C.hx C.hb dX4_keep_0 rfl (lv_at hl 0 rfl) ?_
  refine tc_run (tc_rSU (As := []) (rest := []) (L := (1, 0)) (q := (RX4, TX4, 10)) ((C.hK.1 2 _ rfl).2) rfl C (hH.n _ hH.n0.1) (tc_e0 hH.n0.2) rfl (t_X3_keep l hH.n0.1 hk) (va_cwSU 0 C.hts (lw_SUw q631 q626 q250 q625 q58 q632) rfl rfl rfl (by decide +kernel) ⟨Nat.le_of_ble_eq_true rfl, Nat.le_of_ble_eq_true rfl⟩) hH hS rfl hl.1 rfl (lv_room (Nat.le_of_ble_eq_true rfl)) dX4_keep_1 ⟨Nat.le_of_ble_eq_true rfl, Nat.le_of_ble_eq_true rfl⟩) hS (fun _ s2 H locs hk hH hS => ?_)
  refine W.eq (g2 := F0 m 4 ls []) rfl ?_
  refine lv_iconst (v := 0) C.hx C.hb dX4_keep_4 (by decide) ?_
  refine lv_istore_n (lv' := [(1, .int 0), (0, .ref (ea E (1, 0)))]) C.hx C.hb dX4_keep_5 rfl hl (by decide) rfl (fun ls hl => ?_)
  obtain ⟨n6, hk⟩ := hk
  refine tw_X4_keep_6 C hr hlk (fun y8 s9 H locs ls hk hH hS hl => ?_) n6 0 s2 _ _ _ hk hH hS (lv_sub hl [1, 0] rfl)
  exact tc_vret () rfl C hr hlk hH hS hk dX4_keep_26
/-! ToneGraph$Chorus.takeBack()V -/
def wp_X4_takeBack_6 (E : tc_E) (post : Unit → tc_S → Prop) (K : Int32 → tc_S → Prop) : Nat → Int32 → tc_S → Prop
  | 0, _, _ => False
  | n6 + 1, x1, s0 => ((4 ≤ x1 → K x1 s0) ∧ (¬ 4 ≤ x1 → (vp_in x1 4 ∧ wp_X5_takeBack E (fun _ s6 => (∀ v7, v7 = x1 + 1 → wp_X4_takeBack_6 E post K n6 v7 s6)) x1.toNatClampNeg s0)))
set_option maxHeartbeats 4000000 in
theorem tw_X4_takeBack_6 {p : Program} {l : Launch} {e : Env} {s : State} {m : MethodId} {args : Array Value} {below : List Frame} {meth : Method} {c : Code} {E : tc_E} {post : Unit → tc_S → Prop} {K : Int32 → tc_S → Prop}  (C : tc_C p m c cX4_takeBack 2 s args RX4 E) (hr : meth.sig.returnType = none) (hlk : meth.locks = false) (hK : ∀ (x1 : Int32) (σ' : tc_S) (H : Heap) (locs : List Loc) (ls : Array Slot), K x1 σ' → tc_ok E σ' H → va_S (fun q => eb E ≤ q) s.heap H locs → lv_has ls 2 [(0, .ref (ea E (1, 0))), (1, .int x1)] → W p l e ({ frames := 2, cells := 0, slots := 0, locals := 50 } : Room) s m args below meth c H locs 0 0 (MQ below (tc_Qg E (fun _ : Unit => none) post) args s 0 0 (fun q => eb E ≤ q)) (F0 m 26 ls [])) :
    ∀ (n : Nat) (x1 : Int32) (s0 : tc_S) (H : Heap) (locs : List Loc) (ls : Array Slot), wp_X4_takeBack_6 E post K n x1 s0 → tc_ok E s0 H → va_S (fun q => eb E ≤ q) s.heap H locs → lv_has ls 2 [(0, .ref (ea E (1, 0))), (1, .int x1)] → W p l e ({ frames := 2, cells := 0, slots := 0, locals := 50 } : Room) s m args below meth c H locs 0 0 (MQ below (tc_Qg E (fun _ : Unit => none) post) args s 0 0 (fun q => eb E ≤ q)) (F0 m 6 ls []) := by
  intro n
  induction n with
  | zero =>
    intro x1 s0 H locs ls hk
    exact hk.elim
  | succ n ih =>
    intro x1 s0 H locs ls hk hH hS hl
    rw [wp_X4_takeBack_6] at hk
    refine lv_iload_n C.hx C.hb dX4_takeBack_6 rfl (lv_at hl 1 rfl) ?_
    refine lv_iconst (v := 4) C.hx C.hb dX4_takeBack_7 (by decide) ?_
    refine lv_icmp_ge (tgt := 26) C.hx C.hb dX4_takeBack_8 (by decide) (fun c3 => ?_) (fun c3 => ?_)
    · have hk := hk.1 c3
      exact hK x1 s0 _ _ _ hk hH hS (lv_sub hl [0, 1] rfl)
    · have hk := hk.2 c3
      refine lv_aload_n C.hx C.hb dX4_takeBack_11 rfl (lv_at hl 0 rfl) ?_
      refine tc_get C hH (hH.n _ hH.n0.1) (Cn := RX4) (T := TX4) (N := 10) (ci := 2) (fs := tc_nfs E s0 0) in_X4 (tc_e0 hH.n0.2) rfl 9 (by decide) (C.L q208) (fun _ h => h) (v := .ref (ea E (9, 0))) (tc_x0_9 hH.n0.2) dX4_takeBack_12 ?_
      refine lv_iload_n C.hx C.hb dX4_takeBack_15 rfl (lv_at hl 1 rfl) ?_
      obtain ⟨h4, hk⟩ := hk
      refine tc_aaldV C hH h4 dX4_takeBack_16 ?_
      refine tc_run (tc_rV (As := []) (rest := []) (L := (10, x1.toNatClampNeg)) (ci := 3) (fs := tc_vfs E s0 x1.toNatClampNeg) (q := (RX5, TX5, 12)) C (hH.v _ (tc_lt h4)) rfl rfl (t_X5_takeBack l (tc_lt h4) hk) (cwV 0 C.hts (lw_V q654 q655 q656 q60 q657) rfl rfl rfl (by decide +kernel) ⟨Nat.le_of_ble_eq_true rfl, Nat.le_of_ble_eq_true rfl⟩) hH hS rfl hl.1 rfl (lv_room (Nat.le_of_ble_eq_true rfl)) dX4_takeBack_17 ⟨Nat.le_of_ble_eq_true rfl, Nat.le_of_ble_eq_true rfl⟩) hS (fun _ s6 H locs hk hH hS => ?_)
      refine W.eq (g2 := F0 m 20 ls []) rfl ?_
      obtain ⟨v7, ev7⟩ : ∃ y : Int32, y = x1 + 1 := ⟨_, rfl⟩
      have hk := hk v7 ev7
      refine lv_iinc (v := v7) (lv' := [(1, .int v7), (0, .ref (ea E (1, 0)))]) C.hx C.hb dX4_takeBack_20 hl (k := 1) rfl (by rw [ev7]; rfl) (by decide) rfl (fun ls hl => ?_)
      refine lv_goto (tgt := 6) C.hx C.hb dX4_takeBack_23 (by decide) ?_
      exact ih v7 s6 _ _ _ hk hH hS (lv_sub hl [1, 0] rfl)
def wp_X4_takeBack (E : tc_E) (post : Unit → tc_S → Prop) (s0 : tc_S) : Prop := wp_X3_takeBack E (fun _ s2 => (∃ n6, wp_X4_takeBack_6 E post (fun y8 s9 => post () s9) n6 0 s2)) 0 s0
set_option maxHeartbeats 4000000 in
theorem t_X4_takeBack (l : Launch) {E : tc_E} {post : Unit → tc_S → Prop} {s0 : tc_S} (hk : wp_X4_takeBack E post  s0) : tc_M l yX4_takeBack (ws_ yX4_takeBack cX4_takeBack 2 none) ({ frames := 2, cells := 0, slots := 0, locals := 50 } : Room) E [.ref (ea E (1, 0))] s0 (fun _ : Unit => none) post := by
  refine tc_start cX4_takeBack 2 none RX4 (by decide) rfl rfl (Nat.le_of_ble_eq_true rfl) ?_
  intro p e s m args below meth c ls C hnm hr hlk hH hS hl
  have hl : lv_has ls 2 [(0, .ref (ea E (1, 0)))] := hl
  unfold wp_X4_takeBack at hk
  refine lv_aload_n C.hx C.hb dX4_takeBack_0 rfl (lv_at hl 0 rfl) ?_
  refine tc_run (tc_rSU (As := []) (rest := []) (L := (1, 0)) (q := (RX4, TX4, 10)) ((C.hK.1 2 _ rfl).2) rfl C (hH.n _ hH.n0.1) (tc_e0 hH.n0.2) rfl (t_X3_takeBack l hH.n0.1 hk) (va_cwSU 0 C.hts (lw_SUw q652 q647 q250 q646 q58 q653) rfl rfl rfl (by decide +kernel) ⟨Nat.le_of_ble_eq_true rfl, Nat.le_of_ble_eq_true rfl⟩) hH hS rfl hl.1 rfl (lv_room (Nat.le_of_ble_eq_true rfl)) dX4_takeBack_1 ⟨Nat.le_of_ble_eq_true rfl, Nat.le_of_ble_eq_true rfl⟩) hS (fun _ s2 H locs hk hH hS => ?_)
  refine W.eq (g2 := F0 m 4 ls []) rfl ?_
  refine lv_iconst (v := 0) C.hx C.hb dX4_takeBack_4 (by decide) ?_
  refine lv_istore_n (lv' := [(1, .int 0), (0, .ref (ea E (1, 0)))]) C.hx C.hb dX4_takeBack_5 rfl hl (by decide) rfl (fun ls hl => ?_)
  obtain ⟨n6, hk⟩ := hk
  refine tw_X4_takeBack_6 C hr hlk (fun y8 s9 H locs ls hk hH hS hl => ?_) n6 0 s2 _ _ _ hk hH hS (lv_sub hl [1, 0] rfl)
  exact tc_vret () rfl C hr hlk hH hS hk dX4_takeBack_26
/-! ToneGraph$Node.wireFrom(LToneGraph$Node;)LToneGraph$Wire; -/
def wp_X3_wireFrom_2 (E : tc_E) (post : Option Nat → tc_S → Prop) (K : Int32 → tc_S → Prop) (i : Nat) (j : Nat) : Nat → Int32 → tc_S → Prop
  | 0, _, _ => False
  | n2 + 1, x2, s0 => wp_J2_size E (fun r1 s2 => ((r1 ≤ x2 → K x2 s2) ∧ (¬ r1 ≤ x2 → (ygr E (i + 2) = true ∧ wp_J2_get E (fun r5 s6 => (r5 < ynw E ∧ ((ywf E r5) < yn E ∧ ((¬ (ywf E r5) = j → (∀ v10, v10 = x2 + 1 → wp_X3_wireFrom_2 E post K i j n2 v10 s6)) ∧ ((ywf E r5) = j → wp_J2_get E (fun r11 s12 => (r11 < ynw E ∧ post (some r11) s12)) (i + 2) x2 s6))))) (i + 2) x2 s2)))) (i + 2) s0
set_option maxHeartbeats 4000000 in
theorem tw_X3_wireFrom_2 {p : Program} {l : Launch} {e : Env} {s : State} {m : MethodId} {args : Array Value} {below : List Frame} {meth : Method} {c : Code} {E : tc_E} {post : Option Nat → tc_S → Prop} {K : Int32 → tc_S → Prop}  {i : Nat} {j : Nat} (C : tc_C p m c cX3_wireFrom 3 s args RX3 E) (hi : i < yn E) (hj : j < yn E) (hr : meth.sig.returnType = (some (.object "ToneGraph$Wire"))) (hlk : meth.locks = false) (hK : ∀ (x2 : Int32) (σ' : tc_S) (H : Heap) (locs : List Loc) (ls : Array Slot), K x2 σ' → tc_ok E σ' H → va_S (fun q => eb E ≤ q) s.heap H locs → lv_has ls 3 [(0, .ref (ea E (1, i))), (1, .ref (ea E (1, j))), (2, .int x2)] → W p l e ({ frames := 3, cells := 0, slots := 0, locals := 64 } : Room) s m args below meth c H locs 0 0 (MQ below (tc_Qg E (fun o : Option Nat => some (va_rf (o.map fun k => ea E (13, k)))) post) args s 0 0 (fun q => eb E ≤ q)) (F0 m 49 ls [])) :
    ∀ (n : Nat) (x2 : Int32) (s0 : tc_S) (H : Heap) (locs : List Loc) (ls : Array Slot), wp_X3_wireFrom_2 E post K i j n x2 s0 → tc_ok E s0 H → va_S (fun q => eb E ≤ q) s.heap H locs → lv_has ls 3 [(0, .ref (ea E (1, i))), (1, .ref (ea E (1, j))), (2, .int x2)] → W p l e ({ frames := 3, cells := 0, slots := 0, locals := 64 } : Room) s m args below meth c H locs 0 0 (MQ below (tc_Qg E (fun o : Option Nat => some (va_rf (o.map fun k => ea E (13, k)))) post) args s 0 0 (fun q => eb E ≤ q)) (F0 m 2 ls []) := by
  intro n
  induction n with
  | zero =>
    intro x2 s0 H locs ls hk
    exact hk.elim
  | succ n ih =>
    intro x2 s0 H locs ls hk hH hS hl
    rw [wp_X3_wireFrom_2] at hk
    refine lv_iload_n C.hx C.hb dX3_wireFrom_2 rfl (lv_at hl 2 rfl) ?_
    refine lv_aload_n C.hx C.hb dX3_wireFrom_3 rfl (lv_at hl 0 rfl) ?_
    refine tc_getn C hH hi 2 (by decide) rfl (C.L q214) (v := .ref (ea E (2, i + 2))) rfl dX3_wireFrom_4 ?_
    refine tc_run (tc_rV (As := []) (rest := [.int x2]) (L := (2, i + 2)) (ci := 9) (fs := tc_lfs E s0 (i + 2)) (q := (RJ2, TJ2, 3)) C (hH.l _ (Nat.add_lt_add_right hi 2)) rfl rfl (t_J2_size l (Nat.add_lt_add_right hi 2) hk) (cwV 0 C.hts (lw_V q442 q361 q362 q56 q363) rfl rfl rfl (by decide +kernel) ⟨Nat.le_of_ble_eq_true rfl, Nat.le_of_ble_eq_true rfl⟩) hH hS rfl hl.1 rfl (lv_room (Nat.le_of_ble_eq_true rfl)) dX3_wireFrom_7 ⟨Nat.le_of_ble_eq_true rfl, Nat.le_of_ble_eq_true rfl⟩) hS (fun r1 s2 H locs hk hH hS => ?_)
    refine W.eq (g2 := F0 m 10 ls [.int r1, .int x2]) rfl ?_
    refine lv_icmp_ge (tgt := 49) C.hx C.hb dX3_wireFrom_10 (by decide) (fun c3 => ?_) (fun c3 => ?_)
    · have hk := hk.1 c3
      exact hK x2 s2 _ _ _ hk hH hS (lv_sub hl [0, 1, 2] rfl)
    · have hk := hk.2 c3
      refine lv_aload_n C.hx C.hb dX3_wireFrom_13 rfl (lv_at hl 0 rfl) ?_
      refine tc_getn C hH hi 2 (by decide) rfl (C.L q214) (v := .ref (ea E (2, i + 2))) rfl dX3_wireFrom_14 ?_
      refine lv_iload_n C.hx C.hb dX3_wireFrom_17 rfl (lv_at hl 2 rfl) ?_
      obtain ⟨h4, hk⟩ := hk
      refine tc_run (tc_rV (As := [.int x2]) (rest := []) (L := (2, i + 2)) (ci := 9) (fs := tc_lfs E s2 (i + 2)) (q := (RJ2, TJ2, 3)) C (hH.l _ (Nat.add_lt_add_right hi 2)) rfl rfl (t_J2_get l (Nat.add_lt_add_right hi 2) h4 hk) (cwV 1 C.hts (lw_V q443 q369 q370 q56 q371) rfl rfl rfl (by decide +kernel) ⟨Nat.le_of_ble_eq_true rfl, Nat.le_of_ble_eq_true rfl⟩) hH hS rfl hl.1 rfl (lv_room (Nat.le_of_ble_eq_true rfl)) dX3_wireFrom_18 ⟨Nat.le_of_ble_eq_true rfl, Nat.le_of_ble_eq_true rfl⟩) hS (fun r5 s6 H locs hk hH hS => ?_)
      refine W.eq (g2 := F0 m 21 ls [.ref (ea E (13, r5))]) rfl ?_
      obtain ⟨h7, hk⟩ := hk
      refine tc_castW C hH h7 q444 dX3_wireFrom_21 ?_
      obtain ⟨h8, hk⟩ := hk
      refine tc_get C hH (hH.w _ h7) (Cn := RX11) (T := TX11) (N := 2) (ci := 8) (fs := [.ref (ea E (1, ywf E r5)), .int (ywq E r5)]) in_X11 rfl rfl 0 (by decide) (C.N 24 rfl) (fun _ h => h) (v := .ref (ea E (1, (ywf E r5)))) rfl dX3_wireFrom_24 ?_
      refine lv_aload_n C.hx C.hb dX3_wireFrom_27 rfl (lv_at hl 1 rfl) ?_
      refine tc_acmpN_ne (tgt := 43) C hH h8 hj dX3_wireFrom_28 (by decide) (fun c9 => ?_) (fun c9 => ?_)
      · have hk := hk.1 c9
        obtain ⟨v10, ev10⟩ : ∃ y : Int32, y = x2 + 1 := ⟨_, rfl⟩
        have hk := hk v10 ev10
        refine lv_iinc (v := v10) (lv' := [(2, .int v10), (0, .ref (ea E (1, i))), (1, .ref (ea E (1, j)))]) C.hx C.hb dX3_wireFrom_43 hl (k := 2) rfl (by rw [ev10]; rfl) (by decide) rfl (fun ls hl => ?_)
        refine lv_goto (tgt := 2) C.hx C.hb dX3_wireFrom_46 (by decide) ?_
        exact ih v10 s6 _ _ _ hk hH hS (lv_sub hl [1, 2, 0] rfl)
      · have hk := hk.2 c9
        refine lv_aload_n C.hx C.hb dX3_wireFrom_31 rfl (lv_at hl 0 rfl) ?_
        refine tc_getn C hH hi 2 (by decide) rfl (C.L q214) (v := .ref (ea E (2, i + 2))) rfl dX3_wireFrom_32 ?_
        refine lv_iload_n C.hx C.hb dX3_wireFrom_35 rfl (lv_at hl 2 rfl) ?_
        refine tc_run (tc_rV (As := [.int x2]) (rest := []) (L := (2, i + 2)) (ci := 9) (fs := tc_lfs E s6 (i + 2)) (q := (RJ2, TJ2, 3)) C (hH.l _ (Nat.add_lt_add_right hi 2)) rfl rfl (t_J2_get l (Nat.add_lt_add_right hi 2) h4 hk) (cwV 1 C.hts (lw_V q443 q369 q370 q56 q371) rfl rfl rfl (by decide +kernel) ⟨Nat.le_of_ble_eq_true rfl, Nat.le_of_ble_eq_true rfl⟩) hH hS rfl hl.1 rfl (lv_room (Nat.le_of_ble_eq_true rfl)) dX3_wireFrom_36 ⟨Nat.le_of_ble_eq_true rfl, Nat.le_of_ble_eq_true rfl⟩) hS (fun r11 s12 H locs hk hH hS => ?_)
        refine W.eq (g2 := F0 m 39 ls [.ref (ea E (13, r11))]) rfl ?_
        obtain ⟨h13, hk⟩ := hk
        refine tc_castW C hH h13 q444 dX3_wireFrom_39 ?_
        exact tc_aret (some r11) rfl (Or.inr ⟨_, rfl⟩) C hr hlk hH hS hk dX3_wireFrom_42
def wp_X3_wireFrom (E : tc_E) (post : Option Nat → tc_S → Prop) (i : Nat) (j : Nat) (s0 : tc_S) : Prop := (∃ n2, wp_X3_wireFrom_2 E post (fun y14 s15 => post none s15) i j n2 0 s0)
set_option maxHeartbeats 4000000 in
theorem t_X3_wireFrom (l : Launch) {E : tc_E} {i : Nat} {j : Nat} (hi : i < yn E) (hj : j < yn E) {post : Option Nat → tc_S → Prop} {s0 : tc_S} (hk : wp_X3_wireFrom E post i j s0) : tc_M l yX3_wireFrom (ws_ yX3_wireFrom cX3_wireFrom 3 (some (.object "ToneGraph$Wire"))) ({ frames := 3, cells := 0, slots := 0, locals := 64 } : Room) E [.ref (ea E (1, i)), .ref (ea E (1, j))] s0 (fun o : Option Nat => some (va_rf (o.map fun k => ea E (13, k)))) post := by
  refine tc_start cX3_wireFrom 3 (some (.object "ToneGraph$Wire")) RX3 (by decide) rfl rfl (Nat.le_of_ble_eq_true rfl) ?_
  intro p e s m args below meth c ls C hnm hr hlk hH hS hl
  have hl : lv_has ls 3 [(0, .ref (ea E (1, i))), (1, .ref (ea E (1, j)))] := hl
  unfold wp_X3_wireFrom at hk
  refine lv_iconst (v := 0) C.hx C.hb dX3_wireFrom_0 (by decide) ?_
  refine lv_istore_n (lv' := [(2, .int 0), (0, .ref (ea E (1, i))), (1, .ref (ea E (1, j)))]) C.hx C.hb dX3_wireFrom_1 rfl hl (by decide) rfl (fun ls hl => ?_)
  obtain ⟨n2, hk⟩ := hk
  refine tw_X3_wireFrom_2 C hi hj hr hlk (fun y14 s15 H locs ls hk hH hS hl => ?_) n2 0 s0 _ _ _ hk hH hS (lv_sub hl [1, 2, 0] rfl)
  refine lv_null C.hx C.hb dX3_wireFrom_49 ?_
  exact tc_aret none rfl (Or.inl rfl) C hr hlk hH hS hk dX3_wireFrom_50

/-! the component's methods: wp and walk, by program (gen/decc.py) -/
set_option maxRecDepth 100000
/-! ToneGraph.first(LToneGraph$Choice;)LToneGraph$Voice; -/
def wp_X1_first_4 (E : tc_E) (post : Option Nat → tc_S → Prop) (K : Option Nat → Int32 → tc_S → Prop) (z : Nat) (k : Nat) (key : Int32) : Nat → Option Nat → Int32 → tc_S → Prop
  | 0, _, _, _ => False
  | n4 + 1, x2, x3, s0 => ((4 ≤ x3 → K x2 x3 s0) ∧ (¬ 4 ≤ x3 → (vp_in x3 4 ∧ wd_choice E (fun r3 => ((r3 = 0 → (∀ v5, v5 = x3 + 1 → wp_X1_first_4 E post K z k key n4 x2 v5 s0)) ∧ (¬ r3 = 0 → ((x2 = none → (∀ v7, v7 = x3 + 1 → wp_X1_first_4 E post K z k key n4 (some x3.toNatClampNeg) v7 s0)) ∧ (∀ q6, x2 = some q6 → (q6 < 4 ∧ ((0 ≤ (lg_cmp (s0.2.2 (3 + x3.toNatClampNeg)) (s0.2.2 (3 + q6))) → (∀ v10, v10 = x3 + 1 → wp_X1_first_4 E post K z k key n4 (some q6) v10 s0)) ∧ (¬ 0 ≤ (lg_cmp (s0.2.2 (3 + x3.toNatClampNeg)) (s0.2.2 (3 + q6))) → (∀ v11, v11 = x3 + 1 → wp_X1_first_4 E post K z k key n4 (some x3.toNatClampNeg) v11 s0))))))))) k key x3.toNatClampNeg s0)))
set_option maxHeartbeats 4000000 in
theorem tw_X1_first_4 {p : Program} {l : Launch} {e : Env} {s : State} {m : MethodId} {args : Array Value} {below : List Frame} {meth : Method} {c : Code} {E : tc_E} {post : Option Nat → tc_S → Prop} {K : Option Nat → Int32 → tc_S → Prop}  {z : Nat} {k : Nat} {key : Int32} (C : tc_C p m c cX1_first 5 s args RX1 E) (hz : lam_Z k key z E s s.heap) (hr : meth.sig.returnType = (some (.object "ToneGraph$Voice"))) (hlk : meth.locks = false) (hK : ∀ (x2 : Option Nat) (x3 : Int32) (σ' : tc_S) (H : Heap) (locs : List Loc) (ls : Array Slot), K x2 x3 σ' → tc_ok E σ' H → tc_HR s.heap H locs → lv_has ls 5 [(0, .ref (ea E (0, 0))), (1, .ref z), (2, va_rf (x2.map fun k => ea E (10, k))), (3, .int x3)] → W p l e ({ frames := 3, cells := 0, slots := 0, locals := 120 } : Room) s m args below meth c H locs 0 0 (MQ below (tc_QR E (fun o : Option Nat => some (va_rf (o.map fun k => ea E (10, k)))) post) args s 0 0 (fun _ => False)) (F0 m 57 ls [])) :
    ∀ (n : Nat) (x2 : Option Nat) (x3 : Int32) (s0 : tc_S) (H : Heap) (locs : List Loc) (ls : Array Slot), wp_X1_first_4 E post K z k key n x2 x3 s0 → tc_ok E s0 H → tc_HR s.heap H locs → lv_has ls 5 [(0, .ref (ea E (0, 0))), (1, .ref z), (2, va_rf (x2.map fun k => ea E (10, k))), (3, .int x3)] → W p l e ({ frames := 3, cells := 0, slots := 0, locals := 120 } : Room) s m args below meth c H locs 0 0 (MQ below (tc_QR E (fun o : Option Nat => some (va_rf (o.map fun k => ea E (10, k)))) post) args s 0 0 (fun _ => False)) (F0 m 4 ls []) := by
  intro n
  induction n with
  | zero =>
    intro x2 x3 s0 H locs ls hk
    exact hk.elim
  | succ n ih =>
    intro x2 x3 s0 H locs ls hk hH hS hl
    rw [wp_X1_first_4] at hk
    refine lv_iload_n C.hx C.hb dX1_first_4 rfl (lv_at hl 3 rfl) ?_
    refine lv_iconst (v := 4) C.hx C.hb dX1_first_5 (by decide) ?_
    refine lv_icmp_ge (tgt := 57) C.hx C.hb dX1_first_6 (by decide) (fun c1 => ?_) (fun c1 => ?_)
    · have hk := hk.1 c1
      exact hK x2 x3 s0 _ _ _ hk hH hS (lv_sub hl [0, 1, 2, 3] rfl)
    · have hk := hk.2 c1
      refine lv_aload_n C.hx C.hb dX1_first_9 rfl (lv_at hl 0 rfl) ?_
      refine tc_get C hH hH.g (Cn := RX1) (T := TX1) (N := 13) (ci := 0) (fs := tc_gfs E s0) in_X1 rfl rfl 0 (by decide) (C.L q316) (fun _ h => h) (v := .ref (ea E (1, 0))) rfl dX1_first_10 ?_
      refine tc_get C hH (hH.n _ hH.n0.1) (Cn := RX4) (T := TX4) (N := 10) (ci := 2) (fs := tc_nfs E s0 0) in_X4 (tc_e0 hH.n0.2) rfl 9 (by decide) (C.N 0 rfl) (fun _ h => h) (v := .ref (ea E (9, 0))) (tc_x0_9 hH.n0.2) dX1_first_13 ?_
      refine lv_iload_n C.hx C.hb dX1_first_16 rfl (lv_at hl 3 rfl) ?_
      obtain ⟨h2, hk⟩ := hk
      refine tc_aaldV C hH h2 dX1_first_17 ?_
      refine lv_astore (lv' := [(4, .ref (ea E (10, x3.toNatClampNeg))), (0, .ref (ea E (0, 0))), (1, .ref z), (2, va_rf (x2.map fun k => ea E (10, k))), (3, .int x3)]) C.hx C.hb dX1_first_18 hl (by decide) rfl (fun ls hl => ?_)
      refine lv_aload_n C.hx C.hb dX1_first_20 rfl (lv_at hl 2 rfl) ?_
      refine lv_aload C.hx C.hb dX1_first_21 (lv_at hl 0 rfl) ?_
      refine lam_choice C hz hH hS (tc_lt h2) hk hl.1 (lv_room (Nat.le_of_ble_eq_true rfl)) dX1_first_23 ⟨Nat.le_of_ble_eq_true rfl, Nat.le_of_ble_eq_true rfl⟩ ⟨Nat.le_of_ble_eq_true rfl, Nat.le_of_ble_eq_true rfl⟩ (fun r3 hk => ?_)
      refine lv_if_eq (tgt := 51) C.hx C.hb dX1_first_28 (by decide) (fun c4 => ?_) (fun c4 => ?_)
      · have hk := hk.1 c4
        obtain ⟨v5, ev5⟩ : ∃ y : Int32, y = x3 + 1 := ⟨_, rfl⟩
        have hk := hk v5 ev5
        refine lv_iinc (v := v5) (lv' := [(3, .int v5), (4, .ref (ea E (10, x3.toNatClampNeg))), (0, .ref (ea E (0, 0))), (1, .ref z), (2, va_rf (x2.map fun k => ea E (10, k)))]) C.hx C.hb dX1_first_51 hl (k := 4) rfl (by rw [ev5]; rfl) (by decide) (by cases x2 <;> rfl) (fun ls hl => ?_)
        refine lv_goto (tgt := 4) C.hx C.hb dX1_first_54 (by decide) ?_
        exact ih x2 v5 s0 _ _ _ hk hH hS (lv_sub hl [2, 3, 4, 0] rfl)
      · have hk := hk.2 c4
        refine lv_aload_nQ C.hx C.hb dX1_first_31 rfl (lv_at hl 3 rfl) ?_
        rcases hq6 : x2 with _ | q6
        · have hk := hk.1 hq6
          try rw [hq6] at hl
          refine W.eq (g2 := F0 m 32 ls [.null]) (by first | rfl | (rw [hq6]; rfl)) ?_
          have hl : lv_has ls 5 [(4, .ref (ea E (10, x3.toNatClampNeg))), (0, .ref (ea E (0, 0))), (1, .ref z), (2, .null), (3, .int x3)] := hl
          refine lv_ifnullN (tgt := 48) C.hx C.hb dX1_first_32 (by decide) ?_
          refine lv_aload C.hx C.hb dX1_first_48 (lv_at hl 0 rfl) ?_
          refine lv_astore_n (lv' := [(2, .ref (ea E (10, x3.toNatClampNeg))), (4, .ref (ea E (10, x3.toNatClampNeg))), (0, .ref (ea E (0, 0))), (1, .ref z), (3, .int x3)]) C.hx C.hb dX1_first_50 rfl hl (by decide) rfl (fun ls hl => ?_)
          obtain ⟨v7, ev7⟩ : ∃ y : Int32, y = x3 + 1 := ⟨_, rfl⟩
          have hk := hk v7 ev7
          refine lv_iinc (v := v7) (lv' := [(3, .int v7), (2, .ref (ea E (10, x3.toNatClampNeg))), (4, .ref (ea E (10, x3.toNatClampNeg))), (0, .ref (ea E (0, 0))), (1, .ref z)]) C.hx C.hb dX1_first_51 hl (k := 4) rfl (by rw [ev7]; rfl) (by decide) rfl (fun ls hl => ?_)
          refine lv_goto (tgt := 4) C.hx C.hb dX1_first_54 (by decide) ?_
          exact ih (some x3.toNatClampNeg) v7 s0 _ _ _ hk hH hS (lv_sub hl [3, 4, 1, 0] rfl)
        · have hk := hk.2 q6 hq6
          try rw [hq6] at hl
          refine W.eq (g2 := F0 m 32 ls [.ref (ea E (10, q6))]) (by first | rfl | (rw [hq6]; rfl)) ?_
          have hl : lv_has ls 5 [(4, .ref (ea E (10, x3.toNatClampNeg))), (0, .ref (ea E (0, 0))), (1, .ref z), (2, .ref (ea E (10, q6))), (3, .int x3)] := hl
          refine lv_ifnull C.hx C.hb dX1_first_32 ?_
          refine lv_aload C.hx C.hb dX1_first_35 (lv_at hl 0 rfl) ?_
          refine tc_get C hH (hH.v _ (tc_lt h2)) (Cn := RX5) (T := TX5) (N := 12) (ci := 3) (fs := tc_vfs E s0 x3.toNatClampNeg) in_X5 rfl rfl 10 (by decide) (C.N 10 rfl) (fun _ h => h) (v := .long (s0.2.2 (3 + x3.toNatClampNeg))) rfl dX1_first_37 ?_
          refine lv_aload_n C.hx C.hb dX1_first_40 rfl (lv_at hl 3 rfl) ?_
          obtain ⟨h8, hk⟩ := hk
          refine tc_get C hH (hH.v _ h8) (Cn := RX5) (T := TX5) (N := 12) (ci := 3) (fs := tc_vfs E s0 q6) in_X5 rfl rfl 10 (by decide) (C.N 10 rfl) (fun _ h => h) (v := .long (s0.2.2 (3 + q6))) rfl dX1_first_41 ?_
          refine W.lcmp C.hx C.hb dX1_first_44 ?_
          refine lv_if_ge (tgt := 51) C.hx C.hb dX1_first_45 (by decide) (fun c9 => ?_) (fun c9 => ?_)
          · have hk := hk.1 c9
            obtain ⟨v10, ev10⟩ : ∃ y : Int32, y = x3 + 1 := ⟨_, rfl⟩
            have hk := hk v10 ev10
            refine lv_iinc (v := v10) (lv' := [(3, .int v10), (4, .ref (ea E (10, x3.toNatClampNeg))), (0, .ref (ea E (0, 0))), (1, .ref z), (2, .ref (ea E (10, q6)))]) C.hx C.hb dX1_first_51 hl (k := 4) rfl (by rw [ev10]; rfl) (by decide) rfl (fun ls hl => ?_)
            refine lv_goto (tgt := 4) C.hx C.hb dX1_first_54 (by decide) ?_
            exact ih (some q6) v10 s0 _ _ _ hk hH hS (lv_sub hl [2, 3, 4, 0] rfl)
          · have hk := hk.2 c9
            refine lv_aload C.hx C.hb dX1_first_48 (lv_at hl 0 rfl) ?_
            refine lv_astore_n (lv' := [(2, .ref (ea E (10, x3.toNatClampNeg))), (4, .ref (ea E (10, x3.toNatClampNeg))), (0, .ref (ea E (0, 0))), (1, .ref z), (3, .int x3)]) C.hx C.hb dX1_first_50 rfl hl (by decide) rfl (fun ls hl => ?_)
            obtain ⟨v11, ev11⟩ : ∃ y : Int32, y = x3 + 1 := ⟨_, rfl⟩
            have hk := hk v11 ev11
            refine lv_iinc (v := v11) (lv' := [(3, .int v11), (2, .ref (ea E (10, x3.toNatClampNeg))), (4, .ref (ea E (10, x3.toNatClampNeg))), (0, .ref (ea E (0, 0))), (1, .ref z)]) C.hx C.hb dX1_first_51 hl (k := 4) rfl (by rw [ev11]; rfl) (by decide) rfl (fun ls hl => ?_)
            refine lv_goto (tgt := 4) C.hx C.hb dX1_first_54 (by decide) ?_
            exact ih (some x3.toNatClampNeg) v11 s0 _ _ _ hk hH hS (lv_sub hl [3, 4, 1, 0] rfl)
def wp_X1_first (E : tc_E) (post : Option Nat → tc_S → Prop) (z : Nat) (k : Nat) (key : Int32) (s0 : tc_S) : Prop := (∃ n4, wp_X1_first_4 E post (fun y12 y13 s14 => post y12 s14) z k key n4 none 0 s0)
set_option maxHeartbeats 4000000 in
theorem t_X1_first (l : Launch) {E : tc_E} {z : Nat} {k : Nat} {key : Int32} {post : Option Nat → tc_S → Prop} {s0 : tc_S} (hk : wp_X1_first E post z k key s0) : tc_R l yX1_first (ws_ yX1_first cX1_first 5 (some (.object "ToneGraph$Voice"))) ({ frames := 3, cells := 0, slots := 0, locals := 120 } : Room) E [.ref (ea E (0, 0)), .ref z] s0 (lam_Z k key z E) (fun o : Option Nat => some (va_rf (o.map fun k => ea E (10, k)))) post := by
  refine tc_startR cX1_first 5 (some (.object "ToneGraph$Voice")) RX1 (by decide) rfl rfl (Nat.le_of_ble_eq_true rfl) ?_
  intro p e s m args below meth c ls C hz hnm hr hlk hH hS hl
  have hl : lv_has ls 5 [(0, .ref (ea E (0, 0))), (1, .ref z)] := hl
  unfold wp_X1_first at hk
  refine lv_null C.hx C.hb dX1_first_0 ?_
  refine lv_astore_nN (lv' := [(2, .null), (0, .ref (ea E (0, 0))), (1, .ref z)]) C.hx C.hb dX1_first_1 rfl hl (by decide) rfl (fun ls hl => ?_)
  refine lv_iconst (v := 0) C.hx C.hb dX1_first_2 (by decide) ?_
  refine lv_istore_n (lv' := [(3, .int 0), (2, .null), (0, .ref (ea E (0, 0))), (1, .ref z)]) C.hx C.hb dX1_first_3 rfl hl (by decide) rfl (fun ls hl => ?_)
  obtain ⟨n4, hk⟩ := hk
  refine tw_X1_first_4 C hz hr hlk (fun y12 y13 s14 H locs ls hk hH hS hl => ?_) n4 none 0 s0 _ _ _ hk hH hS (lv_sub hl [2, 3, 1, 0] rfl)
  refine lv_aload_nQ C.hx C.hb dX1_first_57 rfl (lv_at hl 2 rfl) ?_
  exact tc_aretR y12 rfl (va_rf_or _) C hr hlk hH hS hk dX1_first_58
/-! ToneGraph$Voice.sound(I)I -/
def wp_X5_sound (E : tc_E) (post : Int32 → tc_S → Prop) (v : Nat) (p1 : Int32) (s0 : tc_S) : Prop := (∃ q1 : Nat, s0.2.1 3 v 1 = q1 + 1 ∧ q1 < 3 ∧ wd_wave q1 (fun r2 => post ((((r2 * p1) / 1000) * (s0.1 6 v 4)) / 100) s0) (s0.1 6 v 5))
set_option maxHeartbeats 4000000 in
theorem t_X5_sound (l : Launch) {E : tc_E} {v : Nat} (hv : v < 4) {post : Int32 → tc_S → Prop} {p1 : Int32} {s0 : tc_S} (hk : wp_X5_sound E post v p1 s0) : tc_M l yX5_sound (ws_ yX5_sound cX5_sound 2 (some .int)) ({ frames := 3, cells := 0, slots := 0, locals := 120 } : Room) E [.ref (ea E (10, v)), .int p1] s0 (fun r : Int32 => some (.int r)) post := by
  refine tc_start cX5_sound 2 (some .int) RX5 (by decide) rfl rfl (Nat.le_of_ble_eq_true rfl) ?_
  intro p e s m args below meth c ls C hnm hr hlk hH hS hl
  have hl : lv_has ls 2 [(0, .ref (ea E (10, v))), (1, .int p1)] := hl
  unfold wp_X5_sound at hk
  refine lv_aload_n C.hx C.hb dX5_sound_0 rfl (lv_at hl 0 rfl) ?_
  obtain ⟨q1, hq1, kq1, hk⟩ := hk
  refine tc_get C hH (hH.v _ hv) (Cn := RX5) (T := TX5) (N := 12) (ci := 3) (fs := tc_vfs E s0 v) in_X5 rfl rfl 3 (by decide) (C.L q170) (fun _ h => h) (v := .ref (es E (q1 + 2))) (by simp [tc_vfs, hq1, tc_on, va_rf]) dX5_sound_1 ?_
  refine lv_aload_n C.hx C.hb dX5_sound_4 rfl (lv_at hl 0 rfl) ?_
  refine tc_get C hH (hH.v _ hv) (Cn := RX5) (T := TX5) (N := 12) (ci := 3) (fs := tc_vfs E s0 v) in_X5 rfl rfl 7 (by decide) (C.L q175) (fun _ h => h) (v := .int (s0.1 6 v 5)) rfl dX5_sound_5 ?_
  refine lam_wave C hS kq1 hk hl.1 (lv_room (Nat.le_of_ble_eq_true rfl)) dX5_sound_8 ⟨Nat.le_of_ble_eq_true rfl, Nat.le_of_ble_eq_true rfl⟩ ⟨Nat.le_of_ble_eq_true rfl, Nat.le_of_ble_eq_true rfl⟩ (fun r2 hk => ?_)
  refine lv_iload_n C.hx C.hb dX5_sound_13 rfl (lv_at hl 1 rfl) ?_
  refine lv_imul C.hx C.hb dX5_sound_14 ?_
  refine lv_sipush (v := 1000) C.hx C.hb dX5_sound_15 (by decide) ?_
  refine lv_idiv C.hx C.hb dX5_sound_18 (by decide) ?_
  refine lv_aload_n C.hx C.hb dX5_sound_19 rfl (lv_at hl 0 rfl) ?_
  refine tc_get C hH (hH.v _ hv) (Cn := RX5) (T := TX5) (N := 12) (ci := 3) (fs := tc_vfs E s0 v) in_X5 rfl rfl 6 (by decide) (C.L q174) (fun _ h => h) (v := .int (s0.1 6 v 4)) rfl dX5_sound_20 ?_
  refine lv_imul C.hx C.hb dX5_sound_23 ?_
  refine lv_bipush (v := 100) C.hx C.hb dX5_sound_24 (by decide) ?_
  refine lv_idiv C.hx C.hb dX5_sound_26 (by decide) ?_
  exact tc_iret ((((r2 * p1) / 1000) * (s0.1 6 v 4)) / 100) rfl C hr hlk hH hS hk dX5_sound_27
/-! ToneGraph$Voice.next()I -/
def wp_X5_next (E : tc_E) (post : Int32 → tc_S → Prop) (v : Nat) (s0 : tc_S) : Prop := ((¬ (s0.1 6 v 1) = 0 → wp_X5_level E (fun r2 s3 => wp_X5_sound E (fun r4 s5 => wp_X5_goOn E (fun _ s7 => post r4 s7) v s5) v r2 s3) v s0) ∧ ((s0.1 6 v 1) = 0 → post 0 s0))
set_option maxHeartbeats 4000000 in
theorem t_X5_next (l : Launch) {E : tc_E} {v : Nat} (hv : v < 4) {post : Int32 → tc_S → Prop} {s0 : tc_S} (hk : wp_X5_next E post v s0) : tc_M l yX5_next (ws_ yX5_next cX5_next 2 (some .int)) ({ frames := 4, cells := 0, slots := 0, locals := 141 } : Room) E [.ref (ea E (10, v))] s0 (fun r : Int32 => some (.int r)) post := by
  refine tc_start cX5_next 2 (some .int) RX5 (by decide) rfl rfl (Nat.le_of_ble_eq_true rfl) ?_
  intro p e s m args below meth c ls C hnm hr hlk hH hS hl
  have hl : lv_has ls 2 [(0, .ref (ea E (10, v)))] := hl
  unfold wp_X5_next at hk
  refine lv_aload_n C.hx C.hb dX5_next_0 rfl (lv_at hl 0 rfl) ?_
  refine tc_get C hH (hH.v _ hv) (Cn := RX5) (T := TX5) (N := 12) (ci := 3) (fs := tc_vfs E s0 v) in_X5 rfl rfl 1 (by decide) (C.L q166) (fun _ h => h) (v := .int (s0.1 6 v 1)) rfl dX5_next_1 ?_
  refine lv_if_ne (tgt := 9) C.hx C.hb dX5_next_4 (by decide) (fun c1 => ?_) (fun c1 => ?_)
  · have hk := hk.1 c1
    refine lv_aload_n C.hx C.hb dX5_next_9 rfl (lv_at hl 0 rfl) ?_
    refine lv_aload_n C.hx C.hb dX5_next_10 rfl (lv_at hl 0 rfl) ?_
    refine tc_run (tc_rV (As := []) (rest := [.ref (ea E (10, v))]) (L := (10, v)) (ci := 3) (fs := tc_vfs E s0 v) (q := (RX5, TX5, 12)) C (hH.v _ hv) rfl rfl (t_X5_level l hv hk) (cwV 0 C.hts (lw_V q461 q462 q463 q60 q464) rfl rfl rfl (by decide +kernel) ⟨Nat.le_of_ble_eq_true rfl, Nat.le_of_ble_eq_true rfl⟩) hH hS rfl hl.1 rfl (lv_room (Nat.le_of_ble_eq_true rfl)) dX5_next_11 ⟨Nat.le_of_ble_eq_true rfl, Nat.le_of_ble_eq_true rfl⟩) hS (fun r2 s3 H locs hk hH hS => ?_)
    refine W.eq (g2 := F0 m 14 ls [.int r2, .ref (ea E (10, v))]) rfl ?_
    refine tc_run (tc_rV (As := [.int r2]) (rest := []) (L := (10, v)) (ci := 3) (fs := tc_vfs E s3 v) (q := (RX5, TX5, 12)) C (hH.v _ hv) rfl rfl (t_X5_sound l hv hk) (cwV 1 C.hts (lw_V q465 q467 qs4 q60 q468) rfl rfl rfl (by decide +kernel) ⟨Nat.le_of_ble_eq_true rfl, Nat.le_of_ble_eq_true rfl⟩) hH hS rfl hl.1 rfl (lv_room (Nat.le_of_ble_eq_true rfl)) dX5_next_14 ⟨Nat.le_of_ble_eq_true rfl, Nat.le_of_ble_eq_true rfl⟩) hS (fun r4 s5 H locs hk hH hS => ?_)
    refine W.eq (g2 := F0 m 17 ls [.int r4]) rfl ?_
    refine lv_istore_n (lv' := [(1, .int r4), (0, .ref (ea E (10, v)))]) C.hx C.hb dX5_next_17 rfl hl (by decide) rfl (fun ls hl => ?_)
    refine lv_aload_n C.hx C.hb dX5_next_18 rfl (lv_at hl 1 rfl) ?_
    refine tc_run (tc_rV (As := []) (rest := []) (L := (10, v)) (ci := 3) (fs := tc_vfs E s5 v) (q := (RX5, TX5, 12)) C (hH.v _ hv) rfl rfl (t_X5_goOn l hv hk) (cwV 0 C.hts (lw_V q473 q475 qs5 q60 q476) rfl rfl rfl (by decide +kernel) ⟨Nat.le_of_ble_eq_true rfl, Nat.le_of_ble_eq_true rfl⟩) hH hS rfl hl.1 rfl (lv_room (Nat.le_of_ble_eq_true rfl)) dX5_next_19 ⟨Nat.le_of_ble_eq_true rfl, Nat.le_of_ble_eq_true rfl⟩) hS (fun _ s7 H locs hk hH hS => ?_)
    refine W.eq (g2 := F0 m 22 ls []) rfl ?_
    refine lv_iload_n C.hx C.hb dX5_next_22 rfl (lv_at hl 0 rfl) ?_
    exact tc_iret r4 rfl C hr hlk hH hS hk dX5_next_23
  · have hk := hk.2 c1
    refine lv_iconst (v := 0) C.hx C.hb dX5_next_7 (by decide) ?_
    exact tc_iret 0 rfl C hr hlk hH hS hk dX5_next_8
/-! ToneGraph$Voice.addTo([II)V -/
def wp_X5_addTo_20 (E : tc_E) (post : Unit → tc_S → Prop) (K : Int32 → Int32 → Int32 → tc_S → Prop) (v : Nat) : Nat → Int32 → Int32 → Int32 → tc_S → Prop
  | 0, _, _, _, _ => False
  | n20 + 1, x2, x3, x4, s0 => ((x2 ≤ x3 → K x2 x3 x4 s0) ∧ (¬ x2 ≤ x3 → wp_X5_state E (fun r6 s7 => ((¬ r6 = x4 → K x2 x3 x4 s7) ∧ (r6 = x4 → (vp_in x3 64 ∧ ((¬ x4 = 115 → wp_X5_level E (fun r11 s12 => wp_X5_sound E (fun r13 s14 => (vp_in x3 64 ∧ (∀ s16 : tc_S, s16 = tI s14 2 0 x3.toNatClampNeg (((s7.1 2 0) x3.toNatClampNeg) + r13) → wp_X5_goOn E (fun _ s18 => (∀ v19, v19 = x3 + 1 → wp_X5_addTo_20 E post K v n20 x2 v19 x4 s18)) v s16))) v r11 s12) v s7) ∧ (x4 = 115 → (∃ q20 : Nat, s7.2.1 3 v 0 = q20 + 1 ∧ q20 < yne E ∧ wp_X5_sound E (fun r21 s22 => (vp_in x3 64 ∧ (∀ s24 : tc_S, s24 = tI s22 2 0 x3.toNatClampNeg (((s7.1 2 0) x3.toNatClampNeg) + r21) → wp_X5_goOn E (fun _ s26 => (∀ v27, v27 = x3 + 1 → wp_X5_addTo_20 E post K v n20 x2 v27 x4 s26)) v s24))) v (yev E q20 2) s7))))))) v s0))
set_option maxHeartbeats 4000000 in
theorem tw_X5_addTo_20 {p : Program} {l : Launch} {e : Env} {s : State} {m : MethodId} {args : Array Value} {below : List Frame} {meth : Method} {c : Code} {E : tc_E} {post : Unit → tc_S → Prop} {K : Int32 → Int32 → Int32 → tc_S → Prop}  {v : Nat} (C : tc_C p m c cX5_addTo 5 s args RX5 E) (hv : v < 4) (hr : meth.sig.returnType = none) (hlk : meth.locks = false) (hK : ∀ (x2 : Int32) (x3 : Int32) (x4 : Int32) (σ' : tc_S) (H : Heap) (locs : List Loc) (ls : Array Slot), K x2 x3 x4 σ' → tc_ok E σ' H → va_S (fun q => eb E ≤ q) s.heap H locs → lv_has ls 5 [(0, .ref (ea E (10, v))), (1, .ref (ea E (4, 0))), (2, .int x2), (3, .int x3), (4, .int x4)] → W p l e ({ frames := 4, cells := 0, slots := 0, locals := 141 } : Room) s m args below meth c H locs 0 0 (MQ below (tc_Qg E (fun _ : Unit => none) post) args s 0 0 (fun q => eb E ≤ q)) (F0 m 75 ls [])) :
    ∀ (n : Nat) (x2 : Int32) (x3 : Int32) (x4 : Int32) (s0 : tc_S) (H : Heap) (locs : List Loc) (ls : Array Slot), wp_X5_addTo_20 E post K v n x2 x3 x4 s0 → tc_ok E s0 H → va_S (fun q => eb E ≤ q) s.heap H locs → lv_has ls 5 [(0, .ref (ea E (10, v))), (1, .ref (ea E (4, 0))), (2, .int x2), (3, .int x3), (4, .int x4)] → W p l e ({ frames := 4, cells := 0, slots := 0, locals := 141 } : Room) s m args below meth c H locs 0 0 (MQ below (tc_Qg E (fun _ : Unit => none) post) args s 0 0 (fun q => eb E ≤ q)) (F0 m 20 ls []) := by
  intro n
  induction n with
  | zero =>
    intro x2 x3 x4 s0 H locs ls hk
    exact hk.elim
  | succ n ih =>
    intro x2 x3 x4 s0 H locs ls hk hH hS hl
    rw [wp_X5_addTo_20] at hk
    refine lv_iload_n C.hx C.hb dX5_addTo_20 rfl (lv_at hl 3 rfl) ?_
    refine lv_iload_n C.hx C.hb dX5_addTo_21 rfl (lv_at hl 2 rfl) ?_
    refine lv_icmp_ge (tgt := 75) C.hx C.hb dX5_addTo_22 (by decide) (fun c5 => ?_) (fun c5 => ?_)
    · have hk := hk.1 c5
      exact hK x2 x3 x4 s0 _ _ _ hk hH hS (lv_sub hl [0, 1, 2, 3, 4] rfl)
    · have hk := hk.2 c5
      refine lv_aload_n C.hx C.hb dX5_addTo_25 rfl (lv_at hl 0 rfl) ?_
      refine tc_run (tc_rV (As := []) (rest := []) (L := (10, v)) (ci := 3) (fs := tc_vfs E s0 v) (q := (RX5, TX5, 12)) C (hH.v _ hv) rfl rfl (t_X5_state l hv hk) (cwV 0 C.hts (lw_V q681 q682 q683 q60 q684) rfl rfl rfl (by decide +kernel) ⟨Nat.le_of_ble_eq_true rfl, Nat.le_of_ble_eq_true rfl⟩) hH hS rfl hl.1 rfl (lv_room (Nat.le_of_ble_eq_true rfl)) dX5_addTo_26 ⟨Nat.le_of_ble_eq_true rfl, Nat.le_of_ble_eq_true rfl⟩) hS (fun r6 s7 H locs hk hH hS => ?_)
      refine W.eq (g2 := F0 m 29 ls [.int r6]) rfl ?_
      refine lv_iload C.hx C.hb dX5_addTo_29 (lv_at hl 4 rfl) ?_
      refine lv_icmp_ne (tgt := 75) C.hx C.hb dX5_addTo_31 (by decide) (fun c8 => ?_) (fun c8 => ?_)
      · have hk := hk.1 c8
        exact hK x2 x3 x4 s7 _ _ _ hk hH hS (lv_sub hl [0, 1, 2, 3, 4] rfl)
      · have hk := hk.2 c8
        refine lv_aload_n C.hx C.hb dX5_addTo_34 rfl (lv_at hl 1 rfl) ?_
        refine lv_iload_n C.hx C.hb dX5_addTo_35 rfl (lv_at hl 3 rfl) ?_
        refine lv_dup2_11 C.hx C.hb dX5_addTo_36 rfl rfl ?_
        obtain ⟨h9, hk⟩ := hk
        refine tc_ald C hH (hH.row _ hH.n0.1) (N := 64) (f := (s7.1 2 0)) rfl h9 dX5_addTo_37 ?_
        refine lv_aload_n C.hx C.hb dX5_addTo_38 rfl (lv_at hl 0 rfl) ?_
        refine lv_iload C.hx C.hb dX5_addTo_39 (lv_at hl 4 rfl) ?_
        refine lv_bipush (v := 115) C.hx C.hb dX5_addTo_41 (by decide) ?_
        refine lv_icmp_ne (tgt := 56) C.hx C.hb dX5_addTo_43 (by decide) (fun c10 => ?_) (fun c10 => ?_)
        · have hk := hk.1 c10
          refine lv_aload_n C.hx C.hb dX5_addTo_56 rfl (lv_at hl 0 rfl) ?_
          refine tc_run (tc_rV (As := []) (rest := [.ref (ea E (10, v)), .int ((s7.1 2 0) x3.toNatClampNeg), .int x3, .ref (ea E (4, 0))]) (L := (10, v)) (ci := 3) (fs := tc_vfs E s7 v) (q := (RX5, TX5, 12)) C (hH.v _ hv) rfl rfl (t_X5_level l hv hk) (cwV 0 C.hts (lw_V q461 q462 q463 q60 q464) rfl rfl rfl (by decide +kernel) ⟨Nat.le_of_ble_eq_true rfl, Nat.le_of_ble_eq_true rfl⟩) hH hS rfl hl.1 rfl (lv_room (Nat.le_of_ble_eq_true rfl)) dX5_addTo_57 ⟨Nat.le_of_ble_eq_true rfl, Nat.le_of_ble_eq_true rfl⟩) hS (fun r11 s12 H locs hk hH hS => ?_)
          refine W.eq (g2 := F0 m 60 ls [.int r11, .ref (ea E (10, v)), .int ((s7.1 2 0) x3.toNatClampNeg), .int x3, .ref (ea E (4, 0))]) rfl ?_
          refine tc_run (tc_rV (As := [.int r11]) (rest := [.int ((s7.1 2 0) x3.toNatClampNeg), .int x3, .ref (ea E (4, 0))]) (L := (10, v)) (ci := 3) (fs := tc_vfs E s12 v) (q := (RX5, TX5, 12)) C (hH.v _ hv) rfl rfl (t_X5_sound l hv hk) (cwV 1 C.hts (lw_V q465 q467 qs4 q60 q468) rfl rfl rfl (by decide +kernel) ⟨Nat.le_of_ble_eq_true rfl, Nat.le_of_ble_eq_true rfl⟩) hH hS rfl hl.1 rfl (lv_room (Nat.le_of_ble_eq_true rfl)) dX5_addTo_60 ⟨Nat.le_of_ble_eq_true rfl, Nat.le_of_ble_eq_true rfl⟩) hS (fun r13 s14 H locs hk hH hS => ?_)
          refine W.eq (g2 := F0 m 63 ls [.int r13, .int ((s7.1 2 0) x3.toNatClampNeg), .int x3, .ref (ea E (4, 0))]) rfl ?_
          refine lv_iadd C.hx C.hb dX5_addTo_63 ?_
          obtain ⟨h15, hk⟩ := hk
          refine tc_ast C hH hS (hH.row _ hH.n0.1) (N := 64) (f := (s14.1 2 0)) rfl h15 (tc_ua_row E s14 0 x3.toNatClampNeg (((s7.1 2 0) x3.toNatClampNeg) + r13)) dX5_addTo_64 (fun s16 es16 H locs hH hS => ?_)
          have hk := hk s16 es16
          refine lv_aload_n C.hx C.hb dX5_addTo_65 rfl (lv_at hl 0 rfl) ?_
          refine tc_run (tc_rV (As := []) (rest := []) (L := (10, v)) (ci := 3) (fs := tc_vfs E s16 v) (q := (RX5, TX5, 12)) C (hH.v _ hv) rfl rfl (t_X5_goOn l hv hk) (cwV 0 C.hts (lw_V q473 q475 qs5 q60 q476) rfl rfl rfl (by decide +kernel) ⟨Nat.le_of_ble_eq_true rfl, Nat.le_of_ble_eq_true rfl⟩) hH hS rfl hl.1 rfl (lv_room (Nat.le_of_ble_eq_true rfl)) dX5_addTo_66 ⟨Nat.le_of_ble_eq_true rfl, Nat.le_of_ble_eq_true rfl⟩) hS (fun _ s18 H locs hk hH hS => ?_)
          refine W.eq (g2 := F0 m 69 ls []) rfl ?_
          obtain ⟨v19, ev19⟩ : ∃ y : Int32, y = x3 + 1 := ⟨_, rfl⟩
          have hk := hk v19 ev19
          refine lv_iinc (v := v19) (lv' := [(3, .int v19), (0, .ref (ea E (10, v))), (1, .ref (ea E (4, 0))), (2, .int x2), (4, .int x4)]) C.hx C.hb dX5_addTo_69 hl (k := 3) rfl (by rw [ev19]; rfl) (by decide) rfl (fun ls hl => ?_)
          refine lv_goto (tgt := 20) C.hx C.hb dX5_addTo_72 (by decide) ?_
          exact ih x2 v19 x4 s18 _ _ _ hk hH hS (lv_sub hl [1, 2, 3, 0, 4] rfl)
        · have hk := hk.2 c10
          refine lv_aload_n C.hx C.hb dX5_addTo_46 rfl (lv_at hl 0 rfl) ?_
          obtain ⟨q20, hq20, kq20, hk⟩ := hk
          refine tc_get C hH (hH.v _ hv) (Cn := RX5) (T := TX5) (N := 12) (ci := 3) (fs := tc_vfs E s7 v) in_X5 rfl rfl 4 (by decide) (C.L q171) (fun _ h => h) (v := .ref (ea E (12, q20))) (by simp [tc_vfs, hq20, tc_on, va_rf]) dX5_addTo_47 ?_
          refine tc_get C hH (hH.e _ kq20) (Cn := RX2) (T := TX2) (N := 4) (ci := 1) (fs := [.int (yev E q20 0), .int (yev E q20 1), .int (yev E q20 2), .int (yev E q20 3)]) in_X2 rfl rfl 2 (by decide) (C.N 28 rfl) (fun _ h => h) (v := .int (yev E q20 2)) rfl dX5_addTo_50 ?_
          refine lv_goto (tgt := 60) C.hx C.hb dX5_addTo_53 (by decide) ?_
          refine tc_run (tc_rV (As := [.int (yev E q20 2)]) (rest := [.int ((s7.1 2 0) x3.toNatClampNeg), .int x3, .ref (ea E (4, 0))]) (L := (10, v)) (ci := 3) (fs := tc_vfs E s7 v) (q := (RX5, TX5, 12)) C (hH.v _ hv) rfl rfl (t_X5_sound l hv hk) (cwV 1 C.hts (lw_V q465 q467 qs4 q60 q468) rfl rfl rfl (by decide +kernel) ⟨Nat.le_of_ble_eq_true rfl, Nat.le_of_ble_eq_true rfl⟩) hH hS rfl hl.1 rfl (lv_room (Nat.le_of_ble_eq_true rfl)) dX5_addTo_60 ⟨Nat.le_of_ble_eq_true rfl, Nat.le_of_ble_eq_true rfl⟩) hS (fun r21 s22 H locs hk hH hS => ?_)
          refine W.eq (g2 := F0 m 63 ls [.int r21, .int ((s7.1 2 0) x3.toNatClampNeg), .int x3, .ref (ea E (4, 0))]) rfl ?_
          refine lv_iadd C.hx C.hb dX5_addTo_63 ?_
          obtain ⟨h23, hk⟩ := hk
          refine tc_ast C hH hS (hH.row _ hH.n0.1) (N := 64) (f := (s22.1 2 0)) rfl h23 (tc_ua_row E s22 0 x3.toNatClampNeg (((s7.1 2 0) x3.toNatClampNeg) + r21)) dX5_addTo_64 (fun s24 es24 H locs hH hS => ?_)
          have hk := hk s24 es24
          refine lv_aload_n C.hx C.hb dX5_addTo_65 rfl (lv_at hl 0 rfl) ?_
          refine tc_run (tc_rV (As := []) (rest := []) (L := (10, v)) (ci := 3) (fs := tc_vfs E s24 v) (q := (RX5, TX5, 12)) C (hH.v _ hv) rfl rfl (t_X5_goOn l hv hk) (cwV 0 C.hts (lw_V q473 q475 qs5 q60 q476) rfl rfl rfl (by decide +kernel) ⟨Nat.le_of_ble_eq_true rfl, Nat.le_of_ble_eq_true rfl⟩) hH hS rfl hl.1 rfl (lv_room (Nat.le_of_ble_eq_true rfl)) dX5_addTo_66 ⟨Nat.le_of_ble_eq_true rfl, Nat.le_of_ble_eq_true rfl⟩) hS (fun _ s26 H locs hk hH hS => ?_)
          refine W.eq (g2 := F0 m 69 ls []) rfl ?_
          obtain ⟨v27, ev27⟩ : ∃ y : Int32, y = x3 + 1 := ⟨_, rfl⟩
          have hk := hk v27 ev27
          refine lv_iinc (v := v27) (lv' := [(3, .int v27), (0, .ref (ea E (10, v))), (1, .ref (ea E (4, 0))), (2, .int x2), (4, .int x4)]) C.hx C.hb dX5_addTo_69 hl (k := 3) rfl (by rw [ev27]; rfl) (by decide) rfl (fun ls hl => ?_)
          refine lv_goto (tgt := 20) C.hx C.hb dX5_addTo_72 (by decide) ?_
          exact ih x2 v27 x4 s26 _ _ _ hk hH hS (lv_sub hl [1, 2, 3, 0, 4] rfl)
def wp_X5_addTo_2 (E : tc_E) (post : Unit → tc_S → Prop) (K : Int32 → Int32 → tc_S → Prop) (v : Nat) : Nat → Int32 → Int32 → tc_S → Prop
  | 0, _, _, _ => False
  | n2 + 1, x2, x3, s0 => ((x2 ≤ x3 → K x2 x3 s0) ∧ (¬ x2 ≤ x3 → (((s0.1 6 v 1) = 0 → K x2 x3 s0) ∧ (¬ (s0.1 6 v 1) = 0 → wp_X5_state E (fun r3 s4 => (∃ n20, wp_X5_addTo_20 E post (fun y28 y29 y30 s31 => wp_X5_addTo_2 E post K v n2 y28 y29 s31) v n20 x2 x3 r3 s4)) v s0))))
set_option maxHeartbeats 4000000 in
theorem tw_X5_addTo_2 {p : Program} {l : Launch} {e : Env} {s : State} {m : MethodId} {args : Array Value} {below : List Frame} {meth : Method} {c : Code} {E : tc_E} {post : Unit → tc_S → Prop} {K : Int32 → Int32 → tc_S → Prop}  {v : Nat} (C : tc_C p m c cX5_addTo 5 s args RX5 E) (hv : v < 4) (hr : meth.sig.returnType = none) (hlk : meth.locks = false) (hK : ∀ (x2 : Int32) (x3 : Int32) (σ' : tc_S) (H : Heap) (locs : List Loc) (ls : Array Slot), K x2 x3 σ' → tc_ok E σ' H → va_S (fun q => eb E ≤ q) s.heap H locs → lv_has ls 5 [(0, .ref (ea E (10, v))), (1, .ref (ea E (4, 0))), (2, .int x2), (3, .int x3)] → W p l e ({ frames := 4, cells := 0, slots := 0, locals := 141 } : Room) s m args below meth c H locs 0 0 (MQ below (tc_Qg E (fun _ : Unit => none) post) args s 0 0 (fun q => eb E ≤ q)) (F0 m 78 ls [])) :
    ∀ (n : Nat) (x2 : Int32) (x3 : Int32) (s0 : tc_S) (H : Heap) (locs : List Loc) (ls : Array Slot), wp_X5_addTo_2 E post K v n x2 x3 s0 → tc_ok E s0 H → va_S (fun q => eb E ≤ q) s.heap H locs → lv_has ls 5 [(0, .ref (ea E (10, v))), (1, .ref (ea E (4, 0))), (2, .int x2), (3, .int x3)] → W p l e ({ frames := 4, cells := 0, slots := 0, locals := 141 } : Room) s m args below meth c H locs 0 0 (MQ below (tc_Qg E (fun _ : Unit => none) post) args s 0 0 (fun q => eb E ≤ q)) (F0 m 2 ls []) := by
  intro n
  induction n with
  | zero =>
    intro x2 x3 s0 H locs ls hk
    exact hk.elim
  | succ n ih =>
    intro x2 x3 s0 H locs ls hk hH hS hl
    rw [wp_X5_addTo_2] at hk
    refine lv_iload_n C.hx C.hb dX5_addTo_2 rfl (lv_at hl 3 rfl) ?_
    refine lv_iload_n C.hx C.hb dX5_addTo_3 rfl (lv_at hl 2 rfl) ?_
    refine lv_icmp_ge (tgt := 78) C.hx C.hb dX5_addTo_4 (by decide) (fun c1 => ?_) (fun c1 => ?_)
    · have hk := hk.1 c1
      exact hK x2 x3 s0 _ _ _ hk hH hS (lv_sub hl [0, 1, 2, 3] rfl)
    · have hk := hk.2 c1
      refine lv_aload_n C.hx C.hb dX5_addTo_7 rfl (lv_at hl 0 rfl) ?_
      refine tc_get C hH (hH.v _ hv) (Cn := RX5) (T := TX5) (N := 12) (ci := 3) (fs := tc_vfs E s0 v) in_X5 rfl rfl 1 (by decide) (C.L q166) (fun _ h => h) (v := .int (s0.1 6 v 1)) rfl dX5_addTo_8 ?_
      refine lv_if_eq (tgt := 78) C.hx C.hb dX5_addTo_11 (by decide) (fun c2 => ?_) (fun c2 => ?_)
      · have hk := hk.1 c2
        exact hK x2 x3 s0 _ _ _ hk hH hS (lv_sub hl [0, 1, 2, 3] rfl)
      · have hk := hk.2 c2
        refine lv_aload_n C.hx C.hb dX5_addTo_14 rfl (lv_at hl 0 rfl) ?_
        refine tc_run (tc_rV (As := []) (rest := []) (L := (10, v)) (ci := 3) (fs := tc_vfs E s0 v) (q := (RX5, TX5, 12)) C (hH.v _ hv) rfl rfl (t_X5_state l hv hk) (cwV 0 C.hts (lw_V q681 q682 q683 q60 q684) rfl rfl rfl (by decide +kernel) ⟨Nat.le_of_ble_eq_true rfl, Nat.le_of_ble_eq_true rfl⟩) hH hS rfl hl.1 rfl (lv_room (Nat.le_of_ble_eq_true rfl)) dX5_addTo_15 ⟨Nat.le_of_ble_eq_true rfl, Nat.le_of_ble_eq_true rfl⟩) hS (fun r3 s4 H locs hk hH hS => ?_)
        refine W.eq (g2 := F0 m 18 ls [.int r3]) rfl ?_
        refine lv_istore (lv' := [(4, .int r3), (0, .ref (ea E (10, v))), (1, .ref (ea E (4, 0))), (2, .int x2), (3, .int x3)]) C.hx C.hb dX5_addTo_18 hl (by decide) rfl (fun ls hl => ?_)
        obtain ⟨n20, hk⟩ := hk
        refine tw_X5_addTo_20 C hv hr hlk (fun y28 y29 y30 s31 H locs ls hk hH hS hl => ?_) n20 x2 x3 r3 s4 _ _ _ hk hH hS (lv_sub hl [1, 2, 3, 4, 0] rfl)
        refine lv_goto (tgt := 2) C.hx C.hb dX5_addTo_75 (by decide) ?_
        exact ih y28 y29 s31 _ _ _ hk hH hS (lv_sub hl [0, 1, 2, 3] rfl)
def wp_X5_addTo (E : tc_E) (post : Unit → tc_S → Prop) (v : Nat) (p2 : Int32) (s0 : tc_S) : Prop := (∃ n2, wp_X5_addTo_2 E post (fun y32 y33 s34 => post () s34) v n2 p2 0 s0)
set_option maxHeartbeats 4000000 in
theorem t_X5_addTo (l : Launch) {E : tc_E} {v : Nat} (hv : v < 4) {post : Unit → tc_S → Prop} {p2 : Int32} {s0 : tc_S} (hk : wp_X5_addTo E post v p2 s0) : tc_M l yX5_addTo (ws_ yX5_addTo cX5_addTo 5 none) ({ frames := 4, cells := 0, slots := 0, locals := 141 } : Room) E [.ref (ea E (10, v)), .ref (ea E (4, 0)), .int p2] s0 (fun _ : Unit => none) post := by
  refine tc_start cX5_addTo 5 none RX5 (by decide) rfl rfl (Nat.le_of_ble_eq_true rfl) ?_
  intro p e s m args below meth c ls C hnm hr hlk hH hS hl
  have hl : lv_has ls 5 [(0, .ref (ea E (10, v))), (1, .ref (ea E (4, 0))), (2, .int p2)] := hl
  unfold wp_X5_addTo at hk
  refine lv_iconst (v := 0) C.hx C.hb dX5_addTo_0 (by decide) ?_
  refine lv_istore_n (lv' := [(3, .int 0), (0, .ref (ea E (10, v))), (1, .ref (ea E (4, 0))), (2, .int p2)]) C.hx C.hb dX5_addTo_1 rfl hl (by decide) rfl (fun ls hl => ?_)
  obtain ⟨n2, hk⟩ := hk
  refine tw_X5_addTo_2 C hv hr hlk (fun y32 y33 s34 H locs ls hk hH hS hl => ?_) n2 p2 0 s0 _ _ _ hk hH hS (lv_sub hl [1, 2, 3, 0] rfl)
  exact tc_vret () rfl C hr hlk hH hS hk dX5_addTo_78
/-! ToneGraph$Chorus.made(I)I -/
def wp_X4_made_4 (E : tc_E) (post : Int32 → tc_S → Prop) (K : Int32 → Int32 → Int32 → tc_S → Prop) : Nat → Int32 → Int32 → Int32 → tc_S → Prop
  | 0, _, _, _, _ => False
  | n4 + 1, x1, x2, x3, s0 => ((4 ≤ x3 → K x1 x2 x3 s0) ∧ (¬ 4 ≤ x3 → (vp_in x3 4 ∧ wp_X5_next E (fun r3 s4 => (∀ v5, v5 = (x2 + r3) → (∀ v6, v6 = x3 + 1 → wp_X4_made_4 E post K n4 x1 v5 v6 s4))) x3.toNatClampNeg s0)))
set_option maxHeartbeats 4000000 in
theorem tw_X4_made_4 {p : Program} {l : Launch} {e : Env} {s : State} {m : MethodId} {args : Array Value} {below : List Frame} {meth : Method} {c : Code} {E : tc_E} {post : Int32 → tc_S → Prop} {K : Int32 → Int32 → Int32 → tc_S → Prop}  (C : tc_C p m c cX4_made 4 s args RX4 E) (hr : meth.sig.returnType = (some .int)) (hlk : meth.locks = false) (hK : ∀ (x1 : Int32) (x2 : Int32) (x3 : Int32) (σ' : tc_S) (H : Heap) (locs : List Loc) (ls : Array Slot), K x1 x2 x3 σ' → tc_ok E σ' H → va_S (fun q => eb E ≤ q) s.heap H locs → lv_has ls 4 [(0, .ref (ea E (1, 0))), (1, .int x1), (2, .int x2), (3, .int x3)] → W p l e ({ frames := 5, cells := 0, slots := 0, locals := 162 } : Room) s m args below meth c H locs 0 0 (MQ below (tc_Qg E (fun r : Int32 => some (.int r)) post) args s 0 0 (fun q => eb E ≤ q)) (F0 m 27 ls [])) :
    ∀ (n : Nat) (x1 : Int32) (x2 : Int32) (x3 : Int32) (s0 : tc_S) (H : Heap) (locs : List Loc) (ls : Array Slot), wp_X4_made_4 E post K n x1 x2 x3 s0 → tc_ok E s0 H → va_S (fun q => eb E ≤ q) s.heap H locs → lv_has ls 4 [(0, .ref (ea E (1, 0))), (1, .int x1), (2, .int x2), (3, .int x3)] → W p l e ({ frames := 5, cells := 0, slots := 0, locals := 162 } : Room) s m args below meth c H locs 0 0 (MQ below (tc_Qg E (fun r : Int32 => some (.int r)) post) args s 0 0 (fun q => eb E ≤ q)) (F0 m 4 ls []) := by
  intro n
  induction n with
  | zero =>
    intro x1 x2 x3 s0 H locs ls hk
    exact hk.elim
  | succ n ih =>
    intro x1 x2 x3 s0 H locs ls hk hH hS hl
    rw [wp_X4_made_4] at hk
    refine lv_iload_n C.hx C.hb dX4_made_4 rfl (lv_at hl 3 rfl) ?_
    refine lv_iconst (v := 4) C.hx C.hb dX4_made_5 (by decide) ?_
    refine lv_icmp_ge (tgt := 27) C.hx C.hb dX4_made_6 (by decide) (fun c1 => ?_) (fun c1 => ?_)
    · have hk := hk.1 c1
      exact hK x1 x2 x3 s0 _ _ _ hk hH hS (lv_sub hl [0, 1, 2, 3] rfl)
    · have hk := hk.2 c1
      refine lv_iload_n C.hx C.hb dX4_made_9 rfl (lv_at hl 2 rfl) ?_
      refine lv_aload_n C.hx C.hb dX4_made_10 rfl (lv_at hl 0 rfl) ?_
      refine tc_get C hH (hH.n _ hH.n0.1) (Cn := RX4) (T := TX4) (N := 10) (ci := 2) (fs := tc_nfs E s0 0) in_X4 (tc_e0 hH.n0.2) rfl 9 (by decide) (C.L q208) (fun _ h => h) (v := .ref (ea E (9, 0))) (tc_x0_9 hH.n0.2) dX4_made_11 ?_
      refine lv_iload_n C.hx C.hb dX4_made_14 rfl (lv_at hl 3 rfl) ?_
      obtain ⟨h2, hk⟩ := hk
      refine tc_aaldV C hH h2 dX4_made_15 ?_
      refine tc_run (tc_rV (As := []) (rest := [.int x2]) (L := (10, x3.toNatClampNeg)) (ci := 3) (fs := tc_vfs E s0 x3.toNatClampNeg) (q := (RX5, TX5, 12)) C (hH.v _ (tc_lt h2)) rfl rfl (t_X5_next l (tc_lt h2) hk) (cwV 0 C.hts (lw_V q457 q458 q459 q60 q460) rfl rfl rfl (by decide +kernel) ⟨Nat.le_of_ble_eq_true rfl, Nat.le_of_ble_eq_true rfl⟩) hH hS rfl hl.1 rfl (lv_room (Nat.le_of_ble_eq_true rfl)) dX4_made_16 ⟨Nat.le_of_ble_eq_true rfl, Nat.le_of_ble_eq_true rfl⟩) hS (fun r3 s4 H locs hk hH hS => ?_)
      refine W.eq (g2 := F0 m 19 ls [.int r3, .int x2]) rfl ?_
      refine lv_iadd C.hx C.hb dX4_made_19 ?_
      refine lv_topi (fun v5 ev5 => ?_)
      have hk := hk v5 ev5
      refine lv_istore_n (lv' := [(2, .int v5), (0, .ref (ea E (1, 0))), (1, .int x1), (3, .int x3)]) C.hx C.hb dX4_made_20 rfl hl (by decide) rfl (fun ls hl => ?_)
      obtain ⟨v6, ev6⟩ : ∃ y : Int32, y = x3 + 1 := ⟨_, rfl⟩
      have hk := hk v6 ev6
      refine lv_iinc (v := v6) (lv' := [(3, .int v6), (2, .int v5), (0, .ref (ea E (1, 0))), (1, .int x1)]) C.hx C.hb dX4_made_21 hl (k := 3) rfl (by rw [ev6]; rfl) (by decide) rfl (fun ls hl => ?_)
      refine lv_goto (tgt := 4) C.hx C.hb dX4_made_24 (by decide) ?_
      exact ih x1 v5 v6 s4 _ _ _ hk hH hS (lv_sub hl [2, 3, 1, 0] rfl)
def wp_X4_made (E : tc_E) (post : Int32 → tc_S → Prop) (p1 : Int32) (s0 : tc_S) : Prop := (∃ n4, wp_X4_made_4 E post (fun y7 y8 y9 s10 => post y8 s10) n4 p1 p1 0 s0)
set_option maxHeartbeats 4000000 in
theorem t_X4_made (l : Launch) {E : tc_E} {post : Int32 → tc_S → Prop} {p1 : Int32} {s0 : tc_S} (hk : wp_X4_made E post p1 s0) : tc_M l yX4_made (ws_ yX4_made cX4_made 4 (some .int)) ({ frames := 5, cells := 0, slots := 0, locals := 162 } : Room) E [.ref (ea E (1, 0)), .int p1] s0 (fun r : Int32 => some (.int r)) post := by
  refine tc_start cX4_made 4 (some .int) RX4 (by decide) rfl rfl (Nat.le_of_ble_eq_true rfl) ?_
  intro p e s m args below meth c ls C hnm hr hlk hH hS hl
  have hl : lv_has ls 4 [(0, .ref (ea E (1, 0))), (1, .int p1)] := hl
  unfold wp_X4_made at hk
  refine lv_iload_n C.hx C.hb dX4_made_0 rfl (lv_at hl 1 rfl) ?_
  refine lv_istore_n (lv' := [(2, .int p1), (0, .ref (ea E (1, 0))), (1, .int p1)]) C.hx C.hb dX4_made_1 rfl hl (by decide) rfl (fun ls hl => ?_)
  refine lv_iconst (v := 0) C.hx C.hb dX4_made_2 (by decide) ?_
  refine lv_istore_n (lv' := [(3, .int 0), (2, .int p1), (0, .ref (ea E (1, 0))), (1, .int p1)]) C.hx C.hb dX4_made_3 rfl hl (by decide) rfl (fun ls hl => ?_)
  obtain ⟨n4, hk⟩ := hk
  refine tw_X4_made_4 C hr hlk (fun y7 y8 y9 s10 H locs ls hk hH hS hl => ?_) n4 p1 p1 0 s0 _ _ _ hk hH hS (lv_sub hl [2, 3, 1, 0] rfl)
  refine lv_iload_n C.hx C.hb dX4_made_27 rfl (lv_at hl 2 rfl) ?_
  exact tc_iret y8 rfl C hr hlk hH hS hk dX4_made_28
/-! ToneGraph$Chorus.fill(I)V -/
def wp_X4_fill_2 (E : tc_E) (post : Unit → tc_S → Prop) (K : Int32 → Int32 → tc_S → Prop) : Nat → Int32 → Int32 → tc_S → Prop
  | 0, _, _, _ => False
  | n2 + 1, x1, x2, s0 => ((x1 ≤ x2 → K x1 x2 s0) ∧ (¬ x1 ≤ x2 → (vp_in x2 64 ∧ (∀ s3 : tc_S, s3 = tI s0 2 0 x2.toNatClampNeg 0 → (∀ v4, v4 = x2 + 1 → wp_X4_fill_2 E post K n2 x1 v4 s3)))))
set_option maxHeartbeats 4000000 in
theorem tw_X4_fill_2 {p : Program} {l : Launch} {e : Env} {s : State} {m : MethodId} {args : Array Value} {below : List Frame} {meth : Method} {c : Code} {E : tc_E} {post : Unit → tc_S → Prop} {K : Int32 → Int32 → tc_S → Prop}  (C : tc_C p m c cX4_fill 3 s args RX4 E) (hr : meth.sig.returnType = none) (hlk : meth.locks = false) (hK : ∀ (x1 : Int32) (x2 : Int32) (σ' : tc_S) (H : Heap) (locs : List Loc) (ls : Array Slot), K x1 x2 σ' → tc_ok E σ' H → va_S (fun q => eb E ≤ q) s.heap H locs → lv_has ls 3 [(0, .ref (ea E (1, 0))), (1, .int x1), (2, .int x2)] → W p l e ({ frames := 5, cells := 0, slots := 0, locals := 165 } : Room) s m args below meth c H locs 0 0 (MQ below (tc_Qg E (fun _ : Unit => none) post) args s 0 0 (fun q => eb E ≤ q)) (F0 m 20 ls [])) :
    ∀ (n : Nat) (x1 : Int32) (x2 : Int32) (s0 : tc_S) (H : Heap) (locs : List Loc) (ls : Array Slot), wp_X4_fill_2 E post K n x1 x2 s0 → tc_ok E s0 H → va_S (fun q => eb E ≤ q) s.heap H locs → lv_has ls 3 [(0, .ref (ea E (1, 0))), (1, .int x1), (2, .int x2)] → W p l e ({ frames := 5, cells := 0, slots := 0, locals := 165 } : Room) s m args below meth c H locs 0 0 (MQ below (tc_Qg E (fun _ : Unit => none) post) args s 0 0 (fun q => eb E ≤ q)) (F0 m 2 ls []) := by
  intro n
  induction n with
  | zero =>
    intro x1 x2 s0 H locs ls hk
    exact hk.elim
  | succ n ih =>
    intro x1 x2 s0 H locs ls hk hH hS hl
    rw [wp_X4_fill_2] at hk
    refine lv_iload_n C.hx C.hb dX4_fill_2 rfl (lv_at hl 2 rfl) ?_
    refine lv_iload_n C.hx C.hb dX4_fill_3 rfl (lv_at hl 1 rfl) ?_
    refine lv_icmp_ge (tgt := 20) C.hx C.hb dX4_fill_4 (by decide) (fun c1 => ?_) (fun c1 => ?_)
    · have hk := hk.1 c1
      exact hK x1 x2 s0 _ _ _ hk hH hS (lv_sub hl [0, 1, 2] rfl)
    · have hk := hk.2 c1
      refine lv_aload_n C.hx C.hb dX4_fill_7 rfl (lv_at hl 0 rfl) ?_
      refine tc_getn C hH hH.n0.1 3 (by decide) rfl (C.N 18 rfl) (v := .ref (ea E (4, 0))) rfl dX4_fill_8 ?_
      refine lv_iload_n C.hx C.hb dX4_fill_11 rfl (lv_at hl 2 rfl) ?_
      refine lv_iconst (v := 0) C.hx C.hb dX4_fill_12 (by decide) ?_
      obtain ⟨h2, hk⟩ := hk
      refine tc_ast C hH hS (hH.row _ hH.n0.1) (N := 64) (f := (s0.1 2 0)) rfl h2 (tc_ua_row E s0 0 x2.toNatClampNeg 0) dX4_fill_13 (fun s3 es3 H locs hH hS => ?_)
      have hk := hk s3 es3
      obtain ⟨v4, ev4⟩ : ∃ y : Int32, y = x2 + 1 := ⟨_, rfl⟩
      have hk := hk v4 ev4
      refine lv_iinc (v := v4) (lv' := [(2, .int v4), (0, .ref (ea E (1, 0))), (1, .int x1)]) C.hx C.hb dX4_fill_14 hl (k := 2) rfl (by rw [ev4]; rfl) (by decide) rfl (fun ls hl => ?_)
      refine lv_goto (tgt := 2) C.hx C.hb dX4_fill_17 (by decide) ?_
      exact ih x1 v4 s3 _ _ _ hk hH hS (lv_sub hl [1, 2, 0] rfl)
def wp_X4_fill_22 (E : tc_E) (post : Unit → tc_S → Prop) (K : Int32 → Int32 → tc_S → Prop) : Nat → Int32 → Int32 → tc_S → Prop
  | 0, _, _, _ => False
  | n22 + 1, x1, x2, s0 => ((4 ≤ x2 → K x1 x2 s0) ∧ (¬ 4 ≤ x2 → (vp_in x2 4 ∧ wp_X5_addTo E (fun _ s11 => (∀ v12, v12 = x2 + 1 → wp_X4_fill_22 E post K n22 x1 v12 s11)) x2.toNatClampNeg x1 s0)))
set_option maxHeartbeats 4000000 in
theorem tw_X4_fill_22 {p : Program} {l : Launch} {e : Env} {s : State} {m : MethodId} {args : Array Value} {below : List Frame} {meth : Method} {c : Code} {E : tc_E} {post : Unit → tc_S → Prop} {K : Int32 → Int32 → tc_S → Prop}  (C : tc_C p m c cX4_fill 3 s args RX4 E) (hr : meth.sig.returnType = none) (hlk : meth.locks = false) (hK : ∀ (x1 : Int32) (x2 : Int32) (σ' : tc_S) (H : Heap) (locs : List Loc) (ls : Array Slot), K x1 x2 σ' → tc_ok E σ' H → va_S (fun q => eb E ≤ q) s.heap H locs → lv_has ls 3 [(0, .ref (ea E (1, 0))), (1, .int x1), (2, .int x2)] → W p l e ({ frames := 5, cells := 0, slots := 0, locals := 165 } : Room) s m args below meth c H locs 0 0 (MQ below (tc_Qg E (fun _ : Unit => none) post) args s 0 0 (fun q => eb E ≤ q)) (F0 m 47 ls [])) :
    ∀ (n : Nat) (x1 : Int32) (x2 : Int32) (s0 : tc_S) (H : Heap) (locs : List Loc) (ls : Array Slot), wp_X4_fill_22 E post K n x1 x2 s0 → tc_ok E s0 H → va_S (fun q => eb E ≤ q) s.heap H locs → lv_has ls 3 [(0, .ref (ea E (1, 0))), (1, .int x1), (2, .int x2)] → W p l e ({ frames := 5, cells := 0, slots := 0, locals := 165 } : Room) s m args below meth c H locs 0 0 (MQ below (tc_Qg E (fun _ : Unit => none) post) args s 0 0 (fun q => eb E ≤ q)) (F0 m 22 ls []) := by
  intro n
  induction n with
  | zero =>
    intro x1 x2 s0 H locs ls hk
    exact hk.elim
  | succ n ih =>
    intro x1 x2 s0 H locs ls hk hH hS hl
    rw [wp_X4_fill_22] at hk
    refine lv_iload_n C.hx C.hb dX4_fill_22 rfl (lv_at hl 2 rfl) ?_
    refine lv_iconst (v := 4) C.hx C.hb dX4_fill_23 (by decide) ?_
    refine lv_icmp_ge (tgt := 47) C.hx C.hb dX4_fill_24 (by decide) (fun c8 => ?_) (fun c8 => ?_)
    · have hk := hk.1 c8
      exact hK x1 x2 s0 _ _ _ hk hH hS (lv_sub hl [0, 1, 2] rfl)
    · have hk := hk.2 c8
      refine lv_aload_n C.hx C.hb dX4_fill_27 rfl (lv_at hl 0 rfl) ?_
      refine tc_get C hH (hH.n _ hH.n0.1) (Cn := RX4) (T := TX4) (N := 10) (ci := 2) (fs := tc_nfs E s0 0) in_X4 (tc_e0 hH.n0.2) rfl 9 (by decide) (C.L q208) (fun _ h => h) (v := .ref (ea E (9, 0))) (tc_x0_9 hH.n0.2) dX4_fill_28 ?_
      refine lv_iload_n C.hx C.hb dX4_fill_31 rfl (lv_at hl 2 rfl) ?_
      obtain ⟨h9, hk⟩ := hk
      refine tc_aaldV C hH h9 dX4_fill_32 ?_
      refine lv_aload_n C.hx C.hb dX4_fill_33 rfl (lv_at hl 0 rfl) ?_
      refine tc_getn C hH hH.n0.1 3 (by decide) rfl (C.N 18 rfl) (v := .ref (ea E (4, 0))) rfl dX4_fill_34 ?_
      refine lv_iload_n C.hx C.hb dX4_fill_37 rfl (lv_at hl 1 rfl) ?_
      refine tc_run (tc_rV (As := [.ref (ea E (4, 0)), .int x1]) (rest := []) (L := (10, x2.toNatClampNeg)) (ci := 3) (fs := tc_vfs E s0 x2.toNatClampNeg) (q := (RX5, TX5, 12)) C (hH.v _ (tc_lt h9)) rfl rfl (t_X5_addTo l (tc_lt h9) hk) (cwV 2 C.hts (lw_V q677 q678 q679 q60 q680) rfl rfl rfl (by decide +kernel) ⟨Nat.le_of_ble_eq_true rfl, Nat.le_of_ble_eq_true rfl⟩) hH hS rfl hl.1 rfl (lv_room (Nat.le_of_ble_eq_true rfl)) dX4_fill_38 ⟨Nat.le_of_ble_eq_true rfl, Nat.le_of_ble_eq_true rfl⟩) hS (fun _ s11 H locs hk hH hS => ?_)
      refine W.eq (g2 := F0 m 41 ls []) rfl ?_
      obtain ⟨v12, ev12⟩ : ∃ y : Int32, y = x2 + 1 := ⟨_, rfl⟩
      have hk := hk v12 ev12
      refine lv_iinc (v := v12) (lv' := [(2, .int v12), (0, .ref (ea E (1, 0))), (1, .int x1)]) C.hx C.hb dX4_fill_41 hl (k := 2) rfl (by rw [ev12]; rfl) (by decide) rfl (fun ls hl => ?_)
      refine lv_goto (tgt := 22) C.hx C.hb dX4_fill_44 (by decide) ?_
      exact ih x1 v12 s11 _ _ _ hk hH hS (lv_sub hl [1, 2, 0] rfl)
def wp_X4_fill (E : tc_E) (post : Unit → tc_S → Prop) (p1 : Int32) (s0 : tc_S) : Prop := (∃ n2, wp_X4_fill_2 E post (fun y5 y6 s7 => (∃ n22, wp_X4_fill_22 E post (fun y13 y14 s15 => (vp_in (y13 - 1) 64 ∧ (∀ s17 : tc_S, s17 = tI s15 1 0 0 ((s15.1 2 0) (y13 - 1).toNatClampNeg) → post () s17))) n22 y5 0 s7)) n2 p1 0 s0)
set_option maxHeartbeats 4000000 in
theorem t_X4_fill (l : Launch) {E : tc_E} {post : Unit → tc_S → Prop} {p1 : Int32} {s0 : tc_S} (hk : wp_X4_fill E post p1 s0) : tc_M l yX4_fill (ws_ yX4_fill cX4_fill 3 none) ({ frames := 5, cells := 0, slots := 0, locals := 165 } : Room) E [.ref (ea E (1, 0)), .int p1] s0 (fun _ : Unit => none) post := by
  refine tc_start cX4_fill 3 none RX4 (by decide) rfl rfl (Nat.le_of_ble_eq_true rfl) ?_
  intro p e s m args below meth c ls C hnm hr hlk hH hS hl
  have hl : lv_has ls 3 [(0, .ref (ea E (1, 0))), (1, .int p1)] := hl
  unfold wp_X4_fill at hk
  refine lv_iconst (v := 0) C.hx C.hb dX4_fill_0 (by decide) ?_
  refine lv_istore_n (lv' := [(2, .int 0), (0, .ref (ea E (1, 0))), (1, .int p1)]) C.hx C.hb dX4_fill_1 rfl hl (by decide) rfl (fun ls hl => ?_)
  obtain ⟨n2, hk⟩ := hk
  refine tw_X4_fill_2 C hr hlk (fun y5 y6 s7 H locs ls hk hH hS hl => ?_) n2 p1 0 s0 _ _ _ hk hH hS (lv_sub hl [1, 2, 0] rfl)
  refine lv_iconst (v := 0) C.hx C.hb dX4_fill_20 (by decide) ?_
  refine lv_istore_n (lv' := [(2, .int 0), (0, .ref (ea E (1, 0))), (1, .int y5)]) C.hx C.hb dX4_fill_21 rfl hl (by decide) rfl (fun ls hl => ?_)
  obtain ⟨n22, hk⟩ := hk
  refine tw_X4_fill_22 C hr hlk (fun y13 y14 s15 H locs ls hk hH hS hl => ?_) n22 y5 0 s7 _ _ _ hk hH hS (lv_sub hl [1, 2, 0] rfl)
  refine lv_aload_n C.hx C.hb dX4_fill_47 rfl (lv_at hl 0 rfl) ?_
  refine lv_aload_n C.hx C.hb dX4_fill_48 rfl (lv_at hl 0 rfl) ?_
  refine tc_getn C hH hH.n0.1 3 (by decide) rfl (C.N 18 rfl) (v := .ref (ea E (4, 0))) rfl dX4_fill_49 ?_
  refine lv_iload_n C.hx C.hb dX4_fill_52 rfl (lv_at hl 1 rfl) ?_
  refine lv_iconst (v := 1) C.hx C.hb dX4_fill_53 (by decide) ?_
  refine lv_isub C.hx C.hb dX4_fill_54 ?_
  obtain ⟨h16, hk⟩ := hk
  refine tc_ald C hH (hH.row _ hH.n0.1) (N := 64) (f := (s15.1 2 0)) rfl h16 dX4_fill_55 ?_
  refine tc_putn C hH hS hH.n0.1 4 (by decide) rfl (C.N 19 rfl) rfl (v := .int ((s15.1 2 0) (y13 - 1).toNatClampNeg)) rfl rfl (tc_un_now E s15 0 ((s15.1 2 0) (y13 - 1).toNatClampNeg)) dX4_fill_56 (fun s17 es17 H locs hH hS => ?_)
  have hk := hk s17 es17
  exact tc_vret () rfl C hr hlk hH hS hk dX4_fill_59
set_option maxHeartbeats 4000000 in
theorem r_X3_56 {p : Program} {l : Launch} {e : Env} {R : Room} {s : State} {m : MethodId} {args : Array Value} {below : List Frame} {meth : Method} {c : Code} {H : Heap} {locs : List Loc} {cells slots pc nL : Nat} {cc : ByteArray} {ls : Array Slot} {st rest : List Value} {E : tc_E} {S : tc_S} {i : Nat} {post : Int32 → tc_S → Prop} (C : tc_C p m c cc nL s args RX3 E) (hi : i < yn E) (hk : wp_X3_input E post i  S) (hH : tc_ok E S H) (hS : va_S (fun q => eb E ≤ q) s.heap H locs) (hn : ([] : List Value).length = 0) (hsize : ls.size = nL) (hst : st = [] ++ .ref (ea E (1, i)) :: rest) (hW : 2 * (F0 m pc ls st).monitorRoom + (rest.map fun v => v.category).sum ≤ 8) (hdg : decode cc pc = .ok (.invokevirtual 56, 3)) (hf : cells ≤ R.cells ∧ slots ≤ R.slots) (hR : 4 ≤ R.frames ∧ 87 ≤ R.locals) : va_Run p l e R s m args below meth c H locs cells slots 0 0 (F0 m pc ls st) rest (tc_Qg E (fun r : Int32 => some (.int r)) post (Value.ref (ea E (1, i)) :: []).toArray) (fun q => eb E ≤ q) := by
  rcases tc_kinds (hH.kd i hi) with h | h | h | h | h
  · exact tc_rU (q := (RX4, TX4, 10)) (owner := "ToneGraph$Node") C (hH.n _ hi) (tc_e0 h) rfl (t_X3_input l hi hk) (va_cwU 0 C.hts (lw_Uw q433 q435 q437 q434 q58 q441) rfl rfl rfl rfl (by decide +kernel) ⟨by have := hR.1; show 4 ≤ _; omega, by have := hR.2; show 87 ≤ _; omega⟩) hH hS hn hsize hst hW hdg hf
  · exact tc_rU (q := (RX7, TX7, 10)) (owner := "ToneGraph$Node") C (hH.n _ hi) (tc_e1 h) rfl (t_X3_input l hi hk) (va_cwU 0 C.hts (lw_Uw q433 q435 q440 q434 q58 q441) rfl rfl rfl rfl (by decide +kernel) ⟨by have := hR.1; show 4 ≤ _; omega, by have := hR.2; show 87 ≤ _; omega⟩) hH hS hn hsize hst hW hdg hf
  · exact tc_rU (q := (RX8, TX8, 11)) (owner := "ToneGraph$Node") C (hH.n _ hi) (tc_e2 h) rfl (t_X3_input l hi hk) (va_cwU 0 C.hts (lw_Uw q433 q435 q438 q434 q58 q441) rfl rfl rfl rfl (by decide +kernel) ⟨by have := hR.1; show 4 ≤ _; omega, by have := hR.2; show 87 ≤ _; omega⟩) hH hS hn hsize hst hW hdg hf
  · exact tc_rU (q := (RX9, TX9, 10)) (owner := "ToneGraph$Node") C (hH.n _ hi) (tc_e3 h) rfl (t_X3_input l hi hk) (va_cwU 0 C.hts (lw_Uw q433 q435 q439 q434 q58 q441) rfl rfl rfl rfl (by decide +kernel) ⟨by have := hR.1; show 4 ≤ _; omega, by have := hR.2; show 87 ≤ _; omega⟩) hH hS hn hsize hst hW hdg hf
  · exact tc_rU (q := (RX10, TX10, 10)) (owner := "ToneGraph$Node") C (hH.n _ hi) (tc_e4 h) rfl (t_X3_input l hi hk) (va_cwU 0 C.hts (lw_Uw q433 q435 q436 q434 q58 q441) rfl rfl rfl rfl (by decide +kernel) ⟨by have := hR.1; show 4 ≤ _; omega, by have := hR.2; show 87 ≤ _; omega⟩) hH hS hn hsize hst hW hdg hf
def wd_made (E : tc_E) (post : Int32 → tc_S → Prop) (i : Nat) (p1 : Int32) (S : tc_S) : Prop := (ykd E i = 0 → i = 0 ∧ wp_X4_made E post p1 S) ∧ (ykd E i = 1 → wp_X7_made E post i p1 S) ∧ (ykd E i = 2 → wp_X8_made E post i p1 S) ∧ (ykd E i = 3 → wp_X9_made E post i p1 S) ∧ (ykd E i = 4 → wp_X10_made E post i p1 S)
set_option maxHeartbeats 4000000 in
theorem r_X3_59 {p : Program} {l : Launch} {e : Env} {R : Room} {s : State} {m : MethodId} {args : Array Value} {below : List Frame} {meth : Method} {c : Code} {H : Heap} {locs : List Loc} {cells slots pc nL : Nat} {cc : ByteArray} {ls : Array Slot} {st rest : List Value} {E : tc_E} {S : tc_S} {i : Nat} {p1 : Int32} {post : Int32 → tc_S → Prop} (C : tc_C p m c cc nL s args RX3 E) (hi : i < yn E) (hk : wd_made E post i p1 S) (hH : tc_ok E S H) (hS : va_S (fun q => eb E ≤ q) s.heap H locs) (hn : ([.int p1] : List Value).length = 1) (hsize : ls.size = nL) (hst : st = [.int p1] ++ .ref (ea E (1, i)) :: rest) (hW : 2 * (F0 m pc ls st).monitorRoom + (rest.map fun v => v.category).sum ≤ 8) (hdg : decode cc pc = .ok (.invokevirtual 59, 3)) (hf : cells ≤ R.cells ∧ slots ≤ R.slots) (hR : 6 ≤ R.frames ∧ 185 ≤ R.locals) : va_Run p l e R s m args below meth c H locs cells slots 0 0 (F0 m pc ls st) rest (tc_Qg E (fun r : Int32 => some (.int r)) post (Value.ref (ea E (1, i)) :: [.int p1]).toArray) (fun q => eb E ≤ q) := by
  rcases tc_kinds (hH.kd i hi) with h | h | h | h | h
  · obtain ⟨hz, hk2⟩ := hk.1 h
    subst hz
    exact tc_rU (q := (RX4, TX4, 10)) (owner := "ToneGraph$Node") C (hH.n _ hi) (tc_e0 h) rfl (t_X4_made l  hk2) (va_cwA 1 C.hts (lw_Uw q445 q447 q454 q455 q59 q456) rfl rfl rfl (C.nw 75 rfl) (by decide +kernel) ⟨by have := hR.1; show 6 ≤ _; omega, by have := hR.2; show 185 ≤ _; omega⟩) hH hS hn hsize hst hW hdg hf
  · have hk := hk.2.1 h
    exact tc_rU (q := (RX7, TX7, 10)) (owner := "ToneGraph$Node") C (hH.n _ hi) (tc_e1 h) rfl (t_X7_made l hi h hk) (va_cwA 1 C.hts (lw_Uw q445 q447 q490 q491 q71 q492) rfl rfl rfl (C.nw 75 rfl) (by decide +kernel) ⟨by have := hR.1; show 1 ≤ _; omega, by have := hR.2; show 21 ≤ _; omega⟩) hH hS hn hsize hst hW hdg hf
  · have hk := hk.2.2.1 h
    exact tc_rU (q := (RX8, TX8, 11)) (owner := "ToneGraph$Node") C (hH.n _ hi) (tc_e2 h) rfl (t_X8_made l hi h hk) (va_cwA 1 C.hts (lw_Uw q445 q447 q480 q481 q74 q482) rfl rfl rfl (C.nw 75 rfl) (by decide +kernel) ⟨by have := hR.1; show 1 ≤ _; omega, by have := hR.2; show 21 ≤ _; omega⟩) hH hS hn hsize hst hW hdg hf
  · have hk := hk.2.2.2.1 h
    exact tc_rU (q := (RX9, TX9, 10)) (owner := "ToneGraph$Node") C (hH.n _ hi) (tc_e3 h) rfl (t_X9_made l hi h hk) (va_cwA 1 C.hts (lw_Uw q445 q447 q483 q484 q75 q485) rfl rfl rfl (C.nw 75 rfl) (by decide +kernel) ⟨by have := hR.1; show 3 ≤ _; omega, by have := hR.2; show 63 ≤ _; omega⟩) hH hS hn hsize hst hW hdg hf
  · have hk := hk.2.2.2.2 h
    exact tc_rU (q := (RX10, TX10, 10)) (owner := "ToneGraph$Node") C (hH.n _ hi) (tc_e4 h) rfl (t_X10_made l hi h hk) (va_cwA 1 C.hts (lw_Uw q445 q447 q448 q449 q76 q450) rfl rfl rfl (C.nw 75 rfl) (by decide +kernel) ⟨by have := hR.1; show 2 ≤ _; omega, by have := hR.2; show 44 ≤ _; omega⟩) hH hS hn hsize hst hW hdg hf
/-! ToneGraph$Node.tick()V -/
def wp_X3_tick (E : tc_E) (post : Unit → tc_S → Prop) (i : Nat) (s0 : tc_S) : Prop := wp_X3_input E (fun r1 s2 => wd_made E (fun r3 s4 => wp_X1_cut (fun r5 => (∀ s6 : tc_S, s6 = tI s4 1 i 0 r5 → post () s6)) r3) i r1 s2) i s0
set_option maxHeartbeats 4000000 in
theorem t_X3_tick (l : Launch) {E : tc_E} {i : Nat} (hi : i < yn E) {post : Unit → tc_S → Prop} {s0 : tc_S} (hk : wp_X3_tick E post i s0) : tc_M l yX3_tick (ws_ yX3_tick cX3_tick 1 none) ({ frames := 6, cells := 0, slots := 0, locals := 185 } : Room) E [.ref (ea E (1, i))] s0 (fun _ : Unit => none) post := by
  refine tc_start cX3_tick 1 none RX3 (by decide) rfl rfl (Nat.le_of_ble_eq_true rfl) ?_
  intro p e s m args below meth c ls C hnm hr hlk hH hS hl
  have hl : lv_has ls 1 [(0, .ref (ea E (1, i)))] := hl
  unfold wp_X3_tick at hk
  refine lv_aload_n C.hx C.hb dX3_tick_0 rfl (lv_at hl 0 rfl) ?_
  refine lv_aload_n C.hx C.hb dX3_tick_1 rfl (lv_at hl 0 rfl) ?_
  refine lv_aload_n C.hx C.hb dX3_tick_2 rfl (lv_at hl 0 rfl) ?_
  refine tc_run (r_X3_56 (rest := [.ref (ea E (1, i)), .ref (ea E (1, i))])  C hi hk hH hS rfl hl.1 rfl (lv_room (Nat.le_of_ble_eq_true rfl)) dX3_tick_3 ⟨Nat.le_of_ble_eq_true rfl, Nat.le_of_ble_eq_true rfl⟩ ⟨Nat.le_of_ble_eq_true rfl, Nat.le_of_ble_eq_true rfl⟩) hS (fun r1 s2 H locs hk hH hS => ?_)
  refine W.eq (g2 := F0 m 6 ls [.int r1, .ref (ea E (1, i)), .ref (ea E (1, i))]) rfl ?_
  refine tc_run (r_X3_59 (rest := [.ref (ea E (1, i))]) (p1 := r1)  C hi hk hH hS rfl hl.1 rfl (lv_room (Nat.le_of_ble_eq_true rfl)) dX3_tick_6 ⟨Nat.le_of_ble_eq_true rfl, Nat.le_of_ble_eq_true rfl⟩ ⟨Nat.le_of_ble_eq_true rfl, Nat.le_of_ble_eq_true rfl⟩) hS (fun r3 s4 H locs hk hH hS => ?_)
  refine W.eq (g2 := F0 m 9 ls [.int r3, .ref (ea E (1, i))]) rfl ?_
  refine gb_callN (As := [.int r3]) (rest := [.ref (ea E (1, i))]) C.1 (t_X1_cut l hk) ⟨va_cnB 1 C.hts (lw_meth q488) rfl rfl rfl (C.nw 31 rfl) (C.hts _ q53) (by decide +kernel) ⟨Nat.le_of_ble_eq_true rfl, Nat.le_of_ble_eq_true rfl⟩, C.hts _ q487, trivial⟩ rfl hl.1 rfl (lv_room (Nat.le_of_ble_eq_true rfl)) dX3_tick_9 ⟨Nat.le_of_ble_eq_true rfl, Nat.le_of_ble_eq_true rfl⟩ (fun r5 hk => ?_)
  refine tc_putn C hH hS hi 4 (by decide) rfl (C.L q220) rfl (v := .int r5) rfl rfl (tc_un_now E s4 i r5) dX3_tick_12 (fun s6 es6 H locs hH hS => ?_)
  have hk := hk s6 es6
  exact tc_vret () rfl C hr hlk hH hS hk dX3_tick_15
set_option maxHeartbeats 4000000 in
theorem r_X3_66 {p : Program} {l : Launch} {e : Env} {R : Room} {s : State} {m : MethodId} {args : Array Value} {below : List Frame} {meth : Method} {c : Code} {H : Heap} {locs : List Loc} {cells slots pc nL : Nat} {cc : ByteArray} {ls : Array Slot} {st rest : List Value} {E : tc_E} {S : tc_S} {i : Nat} {p1 : Int32} {post : Int32 → tc_S → Prop} (C : tc_C p m c cc nL s args RX3 E) (hi : i < yn E) (hk : wp_X3_input_2 E post i p1 S) (hH : tc_ok E S H) (hS : va_S (fun q => eb E ≤ q) s.heap H locs) (hn : ([.int p1] : List Value).length = 1) (hsize : ls.size = nL) (hst : st = [.int p1] ++ .ref (ea E (1, i)) :: rest) (hW : 2 * (F0 m pc ls st).monitorRoom + (rest.map fun v => v.category).sum ≤ 8) (hdg : decode cc pc = .ok (.invokevirtual 66, 3)) (hf : cells ≤ R.cells ∧ slots ≤ R.slots) (hR : 4 ≤ R.frames ∧ 88 ≤ R.locals) : va_Run p l e R s m args below meth c H locs cells slots 0 0 (F0 m pc ls st) rest (tc_Qg E (fun r : Int32 => some (.int r)) post (Value.ref (ea E (1, i)) :: [.int p1]).toArray) (fun q => eb E ≤ q) := by
  rcases tc_kinds (hH.kd i hi) with h | h | h | h | h
  · exact tc_rU (q := (RX4, TX4, 10)) (owner := "ToneGraph$Node") C (hH.n _ hi) (tc_e0 h) rfl (t_X3_input_2 l hi hk) (va_cwU 1 C.hts (lw_Uw q695 q697 q699 q696 q58 q703) rfl rfl rfl rfl (by decide +kernel) ⟨by have := hR.1; show 4 ≤ _; omega, by have := hR.2; show 88 ≤ _; omega⟩) hH hS hn hsize hst hW hdg hf
  · exact tc_rU (q := (RX7, TX7, 10)) (owner := "ToneGraph$Node") C (hH.n _ hi) (tc_e1 h) rfl (t_X3_input_2 l hi hk) (va_cwU 1 C.hts (lw_Uw q695 q697 q702 q696 q58 q703) rfl rfl rfl rfl (by decide +kernel) ⟨by have := hR.1; show 4 ≤ _; omega, by have := hR.2; show 88 ≤ _; omega⟩) hH hS hn hsize hst hW hdg hf
  · exact tc_rU (q := (RX8, TX8, 11)) (owner := "ToneGraph$Node") C (hH.n _ hi) (tc_e2 h) rfl (t_X3_input_2 l hi hk) (va_cwU 1 C.hts (lw_Uw q695 q697 q700 q696 q58 q703) rfl rfl rfl rfl (by decide +kernel) ⟨by have := hR.1; show 4 ≤ _; omega, by have := hR.2; show 88 ≤ _; omega⟩) hH hS hn hsize hst hW hdg hf
  · exact tc_rU (q := (RX9, TX9, 10)) (owner := "ToneGraph$Node") C (hH.n _ hi) (tc_e3 h) rfl (t_X3_input_2 l hi hk) (va_cwU 1 C.hts (lw_Uw q695 q697 q701 q696 q58 q703) rfl rfl rfl rfl (by decide +kernel) ⟨by have := hR.1; show 4 ≤ _; omega, by have := hR.2; show 88 ≤ _; omega⟩) hH hS hn hsize hst hW hdg hf
  · exact tc_rU (q := (RX10, TX10, 10)) (owner := "ToneGraph$Node") C (hH.n _ hi) (tc_e4 h) rfl (t_X3_input_2 l hi hk) (va_cwU 1 C.hts (lw_Uw q695 q697 q698 q696 q58 q703) rfl rfl rfl rfl (by decide +kernel) ⟨by have := hR.1; show 4 ≤ _; omega, by have := hR.2; show 88 ≤ _; omega⟩) hH hS hn hsize hst hW hdg hf
/-! ToneGraph$Node.fill(I)V -/
def wp_X3_fill_2 (E : tc_E) (post : Unit → tc_S → Prop) (K : Int32 → Int32 → tc_S → Prop) (i : Nat) : Nat → Int32 → Int32 → tc_S → Prop
  | 0, _, _, _ => False
  | n2 + 1, x1, x2, s0 => ((x1 ≤ x2 → K x1 x2 s0) ∧ (¬ x1 ≤ x2 → wp_X3_input_2 E (fun r2 s3 => wd_made E (fun r4 s5 => wp_X1_cut (fun r6 => (vp_in x2 64 ∧ (∀ s8 : tc_S, s8 = tI s5 2 i x2.toNatClampNeg r6 → (∀ v9, v9 = x2 + 1 → wp_X3_fill_2 E post K i n2 x1 v9 s8)))) r4) i r2 s3) i x2 s0))
set_option maxHeartbeats 4000000 in
theorem tw_X3_fill_2 {p : Program} {l : Launch} {e : Env} {s : State} {m : MethodId} {args : Array Value} {below : List Frame} {meth : Method} {c : Code} {E : tc_E} {post : Unit → tc_S → Prop} {K : Int32 → Int32 → tc_S → Prop}  {i : Nat} (C : tc_C p m c cX3_fill 3 s args RX3 E) (hi : i < yn E) (hr : meth.sig.returnType = none) (hlk : meth.locks = false) (hK : ∀ (x1 : Int32) (x2 : Int32) (σ' : tc_S) (H : Heap) (locs : List Loc) (ls : Array Slot), K x1 x2 σ' → tc_ok E σ' H → va_S (fun q => eb E ≤ q) s.heap H locs → lv_has ls 3 [(0, .ref (ea E (1, i))), (1, .int x1), (2, .int x2)] → W p l e ({ frames := 6, cells := 0, slots := 0, locals := 185 } : Room) s m args below meth c H locs 0 0 (MQ below (tc_Qg E (fun _ : Unit => none) post) args s 0 0 (fun q => eb E ≤ q)) (F0 m 31 ls [])) :
    ∀ (n : Nat) (x1 : Int32) (x2 : Int32) (s0 : tc_S) (H : Heap) (locs : List Loc) (ls : Array Slot), wp_X3_fill_2 E post K i n x1 x2 s0 → tc_ok E s0 H → va_S (fun q => eb E ≤ q) s.heap H locs → lv_has ls 3 [(0, .ref (ea E (1, i))), (1, .int x1), (2, .int x2)] → W p l e ({ frames := 6, cells := 0, slots := 0, locals := 185 } : Room) s m args below meth c H locs 0 0 (MQ below (tc_Qg E (fun _ : Unit => none) post) args s 0 0 (fun q => eb E ≤ q)) (F0 m 2 ls []) := by
  intro n
  induction n with
  | zero =>
    intro x1 x2 s0 H locs ls hk
    exact hk.elim
  | succ n ih =>
    intro x1 x2 s0 H locs ls hk hH hS hl
    rw [wp_X3_fill_2] at hk
    refine lv_iload_n C.hx C.hb dX3_fill_2 rfl (lv_at hl 2 rfl) ?_
    refine lv_iload_n C.hx C.hb dX3_fill_3 rfl (lv_at hl 1 rfl) ?_
    refine lv_icmp_ge (tgt := 31) C.hx C.hb dX3_fill_4 (by decide) (fun c1 => ?_) (fun c1 => ?_)
    · have hk := hk.1 c1
      exact hK x1 x2 s0 _ _ _ hk hH hS (lv_sub hl [0, 1, 2] rfl)
    · have hk := hk.2 c1
      refine lv_aload_n C.hx C.hb dX3_fill_7 rfl (lv_at hl 0 rfl) ?_
      refine tc_getn C hH hi 3 (by decide) rfl (C.L q216) (v := .ref (ea E (4, i))) rfl dX3_fill_8 ?_
      refine lv_iload_n C.hx C.hb dX3_fill_11 rfl (lv_at hl 2 rfl) ?_
      refine lv_aload_n C.hx C.hb dX3_fill_12 rfl (lv_at hl 0 rfl) ?_
      refine lv_aload_n C.hx C.hb dX3_fill_13 rfl (lv_at hl 0 rfl) ?_
      refine lv_iload_n C.hx C.hb dX3_fill_14 rfl (lv_at hl 2 rfl) ?_
      refine tc_run (r_X3_66 (rest := [.ref (ea E (1, i)), .int x2, .ref (ea E (4, i))]) (p1 := x2)  C hi hk hH hS rfl hl.1 rfl (lv_room (Nat.le_of_ble_eq_true rfl)) dX3_fill_15 ⟨Nat.le_of_ble_eq_true rfl, Nat.le_of_ble_eq_true rfl⟩ ⟨Nat.le_of_ble_eq_true rfl, Nat.le_of_ble_eq_true rfl⟩) hS (fun r2 s3 H locs hk hH hS => ?_)
      refine W.eq (g2 := F0 m 18 ls [.int r2, .ref (ea E (1, i)), .int x2, .ref (ea E (4, i))]) rfl ?_
      refine tc_run (r_X3_59 (rest := [.int x2, .ref (ea E (4, i))]) (p1 := r2)  C hi hk hH hS rfl hl.1 rfl (lv_room (Nat.le_of_ble_eq_true rfl)) dX3_fill_18 ⟨Nat.le_of_ble_eq_true rfl, Nat.le_of_ble_eq_true rfl⟩ ⟨Nat.le_of_ble_eq_true rfl, Nat.le_of_ble_eq_true rfl⟩) hS (fun r4 s5 H locs hk hH hS => ?_)
      refine W.eq (g2 := F0 m 21 ls [.int r4, .int x2, .ref (ea E (4, i))]) rfl ?_
      refine gb_callN (As := [.int r4]) (rest := [.int x2, .ref (ea E (4, i))]) C.1 (t_X1_cut l hk) ⟨va_cnB 1 C.hts (lw_meth q488) rfl rfl rfl (C.nw 31 rfl) (C.hts _ q53) (by decide +kernel) ⟨Nat.le_of_ble_eq_true rfl, Nat.le_of_ble_eq_true rfl⟩, C.hts _ q487, trivial⟩ rfl hl.1 rfl (lv_room (Nat.le_of_ble_eq_true rfl)) dX3_fill_21 ⟨Nat.le_of_ble_eq_true rfl, Nat.le_of_ble_eq_true rfl⟩ (fun r6 hk => ?_)
      obtain ⟨h7, hk⟩ := hk
      refine tc_ast C hH hS (hH.row _ hi) (N := 64) (f := (s5.1 2 i)) rfl h7 (tc_ua_row E s5 i x2.toNatClampNeg r6) dX3_fill_24 (fun s8 es8 H locs hH hS => ?_)
      have hk := hk s8 es8
      obtain ⟨v9, ev9⟩ : ∃ y : Int32, y = x2 + 1 := ⟨_, rfl⟩
      have hk := hk v9 ev9
      refine lv_iinc (v := v9) (lv' := [(2, .int v9), (0, .ref (ea E (1, i))), (1, .int x1)]) C.hx C.hb dX3_fill_25 hl (k := 2) rfl (by rw [ev9]; rfl) (by decide) rfl (fun ls hl => ?_)
      refine lv_goto (tgt := 2) C.hx C.hb dX3_fill_28 (by decide) ?_
      exact ih x1 v9 s8 _ _ _ hk hH hS (lv_sub hl [1, 2, 0] rfl)
def wp_X3_fill (E : tc_E) (post : Unit → tc_S → Prop) (i : Nat) (p1 : Int32) (s0 : tc_S) : Prop := (∃ n2, wp_X3_fill_2 E post (fun y10 y11 s12 => (vp_in (y10 - 1) 64 ∧ (∀ s14 : tc_S, s14 = tI s12 1 i 0 ((s12.1 2 i) (y10 - 1).toNatClampNeg) → post () s14))) i n2 p1 0 s0)
set_option maxHeartbeats 4000000 in
theorem t_X3_fill (l : Launch) {E : tc_E} {i : Nat} (hi : i < yn E) {post : Unit → tc_S → Prop} {p1 : Int32} {s0 : tc_S} (hk : wp_X3_fill E post i p1 s0) : tc_M l yX3_fill (ws_ yX3_fill cX3_fill 3 none) ({ frames := 6, cells := 0, slots := 0, locals := 185 } : Room) E [.ref (ea E (1, i)), .int p1] s0 (fun _ : Unit => none) post := by
  refine tc_start cX3_fill 3 none RX3 (by decide) rfl rfl (Nat.le_of_ble_eq_true rfl) ?_
  intro p e s m args below meth c ls C hnm hr hlk hH hS hl
  have hl : lv_has ls 3 [(0, .ref (ea E (1, i))), (1, .int p1)] := hl
  unfold wp_X3_fill at hk
  refine lv_iconst (v := 0) C.hx C.hb dX3_fill_0 (by decide) ?_
  refine lv_istore_n (lv' := [(2, .int 0), (0, .ref (ea E (1, i))), (1, .int p1)]) C.hx C.hb dX3_fill_1 rfl hl (by decide) rfl (fun ls hl => ?_)
  obtain ⟨n2, hk⟩ := hk
  refine tw_X3_fill_2 C hi hr hlk (fun y10 y11 s12 H locs ls hk hH hS hl => ?_) n2 p1 0 s0 _ _ _ hk hH hS (lv_sub hl [1, 2, 0] rfl)
  refine lv_aload_n C.hx C.hb dX3_fill_31 rfl (lv_at hl 0 rfl) ?_
  refine lv_aload_n C.hx C.hb dX3_fill_32 rfl (lv_at hl 0 rfl) ?_
  refine tc_getn C hH hi 3 (by decide) rfl (C.L q216) (v := .ref (ea E (4, i))) rfl dX3_fill_33 ?_
  refine lv_iload_n C.hx C.hb dX3_fill_36 rfl (lv_at hl 1 rfl) ?_
  refine lv_iconst (v := 1) C.hx C.hb dX3_fill_37 (by decide) ?_
  refine lv_isub C.hx C.hb dX3_fill_38 ?_
  obtain ⟨h13, hk⟩ := hk
  refine tc_ald C hH (hH.row _ hi) (N := 64) (f := (s12.1 2 i)) rfl h13 dX3_fill_39 ?_
  refine tc_putn C hH hS hi 4 (by decide) rfl (C.L q220) rfl (v := .int ((s12.1 2 i) (y10 - 1).toNatClampNeg)) rfl rfl (tc_un_now E s12 i ((s12.1 2 i) (y10 - 1).toNatClampNeg)) dX3_fill_40 (fun s14 es14 H locs hH hS => ?_)
  have hk := hk s14 es14
  exact tc_vret () rfl C hr hlk hH hS hk dX3_fill_43
def wd_isDelay (E : tc_E) (post : Int32 → tc_S → Prop) (i : Nat) (S : tc_S) : Prop := (ykd E i = 0 → wp_X3_isDelay E post i  S) ∧ (ykd E i = 1 → wp_X3_isDelay E post i  S) ∧ (ykd E i = 2 → wp_X8_isDelay E post i  S) ∧ (ykd E i = 3 → wp_X3_isDelay E post i  S) ∧ (ykd E i = 4 → wp_X3_isDelay E post i  S)
set_option maxHeartbeats 4000000 in
theorem r_X1_94 {p : Program} {l : Launch} {e : Env} {R : Room} {s : State} {m : MethodId} {args : Array Value} {below : List Frame} {meth : Method} {c : Code} {H : Heap} {locs : List Loc} {cells slots pc nL : Nat} {cc : ByteArray} {ls : Array Slot} {st rest : List Value} {E : tc_E} {S : tc_S} {i : Nat} {post : Int32 → tc_S → Prop} (C : tc_C p m c cc nL s args RX1 E) (hi : i < yn E) (hk : wd_isDelay E post i  S) (hH : tc_ok E S H) (hS : va_S (fun q => eb E ≤ q) s.heap H locs) (hn : ([] : List Value).length = 0) (hsize : ls.size = nL) (hst : st = [] ++ .ref (ea E (1, i)) :: rest) (hW : 2 * (F0 m pc ls st).monitorRoom + (rest.map fun v => v.category).sum ≤ 8) (hdg : decode cc pc = .ok (.invokevirtual 94, 3)) (hf : cells ≤ R.cells ∧ slots ≤ R.slots) (hR : 1 ≤ R.frames ∧ 20 ≤ R.locals) : va_Run p l e R s m args below meth c H locs cells slots 0 0 (F0 m pc ls st) rest (tc_Qg E (fun r : Int32 => some (.int r)) post (Value.ref (ea E (1, i)) :: []).toArray) (fun q => eb E ≤ q) := by
  rcases tc_kinds (hH.kd i hi) with h | h | h | h | h
  · have hk := hk.1 h
    exact tc_rU (q := (RX4, TX4, 10)) (owner := "ToneGraph$Node") C (hH.n _ hi) (tc_e0 h) rfl (t_X3_isDelay l hi hk) (va_cwU 0 C.hts (lw_Uw q383 q385 q387 q384 q58 q393) rfl rfl rfl rfl (by decide +kernel) ⟨by have := hR.1; show 1 ≤ _; omega, by have := hR.2; show 20 ≤ _; omega⟩) hH hS hn hsize hst hW hdg hf
  · have hk := hk.2.1 h
    exact tc_rU (q := (RX7, TX7, 10)) (owner := "ToneGraph$Node") C (hH.n _ hi) (tc_e1 h) rfl (t_X3_isDelay l hi hk) (va_cwU 0 C.hts (lw_Uw q383 q385 q392 q384 q58 q393) rfl rfl rfl rfl (by decide +kernel) ⟨by have := hR.1; show 1 ≤ _; omega, by have := hR.2; show 20 ≤ _; omega⟩) hH hS hn hsize hst hW hdg hf
  · have hk := hk.2.2.1 h
    exact tc_rU (q := (RX8, TX8, 11)) (owner := "ToneGraph$Node") C (hH.n _ hi) (tc_e2 h) rfl (t_X8_isDelay l hi h hk) (va_cwO 0 C.hts (lw_Ow q383 q385 q384 q388 q389 q74 q390) rfl rfl rfl q393 (by decide +kernel) ⟨by have := hR.1; show 1 ≤ _; omega, by have := hR.2; show 20 ≤ _; omega⟩) hH hS hn hsize hst hW hdg hf
  · have hk := hk.2.2.2.1 h
    exact tc_rU (q := (RX9, TX9, 10)) (owner := "ToneGraph$Node") C (hH.n _ hi) (tc_e3 h) rfl (t_X3_isDelay l hi hk) (va_cwU 0 C.hts (lw_Uw q383 q385 q391 q384 q58 q393) rfl rfl rfl rfl (by decide +kernel) ⟨by have := hR.1; show 1 ≤ _; omega, by have := hR.2; show 20 ≤ _; omega⟩) hH hS hn hsize hst hW hdg hf
  · have hk := hk.2.2.2.2 h
    exact tc_rU (q := (RX10, TX10, 10)) (owner := "ToneGraph$Node") C (hH.n _ hi) (tc_e4 h) rfl (t_X3_isDelay l hi hk) (va_cwU 0 C.hts (lw_Uw q383 q385 q386 q384 q58 q393) rfl rfl rfl rfl (by decide +kernel) ⟨by have := hR.1; show 1 ≤ _; omega, by have := hR.2; show 20 ≤ _; omega⟩) hH hS hn hsize hst hW hdg hf
/-! ToneGraph.longestBlock()I -/
def wp_X1_longestBlock_5 (E : tc_E) (post : Int32 → tc_S → Prop) (K : Int32 → Int32 → tc_S → Prop) : Nat → Int32 → Int32 → tc_S → Prop
  | 0, _, _, _ => False
  | n5 + 1, x1, x2, s0 => wp_J2_size E (fun r1 s2 => ((r1 ≤ x2 → K x1 x2 s2) ∧ (¬ r1 ≤ x2 → wp_J2_get E (fun r4 s5 => (r4 < yn E ∧ wd_isDelay E (fun r7 s8 => ((r7 = 0 → (∀ v10, v10 = x2 + 1 → wp_X1_longestBlock_5 E post K n5 x1 v10 s8)) ∧ (¬ r7 = 0 → (ykd E r4 = 2 ∧ (∀ r12, r12 = (if (yim E r4 0) < x1 then (yim E r4 0) else x1) → (∀ v13, v13 = x2 + 1 → wp_X1_longestBlock_5 E post K n5 r12 v13 s8)))))) r4 s5)) 0 x2 s2))) 0 s0
set_option maxHeartbeats 4000000 in
theorem tw_X1_longestBlock_5 {p : Program} {l : Launch} {e : Env} {s : State} {m : MethodId} {args : Array Value} {below : List Frame} {meth : Method} {c : Code} {E : tc_E} {post : Int32 → tc_S → Prop} {K : Int32 → Int32 → tc_S → Prop}  (C : tc_C p m c cX1_longestBlock 4 s args RX1 E) (hr : meth.sig.returnType = (some .int)) (hlk : meth.locks = false) (hK : ∀ (x1 : Int32) (x2 : Int32) (σ' : tc_S) (H : Heap) (locs : List Loc) (ls : Array Slot), K x1 x2 σ' → tc_ok E σ' H → va_S (fun q => eb E ≤ q) s.heap H locs → lv_has ls 4 [(0, .ref (ea E (0, 0))), (1, .int x1), (2, .int x2)] → W p l e ({ frames := 3, cells := 0, slots := 0, locals := 64 } : Room) s m args below meth c H locs 0 0 (MQ below (tc_Qg E (fun r : Int32 => some (.int r)) post) args s 0 0 (fun q => eb E ≤ q)) (F0 m 57 ls [])) :
    ∀ (n : Nat) (x1 : Int32) (x2 : Int32) (s0 : tc_S) (H : Heap) (locs : List Loc) (ls : Array Slot), wp_X1_longestBlock_5 E post K n x1 x2 s0 → tc_ok E s0 H → va_S (fun q => eb E ≤ q) s.heap H locs → lv_has ls 4 [(0, .ref (ea E (0, 0))), (1, .int x1), (2, .int x2)] → W p l e ({ frames := 3, cells := 0, slots := 0, locals := 64 } : Room) s m args below meth c H locs 0 0 (MQ below (tc_Qg E (fun r : Int32 => some (.int r)) post) args s 0 0 (fun q => eb E ≤ q)) (F0 m 5 ls []) := by
  intro n
  induction n with
  | zero =>
    intro x1 x2 s0 H locs ls hk
    exact hk.elim
  | succ n ih =>
    intro x1 x2 s0 H locs ls hk hH hS hl
    rw [wp_X1_longestBlock_5] at hk
    refine lv_iload_n C.hx C.hb dX1_longestBlock_5 rfl (lv_at hl 2 rfl) ?_
    refine lv_aload_n C.hx C.hb dX1_longestBlock_6 rfl (lv_at hl 0 rfl) ?_
    refine tc_get C hH hH.g (Cn := RX1) (T := TX1) (N := 13) (ci := 0) (fs := tc_gfs E s0) in_X1 rfl rfl 1 (by decide) (C.L q317) (fun _ h => h) (v := .ref (ea E (2, 0))) rfl dX1_longestBlock_7 ?_
    refine tc_run (tc_rV (As := []) (rest := [.int x2]) (L := (2, 0)) (ci := 9) (fs := tc_lfs E s0 0) (q := (RJ2, TJ2, 3)) C (hH.l _ (by omega)) rfl rfl (t_J2_size l (by omega) hk) (cwV 0 C.hts (lw_V q360 q361 q362 q56 q363) rfl rfl rfl (by decide +kernel) ⟨Nat.le_of_ble_eq_true rfl, Nat.le_of_ble_eq_true rfl⟩) hH hS rfl hl.1 rfl (lv_room (Nat.le_of_ble_eq_true rfl)) dX1_longestBlock_10 ⟨Nat.le_of_ble_eq_true rfl, Nat.le_of_ble_eq_true rfl⟩) hS (fun r1 s2 H locs hk hH hS => ?_)
    refine W.eq (g2 := F0 m 13 ls [.int r1, .int x2]) rfl ?_
    refine lv_icmp_ge (tgt := 57) C.hx C.hb dX1_longestBlock_13 (by decide) (fun c3 => ?_) (fun c3 => ?_)
    · have hk := hk.1 c3
      exact hK x1 x2 s2 _ _ _ hk hH hS (lv_sub hl [0, 1, 2] rfl)
    · have hk := hk.2 c3
      refine lv_aload_n C.hx C.hb dX1_longestBlock_16 rfl (lv_at hl 0 rfl) ?_
      refine tc_get C hH hH.g (Cn := RX1) (T := TX1) (N := 13) (ci := 0) (fs := tc_gfs E s2) in_X1 rfl rfl 1 (by decide) (C.L q317) (fun _ h => h) (v := .ref (ea E (2, 0))) rfl dX1_longestBlock_17 ?_
      refine lv_iload_n C.hx C.hb dX1_longestBlock_20 rfl (lv_at hl 2 rfl) ?_
      refine tc_run (tc_rV (As := [.int x2]) (rest := []) (L := (2, 0)) (ci := 9) (fs := tc_lfs E s2 0) (q := (RJ2, TJ2, 3)) C (hH.l _ (by omega)) rfl rfl (t_J2_get l (by omega) hH.gr0 hk) (cwV 1 C.hts (lw_V q368 q369 q370 q56 q371) rfl rfl rfl (by decide +kernel) ⟨Nat.le_of_ble_eq_true rfl, Nat.le_of_ble_eq_true rfl⟩) hH hS rfl hl.1 rfl (lv_room (Nat.le_of_ble_eq_true rfl)) dX1_longestBlock_21 ⟨Nat.le_of_ble_eq_true rfl, Nat.le_of_ble_eq_true rfl⟩) hS (fun r4 s5 H locs hk hH hS => ?_)
      refine W.eq (g2 := F0 m 24 ls [.ref (ea E (1, r4))]) rfl ?_
      obtain ⟨h6, hk⟩ := hk
      refine tc_castN C hH h6 q382 dX1_longestBlock_24 ?_
      refine lv_astore_n (lv' := [(3, .ref (ea E (1, r4))), (0, .ref (ea E (0, 0))), (1, .int x1), (2, .int x2)]) C.hx C.hb dX1_longestBlock_27 rfl hl (by decide) rfl (fun ls hl => ?_)
      refine lv_aload_n C.hx C.hb dX1_longestBlock_28 rfl (lv_at hl 0 rfl) ?_
      refine tc_run (r_X1_94 (rest := [])  C h6 hk hH hS rfl hl.1 rfl (lv_room (Nat.le_of_ble_eq_true rfl)) dX1_longestBlock_29 ⟨Nat.le_of_ble_eq_true rfl, Nat.le_of_ble_eq_true rfl⟩ ⟨Nat.le_of_ble_eq_true rfl, Nat.le_of_ble_eq_true rfl⟩) hS (fun r7 s8 H locs hk hH hS => ?_)
      refine W.eq (g2 := F0 m 32 ls [.int r7]) rfl ?_
      refine lv_if_eq (tgt := 49) C.hx C.hb dX1_longestBlock_32 (by decide) (fun c9 => ?_) (fun c9 => ?_)
      · have hk := hk.1 c9
        refine lv_iload_n C.hx C.hb dX1_longestBlock_49 rfl (lv_at hl 2 rfl) ?_
        refine lv_istore_n (lv' := [(1, .int x1), (3, .ref (ea E (1, r4))), (0, .ref (ea E (0, 0))), (2, .int x2)]) C.hx C.hb dX1_longestBlock_50 rfl hl (by decide) rfl (fun ls hl => ?_)
        obtain ⟨v10, ev10⟩ : ∃ y : Int32, y = x2 + 1 := ⟨_, rfl⟩
        have hk := hk v10 ev10
        refine lv_iinc (v := v10) (lv' := [(2, .int v10), (1, .int x1), (3, .ref (ea E (1, r4))), (0, .ref (ea E (0, 0)))]) C.hx C.hb dX1_longestBlock_51 hl (k := 3) rfl (by rw [ev10]; rfl) (by decide) rfl (fun ls hl => ?_)
        refine lv_goto (tgt := 5) C.hx C.hb dX1_longestBlock_54 (by decide) ?_
        exact ih x1 v10 s8 _ _ _ hk hH hS (lv_sub hl [3, 1, 0] rfl)
      · have hk := hk.2 c9
        refine lv_iload_n C.hx C.hb dX1_longestBlock_35 rfl (lv_at hl 2 rfl) ?_
        refine lv_aload_n C.hx C.hb dX1_longestBlock_36 rfl (lv_at hl 0 rfl) ?_
        obtain ⟨h11, hk⟩ := hk
        refine va_castS C.hx C.hb C.hown (C.hts _ q394) ((C.hK.1 5 _ rfl).2) (tc_recv (q := (RX8, TX8, 11)) C.hK hH (hH.n _ h6) (tc_e2 h11) rfl) dX1_longestBlock_37 ?_
        refine tc_get C hH (hH.n _ h6) (Cn := RX8) (T := TX8) (N := 11) (ci := 5) (fs := tc_nfs E s8 r4) in_X8 (tc_e2 h11) rfl 9 (by decide) (C.N 8 rfl) (fun _ h => h) (v := .int (yim E r4 0)) (tc_x2_9 h11) dX1_longestBlock_40 ?_
        refine va_mmin C.hx C.hb (C.hml.trans hl.1.symm) C.hown (C.hts _ q395) (C.hts _ q309) (C.hts _ q62) (C.hts _ q310) (Nat.le_of_ble_eq_true rfl) (Nat.le_of_ble_eq_true rfl) (Nat.le_of_ble_eq_true rfl) (Nat.le_of_ble_eq_true rfl) dX1_longestBlock_43 ?_
        refine lv_topi (fun r12 er12 => ?_)
        have hk := hk r12 er12
        refine lv_goto (tgt := 50) C.hx C.hb dX1_longestBlock_46 (by decide) ?_
        refine lv_istore_n (lv' := [(1, .int r12), (3, .ref (ea E (1, r4))), (0, .ref (ea E (0, 0))), (2, .int x2)]) C.hx C.hb dX1_longestBlock_50 rfl hl (by decide) rfl (fun ls hl => ?_)
        obtain ⟨v13, ev13⟩ : ∃ y : Int32, y = x2 + 1 := ⟨_, rfl⟩
        have hk := hk v13 ev13
        refine lv_iinc (v := v13) (lv' := [(2, .int v13), (1, .int r12), (3, .ref (ea E (1, r4))), (0, .ref (ea E (0, 0)))]) C.hx C.hb dX1_longestBlock_51 hl (k := 3) rfl (by rw [ev13]; rfl) (by decide) rfl (fun ls hl => ?_)
        refine lv_goto (tgt := 5) C.hx C.hb dX1_longestBlock_54 (by decide) ?_
        exact ih r12 v13 s8 _ _ _ hk hH hS (lv_sub hl [3, 1, 0] rfl)
def wp_X1_longestBlock (E : tc_E) (post : Int32 → tc_S → Prop) (s0 : tc_S) : Prop := (∃ n5, wp_X1_longestBlock_5 E post (fun y14 y15 s16 => post y14 s16) n5 64 0 s0)
set_option maxHeartbeats 4000000 in
theorem t_X1_longestBlock (l : Launch) {E : tc_E} {post : Int32 → tc_S → Prop} {s0 : tc_S} (hk : wp_X1_longestBlock E post  s0) : tc_M l yX1_longestBlock (ws_ yX1_longestBlock cX1_longestBlock 4 (some .int)) ({ frames := 3, cells := 0, slots := 0, locals := 64 } : Room) E [.ref (ea E (0, 0))] s0 (fun r : Int32 => some (.int r)) post := by
  refine tc_start cX1_longestBlock 4 (some .int) RX1 (by decide) rfl rfl (Nat.le_of_ble_eq_true rfl) ?_
  intro p e s m args below meth c ls C hnm hr hlk hH hS hl
  have hl : lv_has ls 4 [(0, .ref (ea E (0, 0)))] := hl
  unfold wp_X1_longestBlock at hk
  refine lv_bipush (v := 64) C.hx C.hb dX1_longestBlock_0 (by decide) ?_
  refine lv_istore_n (lv' := [(1, .int 64), (0, .ref (ea E (0, 0)))]) C.hx C.hb dX1_longestBlock_2 rfl hl (by decide) rfl (fun ls hl => ?_)
  refine lv_iconst (v := 0) C.hx C.hb dX1_longestBlock_3 (by decide) ?_
  refine lv_istore_n (lv' := [(2, .int 0), (1, .int 64), (0, .ref (ea E (0, 0)))]) C.hx C.hb dX1_longestBlock_4 rfl hl (by decide) rfl (fun ls hl => ?_)
  obtain ⟨n5, hk⟩ := hk
  refine tw_X1_longestBlock_5 C hr hlk (fun y14 y15 s16 H locs ls hk hH hS hl => ?_) n5 64 0 s0 _ _ _ hk hH hS (lv_sub hl [2, 1, 0] rfl)
  refine lv_iload_n C.hx C.hb dX1_longestBlock_57 rfl (lv_at hl 1 rfl) ?_
  exact tc_iret y14 rfl C hr hlk hH hS hk dX1_longestBlock_58
set_option maxHeartbeats 4000000 in
theorem r_X1_270 {p : Program} {l : Launch} {e : Env} {R : Room} {s : State} {m : MethodId} {args : Array Value} {below : List Frame} {meth : Method} {c : Code} {H : Heap} {locs : List Loc} {cells slots pc nL : Nat} {cc : ByteArray} {ls : Array Slot} {st rest : List Value} {E : tc_E} {S : tc_S} {i : Nat} {post : Unit → tc_S → Prop} (C : tc_C p m c cc nL s args RX1 E) (hi : i < yn E) (hk : wp_X3_tick E post i  S) (hH : tc_ok E S H) (hS : va_S (fun q => eb E ≤ q) s.heap H locs) (hn : ([] : List Value).length = 0) (hsize : ls.size = nL) (hst : st = [] ++ .ref (ea E (1, i)) :: rest) (hW : 2 * (F0 m pc ls st).monitorRoom + (rest.map fun v => v.category).sum ≤ 8) (hdg : decode cc pc = .ok (.invokevirtual 270, 3)) (hf : cells ≤ R.cells ∧ slots ≤ R.slots) (hR : 7 ≤ R.frames ∧ 205 ≤ R.locals) : va_Run p l e R s m args below meth c H locs cells slots 0 0 (F0 m pc ls st) rest (tc_Qg E (fun _ : Unit => none) post (Value.ref (ea E (1, i)) :: []).toArray) (fun q => eb E ≤ q) := by
  rcases tc_kinds (hH.kd i hi) with h | h | h | h | h
  · exact tc_rU (q := (RX4, TX4, 10)) (owner := "ToneGraph$Node") C (hH.n _ hi) (tc_e0 h) rfl (t_X3_tick l hi hk) (va_cwU 0 C.hts (lw_Uw q424 q426 q428 q425 q58 q432) rfl rfl rfl rfl (by decide +kernel) ⟨by have := hR.1; show 7 ≤ _; omega, by have := hR.2; show 205 ≤ _; omega⟩) hH hS hn hsize hst hW hdg hf
  · exact tc_rU (q := (RX7, TX7, 10)) (owner := "ToneGraph$Node") C (hH.n _ hi) (tc_e1 h) rfl (t_X3_tick l hi hk) (va_cwU 0 C.hts (lw_Uw q424 q426 q431 q425 q58 q432) rfl rfl rfl rfl (by decide +kernel) ⟨by have := hR.1; show 7 ≤ _; omega, by have := hR.2; show 205 ≤ _; omega⟩) hH hS hn hsize hst hW hdg hf
  · exact tc_rU (q := (RX8, TX8, 11)) (owner := "ToneGraph$Node") C (hH.n _ hi) (tc_e2 h) rfl (t_X3_tick l hi hk) (va_cwU 0 C.hts (lw_Uw q424 q426 q429 q425 q58 q432) rfl rfl rfl rfl (by decide +kernel) ⟨by have := hR.1; show 7 ≤ _; omega, by have := hR.2; show 205 ≤ _; omega⟩) hH hS hn hsize hst hW hdg hf
  · exact tc_rU (q := (RX9, TX9, 10)) (owner := "ToneGraph$Node") C (hH.n _ hi) (tc_e3 h) rfl (t_X3_tick l hi hk) (va_cwU 0 C.hts (lw_Uw q424 q426 q430 q425 q58 q432) rfl rfl rfl rfl (by decide +kernel) ⟨by have := hR.1; show 7 ≤ _; omega, by have := hR.2; show 205 ≤ _; omega⟩) hH hS hn hsize hst hW hdg hf
  · exact tc_rU (q := (RX10, TX10, 10)) (owner := "ToneGraph$Node") C (hH.n _ hi) (tc_e4 h) rfl (t_X3_tick l hi hk) (va_cwU 0 C.hts (lw_Uw q424 q426 q427 q425 q58 q432) rfl rfl rfl rfl (by decide +kernel) ⟨by have := hR.1; show 7 ≤ _; omega, by have := hR.2; show 205 ≤ _; omega⟩) hH hS hn hsize hst hW hdg hf
def wd_takeIn (E : tc_E) (post : Unit → tc_S → Prop) (i : Nat) (S : tc_S) : Prop := (ykd E i = 0 → wp_X3_takeIn E post i  S) ∧ (ykd E i = 1 → wp_X3_takeIn E post i  S) ∧ (ykd E i = 2 → wp_X8_takeIn E post i  S) ∧ (ykd E i = 3 → wp_X3_takeIn E post i  S) ∧ (ykd E i = 4 → wp_X3_takeIn E post i  S)
set_option maxHeartbeats 4000000 in
theorem r_X1_273 {p : Program} {l : Launch} {e : Env} {R : Room} {s : State} {m : MethodId} {args : Array Value} {below : List Frame} {meth : Method} {c : Code} {H : Heap} {locs : List Loc} {cells slots pc nL : Nat} {cc : ByteArray} {ls : Array Slot} {st rest : List Value} {E : tc_E} {S : tc_S} {i : Nat} {post : Unit → tc_S → Prop} (C : tc_C p m c cc nL s args RX1 E) (hi : i < yn E) (hk : wd_takeIn E post i  S) (hH : tc_ok E S H) (hS : va_S (fun q => eb E ≤ q) s.heap H locs) (hn : ([] : List Value).length = 0) (hsize : ls.size = nL) (hst : st = [] ++ .ref (ea E (1, i)) :: rest) (hW : 2 * (F0 m pc ls st).monitorRoom + (rest.map fun v => v.category).sum ≤ 8) (hdg : decode cc pc = .ok (.invokevirtual 273, 3)) (hf : cells ≤ R.cells ∧ slots ≤ R.slots) (hR : 5 ≤ R.frames ∧ 107 ≤ R.locals) : va_Run p l e R s m args below meth c H locs cells slots 0 0 (F0 m pc ls st) rest (tc_Qg E (fun _ : Unit => none) post (Value.ref (ea E (1, i)) :: []).toArray) (fun q => eb E ≤ q) := by
  rcases tc_kinds (hH.kd i hi) with h | h | h | h | h
  · have hk := hk.1 h
    exact tc_rU (q := (RX4, TX4, 10)) (owner := "ToneGraph$Node") C (hH.n _ hi) (tc_e0 h) rfl (t_X3_takeIn l hi hk) (va_cwU 0 C.hts (lw_Uw q494 q496 q498 q495 q58 q514) rfl rfl rfl rfl (by decide +kernel) ⟨by have := hR.1; show 1 ≤ _; omega, by have := hR.2; show 20 ≤ _; omega⟩) hH hS hn hsize hst hW hdg hf
  · have hk := hk.2.1 h
    exact tc_rU (q := (RX7, TX7, 10)) (owner := "ToneGraph$Node") C (hH.n _ hi) (tc_e1 h) rfl (t_X3_takeIn l hi hk) (va_cwU 0 C.hts (lw_Uw q494 q496 q513 q495 q58 q514) rfl rfl rfl rfl (by decide +kernel) ⟨by have := hR.1; show 1 ≤ _; omega, by have := hR.2; show 20 ≤ _; omega⟩) hH hS hn hsize hst hW hdg hf
  · have hk := hk.2.2.1 h
    exact tc_rU (q := (RX8, TX8, 11)) (owner := "ToneGraph$Node") C (hH.n _ hi) (tc_e2 h) rfl (t_X8_takeIn l hi h hk) (va_cwO 0 C.hts (lw_Ow q494 q496 q495 q499 q500 q74 q501) rfl rfl rfl q514 (by decide +kernel) ⟨by have := hR.1; show 5 ≤ _; omega, by have := hR.2; show 107 ≤ _; omega⟩) hH hS hn hsize hst hW hdg hf
  · have hk := hk.2.2.2.1 h
    exact tc_rU (q := (RX9, TX9, 10)) (owner := "ToneGraph$Node") C (hH.n _ hi) (tc_e3 h) rfl (t_X3_takeIn l hi hk) (va_cwU 0 C.hts (lw_Uw q494 q496 q512 q495 q58 q514) rfl rfl rfl rfl (by decide +kernel) ⟨by have := hR.1; show 1 ≤ _; omega, by have := hR.2; show 20 ≤ _; omega⟩) hH hS hn hsize hst hW hdg hf
  · have hk := hk.2.2.2.2 h
    exact tc_rU (q := (RX10, TX10, 10)) (owner := "ToneGraph$Node") C (hH.n _ hi) (tc_e4 h) rfl (t_X3_takeIn l hi hk) (va_cwU 0 C.hts (lw_Uw q494 q496 q497 q495 q58 q514) rfl rfl rfl rfl (by decide +kernel) ⟨by have := hR.1; show 1 ≤ _; omega, by have := hR.2; show 20 ≤ _; omega⟩) hH hS hn hsize hst hW hdg hf
/-! ToneGraph.tick()V -/
def wp_X1_tick_2 (E : tc_E) (post : Unit → tc_S → Prop) (K : Int32 → tc_S → Prop) : Nat → Int32 → tc_S → Prop
  | 0, _, _ => False
  | n2 + 1, x1, s0 => wp_J2_size E (fun r1 s2 => ((r1 ≤ x1 → K x1 s2) ∧ (¬ r1 ≤ x1 → wp_J2_get E (fun r4 s5 => (r4 < yn E ∧ wp_X3_tick E (fun _ s8 => (∀ v9, v9 = x1 + 1 → wp_X1_tick_2 E post K n2 v9 s8)) r4 s5)) 1 x1 s2))) 1 s0
set_option maxHeartbeats 4000000 in
theorem tw_X1_tick_2 {p : Program} {l : Launch} {e : Env} {s : State} {m : MethodId} {args : Array Value} {below : List Frame} {meth : Method} {c : Code} {E : tc_E} {post : Unit → tc_S → Prop} {K : Int32 → tc_S → Prop}  (C : tc_C p m c cX1_tick 2 s args RX1 E) (hr : meth.sig.returnType = none) (hlk : meth.locks = false) (hK : ∀ (x1 : Int32) (σ' : tc_S) (H : Heap) (locs : List Loc) (ls : Array Slot), K x1 σ' → tc_ok E σ' H → va_S (fun q => eb E ≤ q) s.heap H locs → lv_has ls 2 [(0, .ref (ea E (0, 0))), (1, .int x1)] → W p l e ({ frames := 7, cells := 0, slots := 0, locals := 205 } : Room) s m args below meth c H locs 0 0 (MQ below (tc_Qg E (fun _ : Unit => none) post) args s 0 0 (fun q => eb E ≤ q)) (F0 m 33 ls [])) :
    ∀ (n : Nat) (x1 : Int32) (s0 : tc_S) (H : Heap) (locs : List Loc) (ls : Array Slot), wp_X1_tick_2 E post K n x1 s0 → tc_ok E s0 H → va_S (fun q => eb E ≤ q) s.heap H locs → lv_has ls 2 [(0, .ref (ea E (0, 0))), (1, .int x1)] → W p l e ({ frames := 7, cells := 0, slots := 0, locals := 205 } : Room) s m args below meth c H locs 0 0 (MQ below (tc_Qg E (fun _ : Unit => none) post) args s 0 0 (fun q => eb E ≤ q)) (F0 m 2 ls []) := by
  intro n
  induction n with
  | zero =>
    intro x1 s0 H locs ls hk
    exact hk.elim
  | succ n ih =>
    intro x1 s0 H locs ls hk hH hS hl
    rw [wp_X1_tick_2] at hk
    refine lv_iload_n C.hx C.hb dX1_tick_2 rfl (lv_at hl 1 rfl) ?_
    refine lv_aload_n C.hx C.hb dX1_tick_3 rfl (lv_at hl 0 rfl) ?_
    refine tc_get C hH hH.g (Cn := RX1) (T := TX1) (N := 13) (ci := 0) (fs := tc_gfs E s0) in_X1 rfl rfl 2 (by decide) (C.L q318) (fun _ h => h) (v := .ref (ea E (2, 1))) rfl dX1_tick_4 ?_
    refine tc_run (tc_rV (As := []) (rest := [.int x1]) (L := (2, 1)) (ci := 9) (fs := tc_lfs E s0 1) (q := (RJ2, TJ2, 3)) C (hH.l _ (by omega)) rfl rfl (t_J2_size l (by omega) hk) (cwV 0 C.hts (lw_V q360 q361 q362 q56 q363) rfl rfl rfl (by decide +kernel) ⟨Nat.le_of_ble_eq_true rfl, Nat.le_of_ble_eq_true rfl⟩) hH hS rfl hl.1 rfl (lv_room (Nat.le_of_ble_eq_true rfl)) dX1_tick_7 ⟨Nat.le_of_ble_eq_true rfl, Nat.le_of_ble_eq_true rfl⟩) hS (fun r1 s2 H locs hk hH hS => ?_)
    refine W.eq (g2 := F0 m 10 ls [.int r1, .int x1]) rfl ?_
    refine lv_icmp_ge (tgt := 33) C.hx C.hb dX1_tick_10 (by decide) (fun c3 => ?_) (fun c3 => ?_)
    · have hk := hk.1 c3
      exact hK x1 s2 _ _ _ hk hH hS (lv_sub hl [0, 1] rfl)
    · have hk := hk.2 c3
      refine lv_aload_n C.hx C.hb dX1_tick_13 rfl (lv_at hl 0 rfl) ?_
      refine tc_get C hH hH.g (Cn := RX1) (T := TX1) (N := 13) (ci := 0) (fs := tc_gfs E s2) in_X1 rfl rfl 2 (by decide) (C.L q318) (fun _ h => h) (v := .ref (ea E (2, 1))) rfl dX1_tick_14 ?_
      refine lv_iload_n C.hx C.hb dX1_tick_17 rfl (lv_at hl 1 rfl) ?_
      refine tc_run (tc_rV (As := [.int x1]) (rest := []) (L := (2, 1)) (ci := 9) (fs := tc_lfs E s2 1) (q := (RJ2, TJ2, 3)) C (hH.l _ (by omega)) rfl rfl (t_J2_get l (by omega) hH.gr1 hk) (cwV 1 C.hts (lw_V q368 q369 q370 q56 q371) rfl rfl rfl (by decide +kernel) ⟨Nat.le_of_ble_eq_true rfl, Nat.le_of_ble_eq_true rfl⟩) hH hS rfl hl.1 rfl (lv_room (Nat.le_of_ble_eq_true rfl)) dX1_tick_18 ⟨Nat.le_of_ble_eq_true rfl, Nat.le_of_ble_eq_true rfl⟩) hS (fun r4 s5 H locs hk hH hS => ?_)
      refine W.eq (g2 := F0 m 21 ls [.ref (ea E (1, r4))]) rfl ?_
      obtain ⟨h6, hk⟩ := hk
      refine tc_castN C hH h6 q382 dX1_tick_21 ?_
      refine tc_run (r_X1_270 (rest := [])  C h6 hk hH hS rfl hl.1 rfl (lv_room (Nat.le_of_ble_eq_true rfl)) dX1_tick_24 ⟨Nat.le_of_ble_eq_true rfl, Nat.le_of_ble_eq_true rfl⟩ ⟨Nat.le_of_ble_eq_true rfl, Nat.le_of_ble_eq_true rfl⟩) hS (fun _ s8 H locs hk hH hS => ?_)
      refine W.eq (g2 := F0 m 27 ls []) rfl ?_
      obtain ⟨v9, ev9⟩ : ∃ y : Int32, y = x1 + 1 := ⟨_, rfl⟩
      have hk := hk v9 ev9
      refine lv_iinc (v := v9) (lv' := [(1, .int v9), (0, .ref (ea E (0, 0)))]) C.hx C.hb dX1_tick_27 hl (k := 1) rfl (by rw [ev9]; rfl) (by decide) rfl (fun ls hl => ?_)
      refine lv_goto (tgt := 2) C.hx C.hb dX1_tick_30 (by decide) ?_
      exact ih v9 s8 _ _ _ hk hH hS (lv_sub hl [1, 0] rfl)
def wp_X1_tick_35 (E : tc_E) (post : Unit → tc_S → Prop) (K : Int32 → tc_S → Prop) : Nat → Int32 → tc_S → Prop
  | 0, _, _ => False
  | n35 + 1, x1, s0 => wp_J2_size E (fun r12 s13 => ((r12 ≤ x1 → K x1 s13) ∧ (¬ r12 ≤ x1 → wp_J2_get E (fun r15 s16 => (r15 < yn E ∧ wd_takeIn E (fun _ s19 => (∀ v20, v20 = x1 + 1 → wp_X1_tick_35 E post K n35 v20 s19)) r15 s16)) 1 x1 s13))) 1 s0
set_option maxHeartbeats 4000000 in
theorem tw_X1_tick_35 {p : Program} {l : Launch} {e : Env} {s : State} {m : MethodId} {args : Array Value} {below : List Frame} {meth : Method} {c : Code} {E : tc_E} {post : Unit → tc_S → Prop} {K : Int32 → tc_S → Prop}  (C : tc_C p m c cX1_tick 2 s args RX1 E) (hr : meth.sig.returnType = none) (hlk : meth.locks = false) (hK : ∀ (x1 : Int32) (σ' : tc_S) (H : Heap) (locs : List Loc) (ls : Array Slot), K x1 σ' → tc_ok E σ' H → va_S (fun q => eb E ≤ q) s.heap H locs → lv_has ls 2 [(0, .ref (ea E (0, 0))), (1, .int x1)] → W p l e ({ frames := 7, cells := 0, slots := 0, locals := 205 } : Room) s m args below meth c H locs 0 0 (MQ below (tc_Qg E (fun _ : Unit => none) post) args s 0 0 (fun q => eb E ≤ q)) (F0 m 66 ls [])) :
    ∀ (n : Nat) (x1 : Int32) (s0 : tc_S) (H : Heap) (locs : List Loc) (ls : Array Slot), wp_X1_tick_35 E post K n x1 s0 → tc_ok E s0 H → va_S (fun q => eb E ≤ q) s.heap H locs → lv_has ls 2 [(0, .ref (ea E (0, 0))), (1, .int x1)] → W p l e ({ frames := 7, cells := 0, slots := 0, locals := 205 } : Room) s m args below meth c H locs 0 0 (MQ below (tc_Qg E (fun _ : Unit => none) post) args s 0 0 (fun q => eb E ≤ q)) (F0 m 35 ls []) := by
  intro n
  induction n with
  | zero =>
    intro x1 s0 H locs ls hk
    exact hk.elim
  | succ n ih =>
    intro x1 s0 H locs ls hk hH hS hl
    rw [wp_X1_tick_35] at hk
    refine lv_iload_n C.hx C.hb dX1_tick_35 rfl (lv_at hl 1 rfl) ?_
    refine lv_aload_n C.hx C.hb dX1_tick_36 rfl (lv_at hl 0 rfl) ?_
    refine tc_get C hH hH.g (Cn := RX1) (T := TX1) (N := 13) (ci := 0) (fs := tc_gfs E s0) in_X1 rfl rfl 2 (by decide) (C.L q318) (fun _ h => h) (v := .ref (ea E (2, 1))) rfl dX1_tick_37 ?_
    refine tc_run (tc_rV (As := []) (rest := [.int x1]) (L := (2, 1)) (ci := 9) (fs := tc_lfs E s0 1) (q := (RJ2, TJ2, 3)) C (hH.l _ (by omega)) rfl rfl (t_J2_size l (by omega) hk) (cwV 0 C.hts (lw_V q360 q361 q362 q56 q363) rfl rfl rfl (by decide +kernel) ⟨Nat.le_of_ble_eq_true rfl, Nat.le_of_ble_eq_true rfl⟩) hH hS rfl hl.1 rfl (lv_room (Nat.le_of_ble_eq_true rfl)) dX1_tick_40 ⟨Nat.le_of_ble_eq_true rfl, Nat.le_of_ble_eq_true rfl⟩) hS (fun r12 s13 H locs hk hH hS => ?_)
    refine W.eq (g2 := F0 m 43 ls [.int r12, .int x1]) rfl ?_
    refine lv_icmp_ge (tgt := 66) C.hx C.hb dX1_tick_43 (by decide) (fun c14 => ?_) (fun c14 => ?_)
    · have hk := hk.1 c14
      exact hK x1 s13 _ _ _ hk hH hS (lv_sub hl [0, 1] rfl)
    · have hk := hk.2 c14
      refine lv_aload_n C.hx C.hb dX1_tick_46 rfl (lv_at hl 0 rfl) ?_
      refine tc_get C hH hH.g (Cn := RX1) (T := TX1) (N := 13) (ci := 0) (fs := tc_gfs E s13) in_X1 rfl rfl 2 (by decide) (C.L q318) (fun _ h => h) (v := .ref (ea E (2, 1))) rfl dX1_tick_47 ?_
      refine lv_iload_n C.hx C.hb dX1_tick_50 rfl (lv_at hl 1 rfl) ?_
      refine tc_run (tc_rV (As := [.int x1]) (rest := []) (L := (2, 1)) (ci := 9) (fs := tc_lfs E s13 1) (q := (RJ2, TJ2, 3)) C (hH.l _ (by omega)) rfl rfl (t_J2_get l (by omega) hH.gr1 hk) (cwV 1 C.hts (lw_V q368 q369 q370 q56 q371) rfl rfl rfl (by decide +kernel) ⟨Nat.le_of_ble_eq_true rfl, Nat.le_of_ble_eq_true rfl⟩) hH hS rfl hl.1 rfl (lv_room (Nat.le_of_ble_eq_true rfl)) dX1_tick_51 ⟨Nat.le_of_ble_eq_true rfl, Nat.le_of_ble_eq_true rfl⟩) hS (fun r15 s16 H locs hk hH hS => ?_)
      refine W.eq (g2 := F0 m 54 ls [.ref (ea E (1, r15))]) rfl ?_
      obtain ⟨h17, hk⟩ := hk
      refine tc_castN C hH h17 q382 dX1_tick_54 ?_
      refine tc_run (r_X1_273 (rest := [])  C h17 hk hH hS rfl hl.1 rfl (lv_room (Nat.le_of_ble_eq_true rfl)) dX1_tick_57 ⟨Nat.le_of_ble_eq_true rfl, Nat.le_of_ble_eq_true rfl⟩ ⟨Nat.le_of_ble_eq_true rfl, Nat.le_of_ble_eq_true rfl⟩) hS (fun _ s19 H locs hk hH hS => ?_)
      refine W.eq (g2 := F0 m 60 ls []) rfl ?_
      obtain ⟨v20, ev20⟩ : ∃ y : Int32, y = x1 + 1 := ⟨_, rfl⟩
      have hk := hk v20 ev20
      refine lv_iinc (v := v20) (lv' := [(1, .int v20), (0, .ref (ea E (0, 0)))]) C.hx C.hb dX1_tick_60 hl (k := 1) rfl (by rw [ev20]; rfl) (by decide) rfl (fun ls hl => ?_)
      refine lv_goto (tgt := 35) C.hx C.hb dX1_tick_63 (by decide) ?_
      exact ih v20 s19 _ _ _ hk hH hS (lv_sub hl [1, 0] rfl)
def wp_X1_tick (E : tc_E) (post : Unit → tc_S → Prop) (s0 : tc_S) : Prop := (∃ n2, wp_X1_tick_2 E post (fun y10 s11 => (∃ n35, wp_X1_tick_35 E post (fun y21 s22 => post () s22) n35 0 s11)) n2 0 s0)
set_option maxHeartbeats 4000000 in
theorem t_X1_tick (l : Launch) {E : tc_E} {post : Unit → tc_S → Prop} {s0 : tc_S} (hk : wp_X1_tick E post  s0) : tc_M l yX1_tick (ws_ yX1_tick cX1_tick 2 none) ({ frames := 7, cells := 0, slots := 0, locals := 205 } : Room) E [.ref (ea E (0, 0))] s0 (fun _ : Unit => none) post := by
  refine tc_start cX1_tick 2 none RX1 (by decide) rfl rfl (Nat.le_of_ble_eq_true rfl) ?_
  intro p e s m args below meth c ls C hnm hr hlk hH hS hl
  have hl : lv_has ls 2 [(0, .ref (ea E (0, 0)))] := hl
  unfold wp_X1_tick at hk
  refine lv_iconst (v := 0) C.hx C.hb dX1_tick_0 (by decide) ?_
  refine lv_istore_n (lv' := [(1, .int 0), (0, .ref (ea E (0, 0)))]) C.hx C.hb dX1_tick_1 rfl hl (by decide) rfl (fun ls hl => ?_)
  obtain ⟨n2, hk⟩ := hk
  refine tw_X1_tick_2 C hr hlk (fun y10 s11 H locs ls hk hH hS hl => ?_) n2 0 s0 _ _ _ hk hH hS (lv_sub hl [1, 0] rfl)
  refine lv_iconst (v := 0) C.hx C.hb dX1_tick_33 (by decide) ?_
  refine lv_istore_n (lv' := [(1, .int 0), (0, .ref (ea E (0, 0)))]) C.hx C.hb dX1_tick_34 rfl hl (by decide) rfl (fun ls hl => ?_)
  obtain ⟨n35, hk⟩ := hk
  refine tw_X1_tick_35 C hr hlk (fun y21 s22 H locs ls hk hH hS hl => ?_) n35 0 s11 _ _ _ hk hH hS (lv_sub hl [1, 0] rfl)
  exact tc_vret () rfl C hr hlk hH hS hk dX1_tick_66
def wd_fill (E : tc_E) (post : Unit → tc_S → Prop) (i : Nat) (p1 : Int32) (S : tc_S) : Prop := (ykd E i = 0 → i = 0 ∧ wp_X4_fill E post p1 S) ∧ (ykd E i = 1 → wp_X3_fill E post i p1 S) ∧ (ykd E i = 2 → wp_X8_fill E post i p1 S) ∧ (ykd E i = 3 → wp_X3_fill E post i p1 S) ∧ (ykd E i = 4 → wp_X3_fill E post i p1 S)
set_option maxHeartbeats 4000000 in
theorem r_X1_276 {p : Program} {l : Launch} {e : Env} {R : Room} {s : State} {m : MethodId} {args : Array Value} {below : List Frame} {meth : Method} {c : Code} {H : Heap} {locs : List Loc} {cells slots pc nL : Nat} {cc : ByteArray} {ls : Array Slot} {st rest : List Value} {E : tc_E} {S : tc_S} {i : Nat} {p1 : Int32} {post : Unit → tc_S → Prop} (C : tc_C p m c cc nL s args RX1 E) (hi : i < yn E) (hk : wd_fill E post i p1 S) (hH : tc_ok E S H) (hS : va_S (fun q => eb E ≤ q) s.heap H locs) (hn : ([.int p1] : List Value).length = 1) (hsize : ls.size = nL) (hst : st = [.int p1] ++ .ref (ea E (1, i)) :: rest) (hW : 2 * (F0 m pc ls st).monitorRoom + (rest.map fun v => v.category).sum ≤ 8) (hdg : decode cc pc = .ok (.invokevirtual 276, 3)) (hf : cells ≤ R.cells ∧ slots ≤ R.slots) (hR : 7 ≤ R.frames ∧ 207 ≤ R.locals) : va_Run p l e R s m args below meth c H locs cells slots 0 0 (F0 m pc ls st) rest (tc_Qg E (fun _ : Unit => none) post (Value.ref (ea E (1, i)) :: [.int p1]).toArray) (fun q => eb E ≤ q) := by
  rcases tc_kinds (hH.kd i hi) with h | h | h | h | h
  · obtain ⟨hz, hk2⟩ := hk.1 h
    subst hz
    exact tc_rU (q := (RX4, TX4, 10)) (owner := "ToneGraph$Node") C (hH.n _ hi) (tc_e0 h) rfl (t_X4_fill l  hk2) (va_cwO 1 C.hts (lw_Ow q670 q672 q671 q674 q675 q59 q676) rfl rfl rfl q694 (by decide +kernel) ⟨by have := hR.1; show 6 ≤ _; omega, by have := hR.2; show 187 ≤ _; omega⟩) hH hS hn hsize hst hW hdg hf
  · have hk := hk.2.1 h
    exact tc_rU (q := (RX7, TX7, 10)) (owner := "ToneGraph$Node") C (hH.n _ hi) (tc_e1 h) rfl (t_X3_fill l hi hk) (va_cwU 1 C.hts (lw_Uw q670 q672 q693 q671 q58 q694) rfl rfl rfl rfl (by decide +kernel) ⟨by have := hR.1; show 7 ≤ _; omega, by have := hR.2; show 207 ≤ _; omega⟩) hH hS hn hsize hst hW hdg hf
  · have hk := hk.2.2.1 h
    exact tc_rU (q := (RX8, TX8, 11)) (owner := "ToneGraph$Node") C (hH.n _ hi) (tc_e2 h) rfl (t_X8_fill l hi h hk) (va_cwO 1 C.hts (lw_Ow q670 q672 q671 q689 q690 q74 q691) rfl rfl rfl q694 (by decide +kernel) ⟨by have := hR.1; show 1 ≤ _; omega, by have := hR.2; show 22 ≤ _; omega⟩) hH hS hn hsize hst hW hdg hf
  · have hk := hk.2.2.2.1 h
    exact tc_rU (q := (RX9, TX9, 10)) (owner := "ToneGraph$Node") C (hH.n _ hi) (tc_e3 h) rfl (t_X3_fill l hi hk) (va_cwU 1 C.hts (lw_Uw q670 q672 q692 q671 q58 q694) rfl rfl rfl rfl (by decide +kernel) ⟨by have := hR.1; show 7 ≤ _; omega, by have := hR.2; show 207 ≤ _; omega⟩) hH hS hn hsize hst hW hdg hf
  · have hk := hk.2.2.2.2 h
    exact tc_rU (q := (RX10, TX10, 10)) (owner := "ToneGraph$Node") C (hH.n _ hi) (tc_e4 h) rfl (t_X3_fill l hi hk) (va_cwU 1 C.hts (lw_Uw q670 q672 q673 q671 q58 q694) rfl rfl rfl rfl (by decide +kernel) ⟨by have := hR.1; show 7 ≤ _; omega, by have := hR.2; show 207 ≤ _; omega⟩) hH hS hn hsize hst hW hdg hf
def wd_takeInI (E : tc_E) (post : Unit → tc_S → Prop) (i : Nat) (p1 : Int32) (S : tc_S) : Prop := (ykd E i = 0 → wp_X3_takeIn_2 E post i p1 S) ∧ (ykd E i = 1 → wp_X3_takeIn_2 E post i p1 S) ∧ (ykd E i = 2 → wp_X8_takeIn_2 E post i p1 S) ∧ (ykd E i = 3 → wp_X3_takeIn_2 E post i p1 S) ∧ (ykd E i = 4 → wp_X3_takeIn_2 E post i p1 S)
set_option maxHeartbeats 4000000 in
theorem r_X1_279 {p : Program} {l : Launch} {e : Env} {R : Room} {s : State} {m : MethodId} {args : Array Value} {below : List Frame} {meth : Method} {c : Code} {H : Heap} {locs : List Loc} {cells slots pc nL : Nat} {cc : ByteArray} {ls : Array Slot} {st rest : List Value} {E : tc_E} {S : tc_S} {i : Nat} {p1 : Int32} {post : Unit → tc_S → Prop} (C : tc_C p m c cc nL s args RX1 E) (hi : i < yn E) (hk : wd_takeInI E post i p1 S) (hH : tc_ok E S H) (hS : va_S (fun q => eb E ≤ q) s.heap H locs) (hn : ([.int p1] : List Value).length = 1) (hsize : ls.size = nL) (hst : st = [.int p1] ++ .ref (ea E (1, i)) :: rest) (hW : 2 * (F0 m pc ls st).monitorRoom + (rest.map fun v => v.category).sum ≤ 8) (hdg : decode cc pc = .ok (.invokevirtual 279, 3)) (hf : cells ≤ R.cells ∧ slots ≤ R.slots) (hR : 5 ≤ R.frames ∧ 110 ≤ R.locals) : va_Run p l e R s m args below meth c H locs cells slots 0 0 (F0 m pc ls st) rest (tc_Qg E (fun _ : Unit => none) post (Value.ref (ea E (1, i)) :: [.int p1]).toArray) (fun q => eb E ≤ q) := by
  rcases tc_kinds (hH.kd i hi) with h | h | h | h | h
  · have hk := hk.1 h
    exact tc_rU (q := (RX4, TX4, 10)) (owner := "ToneGraph$Node") C (hH.n _ hi) (tc_e0 h) rfl (t_X3_takeIn_2 l hi hk) (va_cwU 1 C.hts (lw_Uw q704 q706 q708 q705 q58 q718) rfl rfl rfl rfl (by decide +kernel) ⟨by have := hR.1; show 1 ≤ _; omega, by have := hR.2; show 21 ≤ _; omega⟩) hH hS hn hsize hst hW hdg hf
  · have hk := hk.2.1 h
    exact tc_rU (q := (RX7, TX7, 10)) (owner := "ToneGraph$Node") C (hH.n _ hi) (tc_e1 h) rfl (t_X3_takeIn_2 l hi hk) (va_cwU 1 C.hts (lw_Uw q704 q706 q717 q705 q58 q718) rfl rfl rfl rfl (by decide +kernel) ⟨by have := hR.1; show 1 ≤ _; omega, by have := hR.2; show 21 ≤ _; omega⟩) hH hS hn hsize hst hW hdg hf
  · have hk := hk.2.2.1 h
    exact tc_rU (q := (RX8, TX8, 11)) (owner := "ToneGraph$Node") C (hH.n _ hi) (tc_e2 h) rfl (t_X8_takeIn_2 l hi h hk) (va_cwO 1 C.hts (lw_Ow q704 q706 q705 q709 q710 q74 q711) rfl rfl rfl q718 (by decide +kernel) ⟨by have := hR.1; show 5 ≤ _; omega, by have := hR.2; show 110 ≤ _; omega⟩) hH hS hn hsize hst hW hdg hf
  · have hk := hk.2.2.2.1 h
    exact tc_rU (q := (RX9, TX9, 10)) (owner := "ToneGraph$Node") C (hH.n _ hi) (tc_e3 h) rfl (t_X3_takeIn_2 l hi hk) (va_cwU 1 C.hts (lw_Uw q704 q706 q716 q705 q58 q718) rfl rfl rfl rfl (by decide +kernel) ⟨by have := hR.1; show 1 ≤ _; omega, by have := hR.2; show 21 ≤ _; omega⟩) hH hS hn hsize hst hW hdg hf
  · have hk := hk.2.2.2.2 h
    exact tc_rU (q := (RX10, TX10, 10)) (owner := "ToneGraph$Node") C (hH.n _ hi) (tc_e4 h) rfl (t_X3_takeIn_2 l hi hk) (va_cwU 1 C.hts (lw_Uw q704 q706 q707 q705 q58 q718) rfl rfl rfl rfl (by decide +kernel) ⟨by have := hR.1; show 1 ≤ _; omega, by have := hR.2; show 21 ≤ _; omega⟩) hH hS hn hsize hst hW hdg hf
/-! ToneGraph.fill(I)V -/
def wp_X1_fill_2 (E : tc_E) (post : Unit → tc_S → Prop) (K : Int32 → Int32 → tc_S → Prop) : Nat → Int32 → Int32 → tc_S → Prop
  | 0, _, _, _ => False
  | n2 + 1, x1, x2, s0 => wp_J2_size E (fun r1 s2 => ((r1 ≤ x2 → K x1 x2 s2) ∧ (¬ r1 ≤ x2 → wp_J2_get E (fun r4 s5 => (r4 < yn E ∧ wd_fill E (fun _ s8 => (∀ v9, v9 = x2 + 1 → wp_X1_fill_2 E post K n2 x1 v9 s8)) r4 x1 s5)) 1 x2 s2))) 1 s0
set_option maxHeartbeats 4000000 in
theorem tw_X1_fill_2 {p : Program} {l : Launch} {e : Env} {s : State} {m : MethodId} {args : Array Value} {below : List Frame} {meth : Method} {c : Code} {E : tc_E} {post : Unit → tc_S → Prop} {K : Int32 → Int32 → tc_S → Prop}  (C : tc_C p m c cX1_fill 3 s args RX1 E) (hr : meth.sig.returnType = none) (hlk : meth.locks = false) (hK : ∀ (x1 : Int32) (x2 : Int32) (σ' : tc_S) (H : Heap) (locs : List Loc) (ls : Array Slot), K x1 x2 σ' → tc_ok E σ' H → va_S (fun q => eb E ≤ q) s.heap H locs → lv_has ls 3 [(0, .ref (ea E (0, 0))), (1, .int x1), (2, .int x2)] → W p l e ({ frames := 7, cells := 0, slots := 0, locals := 207 } : Room) s m args below meth c H locs 0 0 (MQ below (tc_Qg E (fun _ : Unit => none) post) args s 0 0 (fun q => eb E ≤ q)) (F0 m 34 ls [])) :
    ∀ (n : Nat) (x1 : Int32) (x2 : Int32) (s0 : tc_S) (H : Heap) (locs : List Loc) (ls : Array Slot), wp_X1_fill_2 E post K n x1 x2 s0 → tc_ok E s0 H → va_S (fun q => eb E ≤ q) s.heap H locs → lv_has ls 3 [(0, .ref (ea E (0, 0))), (1, .int x1), (2, .int x2)] → W p l e ({ frames := 7, cells := 0, slots := 0, locals := 207 } : Room) s m args below meth c H locs 0 0 (MQ below (tc_Qg E (fun _ : Unit => none) post) args s 0 0 (fun q => eb E ≤ q)) (F0 m 2 ls []) := by
  intro n
  induction n with
  | zero =>
    intro x1 x2 s0 H locs ls hk
    exact hk.elim
  | succ n ih =>
    intro x1 x2 s0 H locs ls hk hH hS hl
    rw [wp_X1_fill_2] at hk
    refine lv_iload_n C.hx C.hb dX1_fill_2 rfl (lv_at hl 2 rfl) ?_
    refine lv_aload_n C.hx C.hb dX1_fill_3 rfl (lv_at hl 0 rfl) ?_
    refine tc_get C hH hH.g (Cn := RX1) (T := TX1) (N := 13) (ci := 0) (fs := tc_gfs E s0) in_X1 rfl rfl 2 (by decide) (C.L q318) (fun _ h => h) (v := .ref (ea E (2, 1))) rfl dX1_fill_4 ?_
    refine tc_run (tc_rV (As := []) (rest := [.int x2]) (L := (2, 1)) (ci := 9) (fs := tc_lfs E s0 1) (q := (RJ2, TJ2, 3)) C (hH.l _ (by omega)) rfl rfl (t_J2_size l (by omega) hk) (cwV 0 C.hts (lw_V q360 q361 q362 q56 q363) rfl rfl rfl (by decide +kernel) ⟨Nat.le_of_ble_eq_true rfl, Nat.le_of_ble_eq_true rfl⟩) hH hS rfl hl.1 rfl (lv_room (Nat.le_of_ble_eq_true rfl)) dX1_fill_7 ⟨Nat.le_of_ble_eq_true rfl, Nat.le_of_ble_eq_true rfl⟩) hS (fun r1 s2 H locs hk hH hS => ?_)
    refine W.eq (g2 := F0 m 10 ls [.int r1, .int x2]) rfl ?_
    refine lv_icmp_ge (tgt := 34) C.hx C.hb dX1_fill_10 (by decide) (fun c3 => ?_) (fun c3 => ?_)
    · have hk := hk.1 c3
      exact hK x1 x2 s2 _ _ _ hk hH hS (lv_sub hl [0, 1, 2] rfl)
    · have hk := hk.2 c3
      refine lv_aload_n C.hx C.hb dX1_fill_13 rfl (lv_at hl 0 rfl) ?_
      refine tc_get C hH hH.g (Cn := RX1) (T := TX1) (N := 13) (ci := 0) (fs := tc_gfs E s2) in_X1 rfl rfl 2 (by decide) (C.L q318) (fun _ h => h) (v := .ref (ea E (2, 1))) rfl dX1_fill_14 ?_
      refine lv_iload_n C.hx C.hb dX1_fill_17 rfl (lv_at hl 2 rfl) ?_
      refine tc_run (tc_rV (As := [.int x2]) (rest := []) (L := (2, 1)) (ci := 9) (fs := tc_lfs E s2 1) (q := (RJ2, TJ2, 3)) C (hH.l _ (by omega)) rfl rfl (t_J2_get l (by omega) hH.gr1 hk) (cwV 1 C.hts (lw_V q368 q369 q370 q56 q371) rfl rfl rfl (by decide +kernel) ⟨Nat.le_of_ble_eq_true rfl, Nat.le_of_ble_eq_true rfl⟩) hH hS rfl hl.1 rfl (lv_room (Nat.le_of_ble_eq_true rfl)) dX1_fill_18 ⟨Nat.le_of_ble_eq_true rfl, Nat.le_of_ble_eq_true rfl⟩) hS (fun r4 s5 H locs hk hH hS => ?_)
      refine W.eq (g2 := F0 m 21 ls [.ref (ea E (1, r4))]) rfl ?_
      obtain ⟨h6, hk⟩ := hk
      refine tc_castN C hH h6 q382 dX1_fill_21 ?_
      refine lv_iload_n C.hx C.hb dX1_fill_24 rfl (lv_at hl 1 rfl) ?_
      refine tc_run (r_X1_276 (rest := []) (p1 := x1)  C h6 hk hH hS rfl hl.1 rfl (lv_room (Nat.le_of_ble_eq_true rfl)) dX1_fill_25 ⟨Nat.le_of_ble_eq_true rfl, Nat.le_of_ble_eq_true rfl⟩ ⟨Nat.le_of_ble_eq_true rfl, Nat.le_of_ble_eq_true rfl⟩) hS (fun _ s8 H locs hk hH hS => ?_)
      refine W.eq (g2 := F0 m 28 ls []) rfl ?_
      obtain ⟨v9, ev9⟩ : ∃ y : Int32, y = x2 + 1 := ⟨_, rfl⟩
      have hk := hk v9 ev9
      refine lv_iinc (v := v9) (lv' := [(2, .int v9), (0, .ref (ea E (0, 0))), (1, .int x1)]) C.hx C.hb dX1_fill_28 hl (k := 2) rfl (by rw [ev9]; rfl) (by decide) rfl (fun ls hl => ?_)
      refine lv_goto (tgt := 2) C.hx C.hb dX1_fill_31 (by decide) ?_
      exact ih x1 v9 s8 _ _ _ hk hH hS (lv_sub hl [1, 2, 0] rfl)
def wp_X1_fill_36 (E : tc_E) (post : Unit → tc_S → Prop) (K : Int32 → Int32 → tc_S → Prop) : Nat → Int32 → Int32 → tc_S → Prop
  | 0, _, _, _ => False
  | n36 + 1, x1, x2, s0 => wp_J2_size E (fun r13 s14 => ((r13 ≤ x2 → K x1 x2 s14) ∧ (¬ r13 ≤ x2 → wp_J2_get E (fun r16 s17 => (r16 < yn E ∧ wd_takeInI E (fun _ s20 => (∀ v21, v21 = x2 + 1 → wp_X1_fill_36 E post K n36 x1 v21 s20)) r16 x1 s17)) 1 x2 s14))) 1 s0
set_option maxHeartbeats 4000000 in
theorem tw_X1_fill_36 {p : Program} {l : Launch} {e : Env} {s : State} {m : MethodId} {args : Array Value} {below : List Frame} {meth : Method} {c : Code} {E : tc_E} {post : Unit → tc_S → Prop} {K : Int32 → Int32 → tc_S → Prop}  (C : tc_C p m c cX1_fill 3 s args RX1 E) (hr : meth.sig.returnType = none) (hlk : meth.locks = false) (hK : ∀ (x1 : Int32) (x2 : Int32) (σ' : tc_S) (H : Heap) (locs : List Loc) (ls : Array Slot), K x1 x2 σ' → tc_ok E σ' H → va_S (fun q => eb E ≤ q) s.heap H locs → lv_has ls 3 [(0, .ref (ea E (0, 0))), (1, .int x1), (2, .int x2)] → W p l e ({ frames := 7, cells := 0, slots := 0, locals := 207 } : Room) s m args below meth c H locs 0 0 (MQ below (tc_Qg E (fun _ : Unit => none) post) args s 0 0 (fun q => eb E ≤ q)) (F0 m 68 ls [])) :
    ∀ (n : Nat) (x1 : Int32) (x2 : Int32) (s0 : tc_S) (H : Heap) (locs : List Loc) (ls : Array Slot), wp_X1_fill_36 E post K n x1 x2 s0 → tc_ok E s0 H → va_S (fun q => eb E ≤ q) s.heap H locs → lv_has ls 3 [(0, .ref (ea E (0, 0))), (1, .int x1), (2, .int x2)] → W p l e ({ frames := 7, cells := 0, slots := 0, locals := 207 } : Room) s m args below meth c H locs 0 0 (MQ below (tc_Qg E (fun _ : Unit => none) post) args s 0 0 (fun q => eb E ≤ q)) (F0 m 36 ls []) := by
  intro n
  induction n with
  | zero =>
    intro x1 x2 s0 H locs ls hk
    exact hk.elim
  | succ n ih =>
    intro x1 x2 s0 H locs ls hk hH hS hl
    rw [wp_X1_fill_36] at hk
    refine lv_iload_n C.hx C.hb dX1_fill_36 rfl (lv_at hl 2 rfl) ?_
    refine lv_aload_n C.hx C.hb dX1_fill_37 rfl (lv_at hl 0 rfl) ?_
    refine tc_get C hH hH.g (Cn := RX1) (T := TX1) (N := 13) (ci := 0) (fs := tc_gfs E s0) in_X1 rfl rfl 2 (by decide) (C.L q318) (fun _ h => h) (v := .ref (ea E (2, 1))) rfl dX1_fill_38 ?_
    refine tc_run (tc_rV (As := []) (rest := [.int x2]) (L := (2, 1)) (ci := 9) (fs := tc_lfs E s0 1) (q := (RJ2, TJ2, 3)) C (hH.l _ (by omega)) rfl rfl (t_J2_size l (by omega) hk) (cwV 0 C.hts (lw_V q360 q361 q362 q56 q363) rfl rfl rfl (by decide +kernel) ⟨Nat.le_of_ble_eq_true rfl, Nat.le_of_ble_eq_true rfl⟩) hH hS rfl hl.1 rfl (lv_room (Nat.le_of_ble_eq_true rfl)) dX1_fill_41 ⟨Nat.le_of_ble_eq_true rfl, Nat.le_of_ble_eq_true rfl⟩) hS (fun r13 s14 H locs hk hH hS => ?_)
    refine W.eq (g2 := F0 m 44 ls [.int r13, .int x2]) rfl ?_
    refine lv_icmp_ge (tgt := 68) C.hx C.hb dX1_fill_44 (by decide) (fun c15 => ?_) (fun c15 => ?_)
    · have hk := hk.1 c15
      exact hK x1 x2 s14 _ _ _ hk hH hS (lv_sub hl [0, 1, 2] rfl)
    · have hk := hk.2 c15
      refine lv_aload_n C.hx C.hb dX1_fill_47 rfl (lv_at hl 0 rfl) ?_
      refine tc_get C hH hH.g (Cn := RX1) (T := TX1) (N := 13) (ci := 0) (fs := tc_gfs E s14) in_X1 rfl rfl 2 (by decide) (C.L q318) (fun _ h => h) (v := .ref (ea E (2, 1))) rfl dX1_fill_48 ?_
      refine lv_iload_n C.hx C.hb dX1_fill_51 rfl (lv_at hl 2 rfl) ?_
      refine tc_run (tc_rV (As := [.int x2]) (rest := []) (L := (2, 1)) (ci := 9) (fs := tc_lfs E s14 1) (q := (RJ2, TJ2, 3)) C (hH.l _ (by omega)) rfl rfl (t_J2_get l (by omega) hH.gr1 hk) (cwV 1 C.hts (lw_V q368 q369 q370 q56 q371) rfl rfl rfl (by decide +kernel) ⟨Nat.le_of_ble_eq_true rfl, Nat.le_of_ble_eq_true rfl⟩) hH hS rfl hl.1 rfl (lv_room (Nat.le_of_ble_eq_true rfl)) dX1_fill_52 ⟨Nat.le_of_ble_eq_true rfl, Nat.le_of_ble_eq_true rfl⟩) hS (fun r16 s17 H locs hk hH hS => ?_)
      refine W.eq (g2 := F0 m 55 ls [.ref (ea E (1, r16))]) rfl ?_
      obtain ⟨h18, hk⟩ := hk
      refine tc_castN C hH h18 q382 dX1_fill_55 ?_
      refine lv_iload_n C.hx C.hb dX1_fill_58 rfl (lv_at hl 1 rfl) ?_
      refine tc_run (r_X1_279 (rest := []) (p1 := x1)  C h18 hk hH hS rfl hl.1 rfl (lv_room (Nat.le_of_ble_eq_true rfl)) dX1_fill_59 ⟨Nat.le_of_ble_eq_true rfl, Nat.le_of_ble_eq_true rfl⟩ ⟨Nat.le_of_ble_eq_true rfl, Nat.le_of_ble_eq_true rfl⟩) hS (fun _ s20 H locs hk hH hS => ?_)
      refine W.eq (g2 := F0 m 62 ls []) rfl ?_
      obtain ⟨v21, ev21⟩ : ∃ y : Int32, y = x2 + 1 := ⟨_, rfl⟩
      have hk := hk v21 ev21
      refine lv_iinc (v := v21) (lv' := [(2, .int v21), (0, .ref (ea E (0, 0))), (1, .int x1)]) C.hx C.hb dX1_fill_62 hl (k := 2) rfl (by rw [ev21]; rfl) (by decide) rfl (fun ls hl => ?_)
      refine lv_goto (tgt := 36) C.hx C.hb dX1_fill_65 (by decide) ?_
      exact ih x1 v21 s20 _ _ _ hk hH hS (lv_sub hl [1, 2, 0] rfl)
def wp_X1_fill (E : tc_E) (post : Unit → tc_S → Prop) (p1 : Int32) (s0 : tc_S) : Prop := (∃ n2, wp_X1_fill_2 E post (fun y10 y11 s12 => (∃ n36, wp_X1_fill_36 E post (fun y22 y23 s24 => post () s24) n36 y10 0 s12)) n2 p1 0 s0)
set_option maxHeartbeats 4000000 in
theorem t_X1_fill (l : Launch) {E : tc_E} {post : Unit → tc_S → Prop} {p1 : Int32} {s0 : tc_S} (hk : wp_X1_fill E post p1 s0) : tc_M l yX1_fill (ws_ yX1_fill cX1_fill 3 none) ({ frames := 7, cells := 0, slots := 0, locals := 207 } : Room) E [.ref (ea E (0, 0)), .int p1] s0 (fun _ : Unit => none) post := by
  refine tc_start cX1_fill 3 none RX1 (by decide) rfl rfl (Nat.le_of_ble_eq_true rfl) ?_
  intro p e s m args below meth c ls C hnm hr hlk hH hS hl
  have hl : lv_has ls 3 [(0, .ref (ea E (0, 0))), (1, .int p1)] := hl
  unfold wp_X1_fill at hk
  refine lv_iconst (v := 0) C.hx C.hb dX1_fill_0 (by decide) ?_
  refine lv_istore_n (lv' := [(2, .int 0), (0, .ref (ea E (0, 0))), (1, .int p1)]) C.hx C.hb dX1_fill_1 rfl hl (by decide) rfl (fun ls hl => ?_)
  obtain ⟨n2, hk⟩ := hk
  refine tw_X1_fill_2 C hr hlk (fun y10 y11 s12 H locs ls hk hH hS hl => ?_) n2 p1 0 s0 _ _ _ hk hH hS (lv_sub hl [1, 2, 0] rfl)
  refine lv_iconst (v := 0) C.hx C.hb dX1_fill_34 (by decide) ?_
  refine lv_istore_n (lv' := [(2, .int 0), (0, .ref (ea E (0, 0))), (1, .int y10)]) C.hx C.hb dX1_fill_35 rfl hl (by decide) rfl (fun ls hl => ?_)
  obtain ⟨n36, hk⟩ := hk
  refine tw_X1_fill_36 C hr hlk (fun y22 y23 s24 H locs ls hk hH hS hl => ?_) n36 y10 0 s12 _ _ _ hk hH hS (lv_sub hl [1, 2, 0] rfl)
  exact tc_vret () rfl C hr hlk hH hS hk dX1_fill_68
/-! ToneGraph.hear(I)V -/
def wp_X1_hear (E : tc_E) (post : Unit → tc_S → Prop) (p1 : Int32) (s0 : tc_S) : Prop := (vp_in ((s0.1 0 0 1) - (s0.1 0 0 1) / 64 * 64) 64 ∧ (∀ s2 : tc_S, s2 = tI s0 10 0 ((s0.1 0 0 1) - (s0.1 0 0 1) / 64 * 64).toNatClampNeg p1 → (∀ s3 : tc_S, s3 = tI s2 0 0 1 ((s2.1 0 0 1) + 1) → (∀ r4, r4 = (if 0 ≤ p1 then p1 else 0 - p1) → (∀ r5, r5 = (if (s3.1 0 0 2) < r4 then r4 else (s3.1 0 0 2)) → (∀ s6 : tc_S, s6 = tI s3 0 0 2 r5 → ((¬ p1 = 0 → (∀ s8 : tc_S, s8 = tI s6 0 0 3 ((s6.1 0 0 3) + 0) → (∀ s9 : tc_S, s9 = tL s8 0 ((s8.2.2 0) + (p1.toInt64 * p1.toInt64)) → post () s9))) ∧ (p1 = 0 → (∀ s10 : tc_S, s10 = tI s6 0 0 3 ((s6.1 0 0 3) + 1) → (∀ s11 : tc_S, s11 = tL s10 0 ((s10.2.2 0) + (p1.toInt64 * p1.toInt64)) → post () s11))))))))))
set_option maxHeartbeats 4000000 in
theorem t_X1_hear (l : Launch) {E : tc_E} {post : Unit → tc_S → Prop} {p1 : Int32} {s0 : tc_S} (hk : wp_X1_hear E post p1 s0) : tc_M l yX1_hear (ws_ yX1_hear cX1_hear 2 none) ({ frames := 1, cells := 0, slots := 0, locals := 21 } : Room) E [.ref (ea E (0, 0)), .int p1] s0 (fun _ : Unit => none) post := by
  refine tc_start cX1_hear 2 none RX1 (by decide) rfl rfl (Nat.le_of_ble_eq_true rfl) ?_
  intro p e s m args below meth c ls C hnm hr hlk hH hS hl
  have hl : lv_has ls 2 [(0, .ref (ea E (0, 0))), (1, .int p1)] := hl
  unfold wp_X1_hear at hk
  refine lv_aload_n C.hx C.hb dX1_hear_0 rfl (lv_at hl 0 rfl) ?_
  refine tc_get C hH hH.g (Cn := RX1) (T := TX1) (N := 13) (ci := 0) (fs := tc_gfs E s0) in_X1 rfl rfl 6 (by decide) (C.L q322) (fun _ h => h) (v := .ref (ea E (8, 0))) rfl dX1_hear_1 ?_
  refine lv_aload_n C.hx C.hb dX1_hear_4 rfl (lv_at hl 0 rfl) ?_
  refine tc_get C hH hH.g (Cn := RX1) (T := TX1) (N := 13) (ci := 0) (fs := tc_gfs E s0) in_X1 rfl rfl 7 (by decide) (C.L q323) (fun _ h => h) (v := .int (s0.1 0 0 1)) rfl dX1_hear_5 ?_
  refine lv_bipush (v := 64) C.hx C.hb dX1_hear_8 (by decide) ?_
  refine lv_irem C.hx C.hb dX1_hear_10 (by decide) ?_
  refine lv_iload_n C.hx C.hb dX1_hear_11 rfl (lv_at hl 1 rfl) ?_
  obtain ⟨h1, hk⟩ := hk
  refine tc_ast C hH hS hH.hd (N := 64) (f := (s0.1 10 0)) rfl h1 (tc_ua_heard E s0 ((s0.1 0 0 1) - (s0.1 0 0 1) / 64 * 64).toNatClampNeg p1) dX1_hear_12 (fun s2 es2 H locs hH hS => ?_)
  have hk := hk s2 es2
  refine lv_aload_n C.hx C.hb dX1_hear_13 rfl (lv_at hl 0 rfl) ?_
  refine lv_dup C.hx C.hb dX1_hear_14 rfl ?_
  refine tc_get C hH hH.g (Cn := RX1) (T := TX1) (N := 13) (ci := 0) (fs := tc_gfs E s2) in_X1 rfl rfl 7 (by decide) (C.L q323) (fun _ h => h) (v := .int (s2.1 0 0 1)) rfl dX1_hear_15 ?_
  refine lv_iconst (v := 1) C.hx C.hb dX1_hear_18 (by decide) ?_
  refine lv_iadd C.hx C.hb dX1_hear_19 ?_
  refine tc_put C hH hS hH.g (Cn := RX1) (T := TX1) (N := 13) (ci := 0) (fs := tc_gfs E s2) in_X1 tyX1 tyX1_ok nmX1 rfl rfl 7 (by decide) (C.L q323) (fun _ h => h) rfl (v := .int ((s2.1 0 0 1) + 1)) rfl rfl (Nat.le_of_ble_eq_true rfl) (tc_ug_time E s2 ((s2.1 0 0 1) + 1)) dX1_hear_20 (fun s3 es3 H locs hH hS => ?_)
  have hk := hk s3 es3
  refine lv_aload_n C.hx C.hb dX1_hear_23 rfl (lv_at hl 0 rfl) ?_
  refine lv_aload_n C.hx C.hb dX1_hear_24 rfl (lv_at hl 0 rfl) ?_
  refine tc_get C hH hH.g (Cn := RX1) (T := TX1) (N := 13) (ci := 0) (fs := tc_gfs E s3) in_X1 rfl rfl 8 (by decide) (C.L q324) (fun _ h => h) (v := .int (s3.1 0 0 2)) rfl dX1_hear_25 ?_
  refine lv_iload_n C.hx C.hb dX1_hear_28 rfl (lv_at hl 1 rfl) ?_
  refine va_mabs C.hx C.hb (C.hml.trans hl.1.symm) C.hown (C.hts _ q519) (C.hts _ q452) (C.hts _ q62) (C.hts _ q453) (Nat.le_of_ble_eq_true rfl) (Nat.le_of_ble_eq_true rfl) (Nat.le_of_ble_eq_true rfl) (Nat.le_of_ble_eq_true rfl) dX1_hear_29 ?_
  refine lv_topi (fun r4 er4 => ?_)
  have hk := hk r4 er4
  refine va_mmax C.hx C.hb (C.hml.trans hl.1.symm) C.hown (C.hts _ q489) (C.hts _ q271) (C.hts _ q62) (C.hts _ q272) (Nat.le_of_ble_eq_true rfl) (Nat.le_of_ble_eq_true rfl) (Nat.le_of_ble_eq_true rfl) (Nat.le_of_ble_eq_true rfl) dX1_hear_32 ?_
  refine lv_topi (fun r5 er5 => ?_)
  have hk := hk r5 er5
  refine tc_put C hH hS hH.g (Cn := RX1) (T := TX1) (N := 13) (ci := 0) (fs := tc_gfs E s3) in_X1 tyX1 tyX1_ok nmX1 rfl rfl 8 (by decide) (C.L q324) (fun _ h => h) rfl (v := .int r5) rfl rfl (Nat.le_of_ble_eq_true rfl) (tc_ug_greatest E s3 r5) dX1_hear_35 (fun s6 es6 H locs hH hS => ?_)
  have hk := hk s6 es6
  refine lv_aload_n C.hx C.hb dX1_hear_38 rfl (lv_at hl 0 rfl) ?_
  refine lv_dup C.hx C.hb dX1_hear_39 rfl ?_
  refine tc_get C hH hH.g (Cn := RX1) (T := TX1) (N := 13) (ci := 0) (fs := tc_gfs E s6) in_X1 rfl rfl 9 (by decide) (C.L q325) (fun _ h => h) (v := .int (s6.1 0 0 3)) rfl dX1_hear_40 ?_
  refine lv_iload_n C.hx C.hb dX1_hear_43 rfl (lv_at hl 1 rfl) ?_
  refine lv_if_ne (tgt := 51) C.hx C.hb dX1_hear_44 (by decide) (fun c7 => ?_) (fun c7 => ?_)
  · have hk := hk.1 c7
    refine lv_iconst (v := 0) C.hx C.hb dX1_hear_51 (by decide) ?_
    refine lv_iadd C.hx C.hb dX1_hear_52 ?_
    refine tc_put C hH hS hH.g (Cn := RX1) (T := TX1) (N := 13) (ci := 0) (fs := tc_gfs E s6) in_X1 tyX1 tyX1_ok nmX1 rfl rfl 9 (by decide) (C.L q325) (fun _ h => h) rfl (v := .int ((s6.1 0 0 3) + 0)) rfl rfl (Nat.le_of_ble_eq_true rfl) (tc_ug_quiet E s6 ((s6.1 0 0 3) + 0)) dX1_hear_53 (fun s8 es8 H locs hH hS => ?_)
    have hk := hk s8 es8
    refine lv_aload_n C.hx C.hb dX1_hear_56 rfl (lv_at hl 0 rfl) ?_
    refine lv_dup C.hx C.hb dX1_hear_57 rfl ?_
    refine tc_get C hH hH.g (Cn := RX1) (T := TX1) (N := 13) (ci := 0) (fs := tc_gfs E s8) in_X1 rfl rfl 10 (by decide) (C.L q326) (fun _ h => h) (v := .long (s8.2.2 0)) rfl dX1_hear_58 ?_
    refine lv_iload_n C.hx C.hb dX1_hear_61 rfl (lv_at hl 1 rfl) ?_
    refine lv_i2l C.hx C.hb dX1_hear_62 rfl ?_
    refine lv_iload_n C.hx C.hb dX1_hear_63 rfl (lv_at hl 1 rfl) ?_
    refine lv_i2l C.hx C.hb dX1_hear_64 rfl ?_
    refine lv_lmul C.hx C.hb dX1_hear_65 ?_
    refine lv_ladd C.hx C.hb dX1_hear_66 ?_
    refine tc_put C hH hS hH.g (Cn := RX1) (T := TX1) (N := 13) (ci := 0) (fs := tc_gfs E s8) in_X1 tyX1 tyX1_ok nmX1 rfl rfl 10 (by decide) (C.L q326) (fun _ h => h) rfl (v := .long ((s8.2.2 0) + (p1.toInt64 * p1.toInt64))) rfl rfl (Nat.le_of_ble_eq_true rfl) (tc_ug_energy E s8 ((s8.2.2 0) + (p1.toInt64 * p1.toInt64))) dX1_hear_67 (fun s9 es9 H locs hH hS => ?_)
    have hk := hk s9 es9
    exact tc_vret () rfl C hr hlk hH hS hk dX1_hear_70
  · have hk := hk.2 c7
    refine lv_iconst (v := 1) C.hx C.hb dX1_hear_47 (by decide) ?_
    refine lv_goto (tgt := 52) C.hx C.hb dX1_hear_48 (by decide) ?_
    refine lv_iadd C.hx C.hb dX1_hear_52 ?_
    refine tc_put C hH hS hH.g (Cn := RX1) (T := TX1) (N := 13) (ci := 0) (fs := tc_gfs E s6) in_X1 tyX1 tyX1_ok nmX1 rfl rfl 9 (by decide) (C.L q325) (fun _ h => h) rfl (v := .int ((s6.1 0 0 3) + 1)) rfl rfl (Nat.le_of_ble_eq_true rfl) (tc_ug_quiet E s6 ((s6.1 0 0 3) + 1)) dX1_hear_53 (fun s10 es10 H locs hH hS => ?_)
    have hk := hk s10 es10
    refine lv_aload_n C.hx C.hb dX1_hear_56 rfl (lv_at hl 0 rfl) ?_
    refine lv_dup C.hx C.hb dX1_hear_57 rfl ?_
    refine tc_get C hH hH.g (Cn := RX1) (T := TX1) (N := 13) (ci := 0) (fs := tc_gfs E s10) in_X1 rfl rfl 10 (by decide) (C.L q326) (fun _ h => h) (v := .long (s10.2.2 0)) rfl dX1_hear_58 ?_
    refine lv_iload_n C.hx C.hb dX1_hear_61 rfl (lv_at hl 1 rfl) ?_
    refine lv_i2l C.hx C.hb dX1_hear_62 rfl ?_
    refine lv_iload_n C.hx C.hb dX1_hear_63 rfl (lv_at hl 1 rfl) ?_
    refine lv_i2l C.hx C.hb dX1_hear_64 rfl ?_
    refine lv_lmul C.hx C.hb dX1_hear_65 ?_
    refine lv_ladd C.hx C.hb dX1_hear_66 ?_
    refine tc_put C hH hS hH.g (Cn := RX1) (T := TX1) (N := 13) (ci := 0) (fs := tc_gfs E s10) in_X1 tyX1 tyX1_ok nmX1 rfl rfl 10 (by decide) (C.L q326) (fun _ h => h) rfl (v := .long ((s10.2.2 0) + (p1.toInt64 * p1.toInt64))) rfl rfl (Nat.le_of_ble_eq_true rfl) (tc_ug_energy E s10 ((s10.2.2 0) + (p1.toInt64 * p1.toInt64))) dX1_hear_67 (fun s11 es11 H locs hH hS => ?_)
    have hk := hk s11 es11
    exact tc_vret () rfl C hr hlk hH hS hk dX1_hear_70
def wd_keep (E : tc_E) (post : Unit → tc_S → Prop) (i : Nat) (S : tc_S) : Prop := (ykd E i = 0 → i = 0 ∧ wp_X4_keep E post  S) ∧ (ykd E i = 1 → wp_X3_keep E post i  S) ∧ (ykd E i = 2 → wp_X3_keep E post i  S) ∧ (ykd E i = 3 → wp_X3_keep E post i  S) ∧ (ykd E i = 4 → wp_X3_keep E post i  S)
set_option maxHeartbeats 4000000 in
theorem r_X1_311 {p : Program} {l : Launch} {e : Env} {R : Room} {s : State} {m : MethodId} {args : Array Value} {below : List Frame} {meth : Method} {c : Code} {H : Heap} {locs : List Loc} {cells slots pc nL : Nat} {cc : ByteArray} {ls : Array Slot} {st rest : List Value} {E : tc_E} {S : tc_S} {i : Nat} {post : Unit → tc_S → Prop} (C : tc_C p m c cc nL s args RX1 E) (hi : i < yn E) (hk : wd_keep E post i  S) (hH : tc_ok E S H) (hS : va_S (fun q => eb E ≤ q) s.heap H locs) (hn : ([] : List Value).length = 0) (hsize : ls.size = nL) (hst : st = [] ++ .ref (ea E (1, i)) :: rest) (hW : 2 * (F0 m pc ls st).monitorRoom + (rest.map fun v => v.category).sum ≤ 8) (hdg : decode cc pc = .ok (.invokevirtual 311, 3)) (hf : cells ≤ R.cells ∧ slots ≤ R.slots) (hR : 3 ≤ R.frames ∧ 71 ≤ R.locals) : va_Run p l e R s m args below meth c H locs cells slots 0 0 (F0 m pc ls st) rest (tc_Qg E (fun _ : Unit => none) post (Value.ref (ea E (1, i)) :: []).toArray) (fun q => eb E ≤ q) := by
  rcases tc_kinds (hH.kd i hi) with h | h | h | h | h
  · obtain ⟨hz, hk2⟩ := hk.1 h
    subst hz
    exact tc_rU (q := (RX4, TX4, 10)) (owner := "ToneGraph$Node") C (hH.n _ hi) (tc_e0 h) rfl (t_X4_keep l  hk2) (va_cwO 0 C.hts (lw_Ow q624 q626 q625 q628 q629 q59 q630) rfl rfl rfl q632 (by decide +kernel) ⟨by have := hR.1; show 3 ≤ _; omega, by have := hR.2; show 71 ≤ _; omega⟩) hH hS hn hsize hst hW hdg hf
  · have hk := hk.2.1 h
    exact tc_rU (q := (RX7, TX7, 10)) (owner := "ToneGraph$Node") C (hH.n _ hi) (tc_e1 h) rfl (t_X3_keep l hi hk) (va_cwU 0 C.hts (lw_Uw q624 q626 q640 q625 q58 q632) rfl rfl rfl rfl (by decide +kernel) ⟨by have := hR.1; show 2 ≤ _; omega, by have := hR.2; show 50 ≤ _; omega⟩) hH hS hn hsize hst hW hdg hf
  · have hk := hk.2.2.1 h
    exact tc_rU (q := (RX8, TX8, 11)) (owner := "ToneGraph$Node") C (hH.n _ hi) (tc_e2 h) rfl (t_X3_keep l hi hk) (va_cwU 0 C.hts (lw_Uw q624 q626 q638 q625 q58 q632) rfl rfl rfl rfl (by decide +kernel) ⟨by have := hR.1; show 2 ≤ _; omega, by have := hR.2; show 50 ≤ _; omega⟩) hH hS hn hsize hst hW hdg hf
  · have hk := hk.2.2.2.1 h
    exact tc_rU (q := (RX9, TX9, 10)) (owner := "ToneGraph$Node") C (hH.n _ hi) (tc_e3 h) rfl (t_X3_keep l hi hk) (va_cwU 0 C.hts (lw_Uw q624 q626 q639 q625 q58 q632) rfl rfl rfl rfl (by decide +kernel) ⟨by have := hR.1; show 2 ≤ _; omega, by have := hR.2; show 50 ≤ _; omega⟩) hH hS hn hsize hst hW hdg hf
  · have hk := hk.2.2.2.2 h
    exact tc_rU (q := (RX10, TX10, 10)) (owner := "ToneGraph$Node") C (hH.n _ hi) (tc_e4 h) rfl (t_X3_keep l hi hk) (va_cwU 0 C.hts (lw_Uw q624 q626 q627 q625 q58 q632) rfl rfl rfl rfl (by decide +kernel) ⟨by have := hR.1; show 2 ≤ _; omega, by have := hR.2; show 50 ≤ _; omega⟩) hH hS hn hsize hst hW hdg hf
/-! ToneGraph.keep()V -/
def wp_X1_keep_2 (E : tc_E) (post : Unit → tc_S → Prop) (K : Int32 → tc_S → Prop) : Nat → Int32 → tc_S → Prop
  | 0, _, _ => False
  | n2 + 1, x1, s0 => wp_J2_size E (fun r1 s2 => ((r1 ≤ x1 → K x1 s2) ∧ (¬ r1 ≤ x1 → wp_J2_get E (fun r4 s5 => (r4 < yn E ∧ wd_keep E (fun _ s8 => (∀ v9, v9 = x1 + 1 → wp_X1_keep_2 E post K n2 v9 s8)) r4 s5)) 0 x1 s2))) 0 s0
set_option maxHeartbeats 4000000 in
theorem tw_X1_keep_2 {p : Program} {l : Launch} {e : Env} {s : State} {m : MethodId} {args : Array Value} {below : List Frame} {meth : Method} {c : Code} {E : tc_E} {post : Unit → tc_S → Prop} {K : Int32 → tc_S → Prop}  (C : tc_C p m c cX1_keep 2 s args RX1 E) (hr : meth.sig.returnType = none) (hlk : meth.locks = false) (hK : ∀ (x1 : Int32) (σ' : tc_S) (H : Heap) (locs : List Loc) (ls : Array Slot), K x1 σ' → tc_ok E σ' H → va_S (fun q => eb E ≤ q) s.heap H locs → lv_has ls 2 [(0, .ref (ea E (0, 0))), (1, .int x1)] → W p l e ({ frames := 3, cells := 0, slots := 0, locals := 71 } : Room) s m args below meth c H locs 0 0 (MQ below (tc_Qg E (fun _ : Unit => none) post) args s 0 0 (fun q => eb E ≤ q)) (F0 m 33 ls [])) :
    ∀ (n : Nat) (x1 : Int32) (s0 : tc_S) (H : Heap) (locs : List Loc) (ls : Array Slot), wp_X1_keep_2 E post K n x1 s0 → tc_ok E s0 H → va_S (fun q => eb E ≤ q) s.heap H locs → lv_has ls 2 [(0, .ref (ea E (0, 0))), (1, .int x1)] → W p l e ({ frames := 3, cells := 0, slots := 0, locals := 71 } : Room) s m args below meth c H locs 0 0 (MQ below (tc_Qg E (fun _ : Unit => none) post) args s 0 0 (fun q => eb E ≤ q)) (F0 m 2 ls []) := by
  intro n
  induction n with
  | zero =>
    intro x1 s0 H locs ls hk
    exact hk.elim
  | succ n ih =>
    intro x1 s0 H locs ls hk hH hS hl
    rw [wp_X1_keep_2] at hk
    refine lv_iload_n C.hx C.hb dX1_keep_2 rfl (lv_at hl 1 rfl) ?_
    refine lv_aload_n C.hx C.hb dX1_keep_3 rfl (lv_at hl 0 rfl) ?_
    refine tc_get C hH hH.g (Cn := RX1) (T := TX1) (N := 13) (ci := 0) (fs := tc_gfs E s0) in_X1 rfl rfl 1 (by decide) (C.L q317) (fun _ h => h) (v := .ref (ea E (2, 0))) rfl dX1_keep_4 ?_
    refine tc_run (tc_rV (As := []) (rest := [.int x1]) (L := (2, 0)) (ci := 9) (fs := tc_lfs E s0 0) (q := (RJ2, TJ2, 3)) C (hH.l _ (by omega)) rfl rfl (t_J2_size l (by omega) hk) (cwV 0 C.hts (lw_V q360 q361 q362 q56 q363) rfl rfl rfl (by decide +kernel) ⟨Nat.le_of_ble_eq_true rfl, Nat.le_of_ble_eq_true rfl⟩) hH hS rfl hl.1 rfl (lv_room (Nat.le_of_ble_eq_true rfl)) dX1_keep_7 ⟨Nat.le_of_ble_eq_true rfl, Nat.le_of_ble_eq_true rfl⟩) hS (fun r1 s2 H locs hk hH hS => ?_)
    refine W.eq (g2 := F0 m 10 ls [.int r1, .int x1]) rfl ?_
    refine lv_icmp_ge (tgt := 33) C.hx C.hb dX1_keep_10 (by decide) (fun c3 => ?_) (fun c3 => ?_)
    · have hk := hk.1 c3
      exact hK x1 s2 _ _ _ hk hH hS (lv_sub hl [0, 1] rfl)
    · have hk := hk.2 c3
      refine lv_aload_n C.hx C.hb dX1_keep_13 rfl (lv_at hl 0 rfl) ?_
      refine tc_get C hH hH.g (Cn := RX1) (T := TX1) (N := 13) (ci := 0) (fs := tc_gfs E s2) in_X1 rfl rfl 1 (by decide) (C.L q317) (fun _ h => h) (v := .ref (ea E (2, 0))) rfl dX1_keep_14 ?_
      refine lv_iload_n C.hx C.hb dX1_keep_17 rfl (lv_at hl 1 rfl) ?_
      refine tc_run (tc_rV (As := [.int x1]) (rest := []) (L := (2, 0)) (ci := 9) (fs := tc_lfs E s2 0) (q := (RJ2, TJ2, 3)) C (hH.l _ (by omega)) rfl rfl (t_J2_get l (by omega) hH.gr0 hk) (cwV 1 C.hts (lw_V q368 q369 q370 q56 q371) rfl rfl rfl (by decide +kernel) ⟨Nat.le_of_ble_eq_true rfl, Nat.le_of_ble_eq_true rfl⟩) hH hS rfl hl.1 rfl (lv_room (Nat.le_of_ble_eq_true rfl)) dX1_keep_18 ⟨Nat.le_of_ble_eq_true rfl, Nat.le_of_ble_eq_true rfl⟩) hS (fun r4 s5 H locs hk hH hS => ?_)
      refine W.eq (g2 := F0 m 21 ls [.ref (ea E (1, r4))]) rfl ?_
      obtain ⟨h6, hk⟩ := hk
      refine tc_castN C hH h6 q382 dX1_keep_21 ?_
      refine tc_run (r_X1_311 (rest := [])  C h6 hk hH hS rfl hl.1 rfl (lv_room (Nat.le_of_ble_eq_true rfl)) dX1_keep_24 ⟨Nat.le_of_ble_eq_true rfl, Nat.le_of_ble_eq_true rfl⟩ ⟨Nat.le_of_ble_eq_true rfl, Nat.le_of_ble_eq_true rfl⟩) hS (fun _ s8 H locs hk hH hS => ?_)
      refine W.eq (g2 := F0 m 27 ls []) rfl ?_
      obtain ⟨v9, ev9⟩ : ∃ y : Int32, y = x1 + 1 := ⟨_, rfl⟩
      have hk := hk v9 ev9
      refine lv_iinc (v := v9) (lv' := [(1, .int v9), (0, .ref (ea E (0, 0)))]) C.hx C.hb dX1_keep_27 hl (k := 1) rfl (by rw [ev9]; rfl) (by decide) rfl (fun ls hl => ?_)
      refine lv_goto (tgt := 2) C.hx C.hb dX1_keep_30 (by decide) ?_
      exact ih v9 s8 _ _ _ hk hH hS (lv_sub hl [1, 0] rfl)
def wp_X1_keep (E : tc_E) (post : Unit → tc_S → Prop) (s0 : tc_S) : Prop := (∃ n2, wp_X1_keep_2 E post (fun y10 s11 => post () s11) n2 0 s0)
set_option maxHeartbeats 4000000 in
theorem t_X1_keep (l : Launch) {E : tc_E} {post : Unit → tc_S → Prop} {s0 : tc_S} (hk : wp_X1_keep E post  s0) : tc_M l yX1_keep (ws_ yX1_keep cX1_keep 2 none) ({ frames := 3, cells := 0, slots := 0, locals := 71 } : Room) E [.ref (ea E (0, 0))] s0 (fun _ : Unit => none) post := by
  refine tc_start cX1_keep 2 none RX1 (by decide) rfl rfl (Nat.le_of_ble_eq_true rfl) ?_
  intro p e s m args below meth c ls C hnm hr hlk hH hS hl
  have hl : lv_has ls 2 [(0, .ref (ea E (0, 0)))] := hl
  unfold wp_X1_keep at hk
  refine lv_iconst (v := 0) C.hx C.hb dX1_keep_0 (by decide) ?_
  refine lv_istore_n (lv' := [(1, .int 0), (0, .ref (ea E (0, 0)))]) C.hx C.hb dX1_keep_1 rfl hl (by decide) rfl (fun ls hl => ?_)
  obtain ⟨n2, hk⟩ := hk
  refine tw_X1_keep_2 C hr hlk (fun y10 s11 H locs ls hk hH hS hl => ?_) n2 0 s0 _ _ _ hk hH hS (lv_sub hl [1, 0] rfl)
  exact tc_vret () rfl C hr hlk hH hS hk dX1_keep_33
def wd_takeBack (E : tc_E) (post : Unit → tc_S → Prop) (i : Nat) (S : tc_S) : Prop := (ykd E i = 0 → i = 0 ∧ wp_X4_takeBack E post  S) ∧ (ykd E i = 1 → wp_X3_takeBack E post i  S) ∧ (ykd E i = 2 → wp_X3_takeBack E post i  S) ∧ (ykd E i = 3 → wp_X3_takeBack E post i  S) ∧ (ykd E i = 4 → wp_X3_takeBack E post i  S)
set_option maxHeartbeats 4000000 in
theorem r_X1_314 {p : Program} {l : Launch} {e : Env} {R : Room} {s : State} {m : MethodId} {args : Array Value} {below : List Frame} {meth : Method} {c : Code} {H : Heap} {locs : List Loc} {cells slots pc nL : Nat} {cc : ByteArray} {ls : Array Slot} {st rest : List Value} {E : tc_E} {S : tc_S} {i : Nat} {post : Unit → tc_S → Prop} (C : tc_C p m c cc nL s args RX1 E) (hi : i < yn E) (hk : wd_takeBack E post i  S) (hH : tc_ok E S H) (hS : va_S (fun q => eb E ≤ q) s.heap H locs) (hn : ([] : List Value).length = 0) (hsize : ls.size = nL) (hst : st = [] ++ .ref (ea E (1, i)) :: rest) (hW : 2 * (F0 m pc ls st).monitorRoom + (rest.map fun v => v.category).sum ≤ 8) (hdg : decode cc pc = .ok (.invokevirtual 314, 3)) (hf : cells ≤ R.cells ∧ slots ≤ R.slots) (hR : 3 ≤ R.frames ∧ 71 ≤ R.locals) : va_Run p l e R s m args below meth c H locs cells slots 0 0 (F0 m pc ls st) rest (tc_Qg E (fun _ : Unit => none) post (Value.ref (ea E (1, i)) :: []).toArray) (fun q => eb E ≤ q) := by
  rcases tc_kinds (hH.kd i hi) with h | h | h | h | h
  · obtain ⟨hz, hk2⟩ := hk.1 h
    subst hz
    exact tc_rU (q := (RX4, TX4, 10)) (owner := "ToneGraph$Node") C (hH.n _ hi) (tc_e0 h) rfl (t_X4_takeBack l  hk2) (va_cwO 0 C.hts (lw_Ow q645 q647 q646 q649 q650 q59 q651) rfl rfl rfl q653 (by decide +kernel) ⟨by have := hR.1; show 3 ≤ _; omega, by have := hR.2; show 71 ≤ _; omega⟩) hH hS hn hsize hst hW hdg hf
  · have hk := hk.2.1 h
    exact tc_rU (q := (RX7, TX7, 10)) (owner := "ToneGraph$Node") C (hH.n _ hi) (tc_e1 h) rfl (t_X3_takeBack l hi hk) (va_cwU 0 C.hts (lw_Uw q645 q647 q660 q646 q58 q653) rfl rfl rfl rfl (by decide +kernel) ⟨by have := hR.1; show 2 ≤ _; omega, by have := hR.2; show 50 ≤ _; omega⟩) hH hS hn hsize hst hW hdg hf
  · have hk := hk.2.2.1 h
    exact tc_rU (q := (RX8, TX8, 11)) (owner := "ToneGraph$Node") C (hH.n _ hi) (tc_e2 h) rfl (t_X3_takeBack l hi hk) (va_cwU 0 C.hts (lw_Uw q645 q647 q658 q646 q58 q653) rfl rfl rfl rfl (by decide +kernel) ⟨by have := hR.1; show 2 ≤ _; omega, by have := hR.2; show 50 ≤ _; omega⟩) hH hS hn hsize hst hW hdg hf
  · have hk := hk.2.2.2.1 h
    exact tc_rU (q := (RX9, TX9, 10)) (owner := "ToneGraph$Node") C (hH.n _ hi) (tc_e3 h) rfl (t_X3_takeBack l hi hk) (va_cwU 0 C.hts (lw_Uw q645 q647 q659 q646 q58 q653) rfl rfl rfl rfl (by decide +kernel) ⟨by have := hR.1; show 2 ≤ _; omega, by have := hR.2; show 50 ≤ _; omega⟩) hH hS hn hsize hst hW hdg hf
  · have hk := hk.2.2.2.2 h
    exact tc_rU (q := (RX10, TX10, 10)) (owner := "ToneGraph$Node") C (hH.n _ hi) (tc_e4 h) rfl (t_X3_takeBack l hi hk) (va_cwU 0 C.hts (lw_Uw q645 q647 q648 q646 q58 q653) rfl rfl rfl rfl (by decide +kernel) ⟨by have := hR.1; show 2 ≤ _; omega, by have := hR.2; show 50 ≤ _; omega⟩) hH hS hn hsize hst hW hdg hf
/-! ToneGraph.takeBack()V -/
def wp_X1_takeBack_2 (E : tc_E) (post : Unit → tc_S → Prop) (K : Int32 → tc_S → Prop) : Nat → Int32 → tc_S → Prop
  | 0, _, _ => False
  | n2 + 1, x1, s0 => wp_J2_size E (fun r1 s2 => ((r1 ≤ x1 → K x1 s2) ∧ (¬ r1 ≤ x1 → wp_J2_get E (fun r4 s5 => (r4 < yn E ∧ wd_takeBack E (fun _ s8 => (∀ v9, v9 = x1 + 1 → wp_X1_takeBack_2 E post K n2 v9 s8)) r4 s5)) 0 x1 s2))) 0 s0
set_option maxHeartbeats 4000000 in
theorem tw_X1_takeBack_2 {p : Program} {l : Launch} {e : Env} {s : State} {m : MethodId} {args : Array Value} {below : List Frame} {meth : Method} {c : Code} {E : tc_E} {post : Unit → tc_S → Prop} {K : Int32 → tc_S → Prop}  (C : tc_C p m c cX1_takeBack 2 s args RX1 E) (hr : meth.sig.returnType = none) (hlk : meth.locks = false) (hK : ∀ (x1 : Int32) (σ' : tc_S) (H : Heap) (locs : List Loc) (ls : Array Slot), K x1 σ' → tc_ok E σ' H → va_S (fun q => eb E ≤ q) s.heap H locs → lv_has ls 2 [(0, .ref (ea E (0, 0))), (1, .int x1)] → W p l e ({ frames := 3, cells := 0, slots := 0, locals := 71 } : Room) s m args below meth c H locs 0 0 (MQ below (tc_Qg E (fun _ : Unit => none) post) args s 0 0 (fun q => eb E ≤ q)) (F0 m 33 ls [])) :
    ∀ (n : Nat) (x1 : Int32) (s0 : tc_S) (H : Heap) (locs : List Loc) (ls : Array Slot), wp_X1_takeBack_2 E post K n x1 s0 → tc_ok E s0 H → va_S (fun q => eb E ≤ q) s.heap H locs → lv_has ls 2 [(0, .ref (ea E (0, 0))), (1, .int x1)] → W p l e ({ frames := 3, cells := 0, slots := 0, locals := 71 } : Room) s m args below meth c H locs 0 0 (MQ below (tc_Qg E (fun _ : Unit => none) post) args s 0 0 (fun q => eb E ≤ q)) (F0 m 2 ls []) := by
  intro n
  induction n with
  | zero =>
    intro x1 s0 H locs ls hk
    exact hk.elim
  | succ n ih =>
    intro x1 s0 H locs ls hk hH hS hl
    rw [wp_X1_takeBack_2] at hk
    refine lv_iload_n C.hx C.hb dX1_takeBack_2 rfl (lv_at hl 1 rfl) ?_
    refine lv_aload_n C.hx C.hb dX1_takeBack_3 rfl (lv_at hl 0 rfl) ?_
    refine tc_get C hH hH.g (Cn := RX1) (T := TX1) (N := 13) (ci := 0) (fs := tc_gfs E s0) in_X1 rfl rfl 1 (by decide) (C.L q317) (fun _ h => h) (v := .ref (ea E (2, 0))) rfl dX1_takeBack_4 ?_
    refine tc_run (tc_rV (As := []) (rest := [.int x1]) (L := (2, 0)) (ci := 9) (fs := tc_lfs E s0 0) (q := (RJ2, TJ2, 3)) C (hH.l _ (by omega)) rfl rfl (t_J2_size l (by omega) hk) (cwV 0 C.hts (lw_V q360 q361 q362 q56 q363) rfl rfl rfl (by decide +kernel) ⟨Nat.le_of_ble_eq_true rfl, Nat.le_of_ble_eq_true rfl⟩) hH hS rfl hl.1 rfl (lv_room (Nat.le_of_ble_eq_true rfl)) dX1_takeBack_7 ⟨Nat.le_of_ble_eq_true rfl, Nat.le_of_ble_eq_true rfl⟩) hS (fun r1 s2 H locs hk hH hS => ?_)
    refine W.eq (g2 := F0 m 10 ls [.int r1, .int x1]) rfl ?_
    refine lv_icmp_ge (tgt := 33) C.hx C.hb dX1_takeBack_10 (by decide) (fun c3 => ?_) (fun c3 => ?_)
    · have hk := hk.1 c3
      exact hK x1 s2 _ _ _ hk hH hS (lv_sub hl [0, 1] rfl)
    · have hk := hk.2 c3
      refine lv_aload_n C.hx C.hb dX1_takeBack_13 rfl (lv_at hl 0 rfl) ?_
      refine tc_get C hH hH.g (Cn := RX1) (T := TX1) (N := 13) (ci := 0) (fs := tc_gfs E s2) in_X1 rfl rfl 1 (by decide) (C.L q317) (fun _ h => h) (v := .ref (ea E (2, 0))) rfl dX1_takeBack_14 ?_
      refine lv_iload_n C.hx C.hb dX1_takeBack_17 rfl (lv_at hl 1 rfl) ?_
      refine tc_run (tc_rV (As := [.int x1]) (rest := []) (L := (2, 0)) (ci := 9) (fs := tc_lfs E s2 0) (q := (RJ2, TJ2, 3)) C (hH.l _ (by omega)) rfl rfl (t_J2_get l (by omega) hH.gr0 hk) (cwV 1 C.hts (lw_V q368 q369 q370 q56 q371) rfl rfl rfl (by decide +kernel) ⟨Nat.le_of_ble_eq_true rfl, Nat.le_of_ble_eq_true rfl⟩) hH hS rfl hl.1 rfl (lv_room (Nat.le_of_ble_eq_true rfl)) dX1_takeBack_18 ⟨Nat.le_of_ble_eq_true rfl, Nat.le_of_ble_eq_true rfl⟩) hS (fun r4 s5 H locs hk hH hS => ?_)
      refine W.eq (g2 := F0 m 21 ls [.ref (ea E (1, r4))]) rfl ?_
      obtain ⟨h6, hk⟩ := hk
      refine tc_castN C hH h6 q382 dX1_takeBack_21 ?_
      refine tc_run (r_X1_314 (rest := [])  C h6 hk hH hS rfl hl.1 rfl (lv_room (Nat.le_of_ble_eq_true rfl)) dX1_takeBack_24 ⟨Nat.le_of_ble_eq_true rfl, Nat.le_of_ble_eq_true rfl⟩ ⟨Nat.le_of_ble_eq_true rfl, Nat.le_of_ble_eq_true rfl⟩) hS (fun _ s8 H locs hk hH hS => ?_)
      refine W.eq (g2 := F0 m 27 ls []) rfl ?_
      obtain ⟨v9, ev9⟩ : ∃ y : Int32, y = x1 + 1 := ⟨_, rfl⟩
      have hk := hk v9 ev9
      refine lv_iinc (v := v9) (lv' := [(1, .int v9), (0, .ref (ea E (0, 0)))]) C.hx C.hb dX1_takeBack_27 hl (k := 1) rfl (by rw [ev9]; rfl) (by decide) rfl (fun ls hl => ?_)
      refine lv_goto (tgt := 2) C.hx C.hb dX1_takeBack_30 (by decide) ?_
      exact ih v9 s8 _ _ _ hk hH hS (lv_sub hl [1, 0] rfl)
def wp_X1_takeBack (E : tc_E) (post : Unit → tc_S → Prop) (s0 : tc_S) : Prop := (∃ n2, wp_X1_takeBack_2 E post (fun y10 s11 => post () s11) n2 0 s0)
set_option maxHeartbeats 4000000 in
theorem t_X1_takeBack (l : Launch) {E : tc_E} {post : Unit → tc_S → Prop} {s0 : tc_S} (hk : wp_X1_takeBack E post  s0) : tc_M l yX1_takeBack (ws_ yX1_takeBack cX1_takeBack 2 none) ({ frames := 3, cells := 0, slots := 0, locals := 71 } : Room) E [.ref (ea E (0, 0))] s0 (fun _ : Unit => none) post := by
  refine tc_start cX1_takeBack 2 none RX1 (by decide) rfl rfl (Nat.le_of_ble_eq_true rfl) ?_
  intro p e s m args below meth c ls C hnm hr hlk hH hS hl
  have hl : lv_has ls 2 [(0, .ref (ea E (0, 0)))] := hl
  unfold wp_X1_takeBack at hk
  refine lv_iconst (v := 0) C.hx C.hb dX1_takeBack_0 (by decide) ?_
  refine lv_istore_n (lv' := [(1, .int 0), (0, .ref (ea E (0, 0)))]) C.hx C.hb dX1_takeBack_1 rfl hl (by decide) rfl (fun ls hl => ?_)
  obtain ⟨n2, hk⟩ := hk
  refine tw_X1_takeBack_2 C hr hlk (fun y10 s11 H locs ls hk hH hS hl => ?_) n2 0 s0 _ _ _ hk hH hS (lv_sub hl [1, 0] rfl)
  exact tc_vret () rfl C hr hlk hH hS hk dX1_takeBack_33
/-! ToneGraph.isReady(LToneGraph$Node;)Z -/
def wp_X1_isReady_2 (E : tc_E) (post : Int32 → tc_S → Prop) (K : Int32 → tc_S → Prop) (j : Nat) : Nat → Int32 → tc_S → Prop
  | 0, _, _ => False
  | n2 + 1, x1, s0 => wp_J2_size E (fun r1 s2 => ((r1 ≤ x1 → K x1 s2) ∧ (¬ r1 ≤ x1 → wd_isDelay E (fun r4 s5 => ((¬ r4 = 0 → K x1 s5) ∧ (r4 = 0 → (ygr E (j + 2) = true ∧ wp_J2_get E (fun r8 s9 => (r8 < ynw E ∧ ((ywf E r8) < yn E ∧ ((¬ (s9.1 1 (ywf E r8) 2) = 0 → (∀ v13, v13 = x1 + 1 → wp_X1_isReady_2 E post K j n2 v13 s9)) ∧ ((s9.1 1 (ywf E r8) 2) = 0 → post 0 s9))))) (j + 2) x1 s5)))) j s2))) (j + 2) s0
set_option maxHeartbeats 4000000 in
theorem tw_X1_isReady_2 {p : Program} {l : Launch} {e : Env} {s : State} {m : MethodId} {args : Array Value} {below : List Frame} {meth : Method} {c : Code} {E : tc_E} {post : Int32 → tc_S → Prop} {K : Int32 → tc_S → Prop}  {j : Nat} (C : tc_C p m c cX1_isReady 2 s args RX1 E) (hj : j < yn E) (hr : meth.sig.returnType = (some .boolean)) (hlk : meth.locks = false) (hK : ∀ (x1 : Int32) (σ' : tc_S) (H : Heap) (locs : List Loc) (ls : Array Slot), K x1 σ' → tc_ok E σ' H → va_S (fun q => eb E ≤ q) s.heap H locs → lv_has ls 2 [(0, .ref (ea E (1, j))), (1, .int x1)] → W p l e ({ frames := 3, cells := 0, slots := 0, locals := 64 } : Room) s m args below meth c H locs 0 0 (MQ below (tc_Qg E (fun r : Int32 => some (.int r)) post) args s 0 0 (fun q => eb E ≤ q)) (F0 m 48 ls [])) :
    ∀ (n : Nat) (x1 : Int32) (s0 : tc_S) (H : Heap) (locs : List Loc) (ls : Array Slot), wp_X1_isReady_2 E post K j n x1 s0 → tc_ok E s0 H → va_S (fun q => eb E ≤ q) s.heap H locs → lv_has ls 2 [(0, .ref (ea E (1, j))), (1, .int x1)] → W p l e ({ frames := 3, cells := 0, slots := 0, locals := 64 } : Room) s m args below meth c H locs 0 0 (MQ below (tc_Qg E (fun r : Int32 => some (.int r)) post) args s 0 0 (fun q => eb E ≤ q)) (F0 m 2 ls []) := by
  intro n
  induction n with
  | zero =>
    intro x1 s0 H locs ls hk
    exact hk.elim
  | succ n ih =>
    intro x1 s0 H locs ls hk hH hS hl
    rw [wp_X1_isReady_2] at hk
    refine lv_iload_n C.hx C.hb dX1_isReady_2 rfl (lv_at hl 1 rfl) ?_
    refine lv_aload_n C.hx C.hb dX1_isReady_3 rfl (lv_at hl 0 rfl) ?_
    refine tc_getn C hH hj 2 (by decide) rfl (C.N 1 rfl) (v := .ref (ea E (2, j + 2))) rfl dX1_isReady_4 ?_
    refine tc_run (tc_rV (As := []) (rest := [.int x1]) (L := (2, j + 2)) (ci := 9) (fs := tc_lfs E s0 (j + 2)) (q := (RJ2, TJ2, 3)) C (hH.l _ (Nat.add_lt_add_right hj 2)) rfl rfl (t_J2_size l (Nat.add_lt_add_right hj 2) hk) (cwV 0 C.hts (lw_V q360 q361 q362 q56 q363) rfl rfl rfl (by decide +kernel) ⟨Nat.le_of_ble_eq_true rfl, Nat.le_of_ble_eq_true rfl⟩) hH hS rfl hl.1 rfl (lv_room (Nat.le_of_ble_eq_true rfl)) dX1_isReady_7 ⟨Nat.le_of_ble_eq_true rfl, Nat.le_of_ble_eq_true rfl⟩) hS (fun r1 s2 H locs hk hH hS => ?_)
    refine W.eq (g2 := F0 m 10 ls [.int r1, .int x1]) rfl ?_
    refine lv_icmp_ge (tgt := 48) C.hx C.hb dX1_isReady_10 (by decide) (fun c3 => ?_) (fun c3 => ?_)
    · have hk := hk.1 c3
      exact hK x1 s2 _ _ _ hk hH hS (lv_sub hl [0, 1] rfl)
    · have hk := hk.2 c3
      refine lv_aload_n C.hx C.hb dX1_isReady_13 rfl (lv_at hl 0 rfl) ?_
      refine tc_run (r_X1_94 (rest := [])  C hj hk hH hS rfl hl.1 rfl (lv_room (Nat.le_of_ble_eq_true rfl)) dX1_isReady_14 ⟨Nat.le_of_ble_eq_true rfl, Nat.le_of_ble_eq_true rfl⟩ ⟨Nat.le_of_ble_eq_true rfl, Nat.le_of_ble_eq_true rfl⟩) hS (fun r4 s5 H locs hk hH hS => ?_)
      refine W.eq (g2 := F0 m 17 ls [.int r4]) rfl ?_
      refine lv_if_ne (tgt := 48) C.hx C.hb dX1_isReady_17 (by decide) (fun c6 => ?_) (fun c6 => ?_)
      · have hk := hk.1 c6
        exact hK x1 s5 _ _ _ hk hH hS (lv_sub hl [0, 1] rfl)
      · have hk := hk.2 c6
        refine lv_aload_n C.hx C.hb dX1_isReady_20 rfl (lv_at hl 0 rfl) ?_
        refine tc_getn C hH hj 2 (by decide) rfl (C.N 1 rfl) (v := .ref (ea E (2, j + 2))) rfl dX1_isReady_21 ?_
        refine lv_iload_n C.hx C.hb dX1_isReady_24 rfl (lv_at hl 1 rfl) ?_
        obtain ⟨h7, hk⟩ := hk
        refine tc_run (tc_rV (As := [.int x1]) (rest := []) (L := (2, j + 2)) (ci := 9) (fs := tc_lfs E s5 (j + 2)) (q := (RJ2, TJ2, 3)) C (hH.l _ (Nat.add_lt_add_right hj 2)) rfl rfl (t_J2_get l (Nat.add_lt_add_right hj 2) h7 hk) (cwV 1 C.hts (lw_V q368 q369 q370 q56 q371) rfl rfl rfl (by decide +kernel) ⟨Nat.le_of_ble_eq_true rfl, Nat.le_of_ble_eq_true rfl⟩) hH hS rfl hl.1 rfl (lv_room (Nat.le_of_ble_eq_true rfl)) dX1_isReady_25 ⟨Nat.le_of_ble_eq_true rfl, Nat.le_of_ble_eq_true rfl⟩) hS (fun r8 s9 H locs hk hH hS => ?_)
        refine W.eq (g2 := F0 m 28 ls [.ref (ea E (13, r8))]) rfl ?_
        obtain ⟨h10, hk⟩ := hk
        refine tc_castW C hH h10 q540 dX1_isReady_28 ?_
        obtain ⟨h11, hk⟩ := hk
        refine tc_get C hH (hH.w _ h10) (Cn := RX11) (T := TX11) (N := 2) (ci := 8) (fs := [.ref (ea E (1, ywf E r8)), .int (ywq E r8)]) in_X11 rfl rfl 0 (by decide) (C.N 2 rfl) (fun _ h => h) (v := .ref (ea E (1, (ywf E r8)))) rfl dX1_isReady_31 ?_
        refine tc_getn C hH h11 8 (by decide) rfl (C.N 3 rfl) (v := .int (s9.1 1 (ywf E r8) 2)) rfl dX1_isReady_34 ?_
        refine lv_if_ne (tgt := 42) C.hx C.hb dX1_isReady_37 (by decide) (fun c12 => ?_) (fun c12 => ?_)
        · have hk := hk.1 c12
          obtain ⟨v13, ev13⟩ : ∃ y : Int32, y = x1 + 1 := ⟨_, rfl⟩
          have hk := hk v13 ev13
          refine lv_iinc (v := v13) (lv' := [(1, .int v13), (0, .ref (ea E (1, j)))]) C.hx C.hb dX1_isReady_42 hl (k := 1) rfl (by rw [ev13]; rfl) (by decide) rfl (fun ls hl => ?_)
          refine lv_goto (tgt := 2) C.hx C.hb dX1_isReady_45 (by decide) ?_
          exact ih v13 s9 _ _ _ hk hH hS (lv_sub hl [1, 0] rfl)
        · have hk := hk.2 c12
          refine lv_iconst (v := 0) C.hx C.hb dX1_isReady_40 (by decide) ?_
          exact tc_zret (ty := .boolean) 0 rfl C hr hlk (by decide) hH hS hk dX1_isReady_41
def wp_X1_isReady (E : tc_E) (post : Int32 → tc_S → Prop) (j : Nat) (s0 : tc_S) : Prop := (∃ n2, wp_X1_isReady_2 E post (fun y14 s15 => post 1 s15) j n2 0 s0)
set_option maxHeartbeats 4000000 in
theorem t_X1_isReady (l : Launch) {E : tc_E} {j : Nat} (hj : j < yn E) {post : Int32 → tc_S → Prop} {s0 : tc_S} (hk : wp_X1_isReady E post j s0) : tc_M l yX1_isReady (ws_ yX1_isReady cX1_isReady 2 (some .boolean)) ({ frames := 3, cells := 0, slots := 0, locals := 64 } : Room) E [.ref (ea E (1, j))] s0 (fun r : Int32 => some (.int r)) post := by
  refine tc_start cX1_isReady 2 (some .boolean) RX1 (by decide) rfl rfl (Nat.le_of_ble_eq_true rfl) ?_
  intro p e s m args below meth c ls C hnm hr hlk hH hS hl
  have hl : lv_has ls 2 [(0, .ref (ea E (1, j)))] := hl
  unfold wp_X1_isReady at hk
  refine lv_iconst (v := 0) C.hx C.hb dX1_isReady_0 (by decide) ?_
  refine lv_istore_n (lv' := [(1, .int 0), (0, .ref (ea E (1, j)))]) C.hx C.hb dX1_isReady_1 rfl hl (by decide) rfl (fun ls hl => ?_)
  obtain ⟨n2, hk⟩ := hk
  refine tw_X1_isReady_2 C hj hr hlk (fun y14 s15 H locs ls hk hH hS hl => ?_) n2 0 s0 _ _ _ hk hH hS (lv_sub hl [1, 0] rfl)
  refine lv_iconst (v := 1) C.hx C.hb dX1_isReady_48 (by decide) ?_
  exact tc_zret (ty := .boolean) 1 rfl C hr hlk (by decide) hH hS hk dX1_isReady_49
/-! ToneGraph.sort()V -/
def wp_X1_sort_9 (E : tc_E) (post : Unit → tc_S → Prop) (K : Int32 → tc_S → Prop) : Nat → Int32 → tc_S → Prop
  | 0, _, _ => False
  | n9 + 1, x1, s0 => wp_J2_size E (fun r3 s4 => ((r3 ≤ x1 → K x1 s4) ∧ (¬ r3 ≤ x1 → wp_J2_get E (fun r6 s7 => (r6 < yn E ∧ (∀ s9 : tc_S, s9 = tI s7 1 r6 2 0 → (∀ v10, v10 = x1 + 1 → wp_X1_sort_9 E post K n9 v10 s9)))) 0 x1 s4))) 0 s0
set_option maxHeartbeats 4000000 in
theorem tw_X1_sort_9 {p : Program} {l : Launch} {e : Env} {s : State} {m : MethodId} {args : Array Value} {below : List Frame} {meth : Method} {c : Code} {E : tc_E} {post : Unit → tc_S → Prop} {K : Int32 → tc_S → Prop}  (C : tc_C p m c cX1_sort 2 s args RX1 E) (hr : meth.sig.returnType = none) (hlk : meth.locks = false) (hK : ∀ (x1 : Int32) (σ' : tc_S) (H : Heap) (locs : List Loc) (ls : Array Slot), K x1 σ' → tc_ok E σ' H → va_S (fun q => eb E ≤ q) s.heap H locs → lv_has ls 2 [(0, .ref (ea E (0, 0))), (1, .int x1)] → W p l e ({ frames := 4, cells := 0, slots := 0, locals := 85 } : Room) s m args below meth c H locs 0 0 (MQ below (tc_Qg E (fun _ : Unit => none) post) args s 0 0 (fun q => eb E ≤ q)) (F0 m 41 ls [])) :
    ∀ (n : Nat) (x1 : Int32) (s0 : tc_S) (H : Heap) (locs : List Loc) (ls : Array Slot), wp_X1_sort_9 E post K n x1 s0 → tc_ok E s0 H → va_S (fun q => eb E ≤ q) s.heap H locs → lv_has ls 2 [(0, .ref (ea E (0, 0))), (1, .int x1)] → W p l e ({ frames := 4, cells := 0, slots := 0, locals := 85 } : Room) s m args below meth c H locs 0 0 (MQ below (tc_Qg E (fun _ : Unit => none) post) args s 0 0 (fun q => eb E ≤ q)) (F0 m 9 ls []) := by
  intro n
  induction n with
  | zero =>
    intro x1 s0 H locs ls hk
    exact hk.elim
  | succ n ih =>
    intro x1 s0 H locs ls hk hH hS hl
    rw [wp_X1_sort_9] at hk
    refine lv_iload_n C.hx C.hb dX1_sort_9 rfl (lv_at hl 1 rfl) ?_
    refine lv_aload_n C.hx C.hb dX1_sort_10 rfl (lv_at hl 0 rfl) ?_
    refine tc_get C hH hH.g (Cn := RX1) (T := TX1) (N := 13) (ci := 0) (fs := tc_gfs E s0) in_X1 rfl rfl 1 (by decide) (C.L q317) (fun _ h => h) (v := .ref (ea E (2, 0))) rfl dX1_sort_11 ?_
    refine tc_run (tc_rV (As := []) (rest := [.int x1]) (L := (2, 0)) (ci := 9) (fs := tc_lfs E s0 0) (q := (RJ2, TJ2, 3)) C (hH.l _ (by omega)) rfl rfl (t_J2_size l (by omega) hk) (cwV 0 C.hts (lw_V q360 q361 q362 q56 q363) rfl rfl rfl (by decide +kernel) ⟨Nat.le_of_ble_eq_true rfl, Nat.le_of_ble_eq_true rfl⟩) hH hS rfl hl.1 rfl (lv_room (Nat.le_of_ble_eq_true rfl)) dX1_sort_14 ⟨Nat.le_of_ble_eq_true rfl, Nat.le_of_ble_eq_true rfl⟩) hS (fun r3 s4 H locs hk hH hS => ?_)
    refine W.eq (g2 := F0 m 17 ls [.int r3, .int x1]) rfl ?_
    refine lv_icmp_ge (tgt := 41) C.hx C.hb dX1_sort_17 (by decide) (fun c5 => ?_) (fun c5 => ?_)
    · have hk := hk.1 c5
      exact hK x1 s4 _ _ _ hk hH hS (lv_sub hl [0, 1] rfl)
    · have hk := hk.2 c5
      refine lv_aload_n C.hx C.hb dX1_sort_20 rfl (lv_at hl 0 rfl) ?_
      refine tc_get C hH hH.g (Cn := RX1) (T := TX1) (N := 13) (ci := 0) (fs := tc_gfs E s4) in_X1 rfl rfl 1 (by decide) (C.L q317) (fun _ h => h) (v := .ref (ea E (2, 0))) rfl dX1_sort_21 ?_
      refine lv_iload_n C.hx C.hb dX1_sort_24 rfl (lv_at hl 1 rfl) ?_
      refine tc_run (tc_rV (As := [.int x1]) (rest := []) (L := (2, 0)) (ci := 9) (fs := tc_lfs E s4 0) (q := (RJ2, TJ2, 3)) C (hH.l _ (by omega)) rfl rfl (t_J2_get l (by omega) hH.gr0 hk) (cwV 1 C.hts (lw_V q368 q369 q370 q56 q371) rfl rfl rfl (by decide +kernel) ⟨Nat.le_of_ble_eq_true rfl, Nat.le_of_ble_eq_true rfl⟩) hH hS rfl hl.1 rfl (lv_room (Nat.le_of_ble_eq_true rfl)) dX1_sort_25 ⟨Nat.le_of_ble_eq_true rfl, Nat.le_of_ble_eq_true rfl⟩) hS (fun r6 s7 H locs hk hH hS => ?_)
      refine W.eq (g2 := F0 m 28 ls [.ref (ea E (1, r6))]) rfl ?_
      obtain ⟨h8, hk⟩ := hk
      refine tc_castN C hH h8 q382 dX1_sort_28 ?_
      refine lv_iconst (v := 0) C.hx C.hb dX1_sort_31 (by decide) ?_
      refine tc_putn C hH hS h8 8 (by decide) rfl (C.N 3 rfl) rfl (v := .int 0) (by decide) (by decide) (tc_un_placed E s7 r6 0) dX1_sort_32 (fun s9 es9 H locs hH hS => ?_)
      have hk := hk s9 es9
      obtain ⟨v10, ev10⟩ : ∃ y : Int32, y = x1 + 1 := ⟨_, rfl⟩
      have hk := hk v10 ev10
      refine lv_iinc (v := v10) (lv' := [(1, .int v10), (0, .ref (ea E (0, 0)))]) C.hx C.hb dX1_sort_35 hl (k := 1) rfl (by rw [ev10]; rfl) (by decide) rfl (fun ls hl => ?_)
      refine lv_goto (tgt := 9) C.hx C.hb dX1_sort_38 (by decide) ?_
      exact ih v10 s9 _ _ _ hk hH hS (lv_sub hl [1, 0] rfl)
def wp_X1_sort_60 (E : tc_E) (post : Unit → tc_S → Prop) (K : Int32 → tc_S → Prop) : Nat → Int32 → tc_S → Prop
  | 0, _, _ => False
  | n60 + 1, x1, s0 => wp_J2_get E (fun r18 s19 => (r18 < yn E ∧ ((¬ (s19.1 1 r18 2) = 0 → (∀ v22, v22 = x1 + 1 → wp_X1_sort_60 E post K n60 v22 s19)) ∧ ((s19.1 1 r18 2) = 0 → wp_J2_get E (fun r23 s24 => (r23 < yn E ∧ wp_X1_isReady E (fun r26 s27 => ((¬ r26 = 0 → K x1 s27) ∧ (r26 = 0 → (∀ v29, v29 = x1 + 1 → wp_X1_sort_60 E post K n60 v29 s27)))) r23 s24)) 0 x1 s19)))) 0 x1 s0
set_option maxHeartbeats 4000000 in
theorem tw_X1_sort_60 {p : Program} {l : Launch} {e : Env} {s : State} {m : MethodId} {args : Array Value} {below : List Frame} {meth : Method} {c : Code} {E : tc_E} {post : Unit → tc_S → Prop} {K : Int32 → tc_S → Prop}  (C : tc_C p m c cX1_sort 2 s args RX1 E) (hr : meth.sig.returnType = none) (hlk : meth.locks = false) (hK : ∀ (x1 : Int32) (σ' : tc_S) (H : Heap) (locs : List Loc) (ls : Array Slot), K x1 σ' → tc_ok E σ' H → va_S (fun q => eb E ≤ q) s.heap H locs → lv_has ls 2 [(0, .ref (ea E (0, 0))), (1, .int x1)] → W p l e ({ frames := 4, cells := 0, slots := 0, locals := 85 } : Room) s m args below meth c H locs 0 0 (MQ below (tc_Qg E (fun _ : Unit => none) post) args s 0 0 (fun q => eb E ≤ q)) (F0 m 100 ls [])) :
    ∀ (n : Nat) (x1 : Int32) (s0 : tc_S) (H : Heap) (locs : List Loc) (ls : Array Slot), wp_X1_sort_60 E post K n x1 s0 → tc_ok E s0 H → va_S (fun q => eb E ≤ q) s.heap H locs → lv_has ls 2 [(0, .ref (ea E (0, 0))), (1, .int x1)] → W p l e ({ frames := 4, cells := 0, slots := 0, locals := 85 } : Room) s m args below meth c H locs 0 0 (MQ below (tc_Qg E (fun _ : Unit => none) post) args s 0 0 (fun q => eb E ≤ q)) (F0 m 60 ls []) := by
  intro n
  induction n with
  | zero =>
    intro x1 s0 H locs ls hk
    exact hk.elim
  | succ n ih =>
    intro x1 s0 H locs ls hk hH hS hl
    rw [wp_X1_sort_60] at hk
    refine lv_aload_n C.hx C.hb dX1_sort_60 rfl (lv_at hl 0 rfl) ?_
    refine tc_get C hH hH.g (Cn := RX1) (T := TX1) (N := 13) (ci := 0) (fs := tc_gfs E s0) in_X1 rfl rfl 1 (by decide) (C.L q317) (fun _ h => h) (v := .ref (ea E (2, 0))) rfl dX1_sort_61 ?_
    refine lv_iload_n C.hx C.hb dX1_sort_64 rfl (lv_at hl 1 rfl) ?_
    refine tc_run (tc_rV (As := [.int x1]) (rest := []) (L := (2, 0)) (ci := 9) (fs := tc_lfs E s0 0) (q := (RJ2, TJ2, 3)) C (hH.l _ (by omega)) rfl rfl (t_J2_get l (by omega) hH.gr0 hk) (cwV 1 C.hts (lw_V q368 q369 q370 q56 q371) rfl rfl rfl (by decide +kernel) ⟨Nat.le_of_ble_eq_true rfl, Nat.le_of_ble_eq_true rfl⟩) hH hS rfl hl.1 rfl (lv_room (Nat.le_of_ble_eq_true rfl)) dX1_sort_65 ⟨Nat.le_of_ble_eq_true rfl, Nat.le_of_ble_eq_true rfl⟩) hS (fun r18 s19 H locs hk hH hS => ?_)
    refine W.eq (g2 := F0 m 68 ls [.ref (ea E (1, r18))]) rfl ?_
    obtain ⟨h20, hk⟩ := hk
    refine tc_castN C hH h20 q382 dX1_sort_68 ?_
    refine tc_getn C hH h20 8 (by decide) rfl (C.N 3 rfl) (v := .int (s19.1 1 r18 2)) rfl dX1_sort_71 ?_
    refine lv_if_ne (tgt := 94) C.hx C.hb dX1_sort_74 (by decide) (fun c21 => ?_) (fun c21 => ?_)
    · have hk := hk.1 c21
      obtain ⟨v22, ev22⟩ : ∃ y : Int32, y = x1 + 1 := ⟨_, rfl⟩
      have hk := hk v22 ev22
      refine lv_iinc (v := v22) (lv' := [(1, .int v22), (0, .ref (ea E (0, 0)))]) C.hx C.hb dX1_sort_94 hl (k := 1) rfl (by rw [ev22]; rfl) (by decide) rfl (fun ls hl => ?_)
      refine lv_goto (tgt := 60) C.hx C.hb dX1_sort_97 (by decide) ?_
      exact ih v22 s19 _ _ _ hk hH hS (lv_sub hl [1, 0] rfl)
    · have hk := hk.2 c21
      refine lv_aload_n C.hx C.hb dX1_sort_77 rfl (lv_at hl 0 rfl) ?_
      refine tc_get C hH hH.g (Cn := RX1) (T := TX1) (N := 13) (ci := 0) (fs := tc_gfs E s19) in_X1 rfl rfl 1 (by decide) (C.L q317) (fun _ h => h) (v := .ref (ea E (2, 0))) rfl dX1_sort_78 ?_
      refine lv_iload_n C.hx C.hb dX1_sort_81 rfl (lv_at hl 1 rfl) ?_
      refine tc_run (tc_rV (As := [.int x1]) (rest := []) (L := (2, 0)) (ci := 9) (fs := tc_lfs E s19 0) (q := (RJ2, TJ2, 3)) C (hH.l _ (by omega)) rfl rfl (t_J2_get l (by omega) hH.gr0 hk) (cwV 1 C.hts (lw_V q368 q369 q370 q56 q371) rfl rfl rfl (by decide +kernel) ⟨Nat.le_of_ble_eq_true rfl, Nat.le_of_ble_eq_true rfl⟩) hH hS rfl hl.1 rfl (lv_room (Nat.le_of_ble_eq_true rfl)) dX1_sort_82 ⟨Nat.le_of_ble_eq_true rfl, Nat.le_of_ble_eq_true rfl⟩) hS (fun r23 s24 H locs hk hH hS => ?_)
      refine W.eq (g2 := F0 m 85 ls [.ref (ea E (1, r23))]) rfl ?_
      obtain ⟨h25, hk⟩ := hk
      refine tc_castN C hH h25 q382 dX1_sort_85 ?_
      refine tc_run (tc_rS (As := [.ref (ea E (1, r23))]) (rest := []) C (t_X1_isReady l h25 hk) (va_cwS 1 C.hts (lw_S q782 q783 q53 q784) rfl rfl rfl (by decide +kernel) ⟨Nat.le_of_ble_eq_true rfl, Nat.le_of_ble_eq_true rfl⟩) hH hS rfl hl.1 rfl (lv_room (Nat.le_of_ble_eq_true rfl)) dX1_sort_88 ⟨Nat.le_of_ble_eq_true rfl, Nat.le_of_ble_eq_true rfl⟩) hS (fun r26 s27 H locs hk hH hS => ?_)
      refine W.eq (g2 := F0 m 91 ls [.int r26]) rfl ?_
      refine lv_if_ne (tgt := 100) C.hx C.hb dX1_sort_91 (by decide) (fun c28 => ?_) (fun c28 => ?_)
      · have hk := hk.1 c28
        exact hK x1 s27 _ _ _ hk hH hS (lv_sub hl [0, 1] rfl)
      · have hk := hk.2 c28
        obtain ⟨v29, ev29⟩ : ∃ y : Int32, y = x1 + 1 := ⟨_, rfl⟩
        have hk := hk v29 ev29
        refine lv_iinc (v := v29) (lv' := [(1, .int v29), (0, .ref (ea E (0, 0)))]) C.hx C.hb dX1_sort_94 hl (k := 1) rfl (by rw [ev29]; rfl) (by decide) rfl (fun ls hl => ?_)
        refine lv_goto (tgt := 60) C.hx C.hb dX1_sort_97 (by decide) ?_
        exact ih v29 s27 _ _ _ hk hH hS (lv_sub hl [1, 0] rfl)
def wp_X1_sort_41 (E : tc_E) (post : Unit → tc_S → Prop) (K : Int32 → tc_S → Prop) : Nat → Int32 → tc_S → Prop
  | 0, _, _ => False
  | n41 + 1, x1, s0 => wp_J2_size E (fun r13 s14 => wp_J2_size E (fun r15 s16 => ((r15 ≤ r13 → K x1 s16) ∧ (¬ r15 ≤ r13 → (∃ n60, wp_X1_sort_60 E post (fun y30 s31 => wp_J2_get E (fun r32 s33 => (r32 < yn E ∧ (∀ s35 : tc_S, s35 = tI s33 1 r32 2 1 → wp_J2_get E (fun r36 s37 => (r36 < yn E ∧ wp_J2_addN E (fun r39 s40 => wp_X1_sort_41 E post K n41 y30 s40) 1 r36 s37)) 0 y30 s35))) 0 y30 s31) n60 0 s16)))) 0 s14) 1 s0
set_option maxHeartbeats 4000000 in
theorem tw_X1_sort_41 {p : Program} {l : Launch} {e : Env} {s : State} {m : MethodId} {args : Array Value} {below : List Frame} {meth : Method} {c : Code} {E : tc_E} {post : Unit → tc_S → Prop} {K : Int32 → tc_S → Prop}  (C : tc_C p m c cX1_sort 2 s args RX1 E) (hr : meth.sig.returnType = none) (hlk : meth.locks = false) (hK : ∀ (x1 : Int32) (σ' : tc_S) (H : Heap) (locs : List Loc) (ls : Array Slot), K x1 σ' → tc_ok E σ' H → va_S (fun q => eb E ≤ q) s.heap H locs → lv_has ls 2 [(0, .ref (ea E (0, 0))), (1, .int x1)] → W p l e ({ frames := 4, cells := 0, slots := 0, locals := 85 } : Room) s m args below meth c H locs 0 0 (MQ below (tc_Qg E (fun _ : Unit => none) post) args s 0 0 (fun q => eb E ≤ q)) (F0 m 137 ls [])) :
    ∀ (n : Nat) (x1 : Int32) (s0 : tc_S) (H : Heap) (locs : List Loc) (ls : Array Slot), wp_X1_sort_41 E post K n x1 s0 → tc_ok E s0 H → va_S (fun q => eb E ≤ q) s.heap H locs → lv_has ls 2 [(0, .ref (ea E (0, 0))), (1, .int x1)] → W p l e ({ frames := 4, cells := 0, slots := 0, locals := 85 } : Room) s m args below meth c H locs 0 0 (MQ below (tc_Qg E (fun _ : Unit => none) post) args s 0 0 (fun q => eb E ≤ q)) (F0 m 41 ls []) := by
  intro n
  induction n with
  | zero =>
    intro x1 s0 H locs ls hk
    exact hk.elim
  | succ n ih =>
    intro x1 s0 H locs ls hk hH hS hl
    rw [wp_X1_sort_41] at hk
    refine lv_aload_n C.hx C.hb dX1_sort_41 rfl (lv_at hl 0 rfl) ?_
    refine tc_get C hH hH.g (Cn := RX1) (T := TX1) (N := 13) (ci := 0) (fs := tc_gfs E s0) in_X1 rfl rfl 2 (by decide) (C.L q318) (fun _ h => h) (v := .ref (ea E (2, 1))) rfl dX1_sort_42 ?_
    refine tc_run (tc_rV (As := []) (rest := []) (L := (2, 1)) (ci := 9) (fs := tc_lfs E s0 1) (q := (RJ2, TJ2, 3)) C (hH.l _ (by omega)) rfl rfl (t_J2_size l (by omega) hk) (cwV 0 C.hts (lw_V q360 q361 q362 q56 q363) rfl rfl rfl (by decide +kernel) ⟨Nat.le_of_ble_eq_true rfl, Nat.le_of_ble_eq_true rfl⟩) hH hS rfl hl.1 rfl (lv_room (Nat.le_of_ble_eq_true rfl)) dX1_sort_45 ⟨Nat.le_of_ble_eq_true rfl, Nat.le_of_ble_eq_true rfl⟩) hS (fun r13 s14 H locs hk hH hS => ?_)
    refine W.eq (g2 := F0 m 48 ls [.int r13]) rfl ?_
    refine lv_aload_n C.hx C.hb dX1_sort_48 rfl (lv_at hl 0 rfl) ?_
    refine tc_get C hH hH.g (Cn := RX1) (T := TX1) (N := 13) (ci := 0) (fs := tc_gfs E s14) in_X1 rfl rfl 1 (by decide) (C.L q317) (fun _ h => h) (v := .ref (ea E (2, 0))) rfl dX1_sort_49 ?_
    refine tc_run (tc_rV (As := []) (rest := [.int r13]) (L := (2, 0)) (ci := 9) (fs := tc_lfs E s14 0) (q := (RJ2, TJ2, 3)) C (hH.l _ (by omega)) rfl rfl (t_J2_size l (by omega) hk) (cwV 0 C.hts (lw_V q360 q361 q362 q56 q363) rfl rfl rfl (by decide +kernel) ⟨Nat.le_of_ble_eq_true rfl, Nat.le_of_ble_eq_true rfl⟩) hH hS rfl hl.1 rfl (lv_room (Nat.le_of_ble_eq_true rfl)) dX1_sort_52 ⟨Nat.le_of_ble_eq_true rfl, Nat.le_of_ble_eq_true rfl⟩) hS (fun r15 s16 H locs hk hH hS => ?_)
    refine W.eq (g2 := F0 m 55 ls [.int r15, .int r13]) rfl ?_
    refine lv_icmp_ge (tgt := 137) C.hx C.hb dX1_sort_55 (by decide) (fun c17 => ?_) (fun c17 => ?_)
    · have hk := hk.1 c17
      exact hK x1 s16 _ _ _ hk hH hS (lv_sub hl [0, 1] rfl)
    · have hk := hk.2 c17
      refine lv_iconst (v := 0) C.hx C.hb dX1_sort_58 (by decide) ?_
      refine lv_istore_n (lv' := [(1, .int 0), (0, .ref (ea E (0, 0)))]) C.hx C.hb dX1_sort_59 rfl hl (by decide) rfl (fun ls hl => ?_)
      obtain ⟨n60, hk⟩ := hk
      refine tw_X1_sort_60 C hr hlk (fun y30 s31 H locs ls hk hH hS hl => ?_) n60 0 s16 _ _ _ hk hH hS (lv_sub hl [1, 0] rfl)
      refine lv_aload_n C.hx C.hb dX1_sort_100 rfl (lv_at hl 0 rfl) ?_
      refine tc_get C hH hH.g (Cn := RX1) (T := TX1) (N := 13) (ci := 0) (fs := tc_gfs E s31) in_X1 rfl rfl 1 (by decide) (C.L q317) (fun _ h => h) (v := .ref (ea E (2, 0))) rfl dX1_sort_101 ?_
      refine lv_iload_n C.hx C.hb dX1_sort_104 rfl (lv_at hl 1 rfl) ?_
      refine tc_run (tc_rV (As := [.int y30]) (rest := []) (L := (2, 0)) (ci := 9) (fs := tc_lfs E s31 0) (q := (RJ2, TJ2, 3)) C (hH.l _ (by omega)) rfl rfl (t_J2_get l (by omega) hH.gr0 hk) (cwV 1 C.hts (lw_V q368 q369 q370 q56 q371) rfl rfl rfl (by decide +kernel) ⟨Nat.le_of_ble_eq_true rfl, Nat.le_of_ble_eq_true rfl⟩) hH hS rfl hl.1 rfl (lv_room (Nat.le_of_ble_eq_true rfl)) dX1_sort_105 ⟨Nat.le_of_ble_eq_true rfl, Nat.le_of_ble_eq_true rfl⟩) hS (fun r32 s33 H locs hk hH hS => ?_)
      refine W.eq (g2 := F0 m 108 ls [.ref (ea E (1, r32))]) rfl ?_
      obtain ⟨h34, hk⟩ := hk
      refine tc_castN C hH h34 q382 dX1_sort_108 ?_
      refine lv_iconst (v := 1) C.hx C.hb dX1_sort_111 (by decide) ?_
      refine tc_putn C hH hS h34 8 (by decide) rfl (C.N 3 rfl) rfl (v := .int 1) (by decide) (by decide) (tc_un_placed E s33 r32 1) dX1_sort_112 (fun s35 es35 H locs hH hS => ?_)
      have hk := hk s35 es35
      refine lv_aload_n C.hx C.hb dX1_sort_115 rfl (lv_at hl 0 rfl) ?_
      refine tc_get C hH hH.g (Cn := RX1) (T := TX1) (N := 13) (ci := 0) (fs := tc_gfs E s35) in_X1 rfl rfl 2 (by decide) (C.L q318) (fun _ h => h) (v := .ref (ea E (2, 1))) rfl dX1_sort_116 ?_
      refine lv_aload_n C.hx C.hb dX1_sort_119 rfl (lv_at hl 0 rfl) ?_
      refine tc_get C hH hH.g (Cn := RX1) (T := TX1) (N := 13) (ci := 0) (fs := tc_gfs E s35) in_X1 rfl rfl 1 (by decide) (C.L q317) (fun _ h => h) (v := .ref (ea E (2, 0))) rfl dX1_sort_120 ?_
      refine lv_iload_n C.hx C.hb dX1_sort_123 rfl (lv_at hl 1 rfl) ?_
      refine tc_run (tc_rV (As := [.int y30]) (rest := [.ref (ea E (2, 1))]) (L := (2, 0)) (ci := 9) (fs := tc_lfs E s35 0) (q := (RJ2, TJ2, 3)) C (hH.l _ (by omega)) rfl rfl (t_J2_get l (by omega) hH.gr0 hk) (cwV 1 C.hts (lw_V q368 q369 q370 q56 q371) rfl rfl rfl (by decide +kernel) ⟨Nat.le_of_ble_eq_true rfl, Nat.le_of_ble_eq_true rfl⟩) hH hS rfl hl.1 rfl (lv_room (Nat.le_of_ble_eq_true rfl)) dX1_sort_124 ⟨Nat.le_of_ble_eq_true rfl, Nat.le_of_ble_eq_true rfl⟩) hS (fun r36 s37 H locs hk hH hS => ?_)
      refine W.eq (g2 := F0 m 127 ls [.ref (ea E (1, r36)), .ref (ea E (2, 1))]) rfl ?_
      obtain ⟨h38, hk⟩ := hk
      refine tc_castN C hH h38 q382 dX1_sort_127 ?_
      refine tc_run (tc_rV (As := [.ref (ea E (1, r36))]) (rest := []) (L := (2, 1)) (ci := 9) (fs := tc_lfs E s37 1) (q := (RJ2, TJ2, 3)) C (hH.l _ (by omega)) rfl rfl (t_J2_addN l (by omega) hH.gr1 rfl h38 hk) (cwV 1 C.hts (lw_V q251 q252 q253 q56 q254) rfl rfl rfl (by decide +kernel) ⟨Nat.le_of_ble_eq_true rfl, Nat.le_of_ble_eq_true rfl⟩) hH hS rfl hl.1 rfl (lv_room (Nat.le_of_ble_eq_true rfl)) dX1_sort_130 ⟨Nat.le_of_ble_eq_true rfl, Nat.le_of_ble_eq_true rfl⟩) hS (fun r39 s40 H locs hk hH hS => ?_)
      refine W.eq (g2 := F0 m 133 ls [.int r39]) rfl ?_
      refine lv_pop C.hx C.hb dX1_sort_133 rfl ?_
      refine lv_goto (tgt := 41) C.hx C.hb dX1_sort_134 (by decide) ?_
      exact ih y30 s40 _ _ _ hk hH hS (lv_sub hl [0, 1] rfl)
def wp_X1_sort (E : tc_E) (post : Unit → tc_S → Prop) (s0 : tc_S) : Prop := wp_J2_clear E (fun _ s2 => (∃ n9, wp_X1_sort_9 E post (fun y11 s12 => (∃ n41, wp_X1_sort_41 E post (fun y41 s42 => post () s42) n41 y11 s12)) n9 0 s2)) 1 s0
set_option maxHeartbeats 4000000 in
theorem t_X1_sort (l : Launch) {E : tc_E} {post : Unit → tc_S → Prop} {s0 : tc_S} (hk : wp_X1_sort E post  s0) : tc_M l yX1_sort (ws_ yX1_sort cX1_sort 2 none) ({ frames := 4, cells := 0, slots := 0, locals := 85 } : Room) E [.ref (ea E (0, 0))] s0 (fun _ : Unit => none) post := by
  refine tc_start cX1_sort 2 none RX1 (by decide) rfl rfl (Nat.le_of_ble_eq_true rfl) ?_
  intro p e s m args below meth c ls C hnm hr hlk hH hS hl
  have hl : lv_has ls 2 [(0, .ref (ea E (0, 0)))] := hl
  unfold wp_X1_sort at hk
  refine lv_aload_n C.hx C.hb dX1_sort_0 rfl (lv_at hl 0 rfl) ?_
  refine tc_get C hH hH.g (Cn := RX1) (T := TX1) (N := 13) (ci := 0) (fs := tc_gfs E s0) in_X1 rfl rfl 2 (by decide) (C.L q318) (fun _ h => h) (v := .ref (ea E (2, 1))) rfl dX1_sort_1 ?_
  refine tc_run (tc_rV (As := []) (rest := []) (L := (2, 1)) (ci := 9) (fs := tc_lfs E s0 1) (q := (RJ2, TJ2, 3)) C (hH.l _ (by omega)) rfl rfl (t_J2_clear l (by omega) hH.gr1 hk) (cwV 0 C.hts (lw_V q778 q779 q780 q56 q781) rfl rfl rfl (by decide +kernel) ⟨Nat.le_of_ble_eq_true rfl, Nat.le_of_ble_eq_true rfl⟩) hH hS rfl hl.1 rfl (lv_room (Nat.le_of_ble_eq_true rfl)) dX1_sort_4 ⟨Nat.le_of_ble_eq_true rfl, Nat.le_of_ble_eq_true rfl⟩) hS (fun _ s2 H locs hk hH hS => ?_)
  refine W.eq (g2 := F0 m 7 ls []) rfl ?_
  refine lv_iconst (v := 0) C.hx C.hb dX1_sort_7 (by decide) ?_
  refine lv_istore_n (lv' := [(1, .int 0), (0, .ref (ea E (0, 0)))]) C.hx C.hb dX1_sort_8 rfl hl (by decide) rfl (fun ls hl => ?_)
  obtain ⟨n9, hk⟩ := hk
  refine tw_X1_sort_9 C hr hlk (fun y11 s12 H locs ls hk hH hS hl => ?_) n9 0 s2 _ _ _ hk hH hS (lv_sub hl [1, 0] rfl)
  obtain ⟨n41, hk⟩ := hk
  refine tw_X1_sort_41 C hr hlk (fun y41 s42 H locs ls hk hH hS hl => ?_) n41 y11 s12 _ _ _ hk hH hS (lv_sub hl [0, 1] rfl)
  exact tc_vret () rfl C hr hlk hH hS hk dX1_sort_137
/-! ToneGraph.isBehind(I)Z -/
def wp_X1_isBehind_35 (E : tc_E) (post : Int32 → tc_S → Prop) (K : Int32 → Int32 → Int32 → tc_S → Prop) (r1 : Nat) : Nat → Int32 → Int32 → Int32 → tc_S → Prop
  | 0, _, _, _, _ => False
  | n35 + 1, x1, x3, x4, s0 => wp_J2_get E (fun r10 s11 => (ygr E (r1 + 2) = true ∧ wp_J2_get E (fun r13 s14 => (r13 < ynw E ∧ ((ywf E r13) < yn E ∧ (r10 < yn E ∧ ((r10 = (ywf E r13) → K x1 x3 x4 s14) ∧ (¬ r10 = (ywf E r13) → (∀ v19, v19 = x4 + 1 → wp_X1_isBehind_35 E post K r1 n35 x1 x3 v19 s14))))))) (r1 + 2) x3 s11)) 1 x4 s0
set_option maxHeartbeats 4000000 in
theorem tw_X1_isBehind_35 {p : Program} {l : Launch} {e : Env} {s : State} {m : MethodId} {args : Array Value} {below : List Frame} {meth : Method} {c : Code} {E : tc_E} {post : Int32 → tc_S → Prop} {K : Int32 → Int32 → Int32 → tc_S → Prop}  {r1 : Nat} (C : tc_C p m c cX1_isBehind 5 s args RX1 E) (gr1 : r1 < yn E) (hr : meth.sig.returnType = (some .boolean)) (hlk : meth.locks = false) (hK : ∀ (x1 : Int32) (x3 : Int32) (x4 : Int32) (σ' : tc_S) (H : Heap) (locs : List Loc) (ls : Array Slot), K x1 x3 x4 σ' → tc_ok E σ' H → va_S (fun q => eb E ≤ q) s.heap H locs → lv_has ls 5 [(0, .ref (ea E (0, 0))), (1, .int x1), (2, .ref (ea E (1, r1))), (3, .int x3), (4, .int x4)] → W p l e ({ frames := 3, cells := 0, slots := 0, locals := 64 } : Room) s m args below meth c H locs 0 0 (MQ below (tc_Qg E (fun r : Int32 => some (.int r)) post) args s 0 0 (fun q => eb E ≤ q)) (F0 m 67 ls [])) :
    ∀ (n : Nat) (x1 : Int32) (x3 : Int32) (x4 : Int32) (s0 : tc_S) (H : Heap) (locs : List Loc) (ls : Array Slot), wp_X1_isBehind_35 E post K r1 n x1 x3 x4 s0 → tc_ok E s0 H → va_S (fun q => eb E ≤ q) s.heap H locs → lv_has ls 5 [(0, .ref (ea E (0, 0))), (1, .int x1), (2, .ref (ea E (1, r1))), (3, .int x3), (4, .int x4)] → W p l e ({ frames := 3, cells := 0, slots := 0, locals := 64 } : Room) s m args below meth c H locs 0 0 (MQ below (tc_Qg E (fun r : Int32 => some (.int r)) post) args s 0 0 (fun q => eb E ≤ q)) (F0 m 35 ls []) := by
  intro n
  induction n with
  | zero =>
    intro x1 x3 x4 s0 H locs ls hk
    exact hk.elim
  | succ n ih =>
    intro x1 x3 x4 s0 H locs ls hk hH hS hl
    rw [wp_X1_isBehind_35] at hk
    refine lv_aload_n C.hx C.hb dX1_isBehind_35 rfl (lv_at hl 0 rfl) ?_
    refine tc_get C hH hH.g (Cn := RX1) (T := TX1) (N := 13) (ci := 0) (fs := tc_gfs E s0) in_X1 rfl rfl 2 (by decide) (C.L q318) (fun _ h => h) (v := .ref (ea E (2, 1))) rfl dX1_isBehind_36 ?_
    refine lv_iload C.hx C.hb dX1_isBehind_39 (lv_at hl 4 rfl) ?_
    refine tc_run (tc_rV (As := [.int x4]) (rest := []) (L := (2, 1)) (ci := 9) (fs := tc_lfs E s0 1) (q := (RJ2, TJ2, 3)) C (hH.l _ (by omega)) rfl rfl (t_J2_get l (by omega) hH.gr1 hk) (cwV 1 C.hts (lw_V q368 q369 q370 q56 q371) rfl rfl rfl (by decide +kernel) ⟨Nat.le_of_ble_eq_true rfl, Nat.le_of_ble_eq_true rfl⟩) hH hS rfl hl.1 rfl (lv_room (Nat.le_of_ble_eq_true rfl)) dX1_isBehind_41 ⟨Nat.le_of_ble_eq_true rfl, Nat.le_of_ble_eq_true rfl⟩) hS (fun r10 s11 H locs hk hH hS => ?_)
    refine W.eq (g2 := F0 m 44 ls [.ref (ea E (1, r10))]) rfl ?_
    refine lv_aload_n C.hx C.hb dX1_isBehind_44 rfl (lv_at hl 2 rfl) ?_
    refine tc_getn C hH gr1 2 (by decide) rfl (C.N 1 rfl) (v := .ref (ea E (2, r1 + 2))) rfl dX1_isBehind_45 ?_
    refine lv_iload_n C.hx C.hb dX1_isBehind_48 rfl (lv_at hl 3 rfl) ?_
    obtain ⟨h12, hk⟩ := hk
    refine tc_run (tc_rV (As := [.int x3]) (rest := [.ref (ea E (1, r10))]) (L := (2, r1 + 2)) (ci := 9) (fs := tc_lfs E s11 (r1 + 2)) (q := (RJ2, TJ2, 3)) C (hH.l _ (Nat.add_lt_add_right gr1 2)) rfl rfl (t_J2_get l (Nat.add_lt_add_right gr1 2) h12 hk) (cwV 1 C.hts (lw_V q368 q369 q370 q56 q371) rfl rfl rfl (by decide +kernel) ⟨Nat.le_of_ble_eq_true rfl, Nat.le_of_ble_eq_true rfl⟩) hH hS rfl hl.1 rfl (lv_room (Nat.le_of_ble_eq_true rfl)) dX1_isBehind_49 ⟨Nat.le_of_ble_eq_true rfl, Nat.le_of_ble_eq_true rfl⟩) hS (fun r13 s14 H locs hk hH hS => ?_)
    refine W.eq (g2 := F0 m 52 ls [.ref (ea E (13, r13)), .ref (ea E (1, r10))]) rfl ?_
    obtain ⟨h15, hk⟩ := hk
    refine tc_castW C hH h15 q540 dX1_isBehind_52 ?_
    obtain ⟨h16, hk⟩ := hk
    refine tc_get C hH (hH.w _ h15) (Cn := RX11) (T := TX11) (N := 2) (ci := 8) (fs := [.ref (ea E (1, ywf E r13)), .int (ywq E r13)]) in_X11 rfl rfl 0 (by decide) (C.N 2 rfl) (fun _ h => h) (v := .ref (ea E (1, (ywf E r13)))) rfl dX1_isBehind_55 ?_
    obtain ⟨h18, hk⟩ := hk
    refine tc_acmpN_eq (tgt := 67) C hH h18 h16 dX1_isBehind_58 (by decide) (fun c17 => ?_) (fun c17 => ?_)
    · have hk := hk.1 c17
      exact hK x1 x3 x4 s14 _ _ _ hk hH hS (lv_sub hl [0, 1, 2, 3, 4] rfl)
    · have hk := hk.2 c17
      obtain ⟨v19, ev19⟩ : ∃ y : Int32, y = x4 + 1 := ⟨_, rfl⟩
      have hk := hk v19 ev19
      refine lv_iinc (v := v19) (lv' := [(4, .int v19), (0, .ref (ea E (0, 0))), (1, .int x1), (2, .ref (ea E (1, r1))), (3, .int x3)]) C.hx C.hb dX1_isBehind_61 hl (k := 4) rfl (by rw [ev19]; rfl) (by decide) rfl (fun ls hl => ?_)
      refine lv_goto (tgt := 35) C.hx C.hb dX1_isBehind_64 (by decide) ?_
      exact ih x1 x3 v19 s14 _ _ _ hk hH hS (lv_sub hl [1, 2, 3, 4, 0] rfl)
def wp_X1_isBehind_14 (E : tc_E) (post : Int32 → tc_S → Prop) (K : Int32 → Int32 → tc_S → Prop) (r1 : Nat) : Nat → Int32 → Int32 → tc_S → Prop
  | 0, _, _, _ => False
  | n14 + 1, x1, x3, s0 => wp_J2_size E (fun r4 s5 => ((r4 ≤ x3 → K x1 x3 s5) ∧ (¬ r4 ≤ x3 → wd_isDelay E (fun r7 s8 => ((¬ r7 = 0 → K x1 x3 s8) ∧ (r7 = 0 → (∃ n35, wp_X1_isBehind_35 E post (fun y20 y21 y22 s23 => ((y22 ≤ y20 → (∀ v25, v25 = y21 + 1 → wp_X1_isBehind_14 E post K r1 n14 y20 v25 s23)) ∧ (¬ y22 ≤ y20 → post 0 s23))) r1 n35 x1 x3 0 s8)))) r1 s5))) (r1 + 2) s0
set_option maxHeartbeats 4000000 in
theorem tw_X1_isBehind_14 {p : Program} {l : Launch} {e : Env} {s : State} {m : MethodId} {args : Array Value} {below : List Frame} {meth : Method} {c : Code} {E : tc_E} {post : Int32 → tc_S → Prop} {K : Int32 → Int32 → tc_S → Prop}  {r1 : Nat} (C : tc_C p m c cX1_isBehind 5 s args RX1 E) (gr1 : r1 < yn E) (hr : meth.sig.returnType = (some .boolean)) (hlk : meth.locks = false) (hK : ∀ (x1 : Int32) (x3 : Int32) (σ' : tc_S) (H : Heap) (locs : List Loc) (ls : Array Slot), K x1 x3 σ' → tc_ok E σ' H → va_S (fun q => eb E ≤ q) s.heap H locs → lv_has ls 5 [(0, .ref (ea E (0, 0))), (1, .int x1), (2, .ref (ea E (1, r1))), (3, .int x3)] → W p l e ({ frames := 3, cells := 0, slots := 0, locals := 64 } : Room) s m args below meth c H locs 0 0 (MQ below (tc_Qg E (fun r : Int32 => some (.int r)) post) args s 0 0 (fun q => eb E ≤ q)) (F0 m 81 ls [])) :
    ∀ (n : Nat) (x1 : Int32) (x3 : Int32) (s0 : tc_S) (H : Heap) (locs : List Loc) (ls : Array Slot), wp_X1_isBehind_14 E post K r1 n x1 x3 s0 → tc_ok E s0 H → va_S (fun q => eb E ≤ q) s.heap H locs → lv_has ls 5 [(0, .ref (ea E (0, 0))), (1, .int x1), (2, .ref (ea E (1, r1))), (3, .int x3)] → W p l e ({ frames := 3, cells := 0, slots := 0, locals := 64 } : Room) s m args below meth c H locs 0 0 (MQ below (tc_Qg E (fun r : Int32 => some (.int r)) post) args s 0 0 (fun q => eb E ≤ q)) (F0 m 14 ls []) := by
  intro n
  induction n with
  | zero =>
    intro x1 x3 s0 H locs ls hk
    exact hk.elim
  | succ n ih =>
    intro x1 x3 s0 H locs ls hk hH hS hl
    rw [wp_X1_isBehind_14] at hk
    refine lv_iload_n C.hx C.hb dX1_isBehind_14 rfl (lv_at hl 3 rfl) ?_
    refine lv_aload_n C.hx C.hb dX1_isBehind_15 rfl (lv_at hl 2 rfl) ?_
    refine tc_getn C hH gr1 2 (by decide) rfl (C.N 1 rfl) (v := .ref (ea E (2, r1 + 2))) rfl dX1_isBehind_16 ?_
    refine tc_run (tc_rV (As := []) (rest := [.int x3]) (L := (2, r1 + 2)) (ci := 9) (fs := tc_lfs E s0 (r1 + 2)) (q := (RJ2, TJ2, 3)) C (hH.l _ (Nat.add_lt_add_right gr1 2)) rfl rfl (t_J2_size l (Nat.add_lt_add_right gr1 2) hk) (cwV 0 C.hts (lw_V q360 q361 q362 q56 q363) rfl rfl rfl (by decide +kernel) ⟨Nat.le_of_ble_eq_true rfl, Nat.le_of_ble_eq_true rfl⟩) hH hS rfl hl.1 rfl (lv_room (Nat.le_of_ble_eq_true rfl)) dX1_isBehind_19 ⟨Nat.le_of_ble_eq_true rfl, Nat.le_of_ble_eq_true rfl⟩) hS (fun r4 s5 H locs hk hH hS => ?_)
    refine W.eq (g2 := F0 m 22 ls [.int r4, .int x3]) rfl ?_
    refine lv_icmp_ge (tgt := 81) C.hx C.hb dX1_isBehind_22 (by decide) (fun c6 => ?_) (fun c6 => ?_)
    · have hk := hk.1 c6
      exact hK x1 x3 s5 _ _ _ hk hH hS (lv_sub hl [0, 1, 2, 3] rfl)
    · have hk := hk.2 c6
      refine lv_aload_n C.hx C.hb dX1_isBehind_25 rfl (lv_at hl 2 rfl) ?_
      refine tc_run (r_X1_94 (rest := [])  C gr1 hk hH hS rfl hl.1 rfl (lv_room (Nat.le_of_ble_eq_true rfl)) dX1_isBehind_26 ⟨Nat.le_of_ble_eq_true rfl, Nat.le_of_ble_eq_true rfl⟩ ⟨Nat.le_of_ble_eq_true rfl, Nat.le_of_ble_eq_true rfl⟩) hS (fun r7 s8 H locs hk hH hS => ?_)
      refine W.eq (g2 := F0 m 29 ls [.int r7]) rfl ?_
      refine lv_if_ne (tgt := 81) C.hx C.hb dX1_isBehind_29 (by decide) (fun c9 => ?_) (fun c9 => ?_)
      · have hk := hk.1 c9
        exact hK x1 x3 s8 _ _ _ hk hH hS (lv_sub hl [0, 1, 2, 3] rfl)
      · have hk := hk.2 c9
        refine lv_iconst (v := 0) C.hx C.hb dX1_isBehind_32 (by decide) ?_
        refine lv_istore (lv' := [(4, .int 0), (0, .ref (ea E (0, 0))), (1, .int x1), (2, .ref (ea E (1, r1))), (3, .int x3)]) C.hx C.hb dX1_isBehind_33 hl (by decide) rfl (fun ls hl => ?_)
        obtain ⟨n35, hk⟩ := hk
        refine tw_X1_isBehind_35 C gr1 hr hlk (fun y20 y21 y22 s23 H locs ls hk hH hS hl => ?_) n35 x1 x3 0 s8 _ _ _ hk hH hS (lv_sub hl [1, 2, 3, 4, 0] rfl)
        refine lv_iload C.hx C.hb dX1_isBehind_67 (lv_at hl 4 rfl) ?_
        refine lv_iload_n C.hx C.hb dX1_isBehind_69 rfl (lv_at hl 1 rfl) ?_
        refine lv_icmp_le (tgt := 75) C.hx C.hb dX1_isBehind_70 (by decide) (fun c24 => ?_) (fun c24 => ?_)
        · have hk := hk.1 c24
          obtain ⟨v25, ev25⟩ : ∃ y : Int32, y = y21 + 1 := ⟨_, rfl⟩
          have hk := hk v25 ev25
          refine lv_iinc (v := v25) (lv' := [(3, .int v25), (0, .ref (ea E (0, 0))), (1, .int y20), (2, .ref (ea E (1, r1))), (4, .int y22)]) C.hx C.hb dX1_isBehind_75 hl (k := 3) rfl (by rw [ev25]; rfl) (by decide) rfl (fun ls hl => ?_)
          refine lv_goto (tgt := 14) C.hx C.hb dX1_isBehind_78 (by decide) ?_
          exact ih y20 v25 s23 _ _ _ hk hH hS (lv_sub hl [1, 2, 3, 0] rfl)
        · have hk := hk.2 c24
          refine lv_iconst (v := 0) C.hx C.hb dX1_isBehind_73 (by decide) ?_
          exact tc_zret (ty := .boolean) 0 rfl C hr hlk (by decide) hH hS hk dX1_isBehind_74
def wp_X1_isBehind (E : tc_E) (post : Int32 → tc_S → Prop) (p1 : Int32) (s0 : tc_S) : Prop := wp_J2_get E (fun r1 s2 => (r1 < yn E ∧ (∃ n14, wp_X1_isBehind_14 E post (fun y26 y27 s28 => post 1 s28) r1 n14 p1 0 s2))) 1 p1 s0
set_option maxHeartbeats 4000000 in
theorem t_X1_isBehind (l : Launch) {E : tc_E} {post : Int32 → tc_S → Prop} {p1 : Int32} {s0 : tc_S} (hk : wp_X1_isBehind E post p1 s0) : tc_M l yX1_isBehind (ws_ yX1_isBehind cX1_isBehind 5 (some .boolean)) ({ frames := 3, cells := 0, slots := 0, locals := 64 } : Room) E [.ref (ea E (0, 0)), .int p1] s0 (fun r : Int32 => some (.int r)) post := by
  refine tc_start cX1_isBehind 5 (some .boolean) RX1 (by decide) rfl rfl (Nat.le_of_ble_eq_true rfl) ?_
  intro p e s m args below meth c ls C hnm hr hlk hH hS hl
  have hl : lv_has ls 5 [(0, .ref (ea E (0, 0))), (1, .int p1)] := hl
  unfold wp_X1_isBehind at hk
  refine lv_aload_n C.hx C.hb dX1_isBehind_0 rfl (lv_at hl 0 rfl) ?_
  refine tc_get C hH hH.g (Cn := RX1) (T := TX1) (N := 13) (ci := 0) (fs := tc_gfs E s0) in_X1 rfl rfl 2 (by decide) (C.L q318) (fun _ h => h) (v := .ref (ea E (2, 1))) rfl dX1_isBehind_1 ?_
  refine lv_iload_n C.hx C.hb dX1_isBehind_4 rfl (lv_at hl 1 rfl) ?_
  refine tc_run (tc_rV (As := [.int p1]) (rest := []) (L := (2, 1)) (ci := 9) (fs := tc_lfs E s0 1) (q := (RJ2, TJ2, 3)) C (hH.l _ (by omega)) rfl rfl (t_J2_get l (by omega) hH.gr1 hk) (cwV 1 C.hts (lw_V q368 q369 q370 q56 q371) rfl rfl rfl (by decide +kernel) ⟨Nat.le_of_ble_eq_true rfl, Nat.le_of_ble_eq_true rfl⟩) hH hS rfl hl.1 rfl (lv_room (Nat.le_of_ble_eq_true rfl)) dX1_isBehind_5 ⟨Nat.le_of_ble_eq_true rfl, Nat.le_of_ble_eq_true rfl⟩) hS (fun r1 s2 H locs hk hH hS => ?_)
  refine W.eq (g2 := F0 m 8 ls [.ref (ea E (1, r1))]) rfl ?_
  obtain ⟨h3, hk⟩ := hk
  refine tc_castN C hH h3 q382 dX1_isBehind_8 ?_
  refine lv_astore_n (lv' := [(2, .ref (ea E (1, r1))), (0, .ref (ea E (0, 0))), (1, .int p1)]) C.hx C.hb dX1_isBehind_11 rfl hl (by decide) rfl (fun ls hl => ?_)
  refine lv_iconst (v := 0) C.hx C.hb dX1_isBehind_12 (by decide) ?_
  refine lv_istore_n (lv' := [(3, .int 0), (2, .ref (ea E (1, r1))), (0, .ref (ea E (0, 0))), (1, .int p1)]) C.hx C.hb dX1_isBehind_13 rfl hl (by decide) rfl (fun ls hl => ?_)
  obtain ⟨n14, hk⟩ := hk
  refine tw_X1_isBehind_14 C h3 hr hlk (fun y26 y27 s28 H locs ls hk hH hS hl => ?_) n14 p1 0 s2 _ _ _ hk hH hS (lv_sub hl [2, 3, 1, 0] rfl)
  refine lv_iconst (v := 1) C.hx C.hb dX1_isBehind_81 (by decide) ?_
  exact tc_zret (ty := .boolean) 1 rfl C hr hlk (by decide) hH hS hk dX1_isBehind_82
/-! ToneGraph.step()I -/
def wp_X1_step (E : tc_E) (post : Int32 → tc_S → Prop) (s0 : tc_S) : Prop := wp_X1_tick E (fun _ s2 => ((s2.2.1 0 0 0) < yn E ∧ wp_X1_hear E (fun _ s5 => ((s5.2.1 0 0 0) < yn E ∧ post (s5.1 1 (s5.2.1 0 0 0) 0) s5)) (s2.1 1 (s2.2.1 0 0 0) 0) s2))  s0
set_option maxHeartbeats 4000000 in
theorem t_X1_step (l : Launch) {E : tc_E} {post : Int32 → tc_S → Prop} {s0 : tc_S} (hk : wp_X1_step E post  s0) : tc_M l yX1_step (ws_ yX1_step cX1_step 1 (some .int)) ({ frames := 8, cells := 0, slots := 0, locals := 226 } : Room) E [.ref (ea E (0, 0))] s0 (fun r : Int32 => some (.int r)) post := by
  refine tc_start cX1_step 1 (some .int) RX1 (by decide) rfl rfl (Nat.le_of_ble_eq_true rfl) ?_
  intro p e s m args below meth c ls C hnm hr hlk hH hS hl
  have hl : lv_has ls 1 [(0, .ref (ea E (0, 0)))] := hl
  unfold wp_X1_step at hk
  refine lv_aload_n C.hx C.hb dX1_step_0 rfl (lv_at hl 0 rfl) ?_
  refine tc_run (tc_rV (As := []) (rest := []) (L := (0, 0)) (ci := 0) (fs := tc_gfs E s0) (q := (RX1, TX1, 13)) C hH.g rfl rfl (t_X1_tick l  hk) (cwV 0 C.hts (lw_V q420 q422 qs3 q53 q423) rfl rfl rfl (by decide +kernel) ⟨Nat.le_of_ble_eq_true rfl, Nat.le_of_ble_eq_true rfl⟩) hH hS rfl hl.1 rfl (lv_room (Nat.le_of_ble_eq_true rfl)) dX1_step_1 ⟨Nat.le_of_ble_eq_true rfl, Nat.le_of_ble_eq_true rfl⟩) hS (fun _ s2 H locs hk hH hS => ?_)
  refine W.eq (g2 := F0 m 4 ls []) rfl ?_
  refine lv_aload_n C.hx C.hb dX1_step_4 rfl (lv_at hl 0 rfl) ?_
  refine lv_aload_n C.hx C.hb dX1_step_5 rfl (lv_at hl 0 rfl) ?_
  obtain ⟨h3, hk⟩ := hk
  refine tc_get C hH hH.g (Cn := RX1) (T := TX1) (N := 13) (ci := 0) (fs := tc_gfs E s2) in_X1 rfl rfl 3 (by decide) (C.L q319) (fun _ h => h) (v := .ref (ea E (1, (s2.2.1 0 0 0)))) rfl dX1_step_6 ?_
  refine tc_getn C hH h3 4 (by decide) rfl (C.N 17 rfl) (v := .int (s2.1 1 (s2.2.1 0 0 0) 0)) rfl dX1_step_9 ?_
  refine tc_run (tc_rV (As := [.int (s2.1 1 (s2.2.1 0 0 0) 0)]) (rest := []) (L := (0, 0)) (ci := 0) (fs := tc_gfs E s2) (q := (RX1, TX1, 13)) C hH.g rfl rfl (t_X1_hear l  hk) (cwV 1 C.hts (lw_V q515 q517 qs7 q53 q518) rfl rfl rfl (by decide +kernel) ⟨Nat.le_of_ble_eq_true rfl, Nat.le_of_ble_eq_true rfl⟩) hH hS rfl hl.1 rfl (lv_room (Nat.le_of_ble_eq_true rfl)) dX1_step_12 ⟨Nat.le_of_ble_eq_true rfl, Nat.le_of_ble_eq_true rfl⟩) hS (fun _ s5 H locs hk hH hS => ?_)
  refine W.eq (g2 := F0 m 15 ls []) rfl ?_
  refine lv_aload_n C.hx C.hb dX1_step_15 rfl (lv_at hl 0 rfl) ?_
  obtain ⟨h6, hk⟩ := hk
  refine tc_get C hH hH.g (Cn := RX1) (T := TX1) (N := 13) (ci := 0) (fs := tc_gfs E s5) in_X1 rfl rfl 3 (by decide) (C.L q319) (fun _ h => h) (v := .ref (ea E (1, (s5.2.1 0 0 0)))) rfl dX1_step_16 ?_
  refine tc_getn C hH h6 4 (by decide) rfl (C.N 17 rfl) (v := .int (s5.1 1 (s5.2.1 0 0 0) 0)) rfl dX1_step_19 ?_
  exact tc_iret (s5.1 1 (s5.2.1 0 0 0) 0) rfl C hr hlk hH hS hk dX1_step_22
/-! ToneGraph.nodes()I -/
def wp_X1_nodes (E : tc_E) (post : Int32 → tc_S → Prop) (s0 : tc_S) : Prop := wp_J2_size E (fun r1 s2 => post r1 s2) 0 s0
set_option maxHeartbeats 4000000 in
theorem t_X1_nodes (l : Launch) {E : tc_E} {post : Int32 → tc_S → Prop} {s0 : tc_S} (hk : wp_X1_nodes E post  s0) : tc_M l yX1_nodes (ws_ yX1_nodes cX1_nodes 1 (some .int)) ({ frames := 1, cells := 0, slots := 0, locals := 20 } : Room) E [.ref (ea E (0, 0))] s0 (fun r : Int32 => some (.int r)) post := by
  refine tc_start cX1_nodes 1 (some .int) RX1 (by decide) rfl rfl (Nat.le_of_ble_eq_true rfl) ?_
  intro p e s m args below meth c ls C hnm hr hlk hH hS hl
  have hl : lv_has ls 1 [(0, .ref (ea E (0, 0)))] := hl
  unfold wp_X1_nodes at hk
  refine lv_aload_n C.hx C.hb dX1_nodes_0 rfl (lv_at hl 0 rfl) ?_
  refine tc_get C hH hH.g (Cn := RX1) (T := TX1) (N := 13) (ci := 0) (fs := tc_gfs E s0) in_X1 rfl rfl 1 (by decide) (C.L q317) (fun _ h => h) (v := .ref (ea E (2, 0))) rfl dX1_nodes_1 ?_
  refine tc_run (tc_rV (As := []) (rest := []) (L := (2, 0)) (ci := 9) (fs := tc_lfs E s0 0) (q := (RJ2, TJ2, 3)) C (hH.l _ (by omega)) rfl rfl (t_J2_size l (by omega) hk) (cwV 0 C.hts (lw_V q360 q361 q362 q56 q363) rfl rfl rfl (by decide +kernel) ⟨Nat.le_of_ble_eq_true rfl, Nat.le_of_ble_eq_true rfl⟩) hH hS rfl hl.1 rfl (lv_room (Nat.le_of_ble_eq_true rfl)) dX1_nodes_4 ⟨Nat.le_of_ble_eq_true rfl, Nat.le_of_ble_eq_true rfl⟩) hS (fun r1 s2 H locs hk hH hS => ?_)
  refine W.eq (g2 := F0 m 7 ls [.int r1]) rfl ?_
  exact tc_iret r1 rfl C hr hlk hH hS hk dX1_nodes_7
/-! ToneGraph.endAll()I -/
def wp_X1_endAll_4 (E : tc_E) (post : Int32 → tc_S → Prop) (K : Int32 → Int32 → tc_S → Prop) : Nat → Int32 → Int32 → tc_S → Prop
  | 0, _, _, _ => False
  | n4 + 1, x1, x2, s0 => ((4 ≤ x2 → K x1 x2 s0) ∧ (¬ 4 ≤ x2 → (vp_in x2 4 ∧ (((s0.1 6 x2.toNatClampNeg 1) = 0 → (∀ v4, v4 = x2 + 1 → wp_X1_endAll_4 E post K n4 x1 v4 s0)) ∧ (¬ (s0.1 6 x2.toNatClampNeg 1) = 0 → ((¬ (s0.1 6 x2.toNatClampNeg 2) = 0 → (∀ v6, v6 = x2 + 1 → wp_X1_endAll_4 E post K n4 x1 v6 s0)) ∧ ((s0.1 6 x2.toNatClampNeg 2) = 0 → (∀ s7 : tc_S, s7 = tL s0 1 ((s0.2.2 1) + 1) → wp_X5_release E (fun _ s9 => (∀ v10, v10 = x1 + 1 → (∀ v11, v11 = x2 + 1 → wp_X1_endAll_4 E post K n4 v10 v11 s9))) x2.toNatClampNeg (s7.2.2 1) s7))))))))
set_option maxHeartbeats 4000000 in
theorem tw_X1_endAll_4 {p : Program} {l : Launch} {e : Env} {s : State} {m : MethodId} {args : Array Value} {below : List Frame} {meth : Method} {c : Code} {E : tc_E} {post : Int32 → tc_S → Prop} {K : Int32 → Int32 → tc_S → Prop}  (C : tc_C p m c cX1_endAll 4 s args RX1 E) (hr : meth.sig.returnType = (some .int)) (hlk : meth.locks = false) (hK : ∀ (x1 : Int32) (x2 : Int32) (σ' : tc_S) (H : Heap) (locs : List Loc) (ls : Array Slot), K x1 x2 σ' → tc_ok E σ' H → va_S (fun q => eb E ≤ q) s.heap H locs → lv_has ls 4 [(0, .ref (ea E (0, 0))), (1, .int x1), (2, .int x2)] → W p l e ({ frames := 2, cells := 0, slots := 0, locals := 44 } : Room) s m args below meth c H locs 0 0 (MQ below (tc_Qg E (fun r : Int32 => some (.int r)) post) args s 0 0 (fun q => eb E ≤ q)) (F0 m 60 ls [])) :
    ∀ (n : Nat) (x1 : Int32) (x2 : Int32) (s0 : tc_S) (H : Heap) (locs : List Loc) (ls : Array Slot), wp_X1_endAll_4 E post K n x1 x2 s0 → tc_ok E s0 H → va_S (fun q => eb E ≤ q) s.heap H locs → lv_has ls 4 [(0, .ref (ea E (0, 0))), (1, .int x1), (2, .int x2)] → W p l e ({ frames := 2, cells := 0, slots := 0, locals := 44 } : Room) s m args below meth c H locs 0 0 (MQ below (tc_Qg E (fun r : Int32 => some (.int r)) post) args s 0 0 (fun q => eb E ≤ q)) (F0 m 4 ls []) := by
  intro n
  induction n with
  | zero =>
    intro x1 x2 s0 H locs ls hk
    exact hk.elim
  | succ n ih =>
    intro x1 x2 s0 H locs ls hk hH hS hl
    rw [wp_X1_endAll_4] at hk
    refine lv_iload_n C.hx C.hb dX1_endAll_4 rfl (lv_at hl 2 rfl) ?_
    refine lv_iconst (v := 4) C.hx C.hb dX1_endAll_5 (by decide) ?_
    refine lv_icmp_ge (tgt := 60) C.hx C.hb dX1_endAll_6 (by decide) (fun c1 => ?_) (fun c1 => ?_)
    · have hk := hk.1 c1
      exact hK x1 x2 s0 _ _ _ hk hH hS (lv_sub hl [0, 1, 2] rfl)
    · have hk := hk.2 c1
      refine lv_aload_n C.hx C.hb dX1_endAll_9 rfl (lv_at hl 0 rfl) ?_
      refine tc_get C hH hH.g (Cn := RX1) (T := TX1) (N := 13) (ci := 0) (fs := tc_gfs E s0) in_X1 rfl rfl 0 (by decide) (C.L q316) (fun _ h => h) (v := .ref (ea E (1, 0))) rfl dX1_endAll_10 ?_
      refine tc_get C hH (hH.n _ hH.n0.1) (Cn := RX4) (T := TX4) (N := 10) (ci := 2) (fs := tc_nfs E s0 0) in_X4 (tc_e0 hH.n0.2) rfl 9 (by decide) (C.N 0 rfl) (fun _ h => h) (v := .ref (ea E (9, 0))) (tc_x0_9 hH.n0.2) dX1_endAll_13 ?_
      refine lv_iload_n C.hx C.hb dX1_endAll_16 rfl (lv_at hl 2 rfl) ?_
      obtain ⟨h2, hk⟩ := hk
      refine tc_aaldV C hH h2 dX1_endAll_17 ?_
      refine lv_astore_n (lv' := [(3, .ref (ea E (10, x2.toNatClampNeg))), (0, .ref (ea E (0, 0))), (1, .int x1), (2, .int x2)]) C.hx C.hb dX1_endAll_18 rfl hl (by decide) rfl (fun ls hl => ?_)
      refine lv_aload_n C.hx C.hb dX1_endAll_19 rfl (lv_at hl 0 rfl) ?_
      refine tc_get C hH (hH.v _ (tc_lt h2)) (Cn := RX5) (T := TX5) (N := 12) (ci := 3) (fs := tc_vfs E s0 x2.toNatClampNeg) in_X5 rfl rfl 1 (by decide) (C.N 11 rfl) (fun _ h => h) (v := .int (s0.1 6 x2.toNatClampNeg 1)) rfl dX1_endAll_20 ?_
      refine lv_if_eq (tgt := 54) C.hx C.hb dX1_endAll_23 (by decide) (fun c3 => ?_) (fun c3 => ?_)
      · have hk := hk.1 c3
        obtain ⟨v4, ev4⟩ : ∃ y : Int32, y = x2 + 1 := ⟨_, rfl⟩
        have hk := hk v4 ev4
        refine lv_iinc (v := v4) (lv' := [(2, .int v4), (3, .ref (ea E (10, x2.toNatClampNeg))), (0, .ref (ea E (0, 0))), (1, .int x1)]) C.hx C.hb dX1_endAll_54 hl (k := 3) rfl (by rw [ev4]; rfl) (by decide) rfl (fun ls hl => ?_)
        refine lv_goto (tgt := 4) C.hx C.hb dX1_endAll_57 (by decide) ?_
        exact ih x1 v4 s0 _ _ _ hk hH hS (lv_sub hl [2, 3, 0] rfl)
      · have hk := hk.2 c3
        refine lv_aload_n C.hx C.hb dX1_endAll_26 rfl (lv_at hl 0 rfl) ?_
        refine tc_get C hH (hH.v _ (tc_lt h2)) (Cn := RX5) (T := TX5) (N := 12) (ci := 3) (fs := tc_vfs E s0 x2.toNatClampNeg) in_X5 rfl rfl 2 (by decide) (C.N 13 rfl) (fun _ h => h) (v := .int (s0.1 6 x2.toNatClampNeg 2)) rfl dX1_endAll_27 ?_
        refine lv_if_ne (tgt := 54) C.hx C.hb dX1_endAll_30 (by decide) (fun c5 => ?_) (fun c5 => ?_)
        · have hk := hk.1 c5
          obtain ⟨v6, ev6⟩ : ∃ y : Int32, y = x2 + 1 := ⟨_, rfl⟩
          have hk := hk v6 ev6
          refine lv_iinc (v := v6) (lv' := [(2, .int v6), (3, .ref (ea E (10, x2.toNatClampNeg))), (0, .ref (ea E (0, 0))), (1, .int x1)]) C.hx C.hb dX1_endAll_54 hl (k := 3) rfl (by rw [ev6]; rfl) (by decide) rfl (fun ls hl => ?_)
          refine lv_goto (tgt := 4) C.hx C.hb dX1_endAll_57 (by decide) ?_
          exact ih x1 v6 s0 _ _ _ hk hH hS (lv_sub hl [2, 3, 0] rfl)
        · have hk := hk.2 c5
          refine lv_aload_n C.hx C.hb dX1_endAll_33 rfl (lv_at hl 1 rfl) ?_
          refine lv_dup C.hx C.hb dX1_endAll_34 rfl ?_
          refine tc_get C hH hH.g (Cn := RX1) (T := TX1) (N := 13) (ci := 0) (fs := tc_gfs E s0) in_X1 rfl rfl 11 (by decide) (C.L q327) (fun _ h => h) (v := .long (s0.2.2 1)) rfl dX1_endAll_35 ?_
          refine lv_lconst (v := 1) C.hx C.hb dX1_endAll_38 rfl ?_
          refine lv_ladd C.hx C.hb dX1_endAll_39 ?_
          refine tc_put C hH hS hH.g (Cn := RX1) (T := TX1) (N := 13) (ci := 0) (fs := tc_gfs E s0) in_X1 tyX1 tyX1_ok nmX1 rfl rfl 11 (by decide) (C.L q327) (fun _ h => h) rfl (v := .long ((s0.2.2 1) + 1)) rfl rfl (Nat.le_of_ble_eq_true rfl) (tc_ug_turns E s0 ((s0.2.2 1) + 1)) dX1_endAll_40 (fun s7 es7 H locs hH hS => ?_)
          have hk := hk s7 es7
          refine lv_aload_n C.hx C.hb dX1_endAll_43 rfl (lv_at hl 0 rfl) ?_
          refine lv_aload_n C.hx C.hb dX1_endAll_44 rfl (lv_at hl 1 rfl) ?_
          refine tc_get C hH hH.g (Cn := RX1) (T := TX1) (N := 13) (ci := 0) (fs := tc_gfs E s7) in_X1 rfl rfl 11 (by decide) (C.L q327) (fun _ h => h) (v := .long (s7.2.2 1)) rfl dX1_endAll_45 ?_
          refine tc_run (tc_rV (As := [.long (s7.2.2 1)]) (rest := []) (L := (10, x2.toNatClampNeg)) (ci := 3) (fs := tc_vfs E s7 x2.toNatClampNeg) (q := (RX5, TX5, 12)) C (hH.v _ (tc_lt h2)) rfl rfl (t_X5_release l (tc_lt h2) hk) (cwV 1 C.hts (lw_V q400 q401 q402 q60 q403) rfl rfl rfl (by decide +kernel) ⟨Nat.le_of_ble_eq_true rfl, Nat.le_of_ble_eq_true rfl⟩) hH hS rfl hl.1 rfl (lv_room (Nat.le_of_ble_eq_true rfl)) dX1_endAll_48 ⟨Nat.le_of_ble_eq_true rfl, Nat.le_of_ble_eq_true rfl⟩) hS (fun _ s9 H locs hk hH hS => ?_)
          refine W.eq (g2 := F0 m 51 ls []) rfl ?_
          obtain ⟨v10, ev10⟩ : ∃ y : Int32, y = x1 + 1 := ⟨_, rfl⟩
          have hk := hk v10 ev10
          refine lv_iinc (v := v10) (lv' := [(1, .int v10), (3, .ref (ea E (10, x2.toNatClampNeg))), (0, .ref (ea E (0, 0))), (2, .int x2)]) C.hx C.hb dX1_endAll_51 hl (k := 2) rfl (by rw [ev10]; rfl) (by decide) rfl (fun ls hl => ?_)
          obtain ⟨v11, ev11⟩ : ∃ y : Int32, y = x2 + 1 := ⟨_, rfl⟩
          have hk := hk v11 ev11
          refine lv_iinc (v := v11) (lv' := [(2, .int v11), (1, .int v10), (3, .ref (ea E (10, x2.toNatClampNeg))), (0, .ref (ea E (0, 0)))]) C.hx C.hb dX1_endAll_54 hl (k := 3) rfl (by rw [ev11]; rfl) (by decide) rfl (fun ls hl => ?_)
          refine lv_goto (tgt := 4) C.hx C.hb dX1_endAll_57 (by decide) ?_
          exact ih v10 v11 s9 _ _ _ hk hH hS (lv_sub hl [3, 1, 0] rfl)
def wp_X1_endAll (E : tc_E) (post : Int32 → tc_S → Prop) (s0 : tc_S) : Prop := (∃ n4, wp_X1_endAll_4 E post (fun y12 y13 s14 => post y12 s14) n4 0 0 s0)
set_option maxHeartbeats 4000000 in
theorem t_X1_endAll (l : Launch) {E : tc_E} {post : Int32 → tc_S → Prop} {s0 : tc_S} (hk : wp_X1_endAll E post  s0) : tc_M l yX1_endAll (ws_ yX1_endAll cX1_endAll 4 (some .int)) ({ frames := 2, cells := 0, slots := 0, locals := 44 } : Room) E [.ref (ea E (0, 0))] s0 (fun r : Int32 => some (.int r)) post := by
  refine tc_start cX1_endAll 4 (some .int) RX1 (by decide) rfl rfl (Nat.le_of_ble_eq_true rfl) ?_
  intro p e s m args below meth c ls C hnm hr hlk hH hS hl
  have hl : lv_has ls 4 [(0, .ref (ea E (0, 0)))] := hl
  unfold wp_X1_endAll at hk
  refine lv_iconst (v := 0) C.hx C.hb dX1_endAll_0 (by decide) ?_
  refine lv_istore_n (lv' := [(1, .int 0), (0, .ref (ea E (0, 0)))]) C.hx C.hb dX1_endAll_1 rfl hl (by decide) rfl (fun ls hl => ?_)
  refine lv_iconst (v := 0) C.hx C.hb dX1_endAll_2 (by decide) ?_
  refine lv_istore_n (lv' := [(2, .int 0), (1, .int 0), (0, .ref (ea E (0, 0)))]) C.hx C.hb dX1_endAll_3 rfl hl (by decide) rfl (fun ls hl => ?_)
  obtain ⟨n4, hk⟩ := hk
  refine tw_X1_endAll_4 C hr hlk (fun y12 y13 s14 H locs ls hk hH hS hl => ?_) n4 0 0 s0 _ _ _ hk hH hS (lv_sub hl [2, 1, 0] rfl)
  refine lv_iload_n C.hx C.hb dX1_endAll_60 rfl (lv_at hl 1 rfl) ?_
  exact tc_iret y12 rfl C hr hlk hH hS hk dX1_endAll_61
/-! ToneGraph.sounding()I -/
def wp_X1_sounding_4 (E : tc_E) (post : Int32 → tc_S → Prop) (K : Int32 → Int32 → tc_S → Prop) : Nat → Int32 → Int32 → tc_S → Prop
  | 0, _, _, _ => False
  | n4 + 1, x1, x2, s0 => ((4 ≤ x2 → K x1 x2 s0) ∧ (¬ 4 ≤ x2 → (vp_in x2 4 ∧ (((s0.1 6 x2.toNatClampNeg 1) = 0 → (∀ v4, v4 = (x1 + 0) → (∀ v5, v5 = x2 + 1 → wp_X1_sounding_4 E post K n4 v4 v5 s0))) ∧ (¬ (s0.1 6 x2.toNatClampNeg 1) = 0 → (∀ v6, v6 = (x1 + 1) → (∀ v7, v7 = x2 + 1 → wp_X1_sounding_4 E post K n4 v6 v7 s0)))))))
set_option maxHeartbeats 4000000 in
theorem tw_X1_sounding_4 {p : Program} {l : Launch} {e : Env} {s : State} {m : MethodId} {args : Array Value} {below : List Frame} {meth : Method} {c : Code} {E : tc_E} {post : Int32 → tc_S → Prop} {K : Int32 → Int32 → tc_S → Prop}  (C : tc_C p m c cX1_sounding 3 s args RX1 E) (hr : meth.sig.returnType = (some .int)) (hlk : meth.locks = false) (hK : ∀ (x1 : Int32) (x2 : Int32) (σ' : tc_S) (H : Heap) (locs : List Loc) (ls : Array Slot), K x1 x2 σ' → tc_ok E σ' H → va_S (fun q => eb E ≤ q) s.heap H locs → lv_has ls 3 [(0, .ref (ea E (0, 0))), (1, .int x1), (2, .int x2)] → W p l e ({ frames := 0, cells := 0, slots := 0, locals := 0 } : Room) s m args below meth c H locs 0 0 (MQ below (tc_Qg E (fun r : Int32 => some (.int r)) post) args s 0 0 (fun q => eb E ≤ q)) (F0 m 38 ls [])) :
    ∀ (n : Nat) (x1 : Int32) (x2 : Int32) (s0 : tc_S) (H : Heap) (locs : List Loc) (ls : Array Slot), wp_X1_sounding_4 E post K n x1 x2 s0 → tc_ok E s0 H → va_S (fun q => eb E ≤ q) s.heap H locs → lv_has ls 3 [(0, .ref (ea E (0, 0))), (1, .int x1), (2, .int x2)] → W p l e ({ frames := 0, cells := 0, slots := 0, locals := 0 } : Room) s m args below meth c H locs 0 0 (MQ below (tc_Qg E (fun r : Int32 => some (.int r)) post) args s 0 0 (fun q => eb E ≤ q)) (F0 m 4 ls []) := by
  intro n
  induction n with
  | zero =>
    intro x1 x2 s0 H locs ls hk
    exact hk.elim
  | succ n ih =>
    intro x1 x2 s0 H locs ls hk hH hS hl
    rw [wp_X1_sounding_4] at hk
    refine lv_iload_n C.hx C.hb dX1_sounding_4 rfl (lv_at hl 2 rfl) ?_
    refine lv_iconst (v := 4) C.hx C.hb dX1_sounding_5 (by decide) ?_
    refine lv_icmp_ge (tgt := 38) C.hx C.hb dX1_sounding_6 (by decide) (fun c1 => ?_) (fun c1 => ?_)
    · have hk := hk.1 c1
      exact hK x1 x2 s0 _ _ _ hk hH hS (lv_sub hl [0, 1, 2] rfl)
    · have hk := hk.2 c1
      refine lv_iload_n C.hx C.hb dX1_sounding_9 rfl (lv_at hl 1 rfl) ?_
      refine lv_aload_n C.hx C.hb dX1_sounding_10 rfl (lv_at hl 0 rfl) ?_
      refine tc_get C hH hH.g (Cn := RX1) (T := TX1) (N := 13) (ci := 0) (fs := tc_gfs E s0) in_X1 rfl rfl 0 (by decide) (C.L q316) (fun _ h => h) (v := .ref (ea E (1, 0))) rfl dX1_sounding_11 ?_
      refine tc_get C hH (hH.n _ hH.n0.1) (Cn := RX4) (T := TX4) (N := 10) (ci := 2) (fs := tc_nfs E s0 0) in_X4 (tc_e0 hH.n0.2) rfl 9 (by decide) (C.N 0 rfl) (fun _ h => h) (v := .ref (ea E (9, 0))) (tc_x0_9 hH.n0.2) dX1_sounding_14 ?_
      refine lv_iload_n C.hx C.hb dX1_sounding_17 rfl (lv_at hl 2 rfl) ?_
      obtain ⟨h2, hk⟩ := hk
      refine tc_aaldV C hH h2 dX1_sounding_18 ?_
      refine tc_get C hH (hH.v _ (tc_lt h2)) (Cn := RX5) (T := TX5) (N := 12) (ci := 3) (fs := tc_vfs E s0 x2.toNatClampNeg) in_X5 rfl rfl 1 (by decide) (C.N 11 rfl) (fun _ h => h) (v := .int (s0.1 6 x2.toNatClampNeg 1)) rfl dX1_sounding_19 ?_
      refine lv_if_eq (tgt := 29) C.hx C.hb dX1_sounding_22 (by decide) (fun c3 => ?_) (fun c3 => ?_)
      · have hk := hk.1 c3
        refine lv_iconst (v := 0) C.hx C.hb dX1_sounding_29 (by decide) ?_
        refine lv_iadd C.hx C.hb dX1_sounding_30 ?_
        refine lv_topi (fun v4 ev4 => ?_)
        have hk := hk v4 ev4
        refine lv_istore_n (lv' := [(1, .int v4), (0, .ref (ea E (0, 0))), (2, .int x2)]) C.hx C.hb dX1_sounding_31 rfl hl (by decide) rfl (fun ls hl => ?_)
        obtain ⟨v5, ev5⟩ : ∃ y : Int32, y = x2 + 1 := ⟨_, rfl⟩
        have hk := hk v5 ev5
        refine lv_iinc (v := v5) (lv' := [(2, .int v5), (1, .int v4), (0, .ref (ea E (0, 0)))]) C.hx C.hb dX1_sounding_32 hl (k := 2) rfl (by rw [ev5]; rfl) (by decide) rfl (fun ls hl => ?_)
        refine lv_goto (tgt := 4) C.hx C.hb dX1_sounding_35 (by decide) ?_
        exact ih v4 v5 s0 _ _ _ hk hH hS (lv_sub hl [2, 1, 0] rfl)
      · have hk := hk.2 c3
        refine lv_iconst (v := 1) C.hx C.hb dX1_sounding_25 (by decide) ?_
        refine lv_goto (tgt := 30) C.hx C.hb dX1_sounding_26 (by decide) ?_
        refine lv_iadd C.hx C.hb dX1_sounding_30 ?_
        refine lv_topi (fun v6 ev6 => ?_)
        have hk := hk v6 ev6
        refine lv_istore_n (lv' := [(1, .int v6), (0, .ref (ea E (0, 0))), (2, .int x2)]) C.hx C.hb dX1_sounding_31 rfl hl (by decide) rfl (fun ls hl => ?_)
        obtain ⟨v7, ev7⟩ : ∃ y : Int32, y = x2 + 1 := ⟨_, rfl⟩
        have hk := hk v7 ev7
        refine lv_iinc (v := v7) (lv' := [(2, .int v7), (1, .int v6), (0, .ref (ea E (0, 0)))]) C.hx C.hb dX1_sounding_32 hl (k := 2) rfl (by rw [ev7]; rfl) (by decide) rfl (fun ls hl => ?_)
        refine lv_goto (tgt := 4) C.hx C.hb dX1_sounding_35 (by decide) ?_
        exact ih v6 v7 s0 _ _ _ hk hH hS (lv_sub hl [2, 1, 0] rfl)
def wp_X1_sounding (E : tc_E) (post : Int32 → tc_S → Prop) (s0 : tc_S) : Prop := (∃ n4, wp_X1_sounding_4 E post (fun y8 y9 s10 => post y8 s10) n4 0 0 s0)
set_option maxHeartbeats 4000000 in
theorem t_X1_sounding (l : Launch) {E : tc_E} {post : Int32 → tc_S → Prop} {s0 : tc_S} (hk : wp_X1_sounding E post  s0) : tc_M l yX1_sounding (ws_ yX1_sounding cX1_sounding 3 (some .int)) ({ frames := 0, cells := 0, slots := 0, locals := 0 } : Room) E [.ref (ea E (0, 0))] s0 (fun r : Int32 => some (.int r)) post := by
  refine tc_start cX1_sounding 3 (some .int) RX1 (by decide) rfl rfl (Nat.le_of_ble_eq_true rfl) ?_
  intro p e s m args below meth c ls C hnm hr hlk hH hS hl
  have hl : lv_has ls 3 [(0, .ref (ea E (0, 0)))] := hl
  unfold wp_X1_sounding at hk
  refine lv_iconst (v := 0) C.hx C.hb dX1_sounding_0 (by decide) ?_
  refine lv_istore_n (lv' := [(1, .int 0), (0, .ref (ea E (0, 0)))]) C.hx C.hb dX1_sounding_1 rfl hl (by decide) rfl (fun ls hl => ?_)
  refine lv_iconst (v := 0) C.hx C.hb dX1_sounding_2 (by decide) ?_
  refine lv_istore_n (lv' := [(2, .int 0), (1, .int 0), (0, .ref (ea E (0, 0)))]) C.hx C.hb dX1_sounding_3 rfl hl (by decide) rfl (fun ls hl => ?_)
  obtain ⟨n4, hk⟩ := hk
  refine tw_X1_sounding_4 C hr hlk (fun y8 y9 s10 H locs ls hk hH hS hl => ?_) n4 0 0 s0 _ _ _ hk hH hS (lv_sub hl [2, 1, 0] rfl)
  refine lv_iload_n C.hx C.hb dX1_sounding_38 rfl (lv_at hl 1 rfl) ?_
  exact tc_iret y8 rfl C hr hlk hH hS hk dX1_sounding_39
/-! ToneGraph.stolen()I -/
def wp_X1_stolen (E : tc_E) (post : Int32 → tc_S → Prop) (s0 : tc_S) : Prop := post (s0.1 0 0 4) s0
set_option maxHeartbeats 4000000 in
theorem t_X1_stolen (l : Launch) {E : tc_E} {post : Int32 → tc_S → Prop} {s0 : tc_S} (hk : wp_X1_stolen E post  s0) : tc_M l yX1_stolen (ws_ yX1_stolen cX1_stolen 1 (some .int)) ({ frames := 0, cells := 0, slots := 0, locals := 0 } : Room) E [.ref (ea E (0, 0))] s0 (fun r : Int32 => some (.int r)) post := by
  refine tc_start cX1_stolen 1 (some .int) RX1 (by decide) rfl rfl (Nat.le_of_ble_eq_true rfl) ?_
  intro p e s m args below meth c ls C hnm hr hlk hH hS hl
  have hl : lv_has ls 1 [(0, .ref (ea E (0, 0)))] := hl
  unfold wp_X1_stolen at hk
  refine lv_aload_n C.hx C.hb dX1_stolen_0 rfl (lv_at hl 0 rfl) ?_
  refine tc_get C hH hH.g (Cn := RX1) (T := TX1) (N := 13) (ci := 0) (fs := tc_gfs E s0) in_X1 rfl rfl 12 (by decide) (C.L q328) (fun _ h => h) (v := .int (s0.1 0 0 4)) rfl dX1_stolen_1 ?_
  exact tc_iret (s0.1 0 0 4) rfl C hr hlk hH hS hk dX1_stolen_4
/-! ToneGraph.time()I -/
def wp_X1_time (E : tc_E) (post : Int32 → tc_S → Prop) (s0 : tc_S) : Prop := post (s0.1 0 0 1) s0
set_option maxHeartbeats 4000000 in
theorem t_X1_time (l : Launch) {E : tc_E} {post : Int32 → tc_S → Prop} {s0 : tc_S} (hk : wp_X1_time E post  s0) : tc_M l yX1_time (ws_ yX1_time cX1_time 1 (some .int)) ({ frames := 0, cells := 0, slots := 0, locals := 0 } : Room) E [.ref (ea E (0, 0))] s0 (fun r : Int32 => some (.int r)) post := by
  refine tc_start cX1_time 1 (some .int) RX1 (by decide) rfl rfl (Nat.le_of_ble_eq_true rfl) ?_
  intro p e s m args below meth c ls C hnm hr hlk hH hS hl
  have hl : lv_has ls 1 [(0, .ref (ea E (0, 0)))] := hl
  unfold wp_X1_time at hk
  refine lv_aload_n C.hx C.hb dX1_time_0 rfl (lv_at hl 0 rfl) ?_
  refine tc_get C hH hH.g (Cn := RX1) (T := TX1) (N := 13) (ci := 0) (fs := tc_gfs E s0) in_X1 rfl rfl 7 (by decide) (C.L q323) (fun _ h => h) (v := .int (s0.1 0 0 1)) rfl dX1_time_1 ?_
  exact tc_iret (s0.1 0 0 1) rfl C hr hlk hH hS hk dX1_time_4
/-! ToneGraph.greatest()I -/
def wp_X1_greatest (E : tc_E) (post : Int32 → tc_S → Prop) (s0 : tc_S) : Prop := post (s0.1 0 0 2) s0
set_option maxHeartbeats 4000000 in
theorem t_X1_greatest (l : Launch) {E : tc_E} {post : Int32 → tc_S → Prop} {s0 : tc_S} (hk : wp_X1_greatest E post  s0) : tc_M l yX1_greatest (ws_ yX1_greatest cX1_greatest 1 (some .int)) ({ frames := 0, cells := 0, slots := 0, locals := 0 } : Room) E [.ref (ea E (0, 0))] s0 (fun r : Int32 => some (.int r)) post := by
  refine tc_start cX1_greatest 1 (some .int) RX1 (by decide) rfl rfl (Nat.le_of_ble_eq_true rfl) ?_
  intro p e s m args below meth c ls C hnm hr hlk hH hS hl
  have hl : lv_has ls 1 [(0, .ref (ea E (0, 0)))] := hl
  unfold wp_X1_greatest at hk
  refine lv_aload_n C.hx C.hb dX1_greatest_0 rfl (lv_at hl 0 rfl) ?_
  refine tc_get C hH hH.g (Cn := RX1) (T := TX1) (N := 13) (ci := 0) (fs := tc_gfs E s0) in_X1 rfl rfl 8 (by decide) (C.L q324) (fun _ h => h) (v := .int (s0.1 0 0 2)) rfl dX1_greatest_1 ?_
  exact tc_iret (s0.1 0 0 2) rfl C hr hlk hH hS hk dX1_greatest_4
/-! ToneGraph.energy()J -/
def wp_X1_energy (E : tc_E) (post : Int64 → tc_S → Prop) (s0 : tc_S) : Prop := post (s0.2.2 0) s0
set_option maxHeartbeats 4000000 in
theorem t_X1_energy (l : Launch) {E : tc_E} {post : Int64 → tc_S → Prop} {s0 : tc_S} (hk : wp_X1_energy E post  s0) : tc_M l yX1_energy (ws_ yX1_energy cX1_energy 1 (some .long)) ({ frames := 0, cells := 0, slots := 0, locals := 0 } : Room) E [.ref (ea E (0, 0))] s0 (fun r : Int64 => some (.long r)) post := by
  refine tc_start cX1_energy 1 (some .long) RX1 (by decide) rfl rfl (Nat.le_of_ble_eq_true rfl) ?_
  intro p e s m args below meth c ls C hnm hr hlk hH hS hl
  have hl : lv_has ls 1 [(0, .ref (ea E (0, 0)))] := hl
  unfold wp_X1_energy at hk
  refine lv_aload_n C.hx C.hb dX1_energy_0 rfl (lv_at hl 0 rfl) ?_
  refine tc_get C hH hH.g (Cn := RX1) (T := TX1) (N := 13) (ci := 0) (fs := tc_gfs E s0) in_X1 rfl rfl 10 (by decide) (C.L q326) (fun _ h => h) (v := .long (s0.2.2 0)) rfl dX1_energy_1 ?_
  exact tc_lret (s0.2.2 0) rfl C hr hlk hH hS hk dX1_energy_4

/-! the reference's methods: wp and walk, by program (gen/decm.py) -/
set_option maxRecDepth 100000
/-! ToneGraphModel.plays(I)Z -/
def wp_X6_plays (post : Int32 → mm_S → Prop) (p1 : Int32) (s0 : mm_S) : Prop := wp_X6_at (fun r1 s2 => ((¬ r1 = 1 → post 0 s2) ∧ (r1 = 1 → post 1 s2))) p1 0 s0
set_option maxHeartbeats 4000000 in
theorem t_X6_plays (l : Launch) {base : Nat} {D : va_G} {ca : Nat → ClassId} {Ls : List gb_L} {ad : gb_L → Nat} {w : gb_L → va_E} {post : Int32 → mm_S → Prop} {p1 : Int32} {s0 : mm_S} (hk : wp_X6_plays post p1 s0) : mm_Mi l yX6_plays (ws_ yX6_plays cX6_plays 2 (some .boolean)) ({ frames := 1, cells := 0, slots := 0, locals := 22 } : Room) base D ca Ls ad w [.int p1] s0 post := by
  refine mm_start cX6_plays 2 (some .boolean) _ (by decide) rfl rfl (Nat.le_of_ble_eq_true rfl) ?_
  intro p e s m args below meth c ls C hr hlk hH hS hl
  have hl : lv_has ls 2 [(0, .ref (ad (20, 0))), (1, .int p1)] := hl
  unfold wp_X6_plays at hk
  refine lv_aload_n C.hx C.hb dX6_plays_0 rfl (lv_at hl 0 rfl) ?_
  refine lv_iload_n C.hx C.hb dX6_plays_1 rfl (lv_at hl 1 rfl) ?_
  refine lv_iconst (v := 0) C.hx C.hb dX6_plays_2 (by decide) ?_
  refine mm_calli (As := [.int p1, .int 0]) (rest := []) C (t_X6_at l hk) (cwV 2 C.hts (lw_V q1440 q1442 qs36 q65 q1443) rfl rfl rfl (by decide +kernel) ⟨Nat.le_of_ble_eq_true rfl, Nat.le_of_ble_eq_true rfl⟩) hH hS rfl hl.1 rfl (lv_room (Nat.le_of_ble_eq_true rfl)) dX6_plays_3 ⟨Nat.le_of_ble_eq_true rfl, Nat.le_of_ble_eq_true rfl⟩ (fun r1 s2 H locs hk hH hS => ?_)
  refine lv_iconst (v := 1) C.hx C.hb dX6_plays_6 (by decide) ?_
  refine lv_icmp_ne (tgt := 14) C.hx C.hb dX6_plays_7 (by decide) (fun c3 => ?_) (fun c3 => ?_)
  · have hk := hk.1 c3
    refine lv_iconst (v := 0) C.hx C.hb dX6_plays_14 (by decide) ?_
    exact mm_zret (ty := .boolean) C hr hlk (by decide) hH hS hk dX6_plays_15
  · have hk := hk.2 c3
    refine lv_iconst (v := 1) C.hx C.hb dX6_plays_10 (by decide) ?_
    refine lv_goto (tgt := 15) C.hx C.hb dX6_plays_11 (by decide) ?_
    exact mm_zret (ty := .boolean) C hr hlk (by decide) hH hS hk dX6_plays_15
/-! ToneGraphModel.isReleased(I)Z -/
def wp_X6_isReleased (post : Int32 → mm_S → Prop) (p1 : Int32) (s0 : mm_S) : Prop := wp_X6_plays (fun r1 s2 => ((r1 = 0 → post 0 s2) ∧ (¬ r1 = 0 → wp_X6_at (fun r4 s5 => ((¬ r4 = 1 → post 0 s5) ∧ (r4 = 1 → post 1 s5))) p1 1 s2))) p1 s0
set_option maxHeartbeats 4000000 in
theorem t_X6_isReleased (l : Launch) {base : Nat} {D : va_G} {ca : Nat → ClassId} {Ls : List gb_L} {ad : gb_L → Nat} {w : gb_L → va_E} {post : Int32 → mm_S → Prop} {p1 : Int32} {s0 : mm_S} (hk : wp_X6_isReleased post p1 s0) : mm_Mi l yX6_isReleased (ws_ yX6_isReleased cX6_isReleased 2 (some .boolean)) ({ frames := 2, cells := 0, slots := 0, locals := 43 } : Room) base D ca Ls ad w [.int p1] s0 post := by
  refine mm_start cX6_isReleased 2 (some .boolean) _ (by decide) rfl rfl (Nat.le_of_ble_eq_true rfl) ?_
  intro p e s m args below meth c ls C hr hlk hH hS hl
  have hl : lv_has ls 2 [(0, .ref (ad (20, 0))), (1, .int p1)] := hl
  unfold wp_X6_isReleased at hk
  refine lv_aload_n C.hx C.hb dX6_isReleased_0 rfl (lv_at hl 0 rfl) ?_
  refine lv_iload_n C.hx C.hb dX6_isReleased_1 rfl (lv_at hl 1 rfl) ?_
  refine mm_calli (As := [.int p1]) (rest := []) C (t_X6_plays l hk) (cwV 1 C.hts (lw_V q1436 q1438 qs35 q65 q1439) rfl rfl rfl (by decide +kernel) ⟨Nat.le_of_ble_eq_true rfl, Nat.le_of_ble_eq_true rfl⟩) hH hS rfl hl.1 rfl (lv_room (Nat.le_of_ble_eq_true rfl)) dX6_isReleased_2 ⟨Nat.le_of_ble_eq_true rfl, Nat.le_of_ble_eq_true rfl⟩ (fun r1 s2 H locs hk hH hS => ?_)
  refine lv_if_eq (tgt := 22) C.hx C.hb dX6_isReleased_5 (by decide) (fun c3 => ?_) (fun c3 => ?_)
  · have hk := hk.1 c3
    refine lv_iconst (v := 0) C.hx C.hb dX6_isReleased_22 (by decide) ?_
    exact mm_zret (ty := .boolean) C hr hlk (by decide) hH hS hk dX6_isReleased_23
  · have hk := hk.2 c3
    refine lv_aload_n C.hx C.hb dX6_isReleased_8 rfl (lv_at hl 0 rfl) ?_
    refine lv_iload_n C.hx C.hb dX6_isReleased_9 rfl (lv_at hl 1 rfl) ?_
    refine lv_iconst (v := 1) C.hx C.hb dX6_isReleased_10 (by decide) ?_
    refine mm_calli (As := [.int p1, .int 1]) (rest := []) C (t_X6_at l hk) (cwV 2 C.hts (lw_V q1440 q1442 qs36 q65 q1443) rfl rfl rfl (by decide +kernel) ⟨Nat.le_of_ble_eq_true rfl, Nat.le_of_ble_eq_true rfl⟩) hH hS rfl hl.1 rfl (lv_room (Nat.le_of_ble_eq_true rfl)) dX6_isReleased_11 ⟨Nat.le_of_ble_eq_true rfl, Nat.le_of_ble_eq_true rfl⟩ (fun r4 s5 H locs hk hH hS => ?_)
    refine lv_iconst (v := 1) C.hx C.hb dX6_isReleased_14 (by decide) ?_
    refine lv_icmp_ne (tgt := 22) C.hx C.hb dX6_isReleased_15 (by decide) (fun c6 => ?_) (fun c6 => ?_)
    · have hk := hk.1 c6
      refine lv_iconst (v := 0) C.hx C.hb dX6_isReleased_22 (by decide) ?_
      exact mm_zret (ty := .boolean) C hr hlk (by decide) hH hS hk dX6_isReleased_23
    · have hk := hk.2 c6
      refine lv_iconst (v := 1) C.hx C.hb dX6_isReleased_18 (by decide) ?_
      refine lv_goto (tgt := 23) C.hx C.hb dX6_isReleased_19 (by decide) ?_
      exact mm_zret (ty := .boolean) C hr hlk (by decide) hH hS hk dX6_isReleased_23
/-! ToneGraphModel.voiceFor()I -/
def wp_X6_voiceFor_2 (post : Int32 → mm_S → Prop) (K : Int32 → mm_S → Prop) : Nat → Int32 → mm_S → Prop
  | 0, _, _ => False
  | n2 + 1, x1, s0 => ((4 ≤ x1 → K x1 s0) ∧ (¬ 4 ≤ x1 → wp_X6_plays (fun r2 s3 => ((¬ r2 = 0 → (∀ v5, v5 = x1 + 1 → wp_X6_voiceFor_2 post K n2 v5 s3)) ∧ (r2 = 0 → post x1 s3))) x1 s0))
set_option maxHeartbeats 4000000 in
theorem tw_X6_voiceFor_2 {p : Program} {l : Launch} {e : Env} {s : State} {m : MethodId} {args : Array Value} {below : List Frame} {meth : Method} {c : Code} {base : Nat} {D : va_G} {ca : Nat → ClassId} {Ls : List gb_L} {ad : gb_L → Nat} {w : gb_L → va_E} {post : Int32 → mm_S → Prop} {K : Int32 → mm_S → Prop} (C : gb_C p m c cX6_voiceFor 3 s args RX6 base D ca) (hr : meth.sig.returnType = (some .int)) (hlk : meth.locks = false) (hK : ∀ (x1 : Int32) (σ' : mm_S) (H : Heap) (locs : List Loc) (ls : Array Slot), K x1 σ' → mm_ok base D ca Ls ad w σ' H → va_S (fun q => base ≤ q) s.heap H locs → lv_has ls 3 [(0, .ref (ad (20, 0))), (1, .int x1)] → W p l e ({ frames := 3, cells := 0, slots := 0, locals := 64 } : Room) s m args below meth c H locs 0 0 (MQ below (va_Qi post (fun σ' t => mm_ok base D ca Ls ad w σ' t.heap) (fun q => base ≤ q)) args s 0 0 (fun q => base ≤ q)) (F0 m 23 ls [])) :
    ∀ (n : Nat) (x1 : Int32) (s0 : mm_S) (H : Heap) (locs : List Loc) (ls : Array Slot), wp_X6_voiceFor_2 post K n x1 s0 → mm_ok base D ca Ls ad w s0 H → va_S (fun q => base ≤ q) s.heap H locs → lv_has ls 3 [(0, .ref (ad (20, 0))), (1, .int x1)] → W p l e ({ frames := 3, cells := 0, slots := 0, locals := 64 } : Room) s m args below meth c H locs 0 0 (MQ below (va_Qi post (fun σ' t => mm_ok base D ca Ls ad w σ' t.heap) (fun q => base ≤ q)) args s 0 0 (fun q => base ≤ q)) (F0 m 2 ls []) := by
  intro n
  induction n with
  | zero =>
    intro x1 s0 H locs ls hk
    exact hk.elim
  | succ n ih =>
    intro x1 s0 H locs ls hk hH hS hl
    rw [wp_X6_voiceFor_2] at hk
    refine lv_iload_n C.hx C.hb dX6_voiceFor_2 rfl (lv_at hl 1 rfl) ?_
    refine lv_iconst (v := 4) C.hx C.hb dX6_voiceFor_3 (by decide) ?_
    refine lv_icmp_ge (tgt := 23) C.hx C.hb dX6_voiceFor_4 (by decide) (fun c1 => ?_) (fun c1 => ?_)
    · have hk := hk.1 c1
      exact hK x1 s0 _ _ _ hk hH hS (lv_sub hl [0, 1] rfl)
    · have hk := hk.2 c1
      refine lv_aload_n C.hx C.hb dX6_voiceFor_7 rfl (lv_at hl 0 rfl) ?_
      refine lv_iload_n C.hx C.hb dX6_voiceFor_8 rfl (lv_at hl 1 rfl) ?_
      refine mm_calli (As := [.int x1]) (rest := []) C (t_X6_plays l hk) (cwV 1 C.hts (lw_V q1436 q1438 qs35 q65 q1439) rfl rfl rfl (by decide +kernel) ⟨Nat.le_of_ble_eq_true rfl, Nat.le_of_ble_eq_true rfl⟩) hH hS rfl hl.1 rfl (lv_room (Nat.le_of_ble_eq_true rfl)) dX6_voiceFor_9 ⟨Nat.le_of_ble_eq_true rfl, Nat.le_of_ble_eq_true rfl⟩ (fun r2 s3 H locs hk hH hS => ?_)
      refine lv_if_ne (tgt := 17) C.hx C.hb dX6_voiceFor_12 (by decide) (fun c4 => ?_) (fun c4 => ?_)
      · have hk := hk.1 c4
        obtain ⟨v5, ev5⟩ : ∃ y : Int32, y = x1 + 1 := ⟨_, rfl⟩
        have hk := hk v5 ev5
        refine lv_iinc (v := v5) (lv' := [(1, .int v5), (0, .ref (ad (20, 0)))]) C.hx C.hb dX6_voiceFor_17 hl (k := 1) rfl (by rw [ev5]; rfl) (by decide) rfl (fun ls hl => ?_)
        refine lv_goto (tgt := 2) C.hx C.hb dX6_voiceFor_20 (by decide) ?_
        exact ih v5 s3 _ _ _ hk hH hS (lv_sub hl [1, 0] rfl)
      · have hk := hk.2 c4
        refine lv_iload_n C.hx C.hb dX6_voiceFor_15 rfl (lv_at hl 1 rfl) ?_
        exact mm_iret C hr hlk hH hS hk dX6_voiceFor_16
def wp_X6_voiceFor_27 (post : Int32 → mm_S → Prop) (K : Int32 → Int32 → mm_S → Prop) : Nat → Int32 → Int32 → mm_S → Prop
  | 0, _, _, _ => False
  | n27 + 1, x1, x2, s0 => ((4 ≤ x2 → K x1 x2 s0) ∧ (¬ 4 ≤ x2 → wp_X6_isReleased (fun r9 s10 => ((r9 = 0 → (∀ v12, v12 = x2 + 1 → wp_X6_voiceFor_27 post K n27 x1 v12 s10)) ∧ (¬ r9 = 0 → ((x1 < 0 → (∀ v14, v14 = x2 + 1 → wp_X6_voiceFor_27 post K n27 x2 v14 s10)) ∧ (¬ x1 < 0 → wp_X6_at (fun r15 s16 => wp_X6_at (fun r17 s18 => ((r17 ≤ r15 → (∀ v20, v20 = x2 + 1 → wp_X6_voiceFor_27 post K n27 x1 v20 s18)) ∧ (¬ r17 ≤ r15 → (∀ v21, v21 = x2 + 1 → wp_X6_voiceFor_27 post K n27 x2 v21 s18)))) x1 14 s16) x2 14 s10))))) x2 s0))
set_option maxHeartbeats 4000000 in
theorem tw_X6_voiceFor_27 {p : Program} {l : Launch} {e : Env} {s : State} {m : MethodId} {args : Array Value} {below : List Frame} {meth : Method} {c : Code} {base : Nat} {D : va_G} {ca : Nat → ClassId} {Ls : List gb_L} {ad : gb_L → Nat} {w : gb_L → va_E} {post : Int32 → mm_S → Prop} {K : Int32 → Int32 → mm_S → Prop} (C : gb_C p m c cX6_voiceFor 3 s args RX6 base D ca) (hr : meth.sig.returnType = (some .int)) (hlk : meth.locks = false) (hK : ∀ (x1 : Int32) (x2 : Int32) (σ' : mm_S) (H : Heap) (locs : List Loc) (ls : Array Slot), K x1 x2 σ' → mm_ok base D ca Ls ad w σ' H → va_S (fun q => base ≤ q) s.heap H locs → lv_has ls 3 [(0, .ref (ad (20, 0))), (1, .int x1), (2, .int x2)] → W p l e ({ frames := 3, cells := 0, slots := 0, locals := 64 } : Room) s m args below meth c H locs 0 0 (MQ below (va_Qi post (fun σ' t => mm_ok base D ca Ls ad w σ' t.heap) (fun q => base ≤ q)) args s 0 0 (fun q => base ≤ q)) (F0 m 69 ls [])) :
    ∀ (n : Nat) (x1 : Int32) (x2 : Int32) (s0 : mm_S) (H : Heap) (locs : List Loc) (ls : Array Slot), wp_X6_voiceFor_27 post K n x1 x2 s0 → mm_ok base D ca Ls ad w s0 H → va_S (fun q => base ≤ q) s.heap H locs → lv_has ls 3 [(0, .ref (ad (20, 0))), (1, .int x1), (2, .int x2)] → W p l e ({ frames := 3, cells := 0, slots := 0, locals := 64 } : Room) s m args below meth c H locs 0 0 (MQ below (va_Qi post (fun σ' t => mm_ok base D ca Ls ad w σ' t.heap) (fun q => base ≤ q)) args s 0 0 (fun q => base ≤ q)) (F0 m 27 ls []) := by
  intro n
  induction n with
  | zero =>
    intro x1 x2 s0 H locs ls hk
    exact hk.elim
  | succ n ih =>
    intro x1 x2 s0 H locs ls hk hH hS hl
    rw [wp_X6_voiceFor_27] at hk
    refine lv_iload_n C.hx C.hb dX6_voiceFor_27 rfl (lv_at hl 2 rfl) ?_
    refine lv_iconst (v := 4) C.hx C.hb dX6_voiceFor_28 (by decide) ?_
    refine lv_icmp_ge (tgt := 69) C.hx C.hb dX6_voiceFor_29 (by decide) (fun c8 => ?_) (fun c8 => ?_)
    · have hk := hk.1 c8
      exact hK x1 x2 s0 _ _ _ hk hH hS (lv_sub hl [0, 1, 2] rfl)
    · have hk := hk.2 c8
      refine lv_aload_n C.hx C.hb dX6_voiceFor_32 rfl (lv_at hl 0 rfl) ?_
      refine lv_iload_n C.hx C.hb dX6_voiceFor_33 rfl (lv_at hl 2 rfl) ?_
      refine mm_calli (As := [.int x2]) (rest := []) C (t_X6_isReleased l hk) (cwV 1 C.hts (lw_V q1444 q1446 qs37 q65 q1447) rfl rfl rfl (by decide +kernel) ⟨Nat.le_of_ble_eq_true rfl, Nat.le_of_ble_eq_true rfl⟩) hH hS rfl hl.1 rfl (lv_room (Nat.le_of_ble_eq_true rfl)) dX6_voiceFor_34 ⟨Nat.le_of_ble_eq_true rfl, Nat.le_of_ble_eq_true rfl⟩ (fun r9 s10 H locs hk hH hS => ?_)
      refine lv_if_eq (tgt := 63) C.hx C.hb dX6_voiceFor_37 (by decide) (fun c11 => ?_) (fun c11 => ?_)
      · have hk := hk.1 c11
        obtain ⟨v12, ev12⟩ : ∃ y : Int32, y = x2 + 1 := ⟨_, rfl⟩
        have hk := hk v12 ev12
        refine lv_iinc (v := v12) (lv' := [(2, .int v12), (0, .ref (ad (20, 0))), (1, .int x1)]) C.hx C.hb dX6_voiceFor_63 hl (k := 2) rfl (by rw [ev12]; rfl) (by decide) rfl (fun ls hl => ?_)
        refine lv_goto (tgt := 27) C.hx C.hb dX6_voiceFor_66 (by decide) ?_
        exact ih x1 v12 s10 _ _ _ hk hH hS (lv_sub hl [1, 2, 0] rfl)
      · have hk := hk.2 c11
        refine lv_iload_n C.hx C.hb dX6_voiceFor_40 rfl (lv_at hl 1 rfl) ?_
        refine lv_if_lt (tgt := 61) C.hx C.hb dX6_voiceFor_41 (by decide) (fun c13 => ?_) (fun c13 => ?_)
        · have hk := hk.1 c13
          refine lv_iload_n C.hx C.hb dX6_voiceFor_61 rfl (lv_at hl 2 rfl) ?_
          refine lv_istore_n (lv' := [(1, .int x2), (0, .ref (ad (20, 0))), (2, .int x2)]) C.hx C.hb dX6_voiceFor_62 rfl hl (by decide) rfl (fun ls hl => ?_)
          obtain ⟨v14, ev14⟩ : ∃ y : Int32, y = x2 + 1 := ⟨_, rfl⟩
          have hk := hk v14 ev14
          refine lv_iinc (v := v14) (lv' := [(2, .int v14), (1, .int x2), (0, .ref (ad (20, 0)))]) C.hx C.hb dX6_voiceFor_63 hl (k := 2) rfl (by rw [ev14]; rfl) (by decide) rfl (fun ls hl => ?_)
          refine lv_goto (tgt := 27) C.hx C.hb dX6_voiceFor_66 (by decide) ?_
          exact ih x2 v14 s10 _ _ _ hk hH hS (lv_sub hl [2, 1, 0] rfl)
        · have hk := hk.2 c13
          refine lv_aload_n C.hx C.hb dX6_voiceFor_44 rfl (lv_at hl 0 rfl) ?_
          refine lv_iload_n C.hx C.hb dX6_voiceFor_45 rfl (lv_at hl 2 rfl) ?_
          refine lv_bipush (v := 14) C.hx C.hb dX6_voiceFor_46 (by decide) ?_
          refine mm_calli (As := [.int x2, .int 14]) (rest := []) C (t_X6_at l hk) (cwV 2 C.hts (lw_V q1440 q1442 qs36 q65 q1443) rfl rfl rfl (by decide +kernel) ⟨Nat.le_of_ble_eq_true rfl, Nat.le_of_ble_eq_true rfl⟩) hH hS rfl hl.1 rfl (lv_room (Nat.le_of_ble_eq_true rfl)) dX6_voiceFor_48 ⟨Nat.le_of_ble_eq_true rfl, Nat.le_of_ble_eq_true rfl⟩ (fun r15 s16 H locs hk hH hS => ?_)
          refine lv_aload_n C.hx C.hb dX6_voiceFor_51 rfl (lv_at hl 0 rfl) ?_
          refine lv_iload_n C.hx C.hb dX6_voiceFor_52 rfl (lv_at hl 1 rfl) ?_
          refine lv_bipush (v := 14) C.hx C.hb dX6_voiceFor_53 (by decide) ?_
          refine mm_calli (As := [.int x1, .int 14]) (rest := [.int r15]) C (t_X6_at l hk) (cwV 2 C.hts (lw_V q1440 q1442 qs36 q65 q1443) rfl rfl rfl (by decide +kernel) ⟨Nat.le_of_ble_eq_true rfl, Nat.le_of_ble_eq_true rfl⟩) hH hS rfl hl.1 rfl (lv_room (Nat.le_of_ble_eq_true rfl)) dX6_voiceFor_55 ⟨Nat.le_of_ble_eq_true rfl, Nat.le_of_ble_eq_true rfl⟩ (fun r17 s18 H locs hk hH hS => ?_)
          refine lv_icmp_ge (tgt := 63) C.hx C.hb dX6_voiceFor_58 (by decide) (fun c19 => ?_) (fun c19 => ?_)
          · have hk := hk.1 c19
            obtain ⟨v20, ev20⟩ : ∃ y : Int32, y = x2 + 1 := ⟨_, rfl⟩
            have hk := hk v20 ev20
            refine lv_iinc (v := v20) (lv' := [(2, .int v20), (0, .ref (ad (20, 0))), (1, .int x1)]) C.hx C.hb dX6_voiceFor_63 hl (k := 2) rfl (by rw [ev20]; rfl) (by decide) rfl (fun ls hl => ?_)
            refine lv_goto (tgt := 27) C.hx C.hb dX6_voiceFor_66 (by decide) ?_
            exact ih x1 v20 s18 _ _ _ hk hH hS (lv_sub hl [1, 2, 0] rfl)
          · have hk := hk.2 c19
            refine lv_iload_n C.hx C.hb dX6_voiceFor_61 rfl (lv_at hl 2 rfl) ?_
            refine lv_istore_n (lv' := [(1, .int x2), (0, .ref (ad (20, 0))), (2, .int x2)]) C.hx C.hb dX6_voiceFor_62 rfl hl (by decide) rfl (fun ls hl => ?_)
            obtain ⟨v21, ev21⟩ : ∃ y : Int32, y = x2 + 1 := ⟨_, rfl⟩
            have hk := hk v21 ev21
            refine lv_iinc (v := v21) (lv' := [(2, .int v21), (1, .int x2), (0, .ref (ad (20, 0)))]) C.hx C.hb dX6_voiceFor_63 hl (k := 2) rfl (by rw [ev21]; rfl) (by decide) rfl (fun ls hl => ?_)
            refine lv_goto (tgt := 27) C.hx C.hb dX6_voiceFor_66 (by decide) ?_
            exact ih x2 v21 s18 _ _ _ hk hH hS (lv_sub hl [2, 1, 0] rfl)
def wp_X6_voiceFor_79 (post : Int32 → mm_S → Prop) (K : Int32 → Int32 → mm_S → Prop) : Nat → Int32 → Int32 → mm_S → Prop
  | 0, _, _, _ => False
  | n79 + 1, x1, x2, s0 => ((4 ≤ x2 → K x1 x2 s0) ∧ (¬ 4 ≤ x2 → wp_X6_at (fun r27 s28 => wp_X6_at (fun r29 s30 => ((r29 ≤ r27 → (∀ v32, v32 = x2 + 1 → wp_X6_voiceFor_79 post K n79 x1 v32 s30)) ∧ (¬ r29 ≤ r27 → (∀ v33, v33 = x2 + 1 → wp_X6_voiceFor_79 post K n79 x2 v33 s30)))) x1 13 s28) x2 13 s0))
set_option maxHeartbeats 4000000 in
theorem tw_X6_voiceFor_79 {p : Program} {l : Launch} {e : Env} {s : State} {m : MethodId} {args : Array Value} {below : List Frame} {meth : Method} {c : Code} {base : Nat} {D : va_G} {ca : Nat → ClassId} {Ls : List gb_L} {ad : gb_L → Nat} {w : gb_L → va_E} {post : Int32 → mm_S → Prop} {K : Int32 → Int32 → mm_S → Prop} (C : gb_C p m c cX6_voiceFor 3 s args RX6 base D ca) (hr : meth.sig.returnType = (some .int)) (hlk : meth.locks = false) (hK : ∀ (x1 : Int32) (x2 : Int32) (σ' : mm_S) (H : Heap) (locs : List Loc) (ls : Array Slot), K x1 x2 σ' → mm_ok base D ca Ls ad w σ' H → va_S (fun q => base ≤ q) s.heap H locs → lv_has ls 3 [(0, .ref (ad (20, 0))), (1, .int x1), (2, .int x2)] → W p l e ({ frames := 3, cells := 0, slots := 0, locals := 64 } : Room) s m args below meth c H locs 0 0 (MQ below (va_Qi post (fun σ' t => mm_ok base D ca Ls ad w σ' t.heap) (fun q => base ≤ q)) args s 0 0 (fun q => base ≤ q)) (F0 m 109 ls [])) :
    ∀ (n : Nat) (x1 : Int32) (x2 : Int32) (s0 : mm_S) (H : Heap) (locs : List Loc) (ls : Array Slot), wp_X6_voiceFor_79 post K n x1 x2 s0 → mm_ok base D ca Ls ad w s0 H → va_S (fun q => base ≤ q) s.heap H locs → lv_has ls 3 [(0, .ref (ad (20, 0))), (1, .int x1), (2, .int x2)] → W p l e ({ frames := 3, cells := 0, slots := 0, locals := 64 } : Room) s m args below meth c H locs 0 0 (MQ below (va_Qi post (fun σ' t => mm_ok base D ca Ls ad w σ' t.heap) (fun q => base ≤ q)) args s 0 0 (fun q => base ≤ q)) (F0 m 79 ls []) := by
  intro n
  induction n with
  | zero =>
    intro x1 x2 s0 H locs ls hk
    exact hk.elim
  | succ n ih =>
    intro x1 x2 s0 H locs ls hk hH hS hl
    rw [wp_X6_voiceFor_79] at hk
    refine lv_iload_n C.hx C.hb dX6_voiceFor_79 rfl (lv_at hl 2 rfl) ?_
    refine lv_iconst (v := 4) C.hx C.hb dX6_voiceFor_80 (by decide) ?_
    refine lv_icmp_ge (tgt := 109) C.hx C.hb dX6_voiceFor_81 (by decide) (fun c26 => ?_) (fun c26 => ?_)
    · have hk := hk.1 c26
      exact hK x1 x2 s0 _ _ _ hk hH hS (lv_sub hl [0, 1, 2] rfl)
    · have hk := hk.2 c26
      refine lv_aload_n C.hx C.hb dX6_voiceFor_84 rfl (lv_at hl 0 rfl) ?_
      refine lv_iload_n C.hx C.hb dX6_voiceFor_85 rfl (lv_at hl 2 rfl) ?_
      refine lv_bipush (v := 13) C.hx C.hb dX6_voiceFor_86 (by decide) ?_
      refine mm_calli (As := [.int x2, .int 13]) (rest := []) C (t_X6_at l hk) (cwV 2 C.hts (lw_V q1440 q1442 qs36 q65 q1443) rfl rfl rfl (by decide +kernel) ⟨Nat.le_of_ble_eq_true rfl, Nat.le_of_ble_eq_true rfl⟩) hH hS rfl hl.1 rfl (lv_room (Nat.le_of_ble_eq_true rfl)) dX6_voiceFor_88 ⟨Nat.le_of_ble_eq_true rfl, Nat.le_of_ble_eq_true rfl⟩ (fun r27 s28 H locs hk hH hS => ?_)
      refine lv_aload_n C.hx C.hb dX6_voiceFor_91 rfl (lv_at hl 0 rfl) ?_
      refine lv_iload_n C.hx C.hb dX6_voiceFor_92 rfl (lv_at hl 1 rfl) ?_
      refine lv_bipush (v := 13) C.hx C.hb dX6_voiceFor_93 (by decide) ?_
      refine mm_calli (As := [.int x1, .int 13]) (rest := [.int r27]) C (t_X6_at l hk) (cwV 2 C.hts (lw_V q1440 q1442 qs36 q65 q1443) rfl rfl rfl (by decide +kernel) ⟨Nat.le_of_ble_eq_true rfl, Nat.le_of_ble_eq_true rfl⟩) hH hS rfl hl.1 rfl (lv_room (Nat.le_of_ble_eq_true rfl)) dX6_voiceFor_95 ⟨Nat.le_of_ble_eq_true rfl, Nat.le_of_ble_eq_true rfl⟩ (fun r29 s30 H locs hk hH hS => ?_)
      refine lv_icmp_ge (tgt := 103) C.hx C.hb dX6_voiceFor_98 (by decide) (fun c31 => ?_) (fun c31 => ?_)
      · have hk := hk.1 c31
        obtain ⟨v32, ev32⟩ : ∃ y : Int32, y = x2 + 1 := ⟨_, rfl⟩
        have hk := hk v32 ev32
        refine lv_iinc (v := v32) (lv' := [(2, .int v32), (0, .ref (ad (20, 0))), (1, .int x1)]) C.hx C.hb dX6_voiceFor_103 hl (k := 2) rfl (by rw [ev32]; rfl) (by decide) rfl (fun ls hl => ?_)
        refine lv_goto (tgt := 79) C.hx C.hb dX6_voiceFor_106 (by decide) ?_
        exact ih x1 v32 s30 _ _ _ hk hH hS (lv_sub hl [1, 2, 0] rfl)
      · have hk := hk.2 c31
        refine lv_iload_n C.hx C.hb dX6_voiceFor_101 rfl (lv_at hl 2 rfl) ?_
        refine lv_istore_n (lv' := [(1, .int x2), (0, .ref (ad (20, 0))), (2, .int x2)]) C.hx C.hb dX6_voiceFor_102 rfl hl (by decide) rfl (fun ls hl => ?_)
        obtain ⟨v33, ev33⟩ : ∃ y : Int32, y = x2 + 1 := ⟨_, rfl⟩
        have hk := hk v33 ev33
        refine lv_iinc (v := v33) (lv' := [(2, .int v33), (1, .int x2), (0, .ref (ad (20, 0)))]) C.hx C.hb dX6_voiceFor_103 hl (k := 2) rfl (by rw [ev33]; rfl) (by decide) rfl (fun ls hl => ?_)
        refine lv_goto (tgt := 79) C.hx C.hb dX6_voiceFor_106 (by decide) ?_
        exact ih x2 v33 s30 _ _ _ hk hH hS (lv_sub hl [2, 1, 0] rfl)
def wp_X6_voiceFor (post : Int32 → mm_S → Prop) (s0 : mm_S) : Prop := (∃ n2, wp_X6_voiceFor_2 post (fun y6 s7 => (∃ n27, wp_X6_voiceFor_27 post (fun y22 y23 s24 => ((y22 < 0 → (∃ n79, wp_X6_voiceFor_79 post (fun y34 y35 s36 => post y34 s36) n79 0 1 s24)) ∧ (¬ y22 < 0 → post y22 s24))) n27 (-1) 0 s7)) n2 0 s0)
set_option maxHeartbeats 4000000 in
theorem t_X6_voiceFor (l : Launch) {base : Nat} {D : va_G} {ca : Nat → ClassId} {Ls : List gb_L} {ad : gb_L → Nat} {w : gb_L → va_E} {post : Int32 → mm_S → Prop} {s0 : mm_S} (hk : wp_X6_voiceFor post s0) : mm_Mi l yX6_voiceFor (ws_ yX6_voiceFor cX6_voiceFor 3 (some .int)) ({ frames := 3, cells := 0, slots := 0, locals := 64 } : Room) base D ca Ls ad w [] s0 post := by
  refine mm_start cX6_voiceFor 3 (some .int) _ (by decide) rfl rfl (Nat.le_of_ble_eq_true rfl) ?_
  intro p e s m args below meth c ls C hr hlk hH hS hl
  have hl : lv_has ls 3 [(0, .ref (ad (20, 0)))] := hl
  unfold wp_X6_voiceFor at hk
  refine lv_iconst (v := 0) C.hx C.hb dX6_voiceFor_0 (by decide) ?_
  refine lv_istore_n (lv' := [(1, .int 0), (0, .ref (ad (20, 0)))]) C.hx C.hb dX6_voiceFor_1 rfl hl (by decide) rfl (fun ls hl => ?_)
  obtain ⟨n2, hk⟩ := hk
  refine tw_X6_voiceFor_2 C hr hlk (fun y6 s7 H locs ls hk hH hS hl => ?_) n2 0 s0 _ _ _ hk hH hS (lv_sub hl [1, 0] rfl)
  refine lv_iconst (v := (-1)) C.hx C.hb dX6_voiceFor_23 (by decide) ?_
  refine lv_istore_n (lv' := [(1, .int (-1)), (0, .ref (ad (20, 0)))]) C.hx C.hb dX6_voiceFor_24 rfl hl (by decide) rfl (fun ls hl => ?_)
  refine lv_iconst (v := 0) C.hx C.hb dX6_voiceFor_25 (by decide) ?_
  refine lv_istore_n (lv' := [(2, .int 0), (1, .int (-1)), (0, .ref (ad (20, 0)))]) C.hx C.hb dX6_voiceFor_26 rfl hl (by decide) rfl (fun ls hl => ?_)
  obtain ⟨n27, hk⟩ := hk
  refine tw_X6_voiceFor_27 C hr hlk (fun y22 y23 s24 H locs ls hk hH hS hl => ?_) n27 (-1) 0 s7 _ _ _ hk hH hS (lv_sub hl [2, 1, 0] rfl)
  refine lv_iload_n C.hx C.hb dX6_voiceFor_69 rfl (lv_at hl 1 rfl) ?_
  refine lv_if_lt (tgt := 75) C.hx C.hb dX6_voiceFor_70 (by decide) (fun c25 => ?_) (fun c25 => ?_)
  · have hk := hk.1 c25
    refine lv_iconst (v := 0) C.hx C.hb dX6_voiceFor_75 (by decide) ?_
    refine lv_istore_n (lv' := [(1, .int 0), (0, .ref (ad (20, 0))), (2, .int y23)]) C.hx C.hb dX6_voiceFor_76 rfl hl (by decide) rfl (fun ls hl => ?_)
    refine lv_iconst (v := 1) C.hx C.hb dX6_voiceFor_77 (by decide) ?_
    refine lv_istore_n (lv' := [(2, .int 1), (1, .int 0), (0, .ref (ad (20, 0)))]) C.hx C.hb dX6_voiceFor_78 rfl hl (by decide) rfl (fun ls hl => ?_)
    obtain ⟨n79, hk⟩ := hk
    refine tw_X6_voiceFor_79 C hr hlk (fun y34 y35 s36 H locs ls hk hH hS hl => ?_) n79 0 1 s24 _ _ _ hk hH hS (lv_sub hl [2, 1, 0] rfl)
    refine lv_iload_n C.hx C.hb dX6_voiceFor_109 rfl (lv_at hl 1 rfl) ?_
    exact mm_iret C hr hlk hH hS hk dX6_voiceFor_110
  · have hk := hk.2 c25
    refine lv_iload_n C.hx C.hb dX6_voiceFor_73 rfl (lv_at hl 1 rfl) ?_
    exact mm_iret C hr hlk hH hS hk dX6_voiceFor_74
/-! ToneGraphModel.lay(III)V -/
def wp_X6_lay (post : mm_S → Prop) (p1 : Int32) (p2 : Int32) (p3 : Int32) (s0 : mm_S) : Prop := (vp_in ((640 + (16 * p1)) + p2) 704 ∧ (∀ s2 : mm_S, s2 = ms_a s0 0 ((640 + (16 * p1)) + p2).toNatClampNeg p3 → post s2))
set_option maxHeartbeats 4000000 in
theorem t_X6_lay (l : Launch) {base : Nat} {D : va_G} {ca : Nat → ClassId} {Ls : List gb_L} {ad : gb_L → Nat} {w : gb_L → va_E} {post : mm_S → Prop} {p1 : Int32} {p2 : Int32} {p3 : Int32} {s0 : mm_S} (hk : wp_X6_lay post p1 p2 p3 s0) : mm_Mv l yX6_lay (ws_ yX6_lay cX6_lay 4 none) ({ frames := 0, cells := 0, slots := 0, locals := 0 } : Room) base D ca Ls ad w [.int p1, .int p2, .int p3] s0 post := by
  refine mm_start cX6_lay 4 none _ (by decide) rfl rfl (Nat.le_of_ble_eq_true rfl) ?_
  intro p e s m args below meth c ls C hr hlk hH hS hl
  have hl : lv_has ls 4 [(0, .ref (ad (20, 0))), (1, .int p1), (2, .int p2), (3, .int p3)] := hl
  unfold wp_X6_lay at hk
  refine lv_aload_n C.hx C.hb dX6_lay_0 rfl (lv_at hl 0 rfl) ?_
  refine mm_geta C hH 0 (by decide) q1241 dX6_lay_1 ?_
  refine lv_sipush (v := 640) C.hx C.hb dX6_lay_4 (by decide) ?_
  refine lv_bipush (v := 16) C.hx C.hb dX6_lay_7 (by decide) ?_
  refine lv_iload_n C.hx C.hb dX6_lay_9 rfl (lv_at hl 1 rfl) ?_
  refine lv_imul C.hx C.hb dX6_lay_10 ?_
  refine lv_iadd C.hx C.hb dX6_lay_11 ?_
  refine lv_iload_n C.hx C.hb dX6_lay_12 rfl (lv_at hl 2 rfl) ?_
  refine lv_iadd C.hx C.hb dX6_lay_13 ?_
  refine lv_iload_n C.hx C.hb dX6_lay_14 rfl (lv_at hl 3 rfl) ?_
  obtain ⟨h1, hk⟩ := hk
  refine mm_ast C hH hS 0 (by decide) h1 dX6_lay_15 (fun s2 es2 H locs hH hS => ?_)
  have hk := hk s2 es2
  exact mm_vret C hr hlk hH hS hk dX6_lay_16
/-! ToneGraphModel.begin(II)I -/
def wp_X6_begin_64 (post : Int32 → mm_S → Prop) (K : Int32 → Int32 → Int32 → Int32 → mm_S → Prop) : Nat → Int32 → Int32 → Int32 → Int32 → mm_S → Prop
  | 0, _, _, _, _, _ => False
  | n64 + 1, x1, x2, x3, x4, s0 => ((16 ≤ x4 → K x1 x2 x3 x4 s0) ∧ (¬ 16 ≤ x4 → wp_X6_lay (fun s14 => (∀ v15, v15 = x4 + 1 → wp_X6_begin_64 post K n64 x1 x2 x3 v15 s14)) x3 x4 0 s0))
set_option maxHeartbeats 4000000 in
theorem tw_X6_begin_64 {p : Program} {l : Launch} {e : Env} {s : State} {m : MethodId} {args : Array Value} {below : List Frame} {meth : Method} {c : Code} {base : Nat} {D : va_G} {ca : Nat → ClassId} {Ls : List gb_L} {ad : gb_L → Nat} {w : gb_L → va_E} {post : Int32 → mm_S → Prop} {K : Int32 → Int32 → Int32 → Int32 → mm_S → Prop} (C : gb_C p m c cX6_begin 5 s args RX6 base D ca) (hr : meth.sig.returnType = (some .int)) (hlk : meth.locks = false) (hK : ∀ (x1 : Int32) (x2 : Int32) (x3 : Int32) (x4 : Int32) (σ' : mm_S) (H : Heap) (locs : List Loc) (ls : Array Slot), K x1 x2 x3 x4 σ' → mm_ok base D ca Ls ad w σ' H → va_S (fun q => base ≤ q) s.heap H locs → lv_has ls 5 [(0, .ref (ad (20, 0))), (1, .int x1), (2, .int x2), (3, .int x3), (4, .int x4)] → W p l e ({ frames := 4, cells := 0, slots := 0, locals := 86 } : Room) s m args below meth c H locs 0 0 (MQ below (va_Qi post (fun σ' t => mm_ok base D ca Ls ad w σ' t.heap) (fun q => base ≤ q)) args s 0 0 (fun q => base ≤ q)) (F0 m 85 ls [])) :
    ∀ (n : Nat) (x1 : Int32) (x2 : Int32) (x3 : Int32) (x4 : Int32) (s0 : mm_S) (H : Heap) (locs : List Loc) (ls : Array Slot), wp_X6_begin_64 post K n x1 x2 x3 x4 s0 → mm_ok base D ca Ls ad w s0 H → va_S (fun q => base ≤ q) s.heap H locs → lv_has ls 5 [(0, .ref (ad (20, 0))), (1, .int x1), (2, .int x2), (3, .int x3), (4, .int x4)] → W p l e ({ frames := 4, cells := 0, slots := 0, locals := 86 } : Room) s m args below meth c H locs 0 0 (MQ below (va_Qi post (fun σ' t => mm_ok base D ca Ls ad w σ' t.heap) (fun q => base ≤ q)) args s 0 0 (fun q => base ≤ q)) (F0 m 64 ls []) := by
  intro n
  induction n with
  | zero =>
    intro x1 x2 x3 x4 s0 H locs ls hk
    exact hk.elim
  | succ n ih =>
    intro x1 x2 x3 x4 s0 H locs ls hk hH hS hl
    rw [wp_X6_begin_64] at hk
    refine lv_iload C.hx C.hb dX6_begin_64 (lv_at hl 4 rfl) ?_
    refine lv_bipush (v := 16) C.hx C.hb dX6_begin_66 (by decide) ?_
    refine lv_icmp_ge (tgt := 85) C.hx C.hb dX6_begin_68 (by decide) (fun c12 => ?_) (fun c12 => ?_)
    · have hk := hk.1 c12
      exact hK x1 x2 x3 x4 s0 _ _ _ hk hH hS (lv_sub hl [0, 1, 2, 3, 4] rfl)
    · have hk := hk.2 c12
      refine lv_aload_n C.hx C.hb dX6_begin_71 rfl (lv_at hl 0 rfl) ?_
      refine lv_iload_n C.hx C.hb dX6_begin_72 rfl (lv_at hl 3 rfl) ?_
      refine lv_iload C.hx C.hb dX6_begin_73 (lv_at hl 4 rfl) ?_
      refine lv_iconst (v := 0) C.hx C.hb dX6_begin_75 (by decide) ?_
      refine mm_callv (As := [.int x3, .int x4, .int 0]) (rest := []) C (t_X6_lay l hk) (cwV 3 C.hts (lw_V q1448 q1450 qs38 q65 q1451) rfl rfl rfl (by decide +kernel) ⟨Nat.le_of_ble_eq_true rfl, Nat.le_of_ble_eq_true rfl⟩) hH hS rfl hl.1 rfl (lv_room (Nat.le_of_ble_eq_true rfl)) dX6_begin_76 ⟨Nat.le_of_ble_eq_true rfl, Nat.le_of_ble_eq_true rfl⟩ (fun s14 H locs hk hH hS => ?_)
      obtain ⟨v15, ev15⟩ : ∃ y : Int32, y = x4 + 1 := ⟨_, rfl⟩
      have hk := hk v15 ev15
      refine lv_iinc (v := v15) (lv' := [(4, .int v15), (0, .ref (ad (20, 0))), (1, .int x1), (2, .int x2), (3, .int x3)]) C.hx C.hb dX6_begin_79 hl (k := 4) rfl (by rw [ev15]; rfl) (by decide) rfl (fun ls hl => ?_)
      refine lv_goto (tgt := 64) C.hx C.hb dX6_begin_82 (by decide) ?_
      exact ih x1 x2 x3 v15 s14 _ _ _ hk hH hS (lv_sub hl [1, 2, 3, 4, 0] rfl)
def wp_X6_begin (post : Int32 → mm_S → Prop) (p1 : Int32) (p2 : Int32) (s0 : mm_S) : Prop := wp_X6_in (fun r1 => ((r1 = 0 → wp_X6_checked (fun r3 s4 => ((r3 ≤ 0 → wp_X6_voiceFor (fun r6 s7 => wp_X6_plays (fun r8 s9 => ((r8 = 0 → (∀ s11 : mm_S, s11 = ms_f s9 8 ((s7.1 8) + 0) → (∃ n64, wp_X6_begin_64 post (fun y16 y17 y18 y19 s20 => wp_X6_lay (fun s22 => wp_X6_lay (fun s24 => wp_X6_lay (fun s26 => wp_X6_lay (fun s28 => wp_X6_lay (fun s30 => wp_X6_lay (fun s32 => wp_X6_lay (fun s34 => wp_X6_lay (fun s36 => wp_X6_lay (fun s38 => (∀ s39 : mm_S, s39 = ms_f s38 9 ((s38.1 9) + 1) → post y18 s39)) y18 13 (s36.1 9) s36) y18 8 (s34.1 7) s34) y18 7 (s32.1 6) s32) y18 6 (s30.1 5) s30) y18 5 (s28.1 4) s28) y18 4 (s26.1 3) s26) y18 3 y17 s24) y18 2 y16 s22) y18 0 1 s20) n64 p1 p2 r6 0 s11))) ∧ (¬ r8 = 0 → (∀ s40 : mm_S, s40 = ms_f s9 8 ((s7.1 8) + 1) → (∃ n64, wp_X6_begin_64 post (fun y41 y42 y43 y44 s45 => wp_X6_lay (fun s47 => wp_X6_lay (fun s49 => wp_X6_lay (fun s51 => wp_X6_lay (fun s53 => wp_X6_lay (fun s55 => wp_X6_lay (fun s57 => wp_X6_lay (fun s59 => wp_X6_lay (fun s61 => wp_X6_lay (fun s63 => (∀ s64 : mm_S, s64 = ms_f s63 9 ((s63.1 9) + 1) → post y43 s64)) y43 13 (s61.1 9) s61) y43 8 (s59.1 7) s59) y43 7 (s57.1 6) s57) y43 6 (s55.1 5) s55) y43 5 (s53.1 4) s53) y43 4 (s51.1 3) s51) y43 3 y42 s49) y43 2 y41 s47) y43 0 1 s45) n64 p1 p2 r6 0 s40))))) r6 s7)  s4) ∧ (¬ r3 ≤ 0 → post 0 s4))) 0 s0) ∧ (¬ r1 = 0 → wp_X6_in (fun r65 => ((r65 = 0 → wp_X6_checked (fun r67 s68 => ((r67 ≤ 0 → wp_X6_voiceFor (fun r70 s71 => wp_X6_plays (fun r72 s73 => ((r72 = 0 → (∀ s75 : mm_S, s75 = ms_f s73 8 ((s71.1 8) + 0) → (∃ n64, wp_X6_begin_64 post (fun y76 y77 y78 y79 s80 => wp_X6_lay (fun s82 => wp_X6_lay (fun s84 => wp_X6_lay (fun s86 => wp_X6_lay (fun s88 => wp_X6_lay (fun s90 => wp_X6_lay (fun s92 => wp_X6_lay (fun s94 => wp_X6_lay (fun s96 => wp_X6_lay (fun s98 => (∀ s99 : mm_S, s99 = ms_f s98 9 ((s98.1 9) + 1) → post y78 s99)) y78 13 (s96.1 9) s96) y78 8 (s94.1 7) s94) y78 7 (s92.1 6) s92) y78 6 (s90.1 5) s90) y78 5 (s88.1 4) s88) y78 4 (s86.1 3) s86) y78 3 y77 s84) y78 2 y76 s82) y78 0 1 s80) n64 p1 p2 r70 0 s75))) ∧ (¬ r72 = 0 → (∀ s100 : mm_S, s100 = ms_f s73 8 ((s71.1 8) + 1) → (∃ n64, wp_X6_begin_64 post (fun y101 y102 y103 y104 s105 => wp_X6_lay (fun s107 => wp_X6_lay (fun s109 => wp_X6_lay (fun s111 => wp_X6_lay (fun s113 => wp_X6_lay (fun s115 => wp_X6_lay (fun s117 => wp_X6_lay (fun s119 => wp_X6_lay (fun s121 => wp_X6_lay (fun s123 => (∀ s124 : mm_S, s124 = ms_f s123 9 ((s123.1 9) + 1) → post y103 s124)) y103 13 (s121.1 9) s121) y103 8 (s119.1 7) s119) y103 7 (s117.1 6) s117) y103 6 (s115.1 5) s115) y103 5 (s113.1 4) s113) y103 4 (s111.1 3) s111) y103 3 y102 s109) y103 2 y101 s107) y103 0 1 s105) n64 p1 p2 r70 0 s100))))) r70 s71)  s68) ∧ (¬ r67 ≤ 0 → post 0 s68))) 0 s0) ∧ (¬ r65 = 0 → wp_X6_checked (fun r125 s126 => ((r125 ≤ 0 → wp_X6_voiceFor (fun r128 s129 => wp_X6_plays (fun r130 s131 => ((r130 = 0 → (∀ s133 : mm_S, s133 = ms_f s131 8 ((s129.1 8) + 0) → (∃ n64, wp_X6_begin_64 post (fun y134 y135 y136 y137 s138 => wp_X6_lay (fun s140 => wp_X6_lay (fun s142 => wp_X6_lay (fun s144 => wp_X6_lay (fun s146 => wp_X6_lay (fun s148 => wp_X6_lay (fun s150 => wp_X6_lay (fun s152 => wp_X6_lay (fun s154 => wp_X6_lay (fun s156 => (∀ s157 : mm_S, s157 = ms_f s156 9 ((s156.1 9) + 1) → post y136 s157)) y136 13 (s154.1 9) s154) y136 8 (s152.1 7) s152) y136 7 (s150.1 6) s150) y136 6 (s148.1 5) s148) y136 5 (s146.1 4) s146) y136 4 (s144.1 3) s144) y136 3 y135 s142) y136 2 y134 s140) y136 0 1 s138) n64 p1 p2 r128 0 s133))) ∧ (¬ r130 = 0 → (∀ s158 : mm_S, s158 = ms_f s131 8 ((s129.1 8) + 1) → (∃ n64, wp_X6_begin_64 post (fun y159 y160 y161 y162 s163 => wp_X6_lay (fun s165 => wp_X6_lay (fun s167 => wp_X6_lay (fun s169 => wp_X6_lay (fun s171 => wp_X6_lay (fun s173 => wp_X6_lay (fun s175 => wp_X6_lay (fun s177 => wp_X6_lay (fun s179 => wp_X6_lay (fun s181 => (∀ s182 : mm_S, s182 = ms_f s181 9 ((s181.1 9) + 1) → post y161 s182)) y161 13 (s179.1 9) s179) y161 8 (s177.1 7) s177) y161 7 (s175.1 6) s175) y161 6 (s173.1 5) s173) y161 5 (s171.1 4) s171) y161 4 (s169.1 3) s169) y161 3 y160 s167) y161 2 y159 s165) y161 0 1 s163) n64 p1 p2 r128 0 s158))))) r128 s129)  s126) ∧ (¬ r125 ≤ 0 → post 0 s126))) 1 s0))) p2 1 100))) p1 0 59
set_option maxHeartbeats 4000000 in
theorem t_X6_begin (l : Launch) {base : Nat} {D : va_G} {ca : Nat → ClassId} {Ls : List gb_L} {ad : gb_L → Nat} {w : gb_L → va_E} {post : Int32 → mm_S → Prop} {p1 : Int32} {p2 : Int32} {s0 : mm_S} (hk : wp_X6_begin post p1 p2 s0) : mm_Mi l yX6_begin (ws_ yX6_begin cX6_begin 5 (some .int)) ({ frames := 4, cells := 0, slots := 0, locals := 86 } : Room) base D ca Ls ad w [.int p1, .int p2] s0 post := by
  refine mm_start cX6_begin 5 (some .int) _ (by decide) rfl rfl (Nat.le_of_ble_eq_true rfl) ?_
  intro p e s m args below meth c ls C hr hlk hH hS hl
  have hl : lv_has ls 5 [(0, .ref (ad (20, 0))), (1, .int p1), (2, .int p2)] := hl
  unfold wp_X6_begin at hk
  refine lv_aload_n C.hx C.hb dX6_begin_0 rfl (lv_at hl 0 rfl) ?_
  refine lv_iload_n C.hx C.hb dX6_begin_1 rfl (lv_at hl 1 rfl) ?_
  refine lv_iconst (v := 0) C.hx C.hb dX6_begin_2 (by decide) ?_
  refine lv_bipush (v := 59) C.hx C.hb dX6_begin_3 (by decide) ?_
  refine gb_call (As := [.int p1, .int 0, .int 59]) (rest := [.ref (ad (20, 0))]) C.1 (t_X6_in l hk) (va_cwS 3 C.hts (lw_S q1329 q1330 q65 q1331) rfl rfl rfl (by decide +kernel) ⟨Nat.le_of_ble_eq_true rfl, Nat.le_of_ble_eq_true rfl⟩) rfl hl.1 rfl (lv_room (Nat.le_of_ble_eq_true rfl)) dX6_begin_5 ⟨Nat.le_of_ble_eq_true rfl, Nat.le_of_ble_eq_true rfl⟩ (fun r1 hk => ?_)
  refine lv_if_eq (tgt := 25) C.hx C.hb dX6_begin_8 (by decide) (fun c2 => ?_) (fun c2 => ?_)
  · have hk := hk.1 c2
    refine lv_iconst (v := 0) C.hx C.hb dX6_begin_25 (by decide) ?_
    refine mm_calli (As := [.int 0]) (rest := []) C (t_X6_checked l hk) (cwV 1 C.hts (lw_V q1380 q1382 qs31 q65 q1383) rfl rfl rfl (by decide +kernel) ⟨Nat.le_of_ble_eq_true rfl, Nat.le_of_ble_eq_true rfl⟩) hH hS rfl hl.1 rfl (lv_room (Nat.le_of_ble_eq_true rfl)) dX6_begin_26 ⟨Nat.le_of_ble_eq_true rfl, Nat.le_of_ble_eq_true rfl⟩ (fun r3 s4 H locs hk hH hS => ?_)
    refine lv_if_le (tgt := 34) C.hx C.hb dX6_begin_29 (by decide) (fun c5 => ?_) (fun c5 => ?_)
    · have hk := hk.1 c5
      refine lv_aload_n C.hx C.hb dX6_begin_34 rfl (lv_at hl 0 rfl) ?_
      refine mm_calli (As := []) (rest := []) C (t_X6_voiceFor l hk) (cwV 0 C.hts (lw_V q1432 q1434 qs34 q65 q1435) rfl rfl rfl (by decide +kernel) ⟨Nat.le_of_ble_eq_true rfl, Nat.le_of_ble_eq_true rfl⟩) hH hS rfl hl.1 rfl (lv_room (Nat.le_of_ble_eq_true rfl)) dX6_begin_35 ⟨Nat.le_of_ble_eq_true rfl, Nat.le_of_ble_eq_true rfl⟩ (fun r6 s7 H locs hk hH hS => ?_)
      refine lv_istore_n (lv' := [(3, .int r6), (0, .ref (ad (20, 0))), (1, .int p1), (2, .int p2)]) C.hx C.hb dX6_begin_38 rfl hl (by decide) rfl (fun ls hl => ?_)
      refine lv_aload_n C.hx C.hb dX6_begin_39 rfl (lv_at hl 1 rfl) ?_
      refine lv_dup C.hx C.hb dX6_begin_40 rfl ?_
      refine mm_geti C hH 20 8 (by decide) rfl q1261 dX6_begin_41 ?_
      refine lv_aload_n C.hx C.hb dX6_begin_44 rfl (lv_at hl 1 rfl) ?_
      refine lv_iload_n C.hx C.hb dX6_begin_45 rfl (lv_at hl 0 rfl) ?_
      refine mm_calli (As := [.int r6]) (rest := [.int (s7.1 8), .ref (ad (20, 0))]) C (t_X6_plays l hk) (cwV 1 C.hts (lw_V q1436 q1438 qs35 q65 q1439) rfl rfl rfl (by decide +kernel) ⟨Nat.le_of_ble_eq_true rfl, Nat.le_of_ble_eq_true rfl⟩) hH hS rfl hl.1 rfl (lv_room (Nat.le_of_ble_eq_true rfl)) dX6_begin_46 ⟨Nat.le_of_ble_eq_true rfl, Nat.le_of_ble_eq_true rfl⟩ (fun r8 s9 H locs hk hH hS => ?_)
      refine lv_if_eq (tgt := 56) C.hx C.hb dX6_begin_49 (by decide) (fun c10 => ?_) (fun c10 => ?_)
      · have hk := hk.1 c10
        refine lv_iconst (v := 0) C.hx C.hb dX6_begin_56 (by decide) ?_
        refine lv_iadd C.hx C.hb dX6_begin_57 ?_
        refine mm_puti C hH hS 20 8 (by decide) rfl q1261 dX6_begin_58 rfl rfl (fun s11 es11 H locs hH hS => ?_)
        have hk := hk s11 es11
        refine lv_iconst (v := 0) C.hx C.hb dX6_begin_61 (by decide) ?_
        refine lv_istore (lv' := [(4, .int 0), (3, .int r6), (0, .ref (ad (20, 0))), (1, .int p1), (2, .int p2)]) C.hx C.hb dX6_begin_62 hl (by decide) rfl (fun ls hl => ?_)
        obtain ⟨n64, hk⟩ := hk
        refine tw_X6_begin_64 C hr hlk (fun y16 y17 y18 y19 s20 H locs ls hk hH hS hl => ?_) n64 p1 p2 r6 0 s11 _ _ _ hk hH hS (lv_sub hl [2, 3, 4, 1, 0] rfl)
        refine lv_aload_n C.hx C.hb dX6_begin_85 rfl (lv_at hl 0 rfl) ?_
        refine lv_iload_n C.hx C.hb dX6_begin_86 rfl (lv_at hl 3 rfl) ?_
        refine lv_iconst (v := 0) C.hx C.hb dX6_begin_87 (by decide) ?_
        refine lv_iconst (v := 1) C.hx C.hb dX6_begin_88 (by decide) ?_
        refine mm_callv (As := [.int y18, .int 0, .int 1]) (rest := []) C (t_X6_lay l hk) (cwV 3 C.hts (lw_V q1448 q1450 qs38 q65 q1451) rfl rfl rfl (by decide +kernel) ⟨Nat.le_of_ble_eq_true rfl, Nat.le_of_ble_eq_true rfl⟩) hH hS rfl hl.1 rfl (lv_room (Nat.le_of_ble_eq_true rfl)) dX6_begin_89 ⟨Nat.le_of_ble_eq_true rfl, Nat.le_of_ble_eq_true rfl⟩ (fun s22 H locs hk hH hS => ?_)
        refine lv_aload_n C.hx C.hb dX6_begin_92 rfl (lv_at hl 0 rfl) ?_
        refine lv_iload_n C.hx C.hb dX6_begin_93 rfl (lv_at hl 3 rfl) ?_
        refine lv_iconst (v := 2) C.hx C.hb dX6_begin_94 (by decide) ?_
        refine lv_iload_n C.hx C.hb dX6_begin_95 rfl (lv_at hl 1 rfl) ?_
        refine mm_callv (As := [.int y18, .int 2, .int y16]) (rest := []) C (t_X6_lay l hk) (cwV 3 C.hts (lw_V q1448 q1450 qs38 q65 q1451) rfl rfl rfl (by decide +kernel) ⟨Nat.le_of_ble_eq_true rfl, Nat.le_of_ble_eq_true rfl⟩) hH hS rfl hl.1 rfl (lv_room (Nat.le_of_ble_eq_true rfl)) dX6_begin_96 ⟨Nat.le_of_ble_eq_true rfl, Nat.le_of_ble_eq_true rfl⟩ (fun s24 H locs hk hH hS => ?_)
        refine lv_aload_n C.hx C.hb dX6_begin_99 rfl (lv_at hl 0 rfl) ?_
        refine lv_iload_n C.hx C.hb dX6_begin_100 rfl (lv_at hl 3 rfl) ?_
        refine lv_iconst (v := 3) C.hx C.hb dX6_begin_101 (by decide) ?_
        refine lv_iload_n C.hx C.hb dX6_begin_102 rfl (lv_at hl 2 rfl) ?_
        refine mm_callv (As := [.int y18, .int 3, .int y17]) (rest := []) C (t_X6_lay l hk) (cwV 3 C.hts (lw_V q1448 q1450 qs38 q65 q1451) rfl rfl rfl (by decide +kernel) ⟨Nat.le_of_ble_eq_true rfl, Nat.le_of_ble_eq_true rfl⟩) hH hS rfl hl.1 rfl (lv_room (Nat.le_of_ble_eq_true rfl)) dX6_begin_103 ⟨Nat.le_of_ble_eq_true rfl, Nat.le_of_ble_eq_true rfl⟩ (fun s26 H locs hk hH hS => ?_)
        refine lv_aload_n C.hx C.hb dX6_begin_106 rfl (lv_at hl 0 rfl) ?_
        refine lv_iload_n C.hx C.hb dX6_begin_107 rfl (lv_at hl 3 rfl) ?_
        refine lv_iconst (v := 4) C.hx C.hb dX6_begin_108 (by decide) ?_
        refine lv_aload_n C.hx C.hb dX6_begin_109 rfl (lv_at hl 0 rfl) ?_
        refine mm_geti C hH 15 3 (by decide) rfl q1256 dX6_begin_110 ?_
        refine mm_callv (As := [.int y18, .int 4, .int (s26.1 3)]) (rest := []) C (t_X6_lay l hk) (cwV 3 C.hts (lw_V q1448 q1450 qs38 q65 q1451) rfl rfl rfl (by decide +kernel) ⟨Nat.le_of_ble_eq_true rfl, Nat.le_of_ble_eq_true rfl⟩) hH hS rfl hl.1 rfl (lv_room (Nat.le_of_ble_eq_true rfl)) dX6_begin_113 ⟨Nat.le_of_ble_eq_true rfl, Nat.le_of_ble_eq_true rfl⟩ (fun s28 H locs hk hH hS => ?_)
        refine lv_aload_n C.hx C.hb dX6_begin_116 rfl (lv_at hl 0 rfl) ?_
        refine lv_iload_n C.hx C.hb dX6_begin_117 rfl (lv_at hl 3 rfl) ?_
        refine lv_iconst (v := 5) C.hx C.hb dX6_begin_118 (by decide) ?_
        refine lv_aload_n C.hx C.hb dX6_begin_119 rfl (lv_at hl 0 rfl) ?_
        refine mm_geti C hH 16 4 (by decide) rfl q1257 dX6_begin_120 ?_
        refine mm_callv (As := [.int y18, .int 5, .int (s28.1 4)]) (rest := []) C (t_X6_lay l hk) (cwV 3 C.hts (lw_V q1448 q1450 qs38 q65 q1451) rfl rfl rfl (by decide +kernel) ⟨Nat.le_of_ble_eq_true rfl, Nat.le_of_ble_eq_true rfl⟩) hH hS rfl hl.1 rfl (lv_room (Nat.le_of_ble_eq_true rfl)) dX6_begin_123 ⟨Nat.le_of_ble_eq_true rfl, Nat.le_of_ble_eq_true rfl⟩ (fun s30 H locs hk hH hS => ?_)
        refine lv_aload_n C.hx C.hb dX6_begin_126 rfl (lv_at hl 0 rfl) ?_
        refine lv_iload_n C.hx C.hb dX6_begin_127 rfl (lv_at hl 3 rfl) ?_
        refine lv_bipush (v := 6) C.hx C.hb dX6_begin_128 (by decide) ?_
        refine lv_aload_n C.hx C.hb dX6_begin_130 rfl (lv_at hl 0 rfl) ?_
        refine mm_geti C hH 17 5 (by decide) rfl q1258 dX6_begin_131 ?_
        refine mm_callv (As := [.int y18, .int 6, .int (s30.1 5)]) (rest := []) C (t_X6_lay l hk) (cwV 3 C.hts (lw_V q1448 q1450 qs38 q65 q1451) rfl rfl rfl (by decide +kernel) ⟨Nat.le_of_ble_eq_true rfl, Nat.le_of_ble_eq_true rfl⟩) hH hS rfl hl.1 rfl (lv_room (Nat.le_of_ble_eq_true rfl)) dX6_begin_134 ⟨Nat.le_of_ble_eq_true rfl, Nat.le_of_ble_eq_true rfl⟩ (fun s32 H locs hk hH hS => ?_)
        refine lv_aload_n C.hx C.hb dX6_begin_137 rfl (lv_at hl 0 rfl) ?_
        refine lv_iload_n C.hx C.hb dX6_begin_138 rfl (lv_at hl 3 rfl) ?_
        refine lv_bipush (v := 7) C.hx C.hb dX6_begin_139 (by decide) ?_
        refine lv_aload_n C.hx C.hb dX6_begin_141 rfl (lv_at hl 0 rfl) ?_
        refine mm_geti C hH 18 6 (by decide) rfl q1259 dX6_begin_142 ?_
        refine mm_callv (As := [.int y18, .int 7, .int (s32.1 6)]) (rest := []) C (t_X6_lay l hk) (cwV 3 C.hts (lw_V q1448 q1450 qs38 q65 q1451) rfl rfl rfl (by decide +kernel) ⟨Nat.le_of_ble_eq_true rfl, Nat.le_of_ble_eq_true rfl⟩) hH hS rfl hl.1 rfl (lv_room (Nat.le_of_ble_eq_true rfl)) dX6_begin_145 ⟨Nat.le_of_ble_eq_true rfl, Nat.le_of_ble_eq_true rfl⟩ (fun s34 H locs hk hH hS => ?_)
        refine lv_aload_n C.hx C.hb dX6_begin_148 rfl (lv_at hl 0 rfl) ?_
        refine lv_iload_n C.hx C.hb dX6_begin_149 rfl (lv_at hl 3 rfl) ?_
        refine lv_bipush (v := 8) C.hx C.hb dX6_begin_150 (by decide) ?_
        refine lv_aload_n C.hx C.hb dX6_begin_152 rfl (lv_at hl 0 rfl) ?_
        refine mm_geti C hH 19 7 (by decide) rfl q1260 dX6_begin_153 ?_
        refine mm_callv (As := [.int y18, .int 8, .int (s34.1 7)]) (rest := []) C (t_X6_lay l hk) (cwV 3 C.hts (lw_V q1448 q1450 qs38 q65 q1451) rfl rfl rfl (by decide +kernel) ⟨Nat.le_of_ble_eq_true rfl, Nat.le_of_ble_eq_true rfl⟩) hH hS rfl hl.1 rfl (lv_room (Nat.le_of_ble_eq_true rfl)) dX6_begin_156 ⟨Nat.le_of_ble_eq_true rfl, Nat.le_of_ble_eq_true rfl⟩ (fun s36 H locs hk hH hS => ?_)
        refine lv_aload_n C.hx C.hb dX6_begin_159 rfl (lv_at hl 0 rfl) ?_
        refine lv_iload_n C.hx C.hb dX6_begin_160 rfl (lv_at hl 3 rfl) ?_
        refine lv_bipush (v := 13) C.hx C.hb dX6_begin_161 (by decide) ?_
        refine lv_aload_n C.hx C.hb dX6_begin_163 rfl (lv_at hl 0 rfl) ?_
        refine mm_geti C hH 21 9 (by decide) rfl q1262 dX6_begin_164 ?_
        refine mm_callv (As := [.int y18, .int 13, .int (s36.1 9)]) (rest := []) C (t_X6_lay l hk) (cwV 3 C.hts (lw_V q1448 q1450 qs38 q65 q1451) rfl rfl rfl (by decide +kernel) ⟨Nat.le_of_ble_eq_true rfl, Nat.le_of_ble_eq_true rfl⟩) hH hS rfl hl.1 rfl (lv_room (Nat.le_of_ble_eq_true rfl)) dX6_begin_167 ⟨Nat.le_of_ble_eq_true rfl, Nat.le_of_ble_eq_true rfl⟩ (fun s38 H locs hk hH hS => ?_)
        refine lv_aload_n C.hx C.hb dX6_begin_170 rfl (lv_at hl 0 rfl) ?_
        refine lv_dup C.hx C.hb dX6_begin_171 rfl ?_
        refine mm_geti C hH 21 9 (by decide) rfl q1262 dX6_begin_172 ?_
        refine lv_iconst (v := 1) C.hx C.hb dX6_begin_175 (by decide) ?_
        refine lv_iadd C.hx C.hb dX6_begin_176 ?_
        refine mm_puti C hH hS 21 9 (by decide) rfl q1262 dX6_begin_177 rfl rfl (fun s39 es39 H locs hH hS => ?_)
        have hk := hk s39 es39
        refine lv_iload_n C.hx C.hb dX6_begin_180 rfl (lv_at hl 3 rfl) ?_
        exact mm_iret C hr hlk hH hS hk dX6_begin_181
      · have hk := hk.2 c10
        refine lv_iconst (v := 1) C.hx C.hb dX6_begin_52 (by decide) ?_
        refine lv_goto (tgt := 57) C.hx C.hb dX6_begin_53 (by decide) ?_
        refine lv_iadd C.hx C.hb dX6_begin_57 ?_
        refine mm_puti C hH hS 20 8 (by decide) rfl q1261 dX6_begin_58 rfl rfl (fun s40 es40 H locs hH hS => ?_)
        have hk := hk s40 es40
        refine lv_iconst (v := 0) C.hx C.hb dX6_begin_61 (by decide) ?_
        refine lv_istore (lv' := [(4, .int 0), (3, .int r6), (0, .ref (ad (20, 0))), (1, .int p1), (2, .int p2)]) C.hx C.hb dX6_begin_62 hl (by decide) rfl (fun ls hl => ?_)
        obtain ⟨n64, hk⟩ := hk
        refine tw_X6_begin_64 C hr hlk (fun y41 y42 y43 y44 s45 H locs ls hk hH hS hl => ?_) n64 p1 p2 r6 0 s40 _ _ _ hk hH hS (lv_sub hl [2, 3, 4, 1, 0] rfl)
        refine lv_aload_n C.hx C.hb dX6_begin_85 rfl (lv_at hl 0 rfl) ?_
        refine lv_iload_n C.hx C.hb dX6_begin_86 rfl (lv_at hl 3 rfl) ?_
        refine lv_iconst (v := 0) C.hx C.hb dX6_begin_87 (by decide) ?_
        refine lv_iconst (v := 1) C.hx C.hb dX6_begin_88 (by decide) ?_
        refine mm_callv (As := [.int y43, .int 0, .int 1]) (rest := []) C (t_X6_lay l hk) (cwV 3 C.hts (lw_V q1448 q1450 qs38 q65 q1451) rfl rfl rfl (by decide +kernel) ⟨Nat.le_of_ble_eq_true rfl, Nat.le_of_ble_eq_true rfl⟩) hH hS rfl hl.1 rfl (lv_room (Nat.le_of_ble_eq_true rfl)) dX6_begin_89 ⟨Nat.le_of_ble_eq_true rfl, Nat.le_of_ble_eq_true rfl⟩ (fun s47 H locs hk hH hS => ?_)
        refine lv_aload_n C.hx C.hb dX6_begin_92 rfl (lv_at hl 0 rfl) ?_
        refine lv_iload_n C.hx C.hb dX6_begin_93 rfl (lv_at hl 3 rfl) ?_
        refine lv_iconst (v := 2) C.hx C.hb dX6_begin_94 (by decide) ?_
        refine lv_iload_n C.hx C.hb dX6_begin_95 rfl (lv_at hl 1 rfl) ?_
        refine mm_callv (As := [.int y43, .int 2, .int y41]) (rest := []) C (t_X6_lay l hk) (cwV 3 C.hts (lw_V q1448 q1450 qs38 q65 q1451) rfl rfl rfl (by decide +kernel) ⟨Nat.le_of_ble_eq_true rfl, Nat.le_of_ble_eq_true rfl⟩) hH hS rfl hl.1 rfl (lv_room (Nat.le_of_ble_eq_true rfl)) dX6_begin_96 ⟨Nat.le_of_ble_eq_true rfl, Nat.le_of_ble_eq_true rfl⟩ (fun s49 H locs hk hH hS => ?_)
        refine lv_aload_n C.hx C.hb dX6_begin_99 rfl (lv_at hl 0 rfl) ?_
        refine lv_iload_n C.hx C.hb dX6_begin_100 rfl (lv_at hl 3 rfl) ?_
        refine lv_iconst (v := 3) C.hx C.hb dX6_begin_101 (by decide) ?_
        refine lv_iload_n C.hx C.hb dX6_begin_102 rfl (lv_at hl 2 rfl) ?_
        refine mm_callv (As := [.int y43, .int 3, .int y42]) (rest := []) C (t_X6_lay l hk) (cwV 3 C.hts (lw_V q1448 q1450 qs38 q65 q1451) rfl rfl rfl (by decide +kernel) ⟨Nat.le_of_ble_eq_true rfl, Nat.le_of_ble_eq_true rfl⟩) hH hS rfl hl.1 rfl (lv_room (Nat.le_of_ble_eq_true rfl)) dX6_begin_103 ⟨Nat.le_of_ble_eq_true rfl, Nat.le_of_ble_eq_true rfl⟩ (fun s51 H locs hk hH hS => ?_)
        refine lv_aload_n C.hx C.hb dX6_begin_106 rfl (lv_at hl 0 rfl) ?_
        refine lv_iload_n C.hx C.hb dX6_begin_107 rfl (lv_at hl 3 rfl) ?_
        refine lv_iconst (v := 4) C.hx C.hb dX6_begin_108 (by decide) ?_
        refine lv_aload_n C.hx C.hb dX6_begin_109 rfl (lv_at hl 0 rfl) ?_
        refine mm_geti C hH 15 3 (by decide) rfl q1256 dX6_begin_110 ?_
        refine mm_callv (As := [.int y43, .int 4, .int (s51.1 3)]) (rest := []) C (t_X6_lay l hk) (cwV 3 C.hts (lw_V q1448 q1450 qs38 q65 q1451) rfl rfl rfl (by decide +kernel) ⟨Nat.le_of_ble_eq_true rfl, Nat.le_of_ble_eq_true rfl⟩) hH hS rfl hl.1 rfl (lv_room (Nat.le_of_ble_eq_true rfl)) dX6_begin_113 ⟨Nat.le_of_ble_eq_true rfl, Nat.le_of_ble_eq_true rfl⟩ (fun s53 H locs hk hH hS => ?_)
        refine lv_aload_n C.hx C.hb dX6_begin_116 rfl (lv_at hl 0 rfl) ?_
        refine lv_iload_n C.hx C.hb dX6_begin_117 rfl (lv_at hl 3 rfl) ?_
        refine lv_iconst (v := 5) C.hx C.hb dX6_begin_118 (by decide) ?_
        refine lv_aload_n C.hx C.hb dX6_begin_119 rfl (lv_at hl 0 rfl) ?_
        refine mm_geti C hH 16 4 (by decide) rfl q1257 dX6_begin_120 ?_
        refine mm_callv (As := [.int y43, .int 5, .int (s53.1 4)]) (rest := []) C (t_X6_lay l hk) (cwV 3 C.hts (lw_V q1448 q1450 qs38 q65 q1451) rfl rfl rfl (by decide +kernel) ⟨Nat.le_of_ble_eq_true rfl, Nat.le_of_ble_eq_true rfl⟩) hH hS rfl hl.1 rfl (lv_room (Nat.le_of_ble_eq_true rfl)) dX6_begin_123 ⟨Nat.le_of_ble_eq_true rfl, Nat.le_of_ble_eq_true rfl⟩ (fun s55 H locs hk hH hS => ?_)
        refine lv_aload_n C.hx C.hb dX6_begin_126 rfl (lv_at hl 0 rfl) ?_
        refine lv_iload_n C.hx C.hb dX6_begin_127 rfl (lv_at hl 3 rfl) ?_
        refine lv_bipush (v := 6) C.hx C.hb dX6_begin_128 (by decide) ?_
        refine lv_aload_n C.hx C.hb dX6_begin_130 rfl (lv_at hl 0 rfl) ?_
        refine mm_geti C hH 17 5 (by decide) rfl q1258 dX6_begin_131 ?_
        refine mm_callv (As := [.int y43, .int 6, .int (s55.1 5)]) (rest := []) C (t_X6_lay l hk) (cwV 3 C.hts (lw_V q1448 q1450 qs38 q65 q1451) rfl rfl rfl (by decide +kernel) ⟨Nat.le_of_ble_eq_true rfl, Nat.le_of_ble_eq_true rfl⟩) hH hS rfl hl.1 rfl (lv_room (Nat.le_of_ble_eq_true rfl)) dX6_begin_134 ⟨Nat.le_of_ble_eq_true rfl, Nat.le_of_ble_eq_true rfl⟩ (fun s57 H locs hk hH hS => ?_)
        refine lv_aload_n C.hx C.hb dX6_begin_137 rfl (lv_at hl 0 rfl) ?_
        refine lv_iload_n C.hx C.hb dX6_begin_138 rfl (lv_at hl 3 rfl) ?_
        refine lv_bipush (v := 7) C.hx C.hb dX6_begin_139 (by decide) ?_
        refine lv_aload_n C.hx C.hb dX6_begin_141 rfl (lv_at hl 0 rfl) ?_
        refine mm_geti C hH 18 6 (by decide) rfl q1259 dX6_begin_142 ?_
        refine mm_callv (As := [.int y43, .int 7, .int (s57.1 6)]) (rest := []) C (t_X6_lay l hk) (cwV 3 C.hts (lw_V q1448 q1450 qs38 q65 q1451) rfl rfl rfl (by decide +kernel) ⟨Nat.le_of_ble_eq_true rfl, Nat.le_of_ble_eq_true rfl⟩) hH hS rfl hl.1 rfl (lv_room (Nat.le_of_ble_eq_true rfl)) dX6_begin_145 ⟨Nat.le_of_ble_eq_true rfl, Nat.le_of_ble_eq_true rfl⟩ (fun s59 H locs hk hH hS => ?_)
        refine lv_aload_n C.hx C.hb dX6_begin_148 rfl (lv_at hl 0 rfl) ?_
        refine lv_iload_n C.hx C.hb dX6_begin_149 rfl (lv_at hl 3 rfl) ?_
        refine lv_bipush (v := 8) C.hx C.hb dX6_begin_150 (by decide) ?_
        refine lv_aload_n C.hx C.hb dX6_begin_152 rfl (lv_at hl 0 rfl) ?_
        refine mm_geti C hH 19 7 (by decide) rfl q1260 dX6_begin_153 ?_
        refine mm_callv (As := [.int y43, .int 8, .int (s59.1 7)]) (rest := []) C (t_X6_lay l hk) (cwV 3 C.hts (lw_V q1448 q1450 qs38 q65 q1451) rfl rfl rfl (by decide +kernel) ⟨Nat.le_of_ble_eq_true rfl, Nat.le_of_ble_eq_true rfl⟩) hH hS rfl hl.1 rfl (lv_room (Nat.le_of_ble_eq_true rfl)) dX6_begin_156 ⟨Nat.le_of_ble_eq_true rfl, Nat.le_of_ble_eq_true rfl⟩ (fun s61 H locs hk hH hS => ?_)
        refine lv_aload_n C.hx C.hb dX6_begin_159 rfl (lv_at hl 0 rfl) ?_
        refine lv_iload_n C.hx C.hb dX6_begin_160 rfl (lv_at hl 3 rfl) ?_
        refine lv_bipush (v := 13) C.hx C.hb dX6_begin_161 (by decide) ?_
        refine lv_aload_n C.hx C.hb dX6_begin_163 rfl (lv_at hl 0 rfl) ?_
        refine mm_geti C hH 21 9 (by decide) rfl q1262 dX6_begin_164 ?_
        refine mm_callv (As := [.int y43, .int 13, .int (s61.1 9)]) (rest := []) C (t_X6_lay l hk) (cwV 3 C.hts (lw_V q1448 q1450 qs38 q65 q1451) rfl rfl rfl (by decide +kernel) ⟨Nat.le_of_ble_eq_true rfl, Nat.le_of_ble_eq_true rfl⟩) hH hS rfl hl.1 rfl (lv_room (Nat.le_of_ble_eq_true rfl)) dX6_begin_167 ⟨Nat.le_of_ble_eq_true rfl, Nat.le_of_ble_eq_true rfl⟩ (fun s63 H locs hk hH hS => ?_)
        refine lv_aload_n C.hx C.hb dX6_begin_170 rfl (lv_at hl 0 rfl) ?_
        refine lv_dup C.hx C.hb dX6_begin_171 rfl ?_
        refine mm_geti C hH 21 9 (by decide) rfl q1262 dX6_begin_172 ?_
        refine lv_iconst (v := 1) C.hx C.hb dX6_begin_175 (by decide) ?_
        refine lv_iadd C.hx C.hb dX6_begin_176 ?_
        refine mm_puti C hH hS 21 9 (by decide) rfl q1262 dX6_begin_177 rfl rfl (fun s64 es64 H locs hH hS => ?_)
        have hk := hk s64 es64
        refine lv_iload_n C.hx C.hb dX6_begin_180 rfl (lv_at hl 3 rfl) ?_
        exact mm_iret C hr hlk hH hS hk dX6_begin_181
    · have hk := hk.2 c5
      refine lv_iconst (v := 0) C.hx C.hb dX6_begin_32 (by decide) ?_
      exact mm_iret C hr hlk hH hS hk dX6_begin_33
  · have hk := hk.2 c2
    refine lv_iload_n C.hx C.hb dX6_begin_11 rfl (lv_at hl 2 rfl) ?_
    refine lv_iconst (v := 1) C.hx C.hb dX6_begin_12 (by decide) ?_
    refine lv_bipush (v := 100) C.hx C.hb dX6_begin_13 (by decide) ?_
    refine gb_call (As := [.int p2, .int 1, .int 100]) (rest := [.ref (ad (20, 0))]) C.1 (t_X6_in l hk) (va_cwS 3 C.hts (lw_S q1329 q1330 q65 q1331) rfl rfl rfl (by decide +kernel) ⟨Nat.le_of_ble_eq_true rfl, Nat.le_of_ble_eq_true rfl⟩) rfl hl.1 rfl (lv_room (Nat.le_of_ble_eq_true rfl)) dX6_begin_15 ⟨Nat.le_of_ble_eq_true rfl, Nat.le_of_ble_eq_true rfl⟩ (fun r65 hk => ?_)
    refine lv_if_eq (tgt := 25) C.hx C.hb dX6_begin_18 (by decide) (fun c66 => ?_) (fun c66 => ?_)
    · have hk := hk.1 c66
      refine lv_iconst (v := 0) C.hx C.hb dX6_begin_25 (by decide) ?_
      refine mm_calli (As := [.int 0]) (rest := []) C (t_X6_checked l hk) (cwV 1 C.hts (lw_V q1380 q1382 qs31 q65 q1383) rfl rfl rfl (by decide +kernel) ⟨Nat.le_of_ble_eq_true rfl, Nat.le_of_ble_eq_true rfl⟩) hH hS rfl hl.1 rfl (lv_room (Nat.le_of_ble_eq_true rfl)) dX6_begin_26 ⟨Nat.le_of_ble_eq_true rfl, Nat.le_of_ble_eq_true rfl⟩ (fun r67 s68 H locs hk hH hS => ?_)
      refine lv_if_le (tgt := 34) C.hx C.hb dX6_begin_29 (by decide) (fun c69 => ?_) (fun c69 => ?_)
      · have hk := hk.1 c69
        refine lv_aload_n C.hx C.hb dX6_begin_34 rfl (lv_at hl 0 rfl) ?_
        refine mm_calli (As := []) (rest := []) C (t_X6_voiceFor l hk) (cwV 0 C.hts (lw_V q1432 q1434 qs34 q65 q1435) rfl rfl rfl (by decide +kernel) ⟨Nat.le_of_ble_eq_true rfl, Nat.le_of_ble_eq_true rfl⟩) hH hS rfl hl.1 rfl (lv_room (Nat.le_of_ble_eq_true rfl)) dX6_begin_35 ⟨Nat.le_of_ble_eq_true rfl, Nat.le_of_ble_eq_true rfl⟩ (fun r70 s71 H locs hk hH hS => ?_)
        refine lv_istore_n (lv' := [(3, .int r70), (0, .ref (ad (20, 0))), (1, .int p1), (2, .int p2)]) C.hx C.hb dX6_begin_38 rfl hl (by decide) rfl (fun ls hl => ?_)
        refine lv_aload_n C.hx C.hb dX6_begin_39 rfl (lv_at hl 1 rfl) ?_
        refine lv_dup C.hx C.hb dX6_begin_40 rfl ?_
        refine mm_geti C hH 20 8 (by decide) rfl q1261 dX6_begin_41 ?_
        refine lv_aload_n C.hx C.hb dX6_begin_44 rfl (lv_at hl 1 rfl) ?_
        refine lv_iload_n C.hx C.hb dX6_begin_45 rfl (lv_at hl 0 rfl) ?_
        refine mm_calli (As := [.int r70]) (rest := [.int (s71.1 8), .ref (ad (20, 0))]) C (t_X6_plays l hk) (cwV 1 C.hts (lw_V q1436 q1438 qs35 q65 q1439) rfl rfl rfl (by decide +kernel) ⟨Nat.le_of_ble_eq_true rfl, Nat.le_of_ble_eq_true rfl⟩) hH hS rfl hl.1 rfl (lv_room (Nat.le_of_ble_eq_true rfl)) dX6_begin_46 ⟨Nat.le_of_ble_eq_true rfl, Nat.le_of_ble_eq_true rfl⟩ (fun r72 s73 H locs hk hH hS => ?_)
        refine lv_if_eq (tgt := 56) C.hx C.hb dX6_begin_49 (by decide) (fun c74 => ?_) (fun c74 => ?_)
        · have hk := hk.1 c74
          refine lv_iconst (v := 0) C.hx C.hb dX6_begin_56 (by decide) ?_
          refine lv_iadd C.hx C.hb dX6_begin_57 ?_
          refine mm_puti C hH hS 20 8 (by decide) rfl q1261 dX6_begin_58 rfl rfl (fun s75 es75 H locs hH hS => ?_)
          have hk := hk s75 es75
          refine lv_iconst (v := 0) C.hx C.hb dX6_begin_61 (by decide) ?_
          refine lv_istore (lv' := [(4, .int 0), (3, .int r70), (0, .ref (ad (20, 0))), (1, .int p1), (2, .int p2)]) C.hx C.hb dX6_begin_62 hl (by decide) rfl (fun ls hl => ?_)
          obtain ⟨n64, hk⟩ := hk
          refine tw_X6_begin_64 C hr hlk (fun y76 y77 y78 y79 s80 H locs ls hk hH hS hl => ?_) n64 p1 p2 r70 0 s75 _ _ _ hk hH hS (lv_sub hl [2, 3, 4, 1, 0] rfl)
          refine lv_aload_n C.hx C.hb dX6_begin_85 rfl (lv_at hl 0 rfl) ?_
          refine lv_iload_n C.hx C.hb dX6_begin_86 rfl (lv_at hl 3 rfl) ?_
          refine lv_iconst (v := 0) C.hx C.hb dX6_begin_87 (by decide) ?_
          refine lv_iconst (v := 1) C.hx C.hb dX6_begin_88 (by decide) ?_
          refine mm_callv (As := [.int y78, .int 0, .int 1]) (rest := []) C (t_X6_lay l hk) (cwV 3 C.hts (lw_V q1448 q1450 qs38 q65 q1451) rfl rfl rfl (by decide +kernel) ⟨Nat.le_of_ble_eq_true rfl, Nat.le_of_ble_eq_true rfl⟩) hH hS rfl hl.1 rfl (lv_room (Nat.le_of_ble_eq_true rfl)) dX6_begin_89 ⟨Nat.le_of_ble_eq_true rfl, Nat.le_of_ble_eq_true rfl⟩ (fun s82 H locs hk hH hS => ?_)
          refine lv_aload_n C.hx C.hb dX6_begin_92 rfl (lv_at hl 0 rfl) ?_
          refine lv_iload_n C.hx C.hb dX6_begin_93 rfl (lv_at hl 3 rfl) ?_
          refine lv_iconst (v := 2) C.hx C.hb dX6_begin_94 (by decide) ?_
          refine lv_iload_n C.hx C.hb dX6_begin_95 rfl (lv_at hl 1 rfl) ?_
          refine mm_callv (As := [.int y78, .int 2, .int y76]) (rest := []) C (t_X6_lay l hk) (cwV 3 C.hts (lw_V q1448 q1450 qs38 q65 q1451) rfl rfl rfl (by decide +kernel) ⟨Nat.le_of_ble_eq_true rfl, Nat.le_of_ble_eq_true rfl⟩) hH hS rfl hl.1 rfl (lv_room (Nat.le_of_ble_eq_true rfl)) dX6_begin_96 ⟨Nat.le_of_ble_eq_true rfl, Nat.le_of_ble_eq_true rfl⟩ (fun s84 H locs hk hH hS => ?_)
          refine lv_aload_n C.hx C.hb dX6_begin_99 rfl (lv_at hl 0 rfl) ?_
          refine lv_iload_n C.hx C.hb dX6_begin_100 rfl (lv_at hl 3 rfl) ?_
          refine lv_iconst (v := 3) C.hx C.hb dX6_begin_101 (by decide) ?_
          refine lv_iload_n C.hx C.hb dX6_begin_102 rfl (lv_at hl 2 rfl) ?_
          refine mm_callv (As := [.int y78, .int 3, .int y77]) (rest := []) C (t_X6_lay l hk) (cwV 3 C.hts (lw_V q1448 q1450 qs38 q65 q1451) rfl rfl rfl (by decide +kernel) ⟨Nat.le_of_ble_eq_true rfl, Nat.le_of_ble_eq_true rfl⟩) hH hS rfl hl.1 rfl (lv_room (Nat.le_of_ble_eq_true rfl)) dX6_begin_103 ⟨Nat.le_of_ble_eq_true rfl, Nat.le_of_ble_eq_true rfl⟩ (fun s86 H locs hk hH hS => ?_)
          refine lv_aload_n C.hx C.hb dX6_begin_106 rfl (lv_at hl 0 rfl) ?_
          refine lv_iload_n C.hx C.hb dX6_begin_107 rfl (lv_at hl 3 rfl) ?_
          refine lv_iconst (v := 4) C.hx C.hb dX6_begin_108 (by decide) ?_
          refine lv_aload_n C.hx C.hb dX6_begin_109 rfl (lv_at hl 0 rfl) ?_
          refine mm_geti C hH 15 3 (by decide) rfl q1256 dX6_begin_110 ?_
          refine mm_callv (As := [.int y78, .int 4, .int (s86.1 3)]) (rest := []) C (t_X6_lay l hk) (cwV 3 C.hts (lw_V q1448 q1450 qs38 q65 q1451) rfl rfl rfl (by decide +kernel) ⟨Nat.le_of_ble_eq_true rfl, Nat.le_of_ble_eq_true rfl⟩) hH hS rfl hl.1 rfl (lv_room (Nat.le_of_ble_eq_true rfl)) dX6_begin_113 ⟨Nat.le_of_ble_eq_true rfl, Nat.le_of_ble_eq_true rfl⟩ (fun s88 H locs hk hH hS => ?_)
          refine lv_aload_n C.hx C.hb dX6_begin_116 rfl (lv_at hl 0 rfl) ?_
          refine lv_iload_n C.hx C.hb dX6_begin_117 rfl (lv_at hl 3 rfl) ?_
          refine lv_iconst (v := 5) C.hx C.hb dX6_begin_118 (by decide) ?_
          refine lv_aload_n C.hx C.hb dX6_begin_119 rfl (lv_at hl 0 rfl) ?_
          refine mm_geti C hH 16 4 (by decide) rfl q1257 dX6_begin_120 ?_
          refine mm_callv (As := [.int y78, .int 5, .int (s88.1 4)]) (rest := []) C (t_X6_lay l hk) (cwV 3 C.hts (lw_V q1448 q1450 qs38 q65 q1451) rfl rfl rfl (by decide +kernel) ⟨Nat.le_of_ble_eq_true rfl, Nat.le_of_ble_eq_true rfl⟩) hH hS rfl hl.1 rfl (lv_room (Nat.le_of_ble_eq_true rfl)) dX6_begin_123 ⟨Nat.le_of_ble_eq_true rfl, Nat.le_of_ble_eq_true rfl⟩ (fun s90 H locs hk hH hS => ?_)
          refine lv_aload_n C.hx C.hb dX6_begin_126 rfl (lv_at hl 0 rfl) ?_
          refine lv_iload_n C.hx C.hb dX6_begin_127 rfl (lv_at hl 3 rfl) ?_
          refine lv_bipush (v := 6) C.hx C.hb dX6_begin_128 (by decide) ?_
          refine lv_aload_n C.hx C.hb dX6_begin_130 rfl (lv_at hl 0 rfl) ?_
          refine mm_geti C hH 17 5 (by decide) rfl q1258 dX6_begin_131 ?_
          refine mm_callv (As := [.int y78, .int 6, .int (s90.1 5)]) (rest := []) C (t_X6_lay l hk) (cwV 3 C.hts (lw_V q1448 q1450 qs38 q65 q1451) rfl rfl rfl (by decide +kernel) ⟨Nat.le_of_ble_eq_true rfl, Nat.le_of_ble_eq_true rfl⟩) hH hS rfl hl.1 rfl (lv_room (Nat.le_of_ble_eq_true rfl)) dX6_begin_134 ⟨Nat.le_of_ble_eq_true rfl, Nat.le_of_ble_eq_true rfl⟩ (fun s92 H locs hk hH hS => ?_)
          refine lv_aload_n C.hx C.hb dX6_begin_137 rfl (lv_at hl 0 rfl) ?_
          refine lv_iload_n C.hx C.hb dX6_begin_138 rfl (lv_at hl 3 rfl) ?_
          refine lv_bipush (v := 7) C.hx C.hb dX6_begin_139 (by decide) ?_
          refine lv_aload_n C.hx C.hb dX6_begin_141 rfl (lv_at hl 0 rfl) ?_
          refine mm_geti C hH 18 6 (by decide) rfl q1259 dX6_begin_142 ?_
          refine mm_callv (As := [.int y78, .int 7, .int (s92.1 6)]) (rest := []) C (t_X6_lay l hk) (cwV 3 C.hts (lw_V q1448 q1450 qs38 q65 q1451) rfl rfl rfl (by decide +kernel) ⟨Nat.le_of_ble_eq_true rfl, Nat.le_of_ble_eq_true rfl⟩) hH hS rfl hl.1 rfl (lv_room (Nat.le_of_ble_eq_true rfl)) dX6_begin_145 ⟨Nat.le_of_ble_eq_true rfl, Nat.le_of_ble_eq_true rfl⟩ (fun s94 H locs hk hH hS => ?_)
          refine lv_aload_n C.hx C.hb dX6_begin_148 rfl (lv_at hl 0 rfl) ?_
          refine lv_iload_n C.hx C.hb dX6_begin_149 rfl (lv_at hl 3 rfl) ?_
          refine lv_bipush (v := 8) C.hx C.hb dX6_begin_150 (by decide) ?_
          refine lv_aload_n C.hx C.hb dX6_begin_152 rfl (lv_at hl 0 rfl) ?_
          refine mm_geti C hH 19 7 (by decide) rfl q1260 dX6_begin_153 ?_
          refine mm_callv (As := [.int y78, .int 8, .int (s94.1 7)]) (rest := []) C (t_X6_lay l hk) (cwV 3 C.hts (lw_V q1448 q1450 qs38 q65 q1451) rfl rfl rfl (by decide +kernel) ⟨Nat.le_of_ble_eq_true rfl, Nat.le_of_ble_eq_true rfl⟩) hH hS rfl hl.1 rfl (lv_room (Nat.le_of_ble_eq_true rfl)) dX6_begin_156 ⟨Nat.le_of_ble_eq_true rfl, Nat.le_of_ble_eq_true rfl⟩ (fun s96 H locs hk hH hS => ?_)
          refine lv_aload_n C.hx C.hb dX6_begin_159 rfl (lv_at hl 0 rfl) ?_
          refine lv_iload_n C.hx C.hb dX6_begin_160 rfl (lv_at hl 3 rfl) ?_
          refine lv_bipush (v := 13) C.hx C.hb dX6_begin_161 (by decide) ?_
          refine lv_aload_n C.hx C.hb dX6_begin_163 rfl (lv_at hl 0 rfl) ?_
          refine mm_geti C hH 21 9 (by decide) rfl q1262 dX6_begin_164 ?_
          refine mm_callv (As := [.int y78, .int 13, .int (s96.1 9)]) (rest := []) C (t_X6_lay l hk) (cwV 3 C.hts (lw_V q1448 q1450 qs38 q65 q1451) rfl rfl rfl (by decide +kernel) ⟨Nat.le_of_ble_eq_true rfl, Nat.le_of_ble_eq_true rfl⟩) hH hS rfl hl.1 rfl (lv_room (Nat.le_of_ble_eq_true rfl)) dX6_begin_167 ⟨Nat.le_of_ble_eq_true rfl, Nat.le_of_ble_eq_true rfl⟩ (fun s98 H locs hk hH hS => ?_)
          refine lv_aload_n C.hx C.hb dX6_begin_170 rfl (lv_at hl 0 rfl) ?_
          refine lv_dup C.hx C.hb dX6_begin_171 rfl ?_
          refine mm_geti C hH 21 9 (by decide) rfl q1262 dX6_begin_172 ?_
          refine lv_iconst (v := 1) C.hx C.hb dX6_begin_175 (by decide) ?_
          refine lv_iadd C.hx C.hb dX6_begin_176 ?_
          refine mm_puti C hH hS 21 9 (by decide) rfl q1262 dX6_begin_177 rfl rfl (fun s99 es99 H locs hH hS => ?_)
          have hk := hk s99 es99
          refine lv_iload_n C.hx C.hb dX6_begin_180 rfl (lv_at hl 3 rfl) ?_
          exact mm_iret C hr hlk hH hS hk dX6_begin_181
        · have hk := hk.2 c74
          refine lv_iconst (v := 1) C.hx C.hb dX6_begin_52 (by decide) ?_
          refine lv_goto (tgt := 57) C.hx C.hb dX6_begin_53 (by decide) ?_
          refine lv_iadd C.hx C.hb dX6_begin_57 ?_
          refine mm_puti C hH hS 20 8 (by decide) rfl q1261 dX6_begin_58 rfl rfl (fun s100 es100 H locs hH hS => ?_)
          have hk := hk s100 es100
          refine lv_iconst (v := 0) C.hx C.hb dX6_begin_61 (by decide) ?_
          refine lv_istore (lv' := [(4, .int 0), (3, .int r70), (0, .ref (ad (20, 0))), (1, .int p1), (2, .int p2)]) C.hx C.hb dX6_begin_62 hl (by decide) rfl (fun ls hl => ?_)
          obtain ⟨n64, hk⟩ := hk
          refine tw_X6_begin_64 C hr hlk (fun y101 y102 y103 y104 s105 H locs ls hk hH hS hl => ?_) n64 p1 p2 r70 0 s100 _ _ _ hk hH hS (lv_sub hl [2, 3, 4, 1, 0] rfl)
          refine lv_aload_n C.hx C.hb dX6_begin_85 rfl (lv_at hl 0 rfl) ?_
          refine lv_iload_n C.hx C.hb dX6_begin_86 rfl (lv_at hl 3 rfl) ?_
          refine lv_iconst (v := 0) C.hx C.hb dX6_begin_87 (by decide) ?_
          refine lv_iconst (v := 1) C.hx C.hb dX6_begin_88 (by decide) ?_
          refine mm_callv (As := [.int y103, .int 0, .int 1]) (rest := []) C (t_X6_lay l hk) (cwV 3 C.hts (lw_V q1448 q1450 qs38 q65 q1451) rfl rfl rfl (by decide +kernel) ⟨Nat.le_of_ble_eq_true rfl, Nat.le_of_ble_eq_true rfl⟩) hH hS rfl hl.1 rfl (lv_room (Nat.le_of_ble_eq_true rfl)) dX6_begin_89 ⟨Nat.le_of_ble_eq_true rfl, Nat.le_of_ble_eq_true rfl⟩ (fun s107 H locs hk hH hS => ?_)
          refine lv_aload_n C.hx C.hb dX6_begin_92 rfl (lv_at hl 0 rfl) ?_
          refine lv_iload_n C.hx C.hb dX6_begin_93 rfl (lv_at hl 3 rfl) ?_
          refine lv_iconst (v := 2) C.hx C.hb dX6_begin_94 (by decide) ?_
          refine lv_iload_n C.hx C.hb dX6_begin_95 rfl (lv_at hl 1 rfl) ?_
          refine mm_callv (As := [.int y103, .int 2, .int y101]) (rest := []) C (t_X6_lay l hk) (cwV 3 C.hts (lw_V q1448 q1450 qs38 q65 q1451) rfl rfl rfl (by decide +kernel) ⟨Nat.le_of_ble_eq_true rfl, Nat.le_of_ble_eq_true rfl⟩) hH hS rfl hl.1 rfl (lv_room (Nat.le_of_ble_eq_true rfl)) dX6_begin_96 ⟨Nat.le_of_ble_eq_true rfl, Nat.le_of_ble_eq_true rfl⟩ (fun s109 H locs hk hH hS => ?_)
          refine lv_aload_n C.hx C.hb dX6_begin_99 rfl (lv_at hl 0 rfl) ?_
          refine lv_iload_n C.hx C.hb dX6_begin_100 rfl (lv_at hl 3 rfl) ?_
          refine lv_iconst (v := 3) C.hx C.hb dX6_begin_101 (by decide) ?_
          refine lv_iload_n C.hx C.hb dX6_begin_102 rfl (lv_at hl 2 rfl) ?_
          refine mm_callv (As := [.int y103, .int 3, .int y102]) (rest := []) C (t_X6_lay l hk) (cwV 3 C.hts (lw_V q1448 q1450 qs38 q65 q1451) rfl rfl rfl (by decide +kernel) ⟨Nat.le_of_ble_eq_true rfl, Nat.le_of_ble_eq_true rfl⟩) hH hS rfl hl.1 rfl (lv_room (Nat.le_of_ble_eq_true rfl)) dX6_begin_103 ⟨Nat.le_of_ble_eq_true rfl, Nat.le_of_ble_eq_true rfl⟩ (fun s111 H locs hk hH hS => ?_)
          refine lv_aload_n C.hx C.hb dX6_begin_106 rfl (lv_at hl 0 rfl) ?_
          refine lv_iload_n C.hx C.hb dX6_begin_107 rfl (lv_at hl 3 rfl) ?_
          refine lv_iconst (v := 4) C.hx C.hb dX6_begin_108 (by decide) ?_
          refine lv_aload_n C.hx C.hb dX6_begin_109 rfl (lv_at hl 0 rfl) ?_
          refine mm_geti C hH 15 3 (by decide) rfl q1256 dX6_begin_110 ?_
          refine mm_callv (As := [.int y103, .int 4, .int (s111.1 3)]) (rest := []) C (t_X6_lay l hk) (cwV 3 C.hts (lw_V q1448 q1450 qs38 q65 q1451) rfl rfl rfl (by decide +kernel) ⟨Nat.le_of_ble_eq_true rfl, Nat.le_of_ble_eq_true rfl⟩) hH hS rfl hl.1 rfl (lv_room (Nat.le_of_ble_eq_true rfl)) dX6_begin_113 ⟨Nat.le_of_ble_eq_true rfl, Nat.le_of_ble_eq_true rfl⟩ (fun s113 H locs hk hH hS => ?_)
          refine lv_aload_n C.hx C.hb dX6_begin_116 rfl (lv_at hl 0 rfl) ?_
          refine lv_iload_n C.hx C.hb dX6_begin_117 rfl (lv_at hl 3 rfl) ?_
          refine lv_iconst (v := 5) C.hx C.hb dX6_begin_118 (by decide) ?_
          refine lv_aload_n C.hx C.hb dX6_begin_119 rfl (lv_at hl 0 rfl) ?_
          refine mm_geti C hH 16 4 (by decide) rfl q1257 dX6_begin_120 ?_
          refine mm_callv (As := [.int y103, .int 5, .int (s113.1 4)]) (rest := []) C (t_X6_lay l hk) (cwV 3 C.hts (lw_V q1448 q1450 qs38 q65 q1451) rfl rfl rfl (by decide +kernel) ⟨Nat.le_of_ble_eq_true rfl, Nat.le_of_ble_eq_true rfl⟩) hH hS rfl hl.1 rfl (lv_room (Nat.le_of_ble_eq_true rfl)) dX6_begin_123 ⟨Nat.le_of_ble_eq_true rfl, Nat.le_of_ble_eq_true rfl⟩ (fun s115 H locs hk hH hS => ?_)
          refine lv_aload_n C.hx C.hb dX6_begin_126 rfl (lv_at hl 0 rfl) ?_
          refine lv_iload_n C.hx C.hb dX6_begin_127 rfl (lv_at hl 3 rfl) ?_
          refine lv_bipush (v := 6) C.hx C.hb dX6_begin_128 (by decide) ?_
          refine lv_aload_n C.hx C.hb dX6_begin_130 rfl (lv_at hl 0 rfl) ?_
          refine mm_geti C hH 17 5 (by decide) rfl q1258 dX6_begin_131 ?_
          refine mm_callv (As := [.int y103, .int 6, .int (s115.1 5)]) (rest := []) C (t_X6_lay l hk) (cwV 3 C.hts (lw_V q1448 q1450 qs38 q65 q1451) rfl rfl rfl (by decide +kernel) ⟨Nat.le_of_ble_eq_true rfl, Nat.le_of_ble_eq_true rfl⟩) hH hS rfl hl.1 rfl (lv_room (Nat.le_of_ble_eq_true rfl)) dX6_begin_134 ⟨Nat.le_of_ble_eq_true rfl, Nat.le_of_ble_eq_true rfl⟩ (fun s117 H locs hk hH hS => ?_)
          refine lv_aload_n C.hx C.hb dX6_begin_137 rfl (lv_at hl 0 rfl) ?_
          refine lv_iload_n C.hx C.hb dX6_begin_138 rfl (lv_at hl 3 rfl) ?_
          refine lv_bipush (v := 7) C.hx C.hb dX6_begin_139 (by decide) ?_
          refine lv_aload_n C.hx C.hb dX6_begin_141 rfl (lv_at hl 0 rfl) ?_
          refine mm_geti C hH 18 6 (by decide) rfl q1259 dX6_begin_142 ?_
          refine mm_callv (As := [.int y103, .int 7, .int (s117.1 6)]) (rest := []) C (t_X6_lay l hk) (cwV 3 C.hts (lw_V q1448 q1450 qs38 q65 q1451) rfl rfl rfl (by decide +kernel) ⟨Nat.le_of_ble_eq_true rfl, Nat.le_of_ble_eq_true rfl⟩) hH hS rfl hl.1 rfl (lv_room (Nat.le_of_ble_eq_true rfl)) dX6_begin_145 ⟨Nat.le_of_ble_eq_true rfl, Nat.le_of_ble_eq_true rfl⟩ (fun s119 H locs hk hH hS => ?_)
          refine lv_aload_n C.hx C.hb dX6_begin_148 rfl (lv_at hl 0 rfl) ?_
          refine lv_iload_n C.hx C.hb dX6_begin_149 rfl (lv_at hl 3 rfl) ?_
          refine lv_bipush (v := 8) C.hx C.hb dX6_begin_150 (by decide) ?_
          refine lv_aload_n C.hx C.hb dX6_begin_152 rfl (lv_at hl 0 rfl) ?_
          refine mm_geti C hH 19 7 (by decide) rfl q1260 dX6_begin_153 ?_
          refine mm_callv (As := [.int y103, .int 8, .int (s119.1 7)]) (rest := []) C (t_X6_lay l hk) (cwV 3 C.hts (lw_V q1448 q1450 qs38 q65 q1451) rfl rfl rfl (by decide +kernel) ⟨Nat.le_of_ble_eq_true rfl, Nat.le_of_ble_eq_true rfl⟩) hH hS rfl hl.1 rfl (lv_room (Nat.le_of_ble_eq_true rfl)) dX6_begin_156 ⟨Nat.le_of_ble_eq_true rfl, Nat.le_of_ble_eq_true rfl⟩ (fun s121 H locs hk hH hS => ?_)
          refine lv_aload_n C.hx C.hb dX6_begin_159 rfl (lv_at hl 0 rfl) ?_
          refine lv_iload_n C.hx C.hb dX6_begin_160 rfl (lv_at hl 3 rfl) ?_
          refine lv_bipush (v := 13) C.hx C.hb dX6_begin_161 (by decide) ?_
          refine lv_aload_n C.hx C.hb dX6_begin_163 rfl (lv_at hl 0 rfl) ?_
          refine mm_geti C hH 21 9 (by decide) rfl q1262 dX6_begin_164 ?_
          refine mm_callv (As := [.int y103, .int 13, .int (s121.1 9)]) (rest := []) C (t_X6_lay l hk) (cwV 3 C.hts (lw_V q1448 q1450 qs38 q65 q1451) rfl rfl rfl (by decide +kernel) ⟨Nat.le_of_ble_eq_true rfl, Nat.le_of_ble_eq_true rfl⟩) hH hS rfl hl.1 rfl (lv_room (Nat.le_of_ble_eq_true rfl)) dX6_begin_167 ⟨Nat.le_of_ble_eq_true rfl, Nat.le_of_ble_eq_true rfl⟩ (fun s123 H locs hk hH hS => ?_)
          refine lv_aload_n C.hx C.hb dX6_begin_170 rfl (lv_at hl 0 rfl) ?_
          refine lv_dup C.hx C.hb dX6_begin_171 rfl ?_
          refine mm_geti C hH 21 9 (by decide) rfl q1262 dX6_begin_172 ?_
          refine lv_iconst (v := 1) C.hx C.hb dX6_begin_175 (by decide) ?_
          refine lv_iadd C.hx C.hb dX6_begin_176 ?_
          refine mm_puti C hH hS 21 9 (by decide) rfl q1262 dX6_begin_177 rfl rfl (fun s124 es124 H locs hH hS => ?_)
          have hk := hk s124 es124
          refine lv_iload_n C.hx C.hb dX6_begin_180 rfl (lv_at hl 3 rfl) ?_
          exact mm_iret C hr hlk hH hS hk dX6_begin_181
      · have hk := hk.2 c69
        refine lv_iconst (v := 0) C.hx C.hb dX6_begin_32 (by decide) ?_
        exact mm_iret C hr hlk hH hS hk dX6_begin_33
    · have hk := hk.2 c66
      refine lv_iconst (v := 1) C.hx C.hb dX6_begin_21 (by decide) ?_
      refine lv_goto (tgt := 26) C.hx C.hb dX6_begin_22 (by decide) ?_
      refine mm_calli (As := [.int 1]) (rest := []) C (t_X6_checked l hk) (cwV 1 C.hts (lw_V q1380 q1382 qs31 q65 q1383) rfl rfl rfl (by decide +kernel) ⟨Nat.le_of_ble_eq_true rfl, Nat.le_of_ble_eq_true rfl⟩) hH hS rfl hl.1 rfl (lv_room (Nat.le_of_ble_eq_true rfl)) dX6_begin_26 ⟨Nat.le_of_ble_eq_true rfl, Nat.le_of_ble_eq_true rfl⟩ (fun r125 s126 H locs hk hH hS => ?_)
      refine lv_if_le (tgt := 34) C.hx C.hb dX6_begin_29 (by decide) (fun c127 => ?_) (fun c127 => ?_)
      · have hk := hk.1 c127
        refine lv_aload_n C.hx C.hb dX6_begin_34 rfl (lv_at hl 0 rfl) ?_
        refine mm_calli (As := []) (rest := []) C (t_X6_voiceFor l hk) (cwV 0 C.hts (lw_V q1432 q1434 qs34 q65 q1435) rfl rfl rfl (by decide +kernel) ⟨Nat.le_of_ble_eq_true rfl, Nat.le_of_ble_eq_true rfl⟩) hH hS rfl hl.1 rfl (lv_room (Nat.le_of_ble_eq_true rfl)) dX6_begin_35 ⟨Nat.le_of_ble_eq_true rfl, Nat.le_of_ble_eq_true rfl⟩ (fun r128 s129 H locs hk hH hS => ?_)
        refine lv_istore_n (lv' := [(3, .int r128), (0, .ref (ad (20, 0))), (1, .int p1), (2, .int p2)]) C.hx C.hb dX6_begin_38 rfl hl (by decide) rfl (fun ls hl => ?_)
        refine lv_aload_n C.hx C.hb dX6_begin_39 rfl (lv_at hl 1 rfl) ?_
        refine lv_dup C.hx C.hb dX6_begin_40 rfl ?_
        refine mm_geti C hH 20 8 (by decide) rfl q1261 dX6_begin_41 ?_
        refine lv_aload_n C.hx C.hb dX6_begin_44 rfl (lv_at hl 1 rfl) ?_
        refine lv_iload_n C.hx C.hb dX6_begin_45 rfl (lv_at hl 0 rfl) ?_
        refine mm_calli (As := [.int r128]) (rest := [.int (s129.1 8), .ref (ad (20, 0))]) C (t_X6_plays l hk) (cwV 1 C.hts (lw_V q1436 q1438 qs35 q65 q1439) rfl rfl rfl (by decide +kernel) ⟨Nat.le_of_ble_eq_true rfl, Nat.le_of_ble_eq_true rfl⟩) hH hS rfl hl.1 rfl (lv_room (Nat.le_of_ble_eq_true rfl)) dX6_begin_46 ⟨Nat.le_of_ble_eq_true rfl, Nat.le_of_ble_eq_true rfl⟩ (fun r130 s131 H locs hk hH hS => ?_)
        refine lv_if_eq (tgt := 56) C.hx C.hb dX6_begin_49 (by decide) (fun c132 => ?_) (fun c132 => ?_)
        · have hk := hk.1 c132
          refine lv_iconst (v := 0) C.hx C.hb dX6_begin_56 (by decide) ?_
          refine lv_iadd C.hx C.hb dX6_begin_57 ?_
          refine mm_puti C hH hS 20 8 (by decide) rfl q1261 dX6_begin_58 rfl rfl (fun s133 es133 H locs hH hS => ?_)
          have hk := hk s133 es133
          refine lv_iconst (v := 0) C.hx C.hb dX6_begin_61 (by decide) ?_
          refine lv_istore (lv' := [(4, .int 0), (3, .int r128), (0, .ref (ad (20, 0))), (1, .int p1), (2, .int p2)]) C.hx C.hb dX6_begin_62 hl (by decide) rfl (fun ls hl => ?_)
          obtain ⟨n64, hk⟩ := hk
          refine tw_X6_begin_64 C hr hlk (fun y134 y135 y136 y137 s138 H locs ls hk hH hS hl => ?_) n64 p1 p2 r128 0 s133 _ _ _ hk hH hS (lv_sub hl [2, 3, 4, 1, 0] rfl)
          refine lv_aload_n C.hx C.hb dX6_begin_85 rfl (lv_at hl 0 rfl) ?_
          refine lv_iload_n C.hx C.hb dX6_begin_86 rfl (lv_at hl 3 rfl) ?_
          refine lv_iconst (v := 0) C.hx C.hb dX6_begin_87 (by decide) ?_
          refine lv_iconst (v := 1) C.hx C.hb dX6_begin_88 (by decide) ?_
          refine mm_callv (As := [.int y136, .int 0, .int 1]) (rest := []) C (t_X6_lay l hk) (cwV 3 C.hts (lw_V q1448 q1450 qs38 q65 q1451) rfl rfl rfl (by decide +kernel) ⟨Nat.le_of_ble_eq_true rfl, Nat.le_of_ble_eq_true rfl⟩) hH hS rfl hl.1 rfl (lv_room (Nat.le_of_ble_eq_true rfl)) dX6_begin_89 ⟨Nat.le_of_ble_eq_true rfl, Nat.le_of_ble_eq_true rfl⟩ (fun s140 H locs hk hH hS => ?_)
          refine lv_aload_n C.hx C.hb dX6_begin_92 rfl (lv_at hl 0 rfl) ?_
          refine lv_iload_n C.hx C.hb dX6_begin_93 rfl (lv_at hl 3 rfl) ?_
          refine lv_iconst (v := 2) C.hx C.hb dX6_begin_94 (by decide) ?_
          refine lv_iload_n C.hx C.hb dX6_begin_95 rfl (lv_at hl 1 rfl) ?_
          refine mm_callv (As := [.int y136, .int 2, .int y134]) (rest := []) C (t_X6_lay l hk) (cwV 3 C.hts (lw_V q1448 q1450 qs38 q65 q1451) rfl rfl rfl (by decide +kernel) ⟨Nat.le_of_ble_eq_true rfl, Nat.le_of_ble_eq_true rfl⟩) hH hS rfl hl.1 rfl (lv_room (Nat.le_of_ble_eq_true rfl)) dX6_begin_96 ⟨Nat.le_of_ble_eq_true rfl, Nat.le_of_ble_eq_true rfl⟩ (fun s142 H locs hk hH hS => ?_)
          refine lv_aload_n C.hx C.hb dX6_begin_99 rfl (lv_at hl 0 rfl) ?_
          refine lv_iload_n C.hx C.hb dX6_begin_100 rfl (lv_at hl 3 rfl) ?_
          refine lv_iconst (v := 3) C.hx C.hb dX6_begin_101 (by decide) ?_
          refine lv_iload_n C.hx C.hb dX6_begin_102 rfl (lv_at hl 2 rfl) ?_
          refine mm_callv (As := [.int y136, .int 3, .int y135]) (rest := []) C (t_X6_lay l hk) (cwV 3 C.hts (lw_V q1448 q1450 qs38 q65 q1451) rfl rfl rfl (by decide +kernel) ⟨Nat.le_of_ble_eq_true rfl, Nat.le_of_ble_eq_true rfl⟩) hH hS rfl hl.1 rfl (lv_room (Nat.le_of_ble_eq_true rfl)) dX6_begin_103 ⟨Nat.le_of_ble_eq_true rfl, Nat.le_of_ble_eq_true rfl⟩ (fun s144 H locs hk hH hS => ?_)
          refine lv_aload_n C.hx C.hb dX6_begin_106 rfl (lv_at hl 0 rfl) ?_
          refine lv_iload_n C.hx C.hb dX6_begin_107 rfl (lv_at hl 3 rfl) ?_
          refine lv_iconst (v := 4) C.hx C.hb dX6_begin_108 (by decide) ?_
          refine lv_aload_n C.hx C.hb dX6_begin_109 rfl (lv_at hl 0 rfl) ?_
          refine mm_geti C hH 15 3 (by decide) rfl q1256 dX6_begin_110 ?_
          refine mm_callv (As := [.int y136, .int 4, .int (s144.1 3)]) (rest := []) C (t_X6_lay l hk) (cwV 3 C.hts (lw_V q1448 q1450 qs38 q65 q1451) rfl rfl rfl (by decide +kernel) ⟨Nat.le_of_ble_eq_true rfl, Nat.le_of_ble_eq_true rfl⟩) hH hS rfl hl.1 rfl (lv_room (Nat.le_of_ble_eq_true rfl)) dX6_begin_113 ⟨Nat.le_of_ble_eq_true rfl, Nat.le_of_ble_eq_true rfl⟩ (fun s146 H locs hk hH hS => ?_)
          refine lv_aload_n C.hx C.hb dX6_begin_116 rfl (lv_at hl 0 rfl) ?_
          refine lv_iload_n C.hx C.hb dX6_begin_117 rfl (lv_at hl 3 rfl) ?_
          refine lv_iconst (v := 5) C.hx C.hb dX6_begin_118 (by decide) ?_
          refine lv_aload_n C.hx C.hb dX6_begin_119 rfl (lv_at hl 0 rfl) ?_
          refine mm_geti C hH 16 4 (by decide) rfl q1257 dX6_begin_120 ?_
          refine mm_callv (As := [.int y136, .int 5, .int (s146.1 4)]) (rest := []) C (t_X6_lay l hk) (cwV 3 C.hts (lw_V q1448 q1450 qs38 q65 q1451) rfl rfl rfl (by decide +kernel) ⟨Nat.le_of_ble_eq_true rfl, Nat.le_of_ble_eq_true rfl⟩) hH hS rfl hl.1 rfl (lv_room (Nat.le_of_ble_eq_true rfl)) dX6_begin_123 ⟨Nat.le_of_ble_eq_true rfl, Nat.le_of_ble_eq_true rfl⟩ (fun s148 H locs hk hH hS => ?_)
          refine lv_aload_n C.hx C.hb dX6_begin_126 rfl (lv_at hl 0 rfl) ?_
          refine lv_iload_n C.hx C.hb dX6_begin_127 rfl (lv_at hl 3 rfl) ?_
          refine lv_bipush (v := 6) C.hx C.hb dX6_begin_128 (by decide) ?_
          refine lv_aload_n C.hx C.hb dX6_begin_130 rfl (lv_at hl 0 rfl) ?_
          refine mm_geti C hH 17 5 (by decide) rfl q1258 dX6_begin_131 ?_
          refine mm_callv (As := [.int y136, .int 6, .int (s148.1 5)]) (rest := []) C (t_X6_lay l hk) (cwV 3 C.hts (lw_V q1448 q1450 qs38 q65 q1451) rfl rfl rfl (by decide +kernel) ⟨Nat.le_of_ble_eq_true rfl, Nat.le_of_ble_eq_true rfl⟩) hH hS rfl hl.1 rfl (lv_room (Nat.le_of_ble_eq_true rfl)) dX6_begin_134 ⟨Nat.le_of_ble_eq_true rfl, Nat.le_of_ble_eq_true rfl⟩ (fun s150 H locs hk hH hS => ?_)
          refine lv_aload_n C.hx C.hb dX6_begin_137 rfl (lv_at hl 0 rfl) ?_
          refine lv_iload_n C.hx C.hb dX6_begin_138 rfl (lv_at hl 3 rfl) ?_
          refine lv_bipush (v := 7) C.hx C.hb dX6_begin_139 (by decide) ?_
          refine lv_aload_n C.hx C.hb dX6_begin_141 rfl (lv_at hl 0 rfl) ?_
          refine mm_geti C hH 18 6 (by decide) rfl q1259 dX6_begin_142 ?_
          refine mm_callv (As := [.int y136, .int 7, .int (s150.1 6)]) (rest := []) C (t_X6_lay l hk) (cwV 3 C.hts (lw_V q1448 q1450 qs38 q65 q1451) rfl rfl rfl (by decide +kernel) ⟨Nat.le_of_ble_eq_true rfl, Nat.le_of_ble_eq_true rfl⟩) hH hS rfl hl.1 rfl (lv_room (Nat.le_of_ble_eq_true rfl)) dX6_begin_145 ⟨Nat.le_of_ble_eq_true rfl, Nat.le_of_ble_eq_true rfl⟩ (fun s152 H locs hk hH hS => ?_)
          refine lv_aload_n C.hx C.hb dX6_begin_148 rfl (lv_at hl 0 rfl) ?_
          refine lv_iload_n C.hx C.hb dX6_begin_149 rfl (lv_at hl 3 rfl) ?_
          refine lv_bipush (v := 8) C.hx C.hb dX6_begin_150 (by decide) ?_
          refine lv_aload_n C.hx C.hb dX6_begin_152 rfl (lv_at hl 0 rfl) ?_
          refine mm_geti C hH 19 7 (by decide) rfl q1260 dX6_begin_153 ?_
          refine mm_callv (As := [.int y136, .int 8, .int (s152.1 7)]) (rest := []) C (t_X6_lay l hk) (cwV 3 C.hts (lw_V q1448 q1450 qs38 q65 q1451) rfl rfl rfl (by decide +kernel) ⟨Nat.le_of_ble_eq_true rfl, Nat.le_of_ble_eq_true rfl⟩) hH hS rfl hl.1 rfl (lv_room (Nat.le_of_ble_eq_true rfl)) dX6_begin_156 ⟨Nat.le_of_ble_eq_true rfl, Nat.le_of_ble_eq_true rfl⟩ (fun s154 H locs hk hH hS => ?_)
          refine lv_aload_n C.hx C.hb dX6_begin_159 rfl (lv_at hl 0 rfl) ?_
          refine lv_iload_n C.hx C.hb dX6_begin_160 rfl (lv_at hl 3 rfl) ?_
          refine lv_bipush (v := 13) C.hx C.hb dX6_begin_161 (by decide) ?_
          refine lv_aload_n C.hx C.hb dX6_begin_163 rfl (lv_at hl 0 rfl) ?_
          refine mm_geti C hH 21 9 (by decide) rfl q1262 dX6_begin_164 ?_
          refine mm_callv (As := [.int y136, .int 13, .int (s154.1 9)]) (rest := []) C (t_X6_lay l hk) (cwV 3 C.hts (lw_V q1448 q1450 qs38 q65 q1451) rfl rfl rfl (by decide +kernel) ⟨Nat.le_of_ble_eq_true rfl, Nat.le_of_ble_eq_true rfl⟩) hH hS rfl hl.1 rfl (lv_room (Nat.le_of_ble_eq_true rfl)) dX6_begin_167 ⟨Nat.le_of_ble_eq_true rfl, Nat.le_of_ble_eq_true rfl⟩ (fun s156 H locs hk hH hS => ?_)
          refine lv_aload_n C.hx C.hb dX6_begin_170 rfl (lv_at hl 0 rfl) ?_
          refine lv_dup C.hx C.hb dX6_begin_171 rfl ?_
          refine mm_geti C hH 21 9 (by decide) rfl q1262 dX6_begin_172 ?_
          refine lv_iconst (v := 1) C.hx C.hb dX6_begin_175 (by decide) ?_
          refine lv_iadd C.hx C.hb dX6_begin_176 ?_
          refine mm_puti C hH hS 21 9 (by decide) rfl q1262 dX6_begin_177 rfl rfl (fun s157 es157 H locs hH hS => ?_)
          have hk := hk s157 es157
          refine lv_iload_n C.hx C.hb dX6_begin_180 rfl (lv_at hl 3 rfl) ?_
          exact mm_iret C hr hlk hH hS hk dX6_begin_181
        · have hk := hk.2 c132
          refine lv_iconst (v := 1) C.hx C.hb dX6_begin_52 (by decide) ?_
          refine lv_goto (tgt := 57) C.hx C.hb dX6_begin_53 (by decide) ?_
          refine lv_iadd C.hx C.hb dX6_begin_57 ?_
          refine mm_puti C hH hS 20 8 (by decide) rfl q1261 dX6_begin_58 rfl rfl (fun s158 es158 H locs hH hS => ?_)
          have hk := hk s158 es158
          refine lv_iconst (v := 0) C.hx C.hb dX6_begin_61 (by decide) ?_
          refine lv_istore (lv' := [(4, .int 0), (3, .int r128), (0, .ref (ad (20, 0))), (1, .int p1), (2, .int p2)]) C.hx C.hb dX6_begin_62 hl (by decide) rfl (fun ls hl => ?_)
          obtain ⟨n64, hk⟩ := hk
          refine tw_X6_begin_64 C hr hlk (fun y159 y160 y161 y162 s163 H locs ls hk hH hS hl => ?_) n64 p1 p2 r128 0 s158 _ _ _ hk hH hS (lv_sub hl [2, 3, 4, 1, 0] rfl)
          refine lv_aload_n C.hx C.hb dX6_begin_85 rfl (lv_at hl 0 rfl) ?_
          refine lv_iload_n C.hx C.hb dX6_begin_86 rfl (lv_at hl 3 rfl) ?_
          refine lv_iconst (v := 0) C.hx C.hb dX6_begin_87 (by decide) ?_
          refine lv_iconst (v := 1) C.hx C.hb dX6_begin_88 (by decide) ?_
          refine mm_callv (As := [.int y161, .int 0, .int 1]) (rest := []) C (t_X6_lay l hk) (cwV 3 C.hts (lw_V q1448 q1450 qs38 q65 q1451) rfl rfl rfl (by decide +kernel) ⟨Nat.le_of_ble_eq_true rfl, Nat.le_of_ble_eq_true rfl⟩) hH hS rfl hl.1 rfl (lv_room (Nat.le_of_ble_eq_true rfl)) dX6_begin_89 ⟨Nat.le_of_ble_eq_true rfl, Nat.le_of_ble_eq_true rfl⟩ (fun s165 H locs hk hH hS => ?_)
          refine lv_aload_n C.hx C.hb dX6_begin_92 rfl (lv_at hl 0 rfl) ?_
          refine lv_iload_n C.hx C.hb dX6_begin_93 rfl (lv_at hl 3 rfl) ?_
          refine lv_iconst (v := 2) C.hx C.hb dX6_begin_94 (by decide) ?_
          refine lv_iload_n C.hx C.hb dX6_begin_95 rfl (lv_at hl 1 rfl) ?_
          refine mm_callv (As := [.int y161, .int 2, .int y159]) (rest := []) C (t_X6_lay l hk) (cwV 3 C.hts (lw_V q1448 q1450 qs38 q65 q1451) rfl rfl rfl (by decide +kernel) ⟨Nat.le_of_ble_eq_true rfl, Nat.le_of_ble_eq_true rfl⟩) hH hS rfl hl.1 rfl (lv_room (Nat.le_of_ble_eq_true rfl)) dX6_begin_96 ⟨Nat.le_of_ble_eq_true rfl, Nat.le_of_ble_eq_true rfl⟩ (fun s167 H locs hk hH hS => ?_)
          refine lv_aload_n C.hx C.hb dX6_begin_99 rfl (lv_at hl 0 rfl) ?_
          refine lv_iload_n C.hx C.hb dX6_begin_100 rfl (lv_at hl 3 rfl) ?_
          refine lv_iconst (v := 3) C.hx C.hb dX6_begin_101 (by decide) ?_
          refine lv_iload_n C.hx C.hb dX6_begin_102 rfl (lv_at hl 2 rfl) ?_
          refine mm_callv (As := [.int y161, .int 3, .int y160]) (rest := []) C (t_X6_lay l hk) (cwV 3 C.hts (lw_V q1448 q1450 qs38 q65 q1451) rfl rfl rfl (by decide +kernel) ⟨Nat.le_of_ble_eq_true rfl, Nat.le_of_ble_eq_true rfl⟩) hH hS rfl hl.1 rfl (lv_room (Nat.le_of_ble_eq_true rfl)) dX6_begin_103 ⟨Nat.le_of_ble_eq_true rfl, Nat.le_of_ble_eq_true rfl⟩ (fun s169 H locs hk hH hS => ?_)
          refine lv_aload_n C.hx C.hb dX6_begin_106 rfl (lv_at hl 0 rfl) ?_
          refine lv_iload_n C.hx C.hb dX6_begin_107 rfl (lv_at hl 3 rfl) ?_
          refine lv_iconst (v := 4) C.hx C.hb dX6_begin_108 (by decide) ?_
          refine lv_aload_n C.hx C.hb dX6_begin_109 rfl (lv_at hl 0 rfl) ?_
          refine mm_geti C hH 15 3 (by decide) rfl q1256 dX6_begin_110 ?_
          refine mm_callv (As := [.int y161, .int 4, .int (s169.1 3)]) (rest := []) C (t_X6_lay l hk) (cwV 3 C.hts (lw_V q1448 q1450 qs38 q65 q1451) rfl rfl rfl (by decide +kernel) ⟨Nat.le_of_ble_eq_true rfl, Nat.le_of_ble_eq_true rfl⟩) hH hS rfl hl.1 rfl (lv_room (Nat.le_of_ble_eq_true rfl)) dX6_begin_113 ⟨Nat.le_of_ble_eq_true rfl, Nat.le_of_ble_eq_true rfl⟩ (fun s171 H locs hk hH hS => ?_)
          refine lv_aload_n C.hx C.hb dX6_begin_116 rfl (lv_at hl 0 rfl) ?_
          refine lv_iload_n C.hx C.hb dX6_begin_117 rfl (lv_at hl 3 rfl) ?_
          refine lv_iconst (v := 5) C.hx C.hb dX6_begin_118 (by decide) ?_
          refine lv_aload_n C.hx C.hb dX6_begin_119 rfl (lv_at hl 0 rfl) ?_
          refine mm_geti C hH 16 4 (by decide) rfl q1257 dX6_begin_120 ?_
          refine mm_callv (As := [.int y161, .int 5, .int (s171.1 4)]) (rest := []) C (t_X6_lay l hk) (cwV 3 C.hts (lw_V q1448 q1450 qs38 q65 q1451) rfl rfl rfl (by decide +kernel) ⟨Nat.le_of_ble_eq_true rfl, Nat.le_of_ble_eq_true rfl⟩) hH hS rfl hl.1 rfl (lv_room (Nat.le_of_ble_eq_true rfl)) dX6_begin_123 ⟨Nat.le_of_ble_eq_true rfl, Nat.le_of_ble_eq_true rfl⟩ (fun s173 H locs hk hH hS => ?_)
          refine lv_aload_n C.hx C.hb dX6_begin_126 rfl (lv_at hl 0 rfl) ?_
          refine lv_iload_n C.hx C.hb dX6_begin_127 rfl (lv_at hl 3 rfl) ?_
          refine lv_bipush (v := 6) C.hx C.hb dX6_begin_128 (by decide) ?_
          refine lv_aload_n C.hx C.hb dX6_begin_130 rfl (lv_at hl 0 rfl) ?_
          refine mm_geti C hH 17 5 (by decide) rfl q1258 dX6_begin_131 ?_
          refine mm_callv (As := [.int y161, .int 6, .int (s173.1 5)]) (rest := []) C (t_X6_lay l hk) (cwV 3 C.hts (lw_V q1448 q1450 qs38 q65 q1451) rfl rfl rfl (by decide +kernel) ⟨Nat.le_of_ble_eq_true rfl, Nat.le_of_ble_eq_true rfl⟩) hH hS rfl hl.1 rfl (lv_room (Nat.le_of_ble_eq_true rfl)) dX6_begin_134 ⟨Nat.le_of_ble_eq_true rfl, Nat.le_of_ble_eq_true rfl⟩ (fun s175 H locs hk hH hS => ?_)
          refine lv_aload_n C.hx C.hb dX6_begin_137 rfl (lv_at hl 0 rfl) ?_
          refine lv_iload_n C.hx C.hb dX6_begin_138 rfl (lv_at hl 3 rfl) ?_
          refine lv_bipush (v := 7) C.hx C.hb dX6_begin_139 (by decide) ?_
          refine lv_aload_n C.hx C.hb dX6_begin_141 rfl (lv_at hl 0 rfl) ?_
          refine mm_geti C hH 18 6 (by decide) rfl q1259 dX6_begin_142 ?_
          refine mm_callv (As := [.int y161, .int 7, .int (s175.1 6)]) (rest := []) C (t_X6_lay l hk) (cwV 3 C.hts (lw_V q1448 q1450 qs38 q65 q1451) rfl rfl rfl (by decide +kernel) ⟨Nat.le_of_ble_eq_true rfl, Nat.le_of_ble_eq_true rfl⟩) hH hS rfl hl.1 rfl (lv_room (Nat.le_of_ble_eq_true rfl)) dX6_begin_145 ⟨Nat.le_of_ble_eq_true rfl, Nat.le_of_ble_eq_true rfl⟩ (fun s177 H locs hk hH hS => ?_)
          refine lv_aload_n C.hx C.hb dX6_begin_148 rfl (lv_at hl 0 rfl) ?_
          refine lv_iload_n C.hx C.hb dX6_begin_149 rfl (lv_at hl 3 rfl) ?_
          refine lv_bipush (v := 8) C.hx C.hb dX6_begin_150 (by decide) ?_
          refine lv_aload_n C.hx C.hb dX6_begin_152 rfl (lv_at hl 0 rfl) ?_
          refine mm_geti C hH 19 7 (by decide) rfl q1260 dX6_begin_153 ?_
          refine mm_callv (As := [.int y161, .int 8, .int (s177.1 7)]) (rest := []) C (t_X6_lay l hk) (cwV 3 C.hts (lw_V q1448 q1450 qs38 q65 q1451) rfl rfl rfl (by decide +kernel) ⟨Nat.le_of_ble_eq_true rfl, Nat.le_of_ble_eq_true rfl⟩) hH hS rfl hl.1 rfl (lv_room (Nat.le_of_ble_eq_true rfl)) dX6_begin_156 ⟨Nat.le_of_ble_eq_true rfl, Nat.le_of_ble_eq_true rfl⟩ (fun s179 H locs hk hH hS => ?_)
          refine lv_aload_n C.hx C.hb dX6_begin_159 rfl (lv_at hl 0 rfl) ?_
          refine lv_iload_n C.hx C.hb dX6_begin_160 rfl (lv_at hl 3 rfl) ?_
          refine lv_bipush (v := 13) C.hx C.hb dX6_begin_161 (by decide) ?_
          refine lv_aload_n C.hx C.hb dX6_begin_163 rfl (lv_at hl 0 rfl) ?_
          refine mm_geti C hH 21 9 (by decide) rfl q1262 dX6_begin_164 ?_
          refine mm_callv (As := [.int y161, .int 13, .int (s179.1 9)]) (rest := []) C (t_X6_lay l hk) (cwV 3 C.hts (lw_V q1448 q1450 qs38 q65 q1451) rfl rfl rfl (by decide +kernel) ⟨Nat.le_of_ble_eq_true rfl, Nat.le_of_ble_eq_true rfl⟩) hH hS rfl hl.1 rfl (lv_room (Nat.le_of_ble_eq_true rfl)) dX6_begin_167 ⟨Nat.le_of_ble_eq_true rfl, Nat.le_of_ble_eq_true rfl⟩ (fun s181 H locs hk hH hS => ?_)
          refine lv_aload_n C.hx C.hb dX6_begin_170 rfl (lv_at hl 0 rfl) ?_
          refine lv_dup C.hx C.hb dX6_begin_171 rfl ?_
          refine mm_geti C hH 21 9 (by decide) rfl q1262 dX6_begin_172 ?_
          refine lv_iconst (v := 1) C.hx C.hb dX6_begin_175 (by decide) ?_
          refine lv_iadd C.hx C.hb dX6_begin_176 ?_
          refine mm_puti C hH hS 21 9 (by decide) rfl q1262 dX6_begin_177 rfl rfl (fun s182 es182 H locs hH hS => ?_)
          have hk := hk s182 es182
          refine lv_iload_n C.hx C.hb dX6_begin_180 rfl (lv_at hl 3 rfl) ?_
          exact mm_iret C hr hlk hH hS hk dX6_begin_181
      · have hk := hk.2 c127
        refine lv_iconst (v := 0) C.hx C.hb dX6_begin_32 (by decide) ?_
        exact mm_iret C hr hlk hH hS hk dX6_begin_33
/-! ToneGraphModel.isHeld(I)Z -/
def wp_X6_isHeld (post : Int32 → mm_S → Prop) (p1 : Int32) (s0 : mm_S) : Prop := wp_X6_plays (fun r1 s2 => ((r1 = 0 → post 0 s2) ∧ (¬ r1 = 0 → wp_X6_at (fun r4 s5 => ((¬ r4 = 0 → post 0 s5) ∧ (r4 = 0 → post 1 s5))) p1 1 s2))) p1 s0
set_option maxHeartbeats 4000000 in
theorem t_X6_isHeld (l : Launch) {base : Nat} {D : va_G} {ca : Nat → ClassId} {Ls : List gb_L} {ad : gb_L → Nat} {w : gb_L → va_E} {post : Int32 → mm_S → Prop} {p1 : Int32} {s0 : mm_S} (hk : wp_X6_isHeld post p1 s0) : mm_Mi l yX6_isHeld (ws_ yX6_isHeld cX6_isHeld 2 (some .boolean)) ({ frames := 2, cells := 0, slots := 0, locals := 43 } : Room) base D ca Ls ad w [.int p1] s0 post := by
  refine mm_start cX6_isHeld 2 (some .boolean) _ (by decide) rfl rfl (Nat.le_of_ble_eq_true rfl) ?_
  intro p e s m args below meth c ls C hr hlk hH hS hl
  have hl : lv_has ls 2 [(0, .ref (ad (20, 0))), (1, .int p1)] := hl
  unfold wp_X6_isHeld at hk
  refine lv_aload_n C.hx C.hb dX6_isHeld_0 rfl (lv_at hl 0 rfl) ?_
  refine lv_iload_n C.hx C.hb dX6_isHeld_1 rfl (lv_at hl 1 rfl) ?_
  refine mm_calli (As := [.int p1]) (rest := []) C (t_X6_plays l hk) (cwV 1 C.hts (lw_V q1436 q1438 qs35 q65 q1439) rfl rfl rfl (by decide +kernel) ⟨Nat.le_of_ble_eq_true rfl, Nat.le_of_ble_eq_true rfl⟩) hH hS rfl hl.1 rfl (lv_room (Nat.le_of_ble_eq_true rfl)) dX6_isHeld_2 ⟨Nat.le_of_ble_eq_true rfl, Nat.le_of_ble_eq_true rfl⟩ (fun r1 s2 H locs hk hH hS => ?_)
  refine lv_if_eq (tgt := 21) C.hx C.hb dX6_isHeld_5 (by decide) (fun c3 => ?_) (fun c3 => ?_)
  · have hk := hk.1 c3
    refine lv_iconst (v := 0) C.hx C.hb dX6_isHeld_21 (by decide) ?_
    exact mm_zret (ty := .boolean) C hr hlk (by decide) hH hS hk dX6_isHeld_22
  · have hk := hk.2 c3
    refine lv_aload_n C.hx C.hb dX6_isHeld_8 rfl (lv_at hl 0 rfl) ?_
    refine lv_iload_n C.hx C.hb dX6_isHeld_9 rfl (lv_at hl 1 rfl) ?_
    refine lv_iconst (v := 1) C.hx C.hb dX6_isHeld_10 (by decide) ?_
    refine mm_calli (As := [.int p1, .int 1]) (rest := []) C (t_X6_at l hk) (cwV 2 C.hts (lw_V q1440 q1442 qs36 q65 q1443) rfl rfl rfl (by decide +kernel) ⟨Nat.le_of_ble_eq_true rfl, Nat.le_of_ble_eq_true rfl⟩) hH hS rfl hl.1 rfl (lv_room (Nat.le_of_ble_eq_true rfl)) dX6_isHeld_11 ⟨Nat.le_of_ble_eq_true rfl, Nat.le_of_ble_eq_true rfl⟩ (fun r4 s5 H locs hk hH hS => ?_)
    refine lv_if_ne (tgt := 21) C.hx C.hb dX6_isHeld_14 (by decide) (fun c6 => ?_) (fun c6 => ?_)
    · have hk := hk.1 c6
      refine lv_iconst (v := 0) C.hx C.hb dX6_isHeld_21 (by decide) ?_
      exact mm_zret (ty := .boolean) C hr hlk (by decide) hH hS hk dX6_isHeld_22
    · have hk := hk.2 c6
      refine lv_iconst (v := 1) C.hx C.hb dX6_isHeld_17 (by decide) ?_
      refine lv_goto (tgt := 22) C.hx C.hb dX6_isHeld_18 (by decide) ?_
      exact mm_zret (ty := .boolean) C hr hlk (by decide) hH hS hk dX6_isHeld_22
/-! ToneGraphModel.levelAt(I)I -/
def wp_X6_levelAt (post : Int32 → mm_S → Prop) (p1 : Int32) (s0 : mm_S) : Prop := wp_X6_plays (fun r1 s2 => ((¬ r1 = 0 → wp_X6_isReleased (fun r4 s5 => ((r4 = 0 → wp_X6_at (fun r7 s8 => wp_X6_at (fun r9 s10 => ((r9 ≤ r7 → wp_X6_at (fun r12 s13 => (∀ v14, v14 = (r7 - r12) → wp_X6_at (fun r15 s16 => ((r15 ≤ v14 → wp_X6_at (fun r18 s19 => post r18 s19) p1 7 s16) ∧ (¬ r15 ≤ v14 → wp_X6_at (fun r20 s21 => wp_X6_at (fun r22 s23 => (¬ r22 = 0 ∧ post (1000 - (((1000 - r20) * v14) / r22)) s23)) p1 6 s21) p1 7 s16))) p1 6 s13)) p1 5 s10) ∧ (¬ r9 ≤ r7 → wp_X6_at (fun r25 s26 => (¬ r25 = 0 ∧ post ((1000 * r7) / r25) s26)) p1 5 s10))) p1 5 s8) p1 10 s5) ∧ (¬ r4 = 0 → wp_X6_at (fun r28 s29 => wp_X6_at (fun r30 s31 => wp_X6_at (fun r32 s33 => wp_X6_at (fun r34 s35 => (¬ r34 = 0 ∧ post (r28 - ((r30 * r32) / r34)) s35)) p1 8 s33) p1 12 s31) p1 11 s29) p1 11 s5))) p1 s2) ∧ (r1 = 0 → post 0 s2))) p1 s0
set_option maxHeartbeats 4000000 in
theorem t_X6_levelAt (l : Launch) {base : Nat} {D : va_G} {ca : Nat → ClassId} {Ls : List gb_L} {ad : gb_L → Nat} {w : gb_L → va_E} {post : Int32 → mm_S → Prop} {p1 : Int32} {s0 : mm_S} (hk : wp_X6_levelAt post p1 s0) : mm_Mi l yX6_levelAt (ws_ yX6_levelAt cX6_levelAt 4 (some .int)) ({ frames := 3, cells := 0, slots := 0, locals := 64 } : Room) base D ca Ls ad w [.int p1] s0 post := by
  refine mm_start cX6_levelAt 4 (some .int) _ (by decide) rfl rfl (Nat.le_of_ble_eq_true rfl) ?_
  intro p e s m args below meth c ls C hr hlk hH hS hl
  have hl : lv_has ls 4 [(0, .ref (ad (20, 0))), (1, .int p1)] := hl
  unfold wp_X6_levelAt at hk
  refine lv_aload_n C.hx C.hb dX6_levelAt_0 rfl (lv_at hl 0 rfl) ?_
  refine lv_iload_n C.hx C.hb dX6_levelAt_1 rfl (lv_at hl 1 rfl) ?_
  refine mm_calli (As := [.int p1]) (rest := []) C (t_X6_plays l hk) (cwV 1 C.hts (lw_V q1436 q1438 qs35 q65 q1439) rfl rfl rfl (by decide +kernel) ⟨Nat.le_of_ble_eq_true rfl, Nat.le_of_ble_eq_true rfl⟩) hH hS rfl hl.1 rfl (lv_room (Nat.le_of_ble_eq_true rfl)) dX6_levelAt_2 ⟨Nat.le_of_ble_eq_true rfl, Nat.le_of_ble_eq_true rfl⟩ (fun r1 s2 H locs hk hH hS => ?_)
  refine lv_if_ne (tgt := 10) C.hx C.hb dX6_levelAt_5 (by decide) (fun c3 => ?_) (fun c3 => ?_)
  · have hk := hk.1 c3
    refine lv_aload_n C.hx C.hb dX6_levelAt_10 rfl (lv_at hl 0 rfl) ?_
    refine lv_iload_n C.hx C.hb dX6_levelAt_11 rfl (lv_at hl 1 rfl) ?_
    refine mm_calli (As := [.int p1]) (rest := []) C (t_X6_isReleased l hk) (cwV 1 C.hts (lw_V q1444 q1446 qs37 q65 q1447) rfl rfl rfl (by decide +kernel) ⟨Nat.le_of_ble_eq_true rfl, Nat.le_of_ble_eq_true rfl⟩) hH hS rfl hl.1 rfl (lv_room (Nat.le_of_ble_eq_true rfl)) dX6_levelAt_12 ⟨Nat.le_of_ble_eq_true rfl, Nat.le_of_ble_eq_true rfl⟩ (fun r4 s5 H locs hk hH hS => ?_)
    refine lv_if_eq (tgt := 50) C.hx C.hb dX6_levelAt_15 (by decide) (fun c6 => ?_) (fun c6 => ?_)
    · have hk := hk.1 c6
      refine lv_aload_n C.hx C.hb dX6_levelAt_50 rfl (lv_at hl 0 rfl) ?_
      refine lv_iload_n C.hx C.hb dX6_levelAt_51 rfl (lv_at hl 1 rfl) ?_
      refine lv_bipush (v := 10) C.hx C.hb dX6_levelAt_52 (by decide) ?_
      refine mm_calli (As := [.int p1, .int 10]) (rest := []) C (t_X6_at l hk) (cwV 2 C.hts (lw_V q1440 q1442 qs36 q65 q1443) rfl rfl rfl (by decide +kernel) ⟨Nat.le_of_ble_eq_true rfl, Nat.le_of_ble_eq_true rfl⟩) hH hS rfl hl.1 rfl (lv_room (Nat.le_of_ble_eq_true rfl)) dX6_levelAt_54 ⟨Nat.le_of_ble_eq_true rfl, Nat.le_of_ble_eq_true rfl⟩ (fun r7 s8 H locs hk hH hS => ?_)
      refine lv_istore_n (lv' := [(2, .int r7), (0, .ref (ad (20, 0))), (1, .int p1)]) C.hx C.hb dX6_levelAt_57 rfl hl (by decide) rfl (fun ls hl => ?_)
      refine lv_iload_n C.hx C.hb dX6_levelAt_58 rfl (lv_at hl 0 rfl) ?_
      refine lv_aload_n C.hx C.hb dX6_levelAt_59 rfl (lv_at hl 1 rfl) ?_
      refine lv_iload_n C.hx C.hb dX6_levelAt_60 rfl (lv_at hl 2 rfl) ?_
      refine lv_iconst (v := 5) C.hx C.hb dX6_levelAt_61 (by decide) ?_
      refine mm_calli (As := [.int p1, .int 5]) (rest := [.int r7]) C (t_X6_at l hk) (cwV 2 C.hts (lw_V q1440 q1442 qs36 q65 q1443) rfl rfl rfl (by decide +kernel) ⟨Nat.le_of_ble_eq_true rfl, Nat.le_of_ble_eq_true rfl⟩) hH hS rfl hl.1 rfl (lv_room (Nat.le_of_ble_eq_true rfl)) dX6_levelAt_62 ⟨Nat.le_of_ble_eq_true rfl, Nat.le_of_ble_eq_true rfl⟩ (fun r9 s10 H locs hk hH hS => ?_)
      refine lv_icmp_ge (tgt := 81) C.hx C.hb dX6_levelAt_65 (by decide) (fun c11 => ?_) (fun c11 => ?_)
      · have hk := hk.1 c11
        refine lv_iload_n C.hx C.hb dX6_levelAt_81 rfl (lv_at hl 0 rfl) ?_
        refine lv_aload_n C.hx C.hb dX6_levelAt_82 rfl (lv_at hl 1 rfl) ?_
        refine lv_iload_n C.hx C.hb dX6_levelAt_83 rfl (lv_at hl 2 rfl) ?_
        refine lv_iconst (v := 5) C.hx C.hb dX6_levelAt_84 (by decide) ?_
        refine mm_calli (As := [.int p1, .int 5]) (rest := [.int r7]) C (t_X6_at l hk) (cwV 2 C.hts (lw_V q1440 q1442 qs36 q65 q1443) rfl rfl rfl (by decide +kernel) ⟨Nat.le_of_ble_eq_true rfl, Nat.le_of_ble_eq_true rfl⟩) hH hS rfl hl.1 rfl (lv_room (Nat.le_of_ble_eq_true rfl)) dX6_levelAt_85 ⟨Nat.le_of_ble_eq_true rfl, Nat.le_of_ble_eq_true rfl⟩ (fun r12 s13 H locs hk hH hS => ?_)
        refine lv_isub C.hx C.hb dX6_levelAt_88 ?_
        refine lv_topi (fun v14 ev14 => ?_)
        have hk := hk v14 ev14
        refine lv_istore_n (lv' := [(3, .int v14), (2, .int r7), (0, .ref (ad (20, 0))), (1, .int p1)]) C.hx C.hb dX6_levelAt_89 rfl hl (by decide) rfl (fun ls hl => ?_)
        refine lv_iload_n C.hx C.hb dX6_levelAt_90 rfl (lv_at hl 0 rfl) ?_
        refine lv_aload_n C.hx C.hb dX6_levelAt_91 rfl (lv_at hl 2 rfl) ?_
        refine lv_iload_n C.hx C.hb dX6_levelAt_92 rfl (lv_at hl 3 rfl) ?_
        refine lv_bipush (v := 6) C.hx C.hb dX6_levelAt_93 (by decide) ?_
        refine mm_calli (As := [.int p1, .int 6]) (rest := [.int v14]) C (t_X6_at l hk) (cwV 2 C.hts (lw_V q1440 q1442 qs36 q65 q1443) rfl rfl rfl (by decide +kernel) ⟨Nat.le_of_ble_eq_true rfl, Nat.le_of_ble_eq_true rfl⟩) hH hS rfl hl.1 rfl (lv_room (Nat.le_of_ble_eq_true rfl)) dX6_levelAt_95 ⟨Nat.le_of_ble_eq_true rfl, Nat.le_of_ble_eq_true rfl⟩ (fun r15 s16 H locs hk hH hS => ?_)
        refine lv_icmp_ge (tgt := 129) C.hx C.hb dX6_levelAt_98 (by decide) (fun c17 => ?_) (fun c17 => ?_)
        · have hk := hk.1 c17
          refine lv_aload_n C.hx C.hb dX6_levelAt_129 rfl (lv_at hl 2 rfl) ?_
          refine lv_iload_n C.hx C.hb dX6_levelAt_130 rfl (lv_at hl 3 rfl) ?_
          refine lv_bipush (v := 7) C.hx C.hb dX6_levelAt_131 (by decide) ?_
          refine mm_calli (As := [.int p1, .int 7]) (rest := []) C (t_X6_at l hk) (cwV 2 C.hts (lw_V q1440 q1442 qs36 q65 q1443) rfl rfl rfl (by decide +kernel) ⟨Nat.le_of_ble_eq_true rfl, Nat.le_of_ble_eq_true rfl⟩) hH hS rfl hl.1 rfl (lv_room (Nat.le_of_ble_eq_true rfl)) dX6_levelAt_133 ⟨Nat.le_of_ble_eq_true rfl, Nat.le_of_ble_eq_true rfl⟩ (fun r18 s19 H locs hk hH hS => ?_)
          exact mm_iret C hr hlk hH hS hk dX6_levelAt_136
        · have hk := hk.2 c17
          refine lv_sipush (v := 1000) C.hx C.hb dX6_levelAt_101 (by decide) ?_
          refine lv_sipush (v := 1000) C.hx C.hb dX6_levelAt_104 (by decide) ?_
          refine lv_aload_n C.hx C.hb dX6_levelAt_107 rfl (lv_at hl 2 rfl) ?_
          refine lv_iload_n C.hx C.hb dX6_levelAt_108 rfl (lv_at hl 3 rfl) ?_
          refine lv_bipush (v := 7) C.hx C.hb dX6_levelAt_109 (by decide) ?_
          refine mm_calli (As := [.int p1, .int 7]) (rest := [.int 1000, .int 1000]) C (t_X6_at l hk) (cwV 2 C.hts (lw_V q1440 q1442 qs36 q65 q1443) rfl rfl rfl (by decide +kernel) ⟨Nat.le_of_ble_eq_true rfl, Nat.le_of_ble_eq_true rfl⟩) hH hS rfl hl.1 rfl (lv_room (Nat.le_of_ble_eq_true rfl)) dX6_levelAt_111 ⟨Nat.le_of_ble_eq_true rfl, Nat.le_of_ble_eq_true rfl⟩ (fun r20 s21 H locs hk hH hS => ?_)
          refine lv_isub C.hx C.hb dX6_levelAt_114 ?_
          refine lv_iload_n C.hx C.hb dX6_levelAt_115 rfl (lv_at hl 0 rfl) ?_
          refine lv_imul C.hx C.hb dX6_levelAt_116 ?_
          refine lv_aload_n C.hx C.hb dX6_levelAt_117 rfl (lv_at hl 2 rfl) ?_
          refine lv_iload_n C.hx C.hb dX6_levelAt_118 rfl (lv_at hl 3 rfl) ?_
          refine lv_bipush (v := 6) C.hx C.hb dX6_levelAt_119 (by decide) ?_
          refine mm_calli (As := [.int p1, .int 6]) (rest := [.int ((1000 - r20) * v14), .int 1000]) C (t_X6_at l hk) (cwV 2 C.hts (lw_V q1440 q1442 qs36 q65 q1443) rfl rfl rfl (by decide +kernel) ⟨Nat.le_of_ble_eq_true rfl, Nat.le_of_ble_eq_true rfl⟩) hH hS rfl hl.1 rfl (lv_room (Nat.le_of_ble_eq_true rfl)) dX6_levelAt_121 ⟨Nat.le_of_ble_eq_true rfl, Nat.le_of_ble_eq_true rfl⟩ (fun r22 s23 H locs hk hH hS => ?_)
          obtain ⟨h24, hk⟩ := hk
          refine lv_idiv C.hx C.hb dX6_levelAt_124 h24 ?_
          refine lv_isub C.hx C.hb dX6_levelAt_125 ?_
          refine lv_goto (tgt := 136) C.hx C.hb dX6_levelAt_126 (by decide) ?_
          exact mm_iret C hr hlk hH hS hk dX6_levelAt_136
      · have hk := hk.2 c11
        refine lv_sipush (v := 1000) C.hx C.hb dX6_levelAt_68 (by decide) ?_
        refine lv_iload_n C.hx C.hb dX6_levelAt_71 rfl (lv_at hl 0 rfl) ?_
        refine lv_imul C.hx C.hb dX6_levelAt_72 ?_
        refine lv_aload_n C.hx C.hb dX6_levelAt_73 rfl (lv_at hl 1 rfl) ?_
        refine lv_iload_n C.hx C.hb dX6_levelAt_74 rfl (lv_at hl 2 rfl) ?_
        refine lv_iconst (v := 5) C.hx C.hb dX6_levelAt_75 (by decide) ?_
        refine mm_calli (As := [.int p1, .int 5]) (rest := [.int (1000 * r7)]) C (t_X6_at l hk) (cwV 2 C.hts (lw_V q1440 q1442 qs36 q65 q1443) rfl rfl rfl (by decide +kernel) ⟨Nat.le_of_ble_eq_true rfl, Nat.le_of_ble_eq_true rfl⟩) hH hS rfl hl.1 rfl (lv_room (Nat.le_of_ble_eq_true rfl)) dX6_levelAt_76 ⟨Nat.le_of_ble_eq_true rfl, Nat.le_of_ble_eq_true rfl⟩ (fun r25 s26 H locs hk hH hS => ?_)
        obtain ⟨h27, hk⟩ := hk
        refine lv_idiv C.hx C.hb dX6_levelAt_79 h27 ?_
        exact mm_iret C hr hlk hH hS hk dX6_levelAt_80
    · have hk := hk.2 c6
      refine lv_aload_n C.hx C.hb dX6_levelAt_18 rfl (lv_at hl 0 rfl) ?_
      refine lv_iload_n C.hx C.hb dX6_levelAt_19 rfl (lv_at hl 1 rfl) ?_
      refine lv_bipush (v := 11) C.hx C.hb dX6_levelAt_20 (by decide) ?_
      refine mm_calli (As := [.int p1, .int 11]) (rest := []) C (t_X6_at l hk) (cwV 2 C.hts (lw_V q1440 q1442 qs36 q65 q1443) rfl rfl rfl (by decide +kernel) ⟨Nat.le_of_ble_eq_true rfl, Nat.le_of_ble_eq_true rfl⟩) hH hS rfl hl.1 rfl (lv_room (Nat.le_of_ble_eq_true rfl)) dX6_levelAt_22 ⟨Nat.le_of_ble_eq_true rfl, Nat.le_of_ble_eq_true rfl⟩ (fun r28 s29 H locs hk hH hS => ?_)
      refine lv_aload_n C.hx C.hb dX6_levelAt_25 rfl (lv_at hl 0 rfl) ?_
      refine lv_iload_n C.hx C.hb dX6_levelAt_26 rfl (lv_at hl 1 rfl) ?_
      refine lv_bipush (v := 11) C.hx C.hb dX6_levelAt_27 (by decide) ?_
      refine mm_calli (As := [.int p1, .int 11]) (rest := [.int r28]) C (t_X6_at l hk) (cwV 2 C.hts (lw_V q1440 q1442 qs36 q65 q1443) rfl rfl rfl (by decide +kernel) ⟨Nat.le_of_ble_eq_true rfl, Nat.le_of_ble_eq_true rfl⟩) hH hS rfl hl.1 rfl (lv_room (Nat.le_of_ble_eq_true rfl)) dX6_levelAt_29 ⟨Nat.le_of_ble_eq_true rfl, Nat.le_of_ble_eq_true rfl⟩ (fun r30 s31 H locs hk hH hS => ?_)
      refine lv_aload_n C.hx C.hb dX6_levelAt_32 rfl (lv_at hl 0 rfl) ?_
      refine lv_iload_n C.hx C.hb dX6_levelAt_33 rfl (lv_at hl 1 rfl) ?_
      refine lv_bipush (v := 12) C.hx C.hb dX6_levelAt_34 (by decide) ?_
      refine mm_calli (As := [.int p1, .int 12]) (rest := [.int r30, .int r28]) C (t_X6_at l hk) (cwV 2 C.hts (lw_V q1440 q1442 qs36 q65 q1443) rfl rfl rfl (by decide +kernel) ⟨Nat.le_of_ble_eq_true rfl, Nat.le_of_ble_eq_true rfl⟩) hH hS rfl hl.1 rfl (lv_room (Nat.le_of_ble_eq_true rfl)) dX6_levelAt_36 ⟨Nat.le_of_ble_eq_true rfl, Nat.le_of_ble_eq_true rfl⟩ (fun r32 s33 H locs hk hH hS => ?_)
      refine lv_imul C.hx C.hb dX6_levelAt_39 ?_
      refine lv_aload_n C.hx C.hb dX6_levelAt_40 rfl (lv_at hl 0 rfl) ?_
      refine lv_iload_n C.hx C.hb dX6_levelAt_41 rfl (lv_at hl 1 rfl) ?_
      refine lv_bipush (v := 8) C.hx C.hb dX6_levelAt_42 (by decide) ?_
      refine mm_calli (As := [.int p1, .int 8]) (rest := [.int (r30 * r32), .int r28]) C (t_X6_at l hk) (cwV 2 C.hts (lw_V q1440 q1442 qs36 q65 q1443) rfl rfl rfl (by decide +kernel) ⟨Nat.le_of_ble_eq_true rfl, Nat.le_of_ble_eq_true rfl⟩) hH hS rfl hl.1 rfl (lv_room (Nat.le_of_ble_eq_true rfl)) dX6_levelAt_44 ⟨Nat.le_of_ble_eq_true rfl, Nat.le_of_ble_eq_true rfl⟩ (fun r34 s35 H locs hk hH hS => ?_)
      obtain ⟨h36, hk⟩ := hk
      refine lv_idiv C.hx C.hb dX6_levelAt_47 h36 ?_
      refine lv_isub C.hx C.hb dX6_levelAt_48 ?_
      exact mm_iret C hr hlk hH hS hk dX6_levelAt_49
  · have hk := hk.2 c3
    refine lv_iconst (v := 0) C.hx C.hb dX6_levelAt_8 (by decide) ?_
    exact mm_iret C hr hlk hH hS hk dX6_levelAt_9
/-! ToneGraphModel.releases(I)V -/
def wp_X6_releases (post : mm_S → Prop) (p1 : Int32) (s0 : mm_S) : Prop := wp_X6_levelAt (fun r1 s2 => wp_X6_lay (fun s4 => wp_X6_lay (fun s6 => wp_X6_lay (fun s8 => wp_X6_lay (fun s10 => (∀ s11 : mm_S, s11 = ms_f s10 9 ((s10.1 9) + 1) → wp_X6_at (fun r12 s13 => ((¬ r12 = 0 → post s13) ∧ (r12 = 0 → wp_X6_lay (fun s16 => post s16) p1 0 0 s13))) p1 8 s11)) p1 14 (s8.1 9) s8) p1 12 0 s6) p1 11 r1 s4) p1 1 1 s2) p1 s0
set_option maxHeartbeats 4000000 in
theorem t_X6_releases (l : Launch) {base : Nat} {D : va_G} {ca : Nat → ClassId} {Ls : List gb_L} {ad : gb_L → Nat} {w : gb_L → va_E} {post : mm_S → Prop} {p1 : Int32} {s0 : mm_S} (hk : wp_X6_releases post p1 s0) : mm_Mv l yX6_releases (ws_ yX6_releases cX6_releases 3 none) ({ frames := 4, cells := 0, slots := 0, locals := 87 } : Room) base D ca Ls ad w [.int p1] s0 post := by
  refine mm_start cX6_releases 3 none _ (by decide) rfl rfl (Nat.le_of_ble_eq_true rfl) ?_
  intro p e s m args below meth c ls C hr hlk hH hS hl
  have hl : lv_has ls 3 [(0, .ref (ad (20, 0))), (1, .int p1)] := hl
  unfold wp_X6_releases at hk
  refine lv_aload_n C.hx C.hb dX6_releases_0 rfl (lv_at hl 0 rfl) ?_
  refine lv_iload_n C.hx C.hb dX6_releases_1 rfl (lv_at hl 1 rfl) ?_
  refine mm_calli (As := [.int p1]) (rest := []) C (t_X6_levelAt l hk) (cwV 1 C.hts (lw_V q1464 q1466 qs41 q65 q1467) rfl rfl rfl (by decide +kernel) ⟨Nat.le_of_ble_eq_true rfl, Nat.le_of_ble_eq_true rfl⟩) hH hS rfl hl.1 rfl (lv_room (Nat.le_of_ble_eq_true rfl)) dX6_releases_2 ⟨Nat.le_of_ble_eq_true rfl, Nat.le_of_ble_eq_true rfl⟩ (fun r1 s2 H locs hk hH hS => ?_)
  refine lv_istore_n (lv' := [(2, .int r1), (0, .ref (ad (20, 0))), (1, .int p1)]) C.hx C.hb dX6_releases_5 rfl hl (by decide) rfl (fun ls hl => ?_)
  refine lv_aload_n C.hx C.hb dX6_releases_6 rfl (lv_at hl 1 rfl) ?_
  refine lv_iload_n C.hx C.hb dX6_releases_7 rfl (lv_at hl 2 rfl) ?_
  refine lv_iconst (v := 1) C.hx C.hb dX6_releases_8 (by decide) ?_
  refine lv_iconst (v := 1) C.hx C.hb dX6_releases_9 (by decide) ?_
  refine mm_callv (As := [.int p1, .int 1, .int 1]) (rest := []) C (t_X6_lay l hk) (cwV 3 C.hts (lw_V q1448 q1450 qs38 q65 q1451) rfl rfl rfl (by decide +kernel) ⟨Nat.le_of_ble_eq_true rfl, Nat.le_of_ble_eq_true rfl⟩) hH hS rfl hl.1 rfl (lv_room (Nat.le_of_ble_eq_true rfl)) dX6_releases_10 ⟨Nat.le_of_ble_eq_true rfl, Nat.le_of_ble_eq_true rfl⟩ (fun s4 H locs hk hH hS => ?_)
  refine lv_aload_n C.hx C.hb dX6_releases_13 rfl (lv_at hl 1 rfl) ?_
  refine lv_iload_n C.hx C.hb dX6_releases_14 rfl (lv_at hl 2 rfl) ?_
  refine lv_bipush (v := 11) C.hx C.hb dX6_releases_15 (by decide) ?_
  refine lv_iload_n C.hx C.hb dX6_releases_17 rfl (lv_at hl 0 rfl) ?_
  refine mm_callv (As := [.int p1, .int 11, .int r1]) (rest := []) C (t_X6_lay l hk) (cwV 3 C.hts (lw_V q1448 q1450 qs38 q65 q1451) rfl rfl rfl (by decide +kernel) ⟨Nat.le_of_ble_eq_true rfl, Nat.le_of_ble_eq_true rfl⟩) hH hS rfl hl.1 rfl (lv_room (Nat.le_of_ble_eq_true rfl)) dX6_releases_18 ⟨Nat.le_of_ble_eq_true rfl, Nat.le_of_ble_eq_true rfl⟩ (fun s6 H locs hk hH hS => ?_)
  refine lv_aload_n C.hx C.hb dX6_releases_21 rfl (lv_at hl 1 rfl) ?_
  refine lv_iload_n C.hx C.hb dX6_releases_22 rfl (lv_at hl 2 rfl) ?_
  refine lv_bipush (v := 12) C.hx C.hb dX6_releases_23 (by decide) ?_
  refine lv_iconst (v := 0) C.hx C.hb dX6_releases_25 (by decide) ?_
  refine mm_callv (As := [.int p1, .int 12, .int 0]) (rest := []) C (t_X6_lay l hk) (cwV 3 C.hts (lw_V q1448 q1450 qs38 q65 q1451) rfl rfl rfl (by decide +kernel) ⟨Nat.le_of_ble_eq_true rfl, Nat.le_of_ble_eq_true rfl⟩) hH hS rfl hl.1 rfl (lv_room (Nat.le_of_ble_eq_true rfl)) dX6_releases_26 ⟨Nat.le_of_ble_eq_true rfl, Nat.le_of_ble_eq_true rfl⟩ (fun s8 H locs hk hH hS => ?_)
  refine lv_aload_n C.hx C.hb dX6_releases_29 rfl (lv_at hl 1 rfl) ?_
  refine lv_iload_n C.hx C.hb dX6_releases_30 rfl (lv_at hl 2 rfl) ?_
  refine lv_bipush (v := 14) C.hx C.hb dX6_releases_31 (by decide) ?_
  refine lv_aload_n C.hx C.hb dX6_releases_33 rfl (lv_at hl 1 rfl) ?_
  refine mm_geti C hH 21 9 (by decide) rfl q1262 dX6_releases_34 ?_
  refine mm_callv (As := [.int p1, .int 14, .int (s8.1 9)]) (rest := []) C (t_X6_lay l hk) (cwV 3 C.hts (lw_V q1448 q1450 qs38 q65 q1451) rfl rfl rfl (by decide +kernel) ⟨Nat.le_of_ble_eq_true rfl, Nat.le_of_ble_eq_true rfl⟩) hH hS rfl hl.1 rfl (lv_room (Nat.le_of_ble_eq_true rfl)) dX6_releases_37 ⟨Nat.le_of_ble_eq_true rfl, Nat.le_of_ble_eq_true rfl⟩ (fun s10 H locs hk hH hS => ?_)
  refine lv_aload_n C.hx C.hb dX6_releases_40 rfl (lv_at hl 1 rfl) ?_
  refine lv_dup C.hx C.hb dX6_releases_41 rfl ?_
  refine mm_geti C hH 21 9 (by decide) rfl q1262 dX6_releases_42 ?_
  refine lv_iconst (v := 1) C.hx C.hb dX6_releases_45 (by decide) ?_
  refine lv_iadd C.hx C.hb dX6_releases_46 ?_
  refine mm_puti C hH hS 21 9 (by decide) rfl q1262 dX6_releases_47 rfl rfl (fun s11 es11 H locs hH hS => ?_)
  have hk := hk s11 es11
  refine lv_aload_n C.hx C.hb dX6_releases_50 rfl (lv_at hl 1 rfl) ?_
  refine lv_iload_n C.hx C.hb dX6_releases_51 rfl (lv_at hl 2 rfl) ?_
  refine lv_bipush (v := 8) C.hx C.hb dX6_releases_52 (by decide) ?_
  refine mm_calli (As := [.int p1, .int 8]) (rest := []) C (t_X6_at l hk) (cwV 2 C.hts (lw_V q1440 q1442 qs36 q65 q1443) rfl rfl rfl (by decide +kernel) ⟨Nat.le_of_ble_eq_true rfl, Nat.le_of_ble_eq_true rfl⟩) hH hS rfl hl.1 rfl (lv_room (Nat.le_of_ble_eq_true rfl)) dX6_releases_54 ⟨Nat.le_of_ble_eq_true rfl, Nat.le_of_ble_eq_true rfl⟩ (fun r12 s13 H locs hk hH hS => ?_)
  refine lv_if_ne (tgt := 67) C.hx C.hb dX6_releases_57 (by decide) (fun c14 => ?_) (fun c14 => ?_)
  · have hk := hk.1 c14
    exact mm_vret C hr hlk hH hS hk dX6_releases_67
  · have hk := hk.2 c14
    refine lv_aload_n C.hx C.hb dX6_releases_60 rfl (lv_at hl 1 rfl) ?_
    refine lv_iload_n C.hx C.hb dX6_releases_61 rfl (lv_at hl 2 rfl) ?_
    refine lv_iconst (v := 0) C.hx C.hb dX6_releases_62 (by decide) ?_
    refine lv_iconst (v := 0) C.hx C.hb dX6_releases_63 (by decide) ?_
    refine mm_callv (As := [.int p1, .int 0, .int 0]) (rest := []) C (t_X6_lay l hk) (cwV 3 C.hts (lw_V q1448 q1450 qs38 q65 q1451) rfl rfl rfl (by decide +kernel) ⟨Nat.le_of_ble_eq_true rfl, Nat.le_of_ble_eq_true rfl⟩) hH hS rfl hl.1 rfl (lv_room (Nat.le_of_ble_eq_true rfl)) dX6_releases_64 ⟨Nat.le_of_ble_eq_true rfl, Nat.le_of_ble_eq_true rfl⟩ (fun s16 H locs hk hH hS => ?_)
    exact mm_vret C hr hlk hH hS hk dX6_releases_67
/-! ToneGraphModel.end(I)I -/
def wp_X6_end_4 (post : Int32 → mm_S → Prop) (K : Int32 → Int32 → Int32 → mm_S → Prop) : Nat → Int32 → Int32 → Int32 → mm_S → Prop
  | 0, _, _, _, _ => False
  | n4 + 1, x1, x2, x3, s0 => ((4 ≤ x3 → K x1 x2 x3 s0) ∧ (¬ 4 ≤ x3 → wp_X6_isHeld (fun r2 s3 => ((r2 = 0 → (∀ v5, v5 = x3 + 1 → wp_X6_end_4 post K n4 x1 x2 v5 s3)) ∧ (¬ r2 = 0 → wp_X6_at (fun r6 s7 => ((¬ r6 = x1 → (∀ v9, v9 = x3 + 1 → wp_X6_end_4 post K n4 x1 x2 v9 s7)) ∧ (r6 = x1 → ((x2 < 0 → (∀ v11, v11 = x3 + 1 → wp_X6_end_4 post K n4 x1 x3 v11 s7)) ∧ (¬ x2 < 0 → wp_X6_at (fun r12 s13 => wp_X6_at (fun r14 s15 => ((r14 ≤ r12 → (∀ v17, v17 = x3 + 1 → wp_X6_end_4 post K n4 x1 x2 v17 s15)) ∧ (¬ r14 ≤ r12 → (∀ v18, v18 = x3 + 1 → wp_X6_end_4 post K n4 x1 x3 v18 s15)))) x2 13 s13) x3 13 s7))))) x3 2 s3))) x3 s0))
set_option maxHeartbeats 4000000 in
theorem tw_X6_end_4 {p : Program} {l : Launch} {e : Env} {s : State} {m : MethodId} {args : Array Value} {below : List Frame} {meth : Method} {c : Code} {base : Nat} {D : va_G} {ca : Nat → ClassId} {Ls : List gb_L} {ad : gb_L → Nat} {w : gb_L → va_E} {post : Int32 → mm_S → Prop} {K : Int32 → Int32 → Int32 → mm_S → Prop} (C : gb_C p m c cX6_end 4 s args RX6 base D ca) (hr : meth.sig.returnType = (some .int)) (hlk : meth.locks = false) (hK : ∀ (x1 : Int32) (x2 : Int32) (x3 : Int32) (σ' : mm_S) (H : Heap) (locs : List Loc) (ls : Array Slot), K x1 x2 x3 σ' → mm_ok base D ca Ls ad w σ' H → va_S (fun q => base ≤ q) s.heap H locs → lv_has ls 4 [(0, .ref (ad (20, 0))), (1, .int x1), (2, .int x2), (3, .int x3)] → W p l e ({ frames := 5, cells := 0, slots := 0, locals := 109 } : Room) s m args below meth c H locs 0 0 (MQ below (va_Qi post (fun σ' t => mm_ok base D ca Ls ad w σ' t.heap) (fun q => base ≤ q)) args s 0 0 (fun q => base ≤ q)) (F0 m 56 ls [])) :
    ∀ (n : Nat) (x1 : Int32) (x2 : Int32) (x3 : Int32) (s0 : mm_S) (H : Heap) (locs : List Loc) (ls : Array Slot), wp_X6_end_4 post K n x1 x2 x3 s0 → mm_ok base D ca Ls ad w s0 H → va_S (fun q => base ≤ q) s.heap H locs → lv_has ls 4 [(0, .ref (ad (20, 0))), (1, .int x1), (2, .int x2), (3, .int x3)] → W p l e ({ frames := 5, cells := 0, slots := 0, locals := 109 } : Room) s m args below meth c H locs 0 0 (MQ below (va_Qi post (fun σ' t => mm_ok base D ca Ls ad w σ' t.heap) (fun q => base ≤ q)) args s 0 0 (fun q => base ≤ q)) (F0 m 4 ls []) := by
  intro n
  induction n with
  | zero =>
    intro x1 x2 x3 s0 H locs ls hk
    exact hk.elim
  | succ n ih =>
    intro x1 x2 x3 s0 H locs ls hk hH hS hl
    rw [wp_X6_end_4] at hk
    refine lv_iload_n C.hx C.hb dX6_end_4 rfl (lv_at hl 3 rfl) ?_
    refine lv_iconst (v := 4) C.hx C.hb dX6_end_5 (by decide) ?_
    refine lv_icmp_ge (tgt := 56) C.hx C.hb dX6_end_6 (by decide) (fun c1 => ?_) (fun c1 => ?_)
    · have hk := hk.1 c1
      exact hK x1 x2 x3 s0 _ _ _ hk hH hS (lv_sub hl [0, 1, 2, 3] rfl)
    · have hk := hk.2 c1
      refine lv_aload_n C.hx C.hb dX6_end_9 rfl (lv_at hl 0 rfl) ?_
      refine lv_iload_n C.hx C.hb dX6_end_10 rfl (lv_at hl 3 rfl) ?_
      refine mm_calli (As := [.int x3]) (rest := []) C (t_X6_isHeld l hk) (cwV 1 C.hts (lw_V q1456 q1458 qs39 q65 q1459) rfl rfl rfl (by decide +kernel) ⟨Nat.le_of_ble_eq_true rfl, Nat.le_of_ble_eq_true rfl⟩) hH hS rfl hl.1 rfl (lv_room (Nat.le_of_ble_eq_true rfl)) dX6_end_11 ⟨Nat.le_of_ble_eq_true rfl, Nat.le_of_ble_eq_true rfl⟩ (fun r2 s3 H locs hk hH hS => ?_)
      refine lv_if_eq (tgt := 50) C.hx C.hb dX6_end_14 (by decide) (fun c4 => ?_) (fun c4 => ?_)
      · have hk := hk.1 c4
        obtain ⟨v5, ev5⟩ : ∃ y : Int32, y = x3 + 1 := ⟨_, rfl⟩
        have hk := hk v5 ev5
        refine lv_iinc (v := v5) (lv' := [(3, .int v5), (0, .ref (ad (20, 0))), (1, .int x1), (2, .int x2)]) C.hx C.hb dX6_end_50 hl (k := 3) rfl (by rw [ev5]; rfl) (by decide) rfl (fun ls hl => ?_)
        refine lv_goto (tgt := 4) C.hx C.hb dX6_end_53 (by decide) ?_
        exact ih x1 x2 v5 s3 _ _ _ hk hH hS (lv_sub hl [1, 2, 3, 0] rfl)
      · have hk := hk.2 c4
        refine lv_aload_n C.hx C.hb dX6_end_17 rfl (lv_at hl 0 rfl) ?_
        refine lv_iload_n C.hx C.hb dX6_end_18 rfl (lv_at hl 3 rfl) ?_
        refine lv_iconst (v := 2) C.hx C.hb dX6_end_19 (by decide) ?_
        refine mm_calli (As := [.int x3, .int 2]) (rest := []) C (t_X6_at l hk) (cwV 2 C.hts (lw_V q1440 q1442 qs36 q65 q1443) rfl rfl rfl (by decide +kernel) ⟨Nat.le_of_ble_eq_true rfl, Nat.le_of_ble_eq_true rfl⟩) hH hS rfl hl.1 rfl (lv_room (Nat.le_of_ble_eq_true rfl)) dX6_end_20 ⟨Nat.le_of_ble_eq_true rfl, Nat.le_of_ble_eq_true rfl⟩ (fun r6 s7 H locs hk hH hS => ?_)
        refine lv_iload_n C.hx C.hb dX6_end_23 rfl (lv_at hl 1 rfl) ?_
        refine lv_icmp_ne (tgt := 50) C.hx C.hb dX6_end_24 (by decide) (fun c8 => ?_) (fun c8 => ?_)
        · have hk := hk.1 c8
          obtain ⟨v9, ev9⟩ : ∃ y : Int32, y = x3 + 1 := ⟨_, rfl⟩
          have hk := hk v9 ev9
          refine lv_iinc (v := v9) (lv' := [(3, .int v9), (0, .ref (ad (20, 0))), (1, .int x1), (2, .int x2)]) C.hx C.hb dX6_end_50 hl (k := 3) rfl (by rw [ev9]; rfl) (by decide) rfl (fun ls hl => ?_)
          refine lv_goto (tgt := 4) C.hx C.hb dX6_end_53 (by decide) ?_
          exact ih x1 x2 v9 s7 _ _ _ hk hH hS (lv_sub hl [1, 2, 3, 0] rfl)
        · have hk := hk.2 c8
          refine lv_iload_n C.hx C.hb dX6_end_27 rfl (lv_at hl 2 rfl) ?_
          refine lv_if_lt (tgt := 48) C.hx C.hb dX6_end_28 (by decide) (fun c10 => ?_) (fun c10 => ?_)
          · have hk := hk.1 c10
            refine lv_iload_n C.hx C.hb dX6_end_48 rfl (lv_at hl 3 rfl) ?_
            refine lv_istore_n (lv' := [(2, .int x3), (0, .ref (ad (20, 0))), (1, .int x1), (3, .int x3)]) C.hx C.hb dX6_end_49 rfl hl (by decide) rfl (fun ls hl => ?_)
            obtain ⟨v11, ev11⟩ : ∃ y : Int32, y = x3 + 1 := ⟨_, rfl⟩
            have hk := hk v11 ev11
            refine lv_iinc (v := v11) (lv' := [(3, .int v11), (2, .int x3), (0, .ref (ad (20, 0))), (1, .int x1)]) C.hx C.hb dX6_end_50 hl (k := 3) rfl (by rw [ev11]; rfl) (by decide) rfl (fun ls hl => ?_)
            refine lv_goto (tgt := 4) C.hx C.hb dX6_end_53 (by decide) ?_
            exact ih x1 x3 v11 s7 _ _ _ hk hH hS (lv_sub hl [2, 3, 1, 0] rfl)
          · have hk := hk.2 c10
            refine lv_aload_n C.hx C.hb dX6_end_31 rfl (lv_at hl 0 rfl) ?_
            refine lv_iload_n C.hx C.hb dX6_end_32 rfl (lv_at hl 3 rfl) ?_
            refine lv_bipush (v := 13) C.hx C.hb dX6_end_33 (by decide) ?_
            refine mm_calli (As := [.int x3, .int 13]) (rest := []) C (t_X6_at l hk) (cwV 2 C.hts (lw_V q1440 q1442 qs36 q65 q1443) rfl rfl rfl (by decide +kernel) ⟨Nat.le_of_ble_eq_true rfl, Nat.le_of_ble_eq_true rfl⟩) hH hS rfl hl.1 rfl (lv_room (Nat.le_of_ble_eq_true rfl)) dX6_end_35 ⟨Nat.le_of_ble_eq_true rfl, Nat.le_of_ble_eq_true rfl⟩ (fun r12 s13 H locs hk hH hS => ?_)
            refine lv_aload_n C.hx C.hb dX6_end_38 rfl (lv_at hl 0 rfl) ?_
            refine lv_iload_n C.hx C.hb dX6_end_39 rfl (lv_at hl 2 rfl) ?_
            refine lv_bipush (v := 13) C.hx C.hb dX6_end_40 (by decide) ?_
            refine mm_calli (As := [.int x2, .int 13]) (rest := [.int r12]) C (t_X6_at l hk) (cwV 2 C.hts (lw_V q1440 q1442 qs36 q65 q1443) rfl rfl rfl (by decide +kernel) ⟨Nat.le_of_ble_eq_true rfl, Nat.le_of_ble_eq_true rfl⟩) hH hS rfl hl.1 rfl (lv_room (Nat.le_of_ble_eq_true rfl)) dX6_end_42 ⟨Nat.le_of_ble_eq_true rfl, Nat.le_of_ble_eq_true rfl⟩ (fun r14 s15 H locs hk hH hS => ?_)
            refine lv_icmp_ge (tgt := 50) C.hx C.hb dX6_end_45 (by decide) (fun c16 => ?_) (fun c16 => ?_)
            · have hk := hk.1 c16
              obtain ⟨v17, ev17⟩ : ∃ y : Int32, y = x3 + 1 := ⟨_, rfl⟩
              have hk := hk v17 ev17
              refine lv_iinc (v := v17) (lv' := [(3, .int v17), (0, .ref (ad (20, 0))), (1, .int x1), (2, .int x2)]) C.hx C.hb dX6_end_50 hl (k := 3) rfl (by rw [ev17]; rfl) (by decide) rfl (fun ls hl => ?_)
              refine lv_goto (tgt := 4) C.hx C.hb dX6_end_53 (by decide) ?_
              exact ih x1 x2 v17 s15 _ _ _ hk hH hS (lv_sub hl [1, 2, 3, 0] rfl)
            · have hk := hk.2 c16
              refine lv_iload_n C.hx C.hb dX6_end_48 rfl (lv_at hl 3 rfl) ?_
              refine lv_istore_n (lv' := [(2, .int x3), (0, .ref (ad (20, 0))), (1, .int x1), (3, .int x3)]) C.hx C.hb dX6_end_49 rfl hl (by decide) rfl (fun ls hl => ?_)
              obtain ⟨v18, ev18⟩ : ∃ y : Int32, y = x3 + 1 := ⟨_, rfl⟩
              have hk := hk v18 ev18
              refine lv_iinc (v := v18) (lv' := [(3, .int v18), (2, .int x3), (0, .ref (ad (20, 0))), (1, .int x1)]) C.hx C.hb dX6_end_50 hl (k := 3) rfl (by rw [ev18]; rfl) (by decide) rfl (fun ls hl => ?_)
              refine lv_goto (tgt := 4) C.hx C.hb dX6_end_53 (by decide) ?_
              exact ih x1 x3 v18 s15 _ _ _ hk hH hS (lv_sub hl [2, 3, 1, 0] rfl)
def wp_X6_end (post : Int32 → mm_S → Prop) (p1 : Int32) (s0 : mm_S) : Prop := (∃ n4, wp_X6_end_4 post (fun y19 y20 y21 s22 => wp_X6_in (fun r23 => ((¬ r23 = 0 → ((0 ≤ y20 → (∀ s26 : mm_S, s26 = ms_f s22 0 0 → (((s26.1 0) ≤ 0 → wp_X6_releases (fun s29 => post y20 s29) y20 s26) ∧ (¬ (s26.1 0) ≤ 0 → post 0 s26)))) ∧ (¬ 0 ≤ y20 → (∀ s30 : mm_S, s30 = ms_f s22 0 2 → (((s30.1 0) ≤ 0 → wp_X6_releases (fun s33 => post y20 s33) y20 s30) ∧ (¬ (s30.1 0) ≤ 0 → post 0 s30)))))) ∧ (r23 = 0 → (∀ s34 : mm_S, s34 = ms_f s22 0 1 → (((s34.1 0) ≤ 0 → wp_X6_releases (fun s37 => post y20 s37) y20 s34) ∧ (¬ (s34.1 0) ≤ 0 → post 0 s34)))))) y19 0 59) n4 p1 (-1) 0 s0)
set_option maxHeartbeats 4000000 in
theorem t_X6_end (l : Launch) {base : Nat} {D : va_G} {ca : Nat → ClassId} {Ls : List gb_L} {ad : gb_L → Nat} {w : gb_L → va_E} {post : Int32 → mm_S → Prop} {p1 : Int32} {s0 : mm_S} (hk : wp_X6_end post p1 s0) : mm_Mi l yX6_end (ws_ yX6_end cX6_end 4 (some .int)) ({ frames := 5, cells := 0, slots := 0, locals := 109 } : Room) base D ca Ls ad w [.int p1] s0 post := by
  refine mm_start cX6_end 4 (some .int) _ (by decide) rfl rfl (Nat.le_of_ble_eq_true rfl) ?_
  intro p e s m args below meth c ls C hr hlk hH hS hl
  have hl : lv_has ls 4 [(0, .ref (ad (20, 0))), (1, .int p1)] := hl
  unfold wp_X6_end at hk
  refine lv_iconst (v := (-1)) C.hx C.hb dX6_end_0 (by decide) ?_
  refine lv_istore_n (lv' := [(2, .int (-1)), (0, .ref (ad (20, 0))), (1, .int p1)]) C.hx C.hb dX6_end_1 rfl hl (by decide) rfl (fun ls hl => ?_)
  refine lv_iconst (v := 0) C.hx C.hb dX6_end_2 (by decide) ?_
  refine lv_istore_n (lv' := [(3, .int 0), (2, .int (-1)), (0, .ref (ad (20, 0))), (1, .int p1)]) C.hx C.hb dX6_end_3 rfl hl (by decide) rfl (fun ls hl => ?_)
  obtain ⟨n4, hk⟩ := hk
  refine tw_X6_end_4 C hr hlk (fun y19 y20 y21 s22 H locs ls hk hH hS hl => ?_) n4 p1 (-1) 0 s0 _ _ _ hk hH hS (lv_sub hl [2, 3, 1, 0] rfl)
  refine lv_aload_n C.hx C.hb dX6_end_56 rfl (lv_at hl 0 rfl) ?_
  refine lv_iload_n C.hx C.hb dX6_end_57 rfl (lv_at hl 1 rfl) ?_
  refine lv_iconst (v := 0) C.hx C.hb dX6_end_58 (by decide) ?_
  refine lv_bipush (v := 59) C.hx C.hb dX6_end_59 (by decide) ?_
  refine gb_call (As := [.int y19, .int 0, .int 59]) (rest := [.ref (ad (20, 0))]) C.1 (t_X6_in l hk) (va_cwS 3 C.hts (lw_S q1329 q1330 q65 q1331) rfl rfl rfl (by decide +kernel) ⟨Nat.le_of_ble_eq_true rfl, Nat.le_of_ble_eq_true rfl⟩) rfl hl.1 rfl (lv_room (Nat.le_of_ble_eq_true rfl)) dX6_end_61 ⟨Nat.le_of_ble_eq_true rfl, Nat.le_of_ble_eq_true rfl⟩ (fun r23 hk => ?_)
  refine lv_if_ne (tgt := 71) C.hx C.hb dX6_end_64 (by decide) (fun c24 => ?_) (fun c24 => ?_)
  · have hk := hk.1 c24
    refine lv_iload_n C.hx C.hb dX6_end_71 rfl (lv_at hl 2 rfl) ?_
    refine lv_if_ge (tgt := 79) C.hx C.hb dX6_end_72 (by decide) (fun c25 => ?_) (fun c25 => ?_)
    · have hk := hk.1 c25
      refine lv_iconst (v := 0) C.hx C.hb dX6_end_79 (by decide) ?_
      refine mm_puti C hH hS 12 0 (by decide) rfl q1253 dX6_end_80 rfl rfl (fun s26 es26 H locs hH hS => ?_)
      have hk := hk s26 es26
      refine lv_aload_n C.hx C.hb dX6_end_83 rfl (lv_at hl 0 rfl) ?_
      refine mm_geti C hH 12 0 (by decide) rfl q1253 dX6_end_84 ?_
      refine lv_if_le (tgt := 92) C.hx C.hb dX6_end_87 (by decide) (fun c27 => ?_) (fun c27 => ?_)
      · have hk := hk.1 c27
        refine lv_aload_n C.hx C.hb dX6_end_92 rfl (lv_at hl 0 rfl) ?_
        refine lv_iload_n C.hx C.hb dX6_end_93 rfl (lv_at hl 2 rfl) ?_
        refine mm_callv (As := [.int y20]) (rest := []) C (t_X6_releases l hk) (cwV 1 C.hts (lw_V q1460 q1462 qs40 q65 q1463) rfl rfl rfl (by decide +kernel) ⟨Nat.le_of_ble_eq_true rfl, Nat.le_of_ble_eq_true rfl⟩) hH hS rfl hl.1 rfl (lv_room (Nat.le_of_ble_eq_true rfl)) dX6_end_94 ⟨Nat.le_of_ble_eq_true rfl, Nat.le_of_ble_eq_true rfl⟩ (fun s29 H locs hk hH hS => ?_)
        refine lv_iload_n C.hx C.hb dX6_end_97 rfl (lv_at hl 2 rfl) ?_
        exact mm_iret C hr hlk hH hS hk dX6_end_98
      · have hk := hk.2 c27
        refine lv_iconst (v := 0) C.hx C.hb dX6_end_90 (by decide) ?_
        exact mm_iret C hr hlk hH hS hk dX6_end_91
    · have hk := hk.2 c25
      refine lv_iconst (v := 2) C.hx C.hb dX6_end_75 (by decide) ?_
      refine lv_goto (tgt := 80) C.hx C.hb dX6_end_76 (by decide) ?_
      refine mm_puti C hH hS 12 0 (by decide) rfl q1253 dX6_end_80 rfl rfl (fun s30 es30 H locs hH hS => ?_)
      have hk := hk s30 es30
      refine lv_aload_n C.hx C.hb dX6_end_83 rfl (lv_at hl 0 rfl) ?_
      refine mm_geti C hH 12 0 (by decide) rfl q1253 dX6_end_84 ?_
      refine lv_if_le (tgt := 92) C.hx C.hb dX6_end_87 (by decide) (fun c31 => ?_) (fun c31 => ?_)
      · have hk := hk.1 c31
        refine lv_aload_n C.hx C.hb dX6_end_92 rfl (lv_at hl 0 rfl) ?_
        refine lv_iload_n C.hx C.hb dX6_end_93 rfl (lv_at hl 2 rfl) ?_
        refine mm_callv (As := [.int y20]) (rest := []) C (t_X6_releases l hk) (cwV 1 C.hts (lw_V q1460 q1462 qs40 q65 q1463) rfl rfl rfl (by decide +kernel) ⟨Nat.le_of_ble_eq_true rfl, Nat.le_of_ble_eq_true rfl⟩) hH hS rfl hl.1 rfl (lv_room (Nat.le_of_ble_eq_true rfl)) dX6_end_94 ⟨Nat.le_of_ble_eq_true rfl, Nat.le_of_ble_eq_true rfl⟩ (fun s33 H locs hk hH hS => ?_)
        refine lv_iload_n C.hx C.hb dX6_end_97 rfl (lv_at hl 2 rfl) ?_
        exact mm_iret C hr hlk hH hS hk dX6_end_98
      · have hk := hk.2 c31
        refine lv_iconst (v := 0) C.hx C.hb dX6_end_90 (by decide) ?_
        exact mm_iret C hr hlk hH hS hk dX6_end_91
  · have hk := hk.2 c24
    refine lv_iconst (v := 1) C.hx C.hb dX6_end_67 (by decide) ?_
    refine lv_goto (tgt := 80) C.hx C.hb dX6_end_68 (by decide) ?_
    refine mm_puti C hH hS 12 0 (by decide) rfl q1253 dX6_end_80 rfl rfl (fun s34 es34 H locs hH hS => ?_)
    have hk := hk s34 es34
    refine lv_aload_n C.hx C.hb dX6_end_83 rfl (lv_at hl 0 rfl) ?_
    refine mm_geti C hH 12 0 (by decide) rfl q1253 dX6_end_84 ?_
    refine lv_if_le (tgt := 92) C.hx C.hb dX6_end_87 (by decide) (fun c35 => ?_) (fun c35 => ?_)
    · have hk := hk.1 c35
      refine lv_aload_n C.hx C.hb dX6_end_92 rfl (lv_at hl 0 rfl) ?_
      refine lv_iload_n C.hx C.hb dX6_end_93 rfl (lv_at hl 2 rfl) ?_
      refine mm_callv (As := [.int y20]) (rest := []) C (t_X6_releases l hk) (cwV 1 C.hts (lw_V q1460 q1462 qs40 q65 q1463) rfl rfl rfl (by decide +kernel) ⟨Nat.le_of_ble_eq_true rfl, Nat.le_of_ble_eq_true rfl⟩) hH hS rfl hl.1 rfl (lv_room (Nat.le_of_ble_eq_true rfl)) dX6_end_94 ⟨Nat.le_of_ble_eq_true rfl, Nat.le_of_ble_eq_true rfl⟩ (fun s37 H locs hk hH hS => ?_)
      refine lv_iload_n C.hx C.hb dX6_end_97 rfl (lv_at hl 2 rfl) ?_
      exact mm_iret C hr hlk hH hS hk dX6_end_98
    · have hk := hk.2 c35
      refine lv_iconst (v := 0) C.hx C.hb dX6_end_90 (by decide) ?_
      exact mm_iret C hr hlk hH hS hk dX6_end_91
/-! ToneGraphModel.endAll()I -/
def wp_X6_endAll_4 (post : Int32 → mm_S → Prop) (K : Int32 → Int32 → mm_S → Prop) : Nat → Int32 → Int32 → mm_S → Prop
  | 0, _, _, _ => False
  | n4 + 1, x1, x2, s0 => ((4 ≤ x2 → K x1 x2 s0) ∧ (¬ 4 ≤ x2 → wp_X6_isHeld (fun r2 s3 => ((¬ r2 = 0 → wp_X6_releases (fun s6 => (∀ v7, v7 = x1 + 1 → (∀ v8, v8 = x2 + 1 → wp_X6_endAll_4 post K n4 v7 v8 s6))) x2 s3) ∧ (r2 = 0 → (∀ v9, v9 = x2 + 1 → wp_X6_endAll_4 post K n4 x1 v9 s3)))) x2 s0))
set_option maxHeartbeats 4000000 in
theorem tw_X6_endAll_4 {p : Program} {l : Launch} {e : Env} {s : State} {m : MethodId} {args : Array Value} {below : List Frame} {meth : Method} {c : Code} {base : Nat} {D : va_G} {ca : Nat → ClassId} {Ls : List gb_L} {ad : gb_L → Nat} {w : gb_L → va_E} {post : Int32 → mm_S → Prop} {K : Int32 → Int32 → mm_S → Prop} (C : gb_C p m c cX6_endAll 3 s args RX6 base D ca) (hr : meth.sig.returnType = (some .int)) (hlk : meth.locks = false) (hK : ∀ (x1 : Int32) (x2 : Int32) (σ' : mm_S) (H : Heap) (locs : List Loc) (ls : Array Slot), K x1 x2 σ' → mm_ok base D ca Ls ad w σ' H → va_S (fun q => base ≤ q) s.heap H locs → lv_has ls 3 [(0, .ref (ad (20, 0))), (1, .int x1), (2, .int x2)] → W p l e ({ frames := 5, cells := 0, slots := 0, locals := 109 } : Room) s m args below meth c H locs 0 0 (MQ below (va_Qi post (fun σ' t => mm_ok base D ca Ls ad w σ' t.heap) (fun q => base ≤ q)) args s 0 0 (fun q => base ≤ q)) (F0 m 34 ls [])) :
    ∀ (n : Nat) (x1 : Int32) (x2 : Int32) (s0 : mm_S) (H : Heap) (locs : List Loc) (ls : Array Slot), wp_X6_endAll_4 post K n x1 x2 s0 → mm_ok base D ca Ls ad w s0 H → va_S (fun q => base ≤ q) s.heap H locs → lv_has ls 3 [(0, .ref (ad (20, 0))), (1, .int x1), (2, .int x2)] → W p l e ({ frames := 5, cells := 0, slots := 0, locals := 109 } : Room) s m args below meth c H locs 0 0 (MQ below (va_Qi post (fun σ' t => mm_ok base D ca Ls ad w σ' t.heap) (fun q => base ≤ q)) args s 0 0 (fun q => base ≤ q)) (F0 m 4 ls []) := by
  intro n
  induction n with
  | zero =>
    intro x1 x2 s0 H locs ls hk
    exact hk.elim
  | succ n ih =>
    intro x1 x2 s0 H locs ls hk hH hS hl
    rw [wp_X6_endAll_4] at hk
    refine lv_iload_n C.hx C.hb dX6_endAll_4 rfl (lv_at hl 2 rfl) ?_
    refine lv_iconst (v := 4) C.hx C.hb dX6_endAll_5 (by decide) ?_
    refine lv_icmp_ge (tgt := 34) C.hx C.hb dX6_endAll_6 (by decide) (fun c1 => ?_) (fun c1 => ?_)
    · have hk := hk.1 c1
      exact hK x1 x2 s0 _ _ _ hk hH hS (lv_sub hl [0, 1, 2] rfl)
    · have hk := hk.2 c1
      refine lv_aload_n C.hx C.hb dX6_endAll_9 rfl (lv_at hl 0 rfl) ?_
      refine lv_iload_n C.hx C.hb dX6_endAll_10 rfl (lv_at hl 2 rfl) ?_
      refine mm_calli (As := [.int x2]) (rest := []) C (t_X6_isHeld l hk) (cwV 1 C.hts (lw_V q1456 q1458 qs39 q65 q1459) rfl rfl rfl (by decide +kernel) ⟨Nat.le_of_ble_eq_true rfl, Nat.le_of_ble_eq_true rfl⟩) hH hS rfl hl.1 rfl (lv_room (Nat.le_of_ble_eq_true rfl)) dX6_endAll_11 ⟨Nat.le_of_ble_eq_true rfl, Nat.le_of_ble_eq_true rfl⟩ (fun r2 s3 H locs hk hH hS => ?_)
      refine lv_if_ne (tgt := 20) C.hx C.hb dX6_endAll_14 (by decide) (fun c4 => ?_) (fun c4 => ?_)
      · have hk := hk.1 c4
        refine lv_aload_n C.hx C.hb dX6_endAll_20 rfl (lv_at hl 0 rfl) ?_
        refine lv_iload_n C.hx C.hb dX6_endAll_21 rfl (lv_at hl 2 rfl) ?_
        refine mm_callv (As := [.int x2]) (rest := []) C (t_X6_releases l hk) (cwV 1 C.hts (lw_V q1460 q1462 qs40 q65 q1463) rfl rfl rfl (by decide +kernel) ⟨Nat.le_of_ble_eq_true rfl, Nat.le_of_ble_eq_true rfl⟩) hH hS rfl hl.1 rfl (lv_room (Nat.le_of_ble_eq_true rfl)) dX6_endAll_22 ⟨Nat.le_of_ble_eq_true rfl, Nat.le_of_ble_eq_true rfl⟩ (fun s6 H locs hk hH hS => ?_)
        obtain ⟨v7, ev7⟩ : ∃ y : Int32, y = x1 + 1 := ⟨_, rfl⟩
        have hk := hk v7 ev7
        refine lv_iinc (v := v7) (lv' := [(1, .int v7), (0, .ref (ad (20, 0))), (2, .int x2)]) C.hx C.hb dX6_endAll_25 hl (k := 1) rfl (by rw [ev7]; rfl) (by decide) rfl (fun ls hl => ?_)
        obtain ⟨v8, ev8⟩ : ∃ y : Int32, y = x2 + 1 := ⟨_, rfl⟩
        have hk := hk v8 ev8
        refine lv_iinc (v := v8) (lv' := [(2, .int v8), (1, .int v7), (0, .ref (ad (20, 0)))]) C.hx C.hb dX6_endAll_28 hl (k := 2) rfl (by rw [ev8]; rfl) (by decide) rfl (fun ls hl => ?_)
        refine lv_goto (tgt := 4) C.hx C.hb dX6_endAll_31 (by decide) ?_
        exact ih v7 v8 s6 _ _ _ hk hH hS (lv_sub hl [2, 1, 0] rfl)
      · have hk := hk.2 c4
        refine lv_goto (tgt := 28) C.hx C.hb dX6_endAll_17 (by decide) ?_
        obtain ⟨v9, ev9⟩ : ∃ y : Int32, y = x2 + 1 := ⟨_, rfl⟩
        have hk := hk v9 ev9
        refine lv_iinc (v := v9) (lv' := [(2, .int v9), (0, .ref (ad (20, 0))), (1, .int x1)]) C.hx C.hb dX6_endAll_28 hl (k := 2) rfl (by rw [ev9]; rfl) (by decide) rfl (fun ls hl => ?_)
        refine lv_goto (tgt := 4) C.hx C.hb dX6_endAll_31 (by decide) ?_
        exact ih x1 v9 s3 _ _ _ hk hH hS (lv_sub hl [1, 2, 0] rfl)
def wp_X6_endAll (post : Int32 → mm_S → Prop) (s0 : mm_S) : Prop := (∃ n4, wp_X6_endAll_4 post (fun y10 y11 s12 => wp_X6_plain (fun r13 s14 => post r13 s14) y10 s12) n4 0 0 s0)
set_option maxHeartbeats 4000000 in
theorem t_X6_endAll (l : Launch) {base : Nat} {D : va_G} {ca : Nat → ClassId} {Ls : List gb_L} {ad : gb_L → Nat} {w : gb_L → va_E} {post : Int32 → mm_S → Prop} {s0 : mm_S} (hk : wp_X6_endAll post s0) : mm_Mi l yX6_endAll (ws_ yX6_endAll cX6_endAll 3 (some .int)) ({ frames := 5, cells := 0, slots := 0, locals := 109 } : Room) base D ca Ls ad w [] s0 post := by
  refine mm_start cX6_endAll 3 (some .int) _ (by decide) rfl rfl (Nat.le_of_ble_eq_true rfl) ?_
  intro p e s m args below meth c ls C hr hlk hH hS hl
  have hl : lv_has ls 3 [(0, .ref (ad (20, 0)))] := hl
  unfold wp_X6_endAll at hk
  refine lv_iconst (v := 0) C.hx C.hb dX6_endAll_0 (by decide) ?_
  refine lv_istore_n (lv' := [(1, .int 0), (0, .ref (ad (20, 0)))]) C.hx C.hb dX6_endAll_1 rfl hl (by decide) rfl (fun ls hl => ?_)
  refine lv_iconst (v := 0) C.hx C.hb dX6_endAll_2 (by decide) ?_
  refine lv_istore_n (lv' := [(2, .int 0), (1, .int 0), (0, .ref (ad (20, 0)))]) C.hx C.hb dX6_endAll_3 rfl hl (by decide) rfl (fun ls hl => ?_)
  obtain ⟨n4, hk⟩ := hk
  refine tw_X6_endAll_4 C hr hlk (fun y10 y11 s12 H locs ls hk hH hS hl => ?_) n4 0 0 s0 _ _ _ hk hH hS (lv_sub hl [2, 1, 0] rfl)
  refine lv_aload_n C.hx C.hb dX6_endAll_34 rfl (lv_at hl 0 rfl) ?_
  refine lv_iload_n C.hx C.hb dX6_endAll_35 rfl (lv_at hl 1 rfl) ?_
  refine mm_calli (As := [.int y10]) (rest := []) C (t_X6_plain l hk) (cwV 1 C.hts (lw_V q1388 q1390 qs32 q65 q1391) rfl rfl rfl (by decide +kernel) ⟨Nat.le_of_ble_eq_true rfl, Nat.le_of_ble_eq_true rfl⟩) hH hS rfl hl.1 rfl (lv_room (Nat.le_of_ble_eq_true rfl)) dX6_endAll_36 ⟨Nat.le_of_ble_eq_true rfl, Nat.le_of_ble_eq_true rfl⟩ (fun r13 s14 H locs hk hH hS => ?_)
  exact mm_iret C hr hlk hH hS hk dX6_endAll_39
/-! ToneGraphModel.sounding()I -/
def wp_X6_sounding_4 (post : Int32 → mm_S → Prop) (K : Int32 → Int32 → mm_S → Prop) : Nat → Int32 → Int32 → mm_S → Prop
  | 0, _, _, _ => False
  | n4 + 1, x1, x2, s0 => ((4 ≤ x2 → K x1 x2 s0) ∧ (¬ 4 ≤ x2 → wp_X6_plays (fun r2 s3 => ((r2 = 0 → (∀ v5, v5 = (x1 + 0) → (∀ v6, v6 = x2 + 1 → wp_X6_sounding_4 post K n4 v5 v6 s3))) ∧ (¬ r2 = 0 → (∀ v7, v7 = (x1 + 1) → (∀ v8, v8 = x2 + 1 → wp_X6_sounding_4 post K n4 v7 v8 s3))))) x2 s0))
set_option maxHeartbeats 4000000 in
theorem tw_X6_sounding_4 {p : Program} {l : Launch} {e : Env} {s : State} {m : MethodId} {args : Array Value} {below : List Frame} {meth : Method} {c : Code} {base : Nat} {D : va_G} {ca : Nat → ClassId} {Ls : List gb_L} {ad : gb_L → Nat} {w : gb_L → va_E} {post : Int32 → mm_S → Prop} {K : Int32 → Int32 → mm_S → Prop} (C : gb_C p m c cX6_sounding 3 s args RX6 base D ca) (hr : meth.sig.returnType = (some .int)) (hlk : meth.locks = false) (hK : ∀ (x1 : Int32) (x2 : Int32) (σ' : mm_S) (H : Heap) (locs : List Loc) (ls : Array Slot), K x1 x2 σ' → mm_ok base D ca Ls ad w σ' H → va_S (fun q => base ≤ q) s.heap H locs → lv_has ls 3 [(0, .ref (ad (20, 0))), (1, .int x1), (2, .int x2)] → W p l e ({ frames := 2, cells := 0, slots := 0, locals := 43 } : Room) s m args below meth c H locs 0 0 (MQ below (va_Qi post (fun σ' t => mm_ok base D ca Ls ad w σ' t.heap) (fun q => base ≤ q)) args s 0 0 (fun q => base ≤ q)) (F0 m 31 ls [])) :
    ∀ (n : Nat) (x1 : Int32) (x2 : Int32) (s0 : mm_S) (H : Heap) (locs : List Loc) (ls : Array Slot), wp_X6_sounding_4 post K n x1 x2 s0 → mm_ok base D ca Ls ad w s0 H → va_S (fun q => base ≤ q) s.heap H locs → lv_has ls 3 [(0, .ref (ad (20, 0))), (1, .int x1), (2, .int x2)] → W p l e ({ frames := 2, cells := 0, slots := 0, locals := 43 } : Room) s m args below meth c H locs 0 0 (MQ below (va_Qi post (fun σ' t => mm_ok base D ca Ls ad w σ' t.heap) (fun q => base ≤ q)) args s 0 0 (fun q => base ≤ q)) (F0 m 4 ls []) := by
  intro n
  induction n with
  | zero =>
    intro x1 x2 s0 H locs ls hk
    exact hk.elim
  | succ n ih =>
    intro x1 x2 s0 H locs ls hk hH hS hl
    rw [wp_X6_sounding_4] at hk
    refine lv_iload_n C.hx C.hb dX6_sounding_4 rfl (lv_at hl 2 rfl) ?_
    refine lv_iconst (v := 4) C.hx C.hb dX6_sounding_5 (by decide) ?_
    refine lv_icmp_ge (tgt := 31) C.hx C.hb dX6_sounding_6 (by decide) (fun c1 => ?_) (fun c1 => ?_)
    · have hk := hk.1 c1
      exact hK x1 x2 s0 _ _ _ hk hH hS (lv_sub hl [0, 1, 2] rfl)
    · have hk := hk.2 c1
      refine lv_iload_n C.hx C.hb dX6_sounding_9 rfl (lv_at hl 1 rfl) ?_
      refine lv_aload_n C.hx C.hb dX6_sounding_10 rfl (lv_at hl 0 rfl) ?_
      refine lv_iload_n C.hx C.hb dX6_sounding_11 rfl (lv_at hl 2 rfl) ?_
      refine mm_calli (As := [.int x2]) (rest := [.int x1]) C (t_X6_plays l hk) (cwV 1 C.hts (lw_V q1436 q1438 qs35 q65 q1439) rfl rfl rfl (by decide +kernel) ⟨Nat.le_of_ble_eq_true rfl, Nat.le_of_ble_eq_true rfl⟩) hH hS rfl hl.1 rfl (lv_room (Nat.le_of_ble_eq_true rfl)) dX6_sounding_12 ⟨Nat.le_of_ble_eq_true rfl, Nat.le_of_ble_eq_true rfl⟩ (fun r2 s3 H locs hk hH hS => ?_)
      refine lv_if_eq (tgt := 22) C.hx C.hb dX6_sounding_15 (by decide) (fun c4 => ?_) (fun c4 => ?_)
      · have hk := hk.1 c4
        refine lv_iconst (v := 0) C.hx C.hb dX6_sounding_22 (by decide) ?_
        refine lv_iadd C.hx C.hb dX6_sounding_23 ?_
        refine lv_topi (fun v5 ev5 => ?_)
        have hk := hk v5 ev5
        refine lv_istore_n (lv' := [(1, .int v5), (0, .ref (ad (20, 0))), (2, .int x2)]) C.hx C.hb dX6_sounding_24 rfl hl (by decide) rfl (fun ls hl => ?_)
        obtain ⟨v6, ev6⟩ : ∃ y : Int32, y = x2 + 1 := ⟨_, rfl⟩
        have hk := hk v6 ev6
        refine lv_iinc (v := v6) (lv' := [(2, .int v6), (1, .int v5), (0, .ref (ad (20, 0)))]) C.hx C.hb dX6_sounding_25 hl (k := 2) rfl (by rw [ev6]; rfl) (by decide) rfl (fun ls hl => ?_)
        refine lv_goto (tgt := 4) C.hx C.hb dX6_sounding_28 (by decide) ?_
        exact ih v5 v6 s3 _ _ _ hk hH hS (lv_sub hl [2, 1, 0] rfl)
      · have hk := hk.2 c4
        refine lv_iconst (v := 1) C.hx C.hb dX6_sounding_18 (by decide) ?_
        refine lv_goto (tgt := 23) C.hx C.hb dX6_sounding_19 (by decide) ?_
        refine lv_iadd C.hx C.hb dX6_sounding_23 ?_
        refine lv_topi (fun v7 ev7 => ?_)
        have hk := hk v7 ev7
        refine lv_istore_n (lv' := [(1, .int v7), (0, .ref (ad (20, 0))), (2, .int x2)]) C.hx C.hb dX6_sounding_24 rfl hl (by decide) rfl (fun ls hl => ?_)
        obtain ⟨v8, ev8⟩ : ∃ y : Int32, y = x2 + 1 := ⟨_, rfl⟩
        have hk := hk v8 ev8
        refine lv_iinc (v := v8) (lv' := [(2, .int v8), (1, .int v7), (0, .ref (ad (20, 0)))]) C.hx C.hb dX6_sounding_25 hl (k := 2) rfl (by rw [ev8]; rfl) (by decide) rfl (fun ls hl => ?_)
        refine lv_goto (tgt := 4) C.hx C.hb dX6_sounding_28 (by decide) ?_
        exact ih v7 v8 s3 _ _ _ hk hH hS (lv_sub hl [2, 1, 0] rfl)
def wp_X6_sounding (post : Int32 → mm_S → Prop) (s0 : mm_S) : Prop := (∃ n4, wp_X6_sounding_4 post (fun y9 y10 s11 => wp_X6_plain (fun r12 s13 => post r12 s13) y9 s11) n4 0 0 s0)
set_option maxHeartbeats 4000000 in
theorem t_X6_sounding (l : Launch) {base : Nat} {D : va_G} {ca : Nat → ClassId} {Ls : List gb_L} {ad : gb_L → Nat} {w : gb_L → va_E} {post : Int32 → mm_S → Prop} {s0 : mm_S} (hk : wp_X6_sounding post s0) : mm_Mi l yX6_sounding (ws_ yX6_sounding cX6_sounding 3 (some .int)) ({ frames := 2, cells := 0, slots := 0, locals := 43 } : Room) base D ca Ls ad w [] s0 post := by
  refine mm_start cX6_sounding 3 (some .int) _ (by decide) rfl rfl (Nat.le_of_ble_eq_true rfl) ?_
  intro p e s m args below meth c ls C hr hlk hH hS hl
  have hl : lv_has ls 3 [(0, .ref (ad (20, 0)))] := hl
  unfold wp_X6_sounding at hk
  refine lv_iconst (v := 0) C.hx C.hb dX6_sounding_0 (by decide) ?_
  refine lv_istore_n (lv' := [(1, .int 0), (0, .ref (ad (20, 0)))]) C.hx C.hb dX6_sounding_1 rfl hl (by decide) rfl (fun ls hl => ?_)
  refine lv_iconst (v := 0) C.hx C.hb dX6_sounding_2 (by decide) ?_
  refine lv_istore_n (lv' := [(2, .int 0), (1, .int 0), (0, .ref (ad (20, 0)))]) C.hx C.hb dX6_sounding_3 rfl hl (by decide) rfl (fun ls hl => ?_)
  obtain ⟨n4, hk⟩ := hk
  refine tw_X6_sounding_4 C hr hlk (fun y9 y10 s11 H locs ls hk hH hS hl => ?_) n4 0 0 s0 _ _ _ hk hH hS (lv_sub hl [2, 1, 0] rfl)
  refine lv_aload_n C.hx C.hb dX6_sounding_31 rfl (lv_at hl 0 rfl) ?_
  refine lv_iload_n C.hx C.hb dX6_sounding_32 rfl (lv_at hl 1 rfl) ?_
  refine mm_calli (As := [.int y9]) (rest := []) C (t_X6_plain l hk) (cwV 1 C.hts (lw_V q1388 q1390 qs32 q65 q1391) rfl rfl rfl (by decide +kernel) ⟨Nat.le_of_ble_eq_true rfl, Nat.le_of_ble_eq_true rfl⟩) hH hS rfl hl.1 rfl (lv_room (Nat.le_of_ble_eq_true rfl)) dX6_sounding_33 ⟨Nat.le_of_ble_eq_true rfl, Nat.le_of_ble_eq_true rfl⟩ (fun r12 s13 H locs hk hH hS => ?_)
  exact mm_iret C hr hlk hH hS hk dX6_sounding_36
/-! ToneGraphModel.isVoice(I)Z -/
def wp_X6_isVoice (post : Int32 → Prop) (p1 : Int32) : Prop := wp_X6_in (fun r1 => (narrow .boolean (.int r1) = .int r1 ∧ post r1)) p1 0 3
set_option maxHeartbeats 4000000 in
theorem t_X6_isVoice (l : Launch) {post : Int32 → Prop} {p1 : Int32} (hk : wp_X6_isVoice post p1) : gb_Ps l yX6_isVoice (ws_ yX6_isVoice cX6_isVoice 1 (some .boolean)) ({ frames := 1, cells := 0, slots := 0, locals := 22 } : Room) [.int p1] post := by
  refine gb_start cX6_isVoice 1 (some .boolean) (by decide) rfl (Nat.le_of_ble_eq_true rfl) ?_
  intro p e s m args below meth c ls C hr hlk hl
  have hl : lv_has ls 1 [(0, .int p1)] := hl
  unfold wp_X6_isVoice at hk
  refine lv_iload_n C.1 C.2.1 dX6_isVoice_0 rfl (lv_at hl 0 rfl) ?_
  refine lv_iconst (v := 0) C.1 C.2.1 dX6_isVoice_1 (by decide) ?_
  refine lv_iconst (v := 3) C.1 C.2.1 dX6_isVoice_2 (by decide) ?_
  refine gb_call (As := [.int p1, .int 0, .int 3]) (rest := []) C (t_X6_in l hk) (va_cwS 3 C.2.2.2.2 (lw_S q1329 q1330 q65 q1331) rfl rfl rfl (by decide +kernel) ⟨Nat.le_of_ble_eq_true rfl, Nat.le_of_ble_eq_true rfl⟩) rfl hl.1 rfl (lv_room (Nat.le_of_ble_eq_true rfl)) dX6_isVoice_3 ⟨Nat.le_of_ble_eq_true rfl, Nat.le_of_ble_eq_true rfl⟩ (fun r1 hk => ?_)
  obtain ⟨h2, hk⟩ := hk
  exact gb_zret (ty := .boolean) C hr hlk h2 hk dX6_isVoice_6
/-! ToneGraphModel.stateOf(I)C -/
def wp_X6_stateOf (post : Int32 → mm_S → Prop) (p1 : Int32) (s0 : mm_S) : Prop := wp_X6_isVoice (fun r1 => wp_X6_checked (fun r2 s3 => ((r2 ≤ 0 → wp_X6_plays (fun r5 s6 => ((¬ r5 = 0 → wp_X6_at (fun r8 s9 => wp_X6_isReleased (fun r10 s11 => ((r10 = 0 → wp_X6_at (fun r13 s14 => ((r13 ≤ r8 → wp_X6_at (fun r16 s17 => wp_X6_at (fun r18 s19 => (((r16 + r18) ≤ r8 → post 115 s19) ∧ (¬ (r16 + r18) ≤ r8 → post 100 s19))) p1 6 s17) p1 5 s14) ∧ (¬ r13 ≤ r8 → post 97 s14))) p1 5 s11) ∧ (¬ r10 = 0 → post 114 s11))) p1 s9) p1 10 s6) ∧ (r5 = 0 → post 102 s6))) p1 s3) ∧ (¬ r2 ≤ 0 → post 97 s3))) r1 s0) p1
set_option maxHeartbeats 4000000 in
theorem t_X6_stateOf (l : Launch) {base : Nat} {D : va_G} {ca : Nat → ClassId} {Ls : List gb_L} {ad : gb_L → Nat} {w : gb_L → va_E} {post : Int32 → mm_S → Prop} {p1 : Int32} {s0 : mm_S} (hk : wp_X6_stateOf post p1 s0) : mm_Mi l yX6_stateOf (ws_ yX6_stateOf cX6_stateOf 3 (some .char)) ({ frames := 3, cells := 0, slots := 0, locals := 64 } : Room) base D ca Ls ad w [.int p1] s0 post := by
  refine mm_start cX6_stateOf 3 (some .char) _ (by decide) rfl rfl (Nat.le_of_ble_eq_true rfl) ?_
  intro p e s m args below meth c ls C hr hlk hH hS hl
  have hl : lv_has ls 3 [(0, .ref (ad (20, 0))), (1, .int p1)] := hl
  unfold wp_X6_stateOf at hk
  refine lv_aload_n C.hx C.hb dX6_stateOf_0 rfl (lv_at hl 0 rfl) ?_
  refine lv_iload_n C.hx C.hb dX6_stateOf_1 rfl (lv_at hl 1 rfl) ?_
  refine gb_call (As := [.int p1]) (rest := [.ref (ad (20, 0))]) C.1 (t_X6_isVoice l hk) (va_cwS 1 C.hts (lw_S q1480 q1481 q65 q1482) rfl rfl rfl (by decide +kernel) ⟨Nat.le_of_ble_eq_true rfl, Nat.le_of_ble_eq_true rfl⟩) rfl hl.1 rfl (lv_room (Nat.le_of_ble_eq_true rfl)) dX6_stateOf_2 ⟨Nat.le_of_ble_eq_true rfl, Nat.le_of_ble_eq_true rfl⟩ (fun r1 hk => ?_)
  refine mm_calli (As := [.int r1]) (rest := []) C (t_X6_checked l hk) (cwV 1 C.hts (lw_V q1380 q1382 qs31 q65 q1383) rfl rfl rfl (by decide +kernel) ⟨Nat.le_of_ble_eq_true rfl, Nat.le_of_ble_eq_true rfl⟩) hH hS rfl hl.1 rfl (lv_room (Nat.le_of_ble_eq_true rfl)) dX6_stateOf_5 ⟨Nat.le_of_ble_eq_true rfl, Nat.le_of_ble_eq_true rfl⟩ (fun r2 s3 H locs hk hH hS => ?_)
  refine lv_if_le (tgt := 14) C.hx C.hb dX6_stateOf_8 (by decide) (fun c4 => ?_) (fun c4 => ?_)
  · have hk := hk.1 c4
    refine lv_aload_n C.hx C.hb dX6_stateOf_14 rfl (lv_at hl 0 rfl) ?_
    refine lv_iload_n C.hx C.hb dX6_stateOf_15 rfl (lv_at hl 1 rfl) ?_
    refine mm_calli (As := [.int p1]) (rest := []) C (t_X6_plays l hk) (cwV 1 C.hts (lw_V q1436 q1438 qs35 q65 q1439) rfl rfl rfl (by decide +kernel) ⟨Nat.le_of_ble_eq_true rfl, Nat.le_of_ble_eq_true rfl⟩) hH hS rfl hl.1 rfl (lv_room (Nat.le_of_ble_eq_true rfl)) dX6_stateOf_16 ⟨Nat.le_of_ble_eq_true rfl, Nat.le_of_ble_eq_true rfl⟩ (fun r5 s6 H locs hk hH hS => ?_)
    refine lv_if_ne (tgt := 25) C.hx C.hb dX6_stateOf_19 (by decide) (fun c7 => ?_) (fun c7 => ?_)
    · have hk := hk.1 c7
      refine lv_aload_n C.hx C.hb dX6_stateOf_25 rfl (lv_at hl 0 rfl) ?_
      refine lv_iload_n C.hx C.hb dX6_stateOf_26 rfl (lv_at hl 1 rfl) ?_
      refine lv_bipush (v := 10) C.hx C.hb dX6_stateOf_27 (by decide) ?_
      refine mm_calli (As := [.int p1, .int 10]) (rest := []) C (t_X6_at l hk) (cwV 2 C.hts (lw_V q1440 q1442 qs36 q65 q1443) rfl rfl rfl (by decide +kernel) ⟨Nat.le_of_ble_eq_true rfl, Nat.le_of_ble_eq_true rfl⟩) hH hS rfl hl.1 rfl (lv_room (Nat.le_of_ble_eq_true rfl)) dX6_stateOf_29 ⟨Nat.le_of_ble_eq_true rfl, Nat.le_of_ble_eq_true rfl⟩ (fun r8 s9 H locs hk hH hS => ?_)
      refine lv_istore_n (lv' := [(2, .int r8), (0, .ref (ad (20, 0))), (1, .int p1)]) C.hx C.hb dX6_stateOf_32 rfl hl (by decide) rfl (fun ls hl => ?_)
      refine lv_aload_n C.hx C.hb dX6_stateOf_33 rfl (lv_at hl 1 rfl) ?_
      refine lv_iload_n C.hx C.hb dX6_stateOf_34 rfl (lv_at hl 2 rfl) ?_
      refine mm_calli (As := [.int p1]) (rest := []) C (t_X6_isReleased l hk) (cwV 1 C.hts (lw_V q1444 q1446 qs37 q65 q1447) rfl rfl rfl (by decide +kernel) ⟨Nat.le_of_ble_eq_true rfl, Nat.le_of_ble_eq_true rfl⟩) hH hS rfl hl.1 rfl (lv_room (Nat.le_of_ble_eq_true rfl)) dX6_stateOf_35 ⟨Nat.le_of_ble_eq_true rfl, Nat.le_of_ble_eq_true rfl⟩ (fun r10 s11 H locs hk hH hS => ?_)
      refine lv_if_eq (tgt := 46) C.hx C.hb dX6_stateOf_38 (by decide) (fun c12 => ?_) (fun c12 => ?_)
      · have hk := hk.1 c12
        refine lv_iload_n C.hx C.hb dX6_stateOf_46 rfl (lv_at hl 0 rfl) ?_
        refine lv_aload_n C.hx C.hb dX6_stateOf_47 rfl (lv_at hl 1 rfl) ?_
        refine lv_iload_n C.hx C.hb dX6_stateOf_48 rfl (lv_at hl 2 rfl) ?_
        refine lv_iconst (v := 5) C.hx C.hb dX6_stateOf_49 (by decide) ?_
        refine mm_calli (As := [.int p1, .int 5]) (rest := [.int r8]) C (t_X6_at l hk) (cwV 2 C.hts (lw_V q1440 q1442 qs36 q65 q1443) rfl rfl rfl (by decide +kernel) ⟨Nat.le_of_ble_eq_true rfl, Nat.le_of_ble_eq_true rfl⟩) hH hS rfl hl.1 rfl (lv_room (Nat.le_of_ble_eq_true rfl)) dX6_stateOf_50 ⟨Nat.le_of_ble_eq_true rfl, Nat.le_of_ble_eq_true rfl⟩ (fun r13 s14 H locs hk hH hS => ?_)
        refine lv_icmp_ge (tgt := 61) C.hx C.hb dX6_stateOf_53 (by decide) (fun c15 => ?_) (fun c15 => ?_)
        · have hk := hk.1 c15
          refine lv_iload_n C.hx C.hb dX6_stateOf_61 rfl (lv_at hl 0 rfl) ?_
          refine lv_aload_n C.hx C.hb dX6_stateOf_62 rfl (lv_at hl 1 rfl) ?_
          refine lv_iload_n C.hx C.hb dX6_stateOf_63 rfl (lv_at hl 2 rfl) ?_
          refine lv_iconst (v := 5) C.hx C.hb dX6_stateOf_64 (by decide) ?_
          refine mm_calli (As := [.int p1, .int 5]) (rest := [.int r8]) C (t_X6_at l hk) (cwV 2 C.hts (lw_V q1440 q1442 qs36 q65 q1443) rfl rfl rfl (by decide +kernel) ⟨Nat.le_of_ble_eq_true rfl, Nat.le_of_ble_eq_true rfl⟩) hH hS rfl hl.1 rfl (lv_room (Nat.le_of_ble_eq_true rfl)) dX6_stateOf_65 ⟨Nat.le_of_ble_eq_true rfl, Nat.le_of_ble_eq_true rfl⟩ (fun r16 s17 H locs hk hH hS => ?_)
          refine lv_aload_n C.hx C.hb dX6_stateOf_68 rfl (lv_at hl 1 rfl) ?_
          refine lv_iload_n C.hx C.hb dX6_stateOf_69 rfl (lv_at hl 2 rfl) ?_
          refine lv_bipush (v := 6) C.hx C.hb dX6_stateOf_70 (by decide) ?_
          refine mm_calli (As := [.int p1, .int 6]) (rest := [.int r16, .int r8]) C (t_X6_at l hk) (cwV 2 C.hts (lw_V q1440 q1442 qs36 q65 q1443) rfl rfl rfl (by decide +kernel) ⟨Nat.le_of_ble_eq_true rfl, Nat.le_of_ble_eq_true rfl⟩) hH hS rfl hl.1 rfl (lv_room (Nat.le_of_ble_eq_true rfl)) dX6_stateOf_72 ⟨Nat.le_of_ble_eq_true rfl, Nat.le_of_ble_eq_true rfl⟩ (fun r18 s19 H locs hk hH hS => ?_)
          refine lv_iadd C.hx C.hb dX6_stateOf_75 ?_
          refine lv_icmp_ge (tgt := 84) C.hx C.hb dX6_stateOf_76 (by decide) (fun c20 => ?_) (fun c20 => ?_)
          · have hk := hk.1 c20
            refine lv_bipush (v := 115) C.hx C.hb dX6_stateOf_84 (by decide) ?_
            exact mm_zret (ty := .char) C hr hlk (by decide) hH hS hk dX6_stateOf_86
          · have hk := hk.2 c20
            refine lv_bipush (v := 100) C.hx C.hb dX6_stateOf_79 (by decide) ?_
            refine lv_goto (tgt := 86) C.hx C.hb dX6_stateOf_81 (by decide) ?_
            exact mm_zret (ty := .char) C hr hlk (by decide) hH hS hk dX6_stateOf_86
        · have hk := hk.2 c15
          refine lv_bipush (v := 97) C.hx C.hb dX6_stateOf_56 (by decide) ?_
          refine lv_goto (tgt := 86) C.hx C.hb dX6_stateOf_58 (by decide) ?_
          exact mm_zret (ty := .char) C hr hlk (by decide) hH hS hk dX6_stateOf_86
      · have hk := hk.2 c12
        refine lv_bipush (v := 114) C.hx C.hb dX6_stateOf_41 (by decide) ?_
        refine lv_goto (tgt := 86) C.hx C.hb dX6_stateOf_43 (by decide) ?_
        exact mm_zret (ty := .char) C hr hlk (by decide) hH hS hk dX6_stateOf_86
    · have hk := hk.2 c7
      refine lv_bipush (v := 102) C.hx C.hb dX6_stateOf_22 (by decide) ?_
      exact mm_zret (ty := .char) C hr hlk (by decide) hH hS hk dX6_stateOf_24
  · have hk := hk.2 c4
    refine lv_bipush (v := 97) C.hx C.hb dX6_stateOf_11 (by decide) ?_
    exact mm_zret (ty := .char) C hr hlk (by decide) hH hS hk dX6_stateOf_13
/-! ToneGraphModel.isSilent(I)Z -/
def wp_X6_isSilent (post : Int32 → mm_S → Prop) (p1 : Int32) (s0 : mm_S) : Prop := wp_X6_isVoice (fun r1 => ((¬ r1 = 0 → wp_X6_plays (fun r3 s4 => ((¬ r3 = 0 → (∀ s6 : mm_S, s6 = ms_f s4 0 0 → (((s6.1 0) ≤ 0 → post 0 s6) ∧ (¬ (s6.1 0) ≤ 0 → post 1 s6)))) ∧ (r3 = 0 → (∀ s8 : mm_S, s8 = ms_f s4 0 2 → (((s8.1 0) ≤ 0 → post 0 s8) ∧ (¬ (s8.1 0) ≤ 0 → post 1 s8)))))) p1 s0) ∧ (r1 = 0 → (∀ s10 : mm_S, s10 = ms_f s0 0 1 → (((s10.1 0) ≤ 0 → post 0 s10) ∧ (¬ (s10.1 0) ≤ 0 → post 1 s10)))))) p1
set_option maxHeartbeats 4000000 in
theorem t_X6_isSilent (l : Launch) {base : Nat} {D : va_G} {ca : Nat → ClassId} {Ls : List gb_L} {ad : gb_L → Nat} {w : gb_L → va_E} {post : Int32 → mm_S → Prop} {p1 : Int32} {s0 : mm_S} (hk : wp_X6_isSilent post p1 s0) : mm_Mi l yX6_isSilent (ws_ yX6_isSilent cX6_isSilent 2 (some .boolean)) ({ frames := 2, cells := 0, slots := 0, locals := 43 } : Room) base D ca Ls ad w [.int p1] s0 post := by
  refine mm_start cX6_isSilent 2 (some .boolean) _ (by decide) rfl rfl (Nat.le_of_ble_eq_true rfl) ?_
  intro p e s m args below meth c ls C hr hlk hH hS hl
  have hl : lv_has ls 2 [(0, .ref (ad (20, 0))), (1, .int p1)] := hl
  unfold wp_X6_isSilent at hk
  refine lv_aload_n C.hx C.hb dX6_isSilent_0 rfl (lv_at hl 0 rfl) ?_
  refine lv_iload_n C.hx C.hb dX6_isSilent_1 rfl (lv_at hl 1 rfl) ?_
  refine gb_call (As := [.int p1]) (rest := [.ref (ad (20, 0))]) C.1 (t_X6_isVoice l hk) (va_cwS 1 C.hts (lw_S q1480 q1481 q65 q1482) rfl rfl rfl (by decide +kernel) ⟨Nat.le_of_ble_eq_true rfl, Nat.le_of_ble_eq_true rfl⟩) rfl hl.1 rfl (lv_room (Nat.le_of_ble_eq_true rfl)) dX6_isSilent_2 ⟨Nat.le_of_ble_eq_true rfl, Nat.le_of_ble_eq_true rfl⟩ (fun r1 hk => ?_)
  refine lv_if_ne (tgt := 12) C.hx C.hb dX6_isSilent_5 (by decide) (fun c2 => ?_) (fun c2 => ?_)
  · have hk := hk.1 c2
    refine lv_aload_n C.hx C.hb dX6_isSilent_12 rfl (lv_at hl 0 rfl) ?_
    refine lv_iload_n C.hx C.hb dX6_isSilent_13 rfl (lv_at hl 1 rfl) ?_
    refine mm_calli (As := [.int p1]) (rest := [.ref (ad (20, 0))]) C (t_X6_plays l hk) (cwV 1 C.hts (lw_V q1436 q1438 qs35 q65 q1439) rfl rfl rfl (by decide +kernel) ⟨Nat.le_of_ble_eq_true rfl, Nat.le_of_ble_eq_true rfl⟩) hH hS rfl hl.1 rfl (lv_room (Nat.le_of_ble_eq_true rfl)) dX6_isSilent_14 ⟨Nat.le_of_ble_eq_true rfl, Nat.le_of_ble_eq_true rfl⟩ (fun r3 s4 H locs hk hH hS => ?_)
    refine lv_if_ne (tgt := 24) C.hx C.hb dX6_isSilent_17 (by decide) (fun c5 => ?_) (fun c5 => ?_)
    · have hk := hk.1 c5
      refine lv_iconst (v := 0) C.hx C.hb dX6_isSilent_24 (by decide) ?_
      refine mm_puti C hH hS 12 0 (by decide) rfl q1253 dX6_isSilent_25 rfl rfl (fun s6 es6 H locs hH hS => ?_)
      have hk := hk s6 es6
      refine lv_aload_n C.hx C.hb dX6_isSilent_28 rfl (lv_at hl 0 rfl) ?_
      refine mm_geti C hH 12 0 (by decide) rfl q1253 dX6_isSilent_29 ?_
      refine lv_if_le (tgt := 39) C.hx C.hb dX6_isSilent_32 (by decide) (fun c7 => ?_) (fun c7 => ?_)
      · have hk := hk.1 c7
        refine lv_iconst (v := 0) C.hx C.hb dX6_isSilent_39 (by decide) ?_
        exact mm_zret (ty := .boolean) C hr hlk (by decide) hH hS hk dX6_isSilent_40
      · have hk := hk.2 c7
        refine lv_iconst (v := 1) C.hx C.hb dX6_isSilent_35 (by decide) ?_
        refine lv_goto (tgt := 40) C.hx C.hb dX6_isSilent_36 (by decide) ?_
        exact mm_zret (ty := .boolean) C hr hlk (by decide) hH hS hk dX6_isSilent_40
    · have hk := hk.2 c5
      refine lv_iconst (v := 2) C.hx C.hb dX6_isSilent_20 (by decide) ?_
      refine lv_goto (tgt := 25) C.hx C.hb dX6_isSilent_21 (by decide) ?_
      refine mm_puti C hH hS 12 0 (by decide) rfl q1253 dX6_isSilent_25 rfl rfl (fun s8 es8 H locs hH hS => ?_)
      have hk := hk s8 es8
      refine lv_aload_n C.hx C.hb dX6_isSilent_28 rfl (lv_at hl 0 rfl) ?_
      refine mm_geti C hH 12 0 (by decide) rfl q1253 dX6_isSilent_29 ?_
      refine lv_if_le (tgt := 39) C.hx C.hb dX6_isSilent_32 (by decide) (fun c9 => ?_) (fun c9 => ?_)
      · have hk := hk.1 c9
        refine lv_iconst (v := 0) C.hx C.hb dX6_isSilent_39 (by decide) ?_
        exact mm_zret (ty := .boolean) C hr hlk (by decide) hH hS hk dX6_isSilent_40
      · have hk := hk.2 c9
        refine lv_iconst (v := 1) C.hx C.hb dX6_isSilent_35 (by decide) ?_
        refine lv_goto (tgt := 40) C.hx C.hb dX6_isSilent_36 (by decide) ?_
        exact mm_zret (ty := .boolean) C hr hlk (by decide) hH hS hk dX6_isSilent_40
  · have hk := hk.2 c2
    refine lv_iconst (v := 1) C.hx C.hb dX6_isSilent_8 (by decide) ?_
    refine lv_goto (tgt := 25) C.hx C.hb dX6_isSilent_9 (by decide) ?_
    refine mm_puti C hH hS 12 0 (by decide) rfl q1253 dX6_isSilent_25 rfl rfl (fun s10 es10 H locs hH hS => ?_)
    have hk := hk s10 es10
    refine lv_aload_n C.hx C.hb dX6_isSilent_28 rfl (lv_at hl 0 rfl) ?_
    refine mm_geti C hH 12 0 (by decide) rfl q1253 dX6_isSilent_29 ?_
    refine lv_if_le (tgt := 39) C.hx C.hb dX6_isSilent_32 (by decide) (fun c11 => ?_) (fun c11 => ?_)
    · have hk := hk.1 c11
      refine lv_iconst (v := 0) C.hx C.hb dX6_isSilent_39 (by decide) ?_
      exact mm_zret (ty := .boolean) C hr hlk (by decide) hH hS hk dX6_isSilent_40
    · have hk := hk.2 c11
      refine lv_iconst (v := 1) C.hx C.hb dX6_isSilent_35 (by decide) ?_
      refine lv_goto (tgt := 40) C.hx C.hb dX6_isSilent_36 (by decide) ?_
      exact mm_zret (ty := .boolean) C hr hlk (by decide) hH hS hk dX6_isSilent_40
/-! ToneGraphModel.keyOf(I)I -/
def wp_X6_keyOf (post : Int32 → mm_S → Prop) (p1 : Int32) (s0 : mm_S) : Prop := wp_X6_isSilent (fun r1 s2 => ((r1 = 0 → wp_X6_at (fun r4 s5 => post r4 s5) p1 2 s2) ∧ (¬ r1 = 0 → post 0 s2))) p1 s0
set_option maxHeartbeats 4000000 in
theorem t_X6_keyOf (l : Launch) {base : Nat} {D : va_G} {ca : Nat → ClassId} {Ls : List gb_L} {ad : gb_L → Nat} {w : gb_L → va_E} {post : Int32 → mm_S → Prop} {p1 : Int32} {s0 : mm_S} (hk : wp_X6_keyOf post p1 s0) : mm_Mi l yX6_keyOf (ws_ yX6_keyOf cX6_keyOf 2 (some .int)) ({ frames := 3, cells := 0, slots := 0, locals := 64 } : Room) base D ca Ls ad w [.int p1] s0 post := by
  refine mm_start cX6_keyOf 2 (some .int) _ (by decide) rfl rfl (Nat.le_of_ble_eq_true rfl) ?_
  intro p e s m args below meth c ls C hr hlk hH hS hl
  have hl : lv_has ls 2 [(0, .ref (ad (20, 0))), (1, .int p1)] := hl
  unfold wp_X6_keyOf at hk
  refine lv_aload_n C.hx C.hb dX6_keyOf_0 rfl (lv_at hl 0 rfl) ?_
  refine lv_iload_n C.hx C.hb dX6_keyOf_1 rfl (lv_at hl 1 rfl) ?_
  refine mm_calli (As := [.int p1]) (rest := []) C (t_X6_isSilent l hk) (cwV 1 C.hts (lw_V q1487 q1489 qs42 q65 q1490) rfl rfl rfl (by decide +kernel) ⟨Nat.le_of_ble_eq_true rfl, Nat.le_of_ble_eq_true rfl⟩) hH hS rfl hl.1 rfl (lv_room (Nat.le_of_ble_eq_true rfl)) dX6_keyOf_2 ⟨Nat.le_of_ble_eq_true rfl, Nat.le_of_ble_eq_true rfl⟩ (fun r1 s2 H locs hk hH hS => ?_)
  refine lv_if_eq (tgt := 12) C.hx C.hb dX6_keyOf_5 (by decide) (fun c3 => ?_) (fun c3 => ?_)
  · have hk := hk.1 c3
    refine lv_aload_n C.hx C.hb dX6_keyOf_12 rfl (lv_at hl 0 rfl) ?_
    refine lv_iload_n C.hx C.hb dX6_keyOf_13 rfl (lv_at hl 1 rfl) ?_
    refine lv_iconst (v := 2) C.hx C.hb dX6_keyOf_14 (by decide) ?_
    refine mm_calli (As := [.int p1, .int 2]) (rest := []) C (t_X6_at l hk) (cwV 2 C.hts (lw_V q1440 q1442 qs36 q65 q1443) rfl rfl rfl (by decide +kernel) ⟨Nat.le_of_ble_eq_true rfl, Nat.le_of_ble_eq_true rfl⟩) hH hS rfl hl.1 rfl (lv_room (Nat.le_of_ble_eq_true rfl)) dX6_keyOf_15 ⟨Nat.le_of_ble_eq_true rfl, Nat.le_of_ble_eq_true rfl⟩ (fun r4 s5 H locs hk hH hS => ?_)
    exact mm_iret C hr hlk hH hS hk dX6_keyOf_18
  · have hk := hk.2 c3
    refine lv_iconst (v := 0) C.hx C.hb dX6_keyOf_8 (by decide) ?_
    refine lv_goto (tgt := 18) C.hx C.hb dX6_keyOf_9 (by decide) ?_
    exact mm_iret C hr hlk hH hS hk dX6_keyOf_18
/-! ToneGraphModel.levelOf(I)I -/
def wp_X6_levelOf (post : Int32 → mm_S → Prop) (p1 : Int32) (s0 : mm_S) : Prop := wp_X6_isVoice (fun r1 => wp_X6_checked (fun r2 s3 => ((r2 ≤ 0 → wp_X6_levelAt (fun r5 s6 => post r5 s6) p1 s3) ∧ (¬ r2 ≤ 0 → post 0 s3))) r1 s0) p1
set_option maxHeartbeats 4000000 in
theorem t_X6_levelOf (l : Launch) {base : Nat} {D : va_G} {ca : Nat → ClassId} {Ls : List gb_L} {ad : gb_L → Nat} {w : gb_L → va_E} {post : Int32 → mm_S → Prop} {p1 : Int32} {s0 : mm_S} (hk : wp_X6_levelOf post p1 s0) : mm_Mi l yX6_levelOf (ws_ yX6_levelOf cX6_levelOf 2 (some .int)) ({ frames := 4, cells := 0, slots := 0, locals := 87 } : Room) base D ca Ls ad w [.int p1] s0 post := by
  refine mm_start cX6_levelOf 2 (some .int) _ (by decide) rfl rfl (Nat.le_of_ble_eq_true rfl) ?_
  intro p e s m args below meth c ls C hr hlk hH hS hl
  have hl : lv_has ls 2 [(0, .ref (ad (20, 0))), (1, .int p1)] := hl
  unfold wp_X6_levelOf at hk
  refine lv_aload_n C.hx C.hb dX6_levelOf_0 rfl (lv_at hl 0 rfl) ?_
  refine lv_iload_n C.hx C.hb dX6_levelOf_1 rfl (lv_at hl 1 rfl) ?_
  refine gb_call (As := [.int p1]) (rest := [.ref (ad (20, 0))]) C.1 (t_X6_isVoice l hk) (va_cwS 1 C.hts (lw_S q1480 q1481 q65 q1482) rfl rfl rfl (by decide +kernel) ⟨Nat.le_of_ble_eq_true rfl, Nat.le_of_ble_eq_true rfl⟩) rfl hl.1 rfl (lv_room (Nat.le_of_ble_eq_true rfl)) dX6_levelOf_2 ⟨Nat.le_of_ble_eq_true rfl, Nat.le_of_ble_eq_true rfl⟩ (fun r1 hk => ?_)
  refine mm_calli (As := [.int r1]) (rest := []) C (t_X6_checked l hk) (cwV 1 C.hts (lw_V q1380 q1382 qs31 q65 q1383) rfl rfl rfl (by decide +kernel) ⟨Nat.le_of_ble_eq_true rfl, Nat.le_of_ble_eq_true rfl⟩) hH hS rfl hl.1 rfl (lv_room (Nat.le_of_ble_eq_true rfl)) dX6_levelOf_5 ⟨Nat.le_of_ble_eq_true rfl, Nat.le_of_ble_eq_true rfl⟩ (fun r2 s3 H locs hk hH hS => ?_)
  refine lv_if_le (tgt := 15) C.hx C.hb dX6_levelOf_8 (by decide) (fun c4 => ?_) (fun c4 => ?_)
  · have hk := hk.1 c4
    refine lv_aload_n C.hx C.hb dX6_levelOf_15 rfl (lv_at hl 0 rfl) ?_
    refine lv_iload_n C.hx C.hb dX6_levelOf_16 rfl (lv_at hl 1 rfl) ?_
    refine mm_calli (As := [.int p1]) (rest := []) C (t_X6_levelAt l hk) (cwV 1 C.hts (lw_V q1464 q1466 qs41 q65 q1467) rfl rfl rfl (by decide +kernel) ⟨Nat.le_of_ble_eq_true rfl, Nat.le_of_ble_eq_true rfl⟩) hH hS rfl hl.1 rfl (lv_room (Nat.le_of_ble_eq_true rfl)) dX6_levelOf_17 ⟨Nat.le_of_ble_eq_true rfl, Nat.le_of_ble_eq_true rfl⟩ (fun r5 s6 H locs hk hH hS => ?_)
    exact mm_iret C hr hlk hH hS hk dX6_levelOf_20
  · have hk := hk.2 c4
    refine lv_iconst (v := 0) C.hx C.hb dX6_levelOf_11 (by decide) ?_
    refine lv_goto (tgt := 20) C.hx C.hb dX6_levelOf_12 (by decide) ?_
    exact mm_iret C hr hlk hH hS hk dX6_levelOf_20
/-! ToneGraphModel.phaseOf(I)I -/
def wp_X6_phaseOf (post : Int32 → mm_S → Prop) (p1 : Int32) (s0 : mm_S) : Prop := wp_X6_isSilent (fun r1 s2 => ((r1 = 0 → wp_X6_at (fun r4 s5 => post r4 s5) p1 9 s2) ∧ (¬ r1 = 0 → post 0 s2))) p1 s0
set_option maxHeartbeats 4000000 in
theorem t_X6_phaseOf (l : Launch) {base : Nat} {D : va_G} {ca : Nat → ClassId} {Ls : List gb_L} {ad : gb_L → Nat} {w : gb_L → va_E} {post : Int32 → mm_S → Prop} {p1 : Int32} {s0 : mm_S} (hk : wp_X6_phaseOf post p1 s0) : mm_Mi l yX6_phaseOf (ws_ yX6_phaseOf cX6_phaseOf 2 (some .int)) ({ frames := 3, cells := 0, slots := 0, locals := 64 } : Room) base D ca Ls ad w [.int p1] s0 post := by
  refine mm_start cX6_phaseOf 2 (some .int) _ (by decide) rfl rfl (Nat.le_of_ble_eq_true rfl) ?_
  intro p e s m args below meth c ls C hr hlk hH hS hl
  have hl : lv_has ls 2 [(0, .ref (ad (20, 0))), (1, .int p1)] := hl
  unfold wp_X6_phaseOf at hk
  refine lv_aload_n C.hx C.hb dX6_phaseOf_0 rfl (lv_at hl 0 rfl) ?_
  refine lv_iload_n C.hx C.hb dX6_phaseOf_1 rfl (lv_at hl 1 rfl) ?_
  refine mm_calli (As := [.int p1]) (rest := []) C (t_X6_isSilent l hk) (cwV 1 C.hts (lw_V q1487 q1489 qs42 q65 q1490) rfl rfl rfl (by decide +kernel) ⟨Nat.le_of_ble_eq_true rfl, Nat.le_of_ble_eq_true rfl⟩) hH hS rfl hl.1 rfl (lv_room (Nat.le_of_ble_eq_true rfl)) dX6_phaseOf_2 ⟨Nat.le_of_ble_eq_true rfl, Nat.le_of_ble_eq_true rfl⟩ (fun r1 s2 H locs hk hH hS => ?_)
  refine lv_if_eq (tgt := 12) C.hx C.hb dX6_phaseOf_5 (by decide) (fun c3 => ?_) (fun c3 => ?_)
  · have hk := hk.1 c3
    refine lv_aload_n C.hx C.hb dX6_phaseOf_12 rfl (lv_at hl 0 rfl) ?_
    refine lv_iload_n C.hx C.hb dX6_phaseOf_13 rfl (lv_at hl 1 rfl) ?_
    refine lv_bipush (v := 9) C.hx C.hb dX6_phaseOf_14 (by decide) ?_
    refine mm_calli (As := [.int p1, .int 9]) (rest := []) C (t_X6_at l hk) (cwV 2 C.hts (lw_V q1440 q1442 qs36 q65 q1443) rfl rfl rfl (by decide +kernel) ⟨Nat.le_of_ble_eq_true rfl, Nat.le_of_ble_eq_true rfl⟩) hH hS rfl hl.1 rfl (lv_room (Nat.le_of_ble_eq_true rfl)) dX6_phaseOf_16 ⟨Nat.le_of_ble_eq_true rfl, Nat.le_of_ble_eq_true rfl⟩ (fun r4 s5 H locs hk hH hS => ?_)
    exact mm_iret C hr hlk hH hS hk dX6_phaseOf_19
  · have hk := hk.2 c3
    refine lv_iconst (v := 0) C.hx C.hb dX6_phaseOf_8 (by decide) ?_
    refine lv_goto (tgt := 19) C.hx C.hb dX6_phaseOf_9 (by decide) ?_
    exact mm_iret C hr hlk hH hS hk dX6_phaseOf_19
/-! ToneGraphModel.stolen()I -/
def wp_X6_stolen (post : Int32 → mm_S → Prop) (s0 : mm_S) : Prop := wp_X6_plain (fun r1 s2 => post r1 s2) (s0.1 8) s0
set_option maxHeartbeats 4000000 in
theorem t_X6_stolen (l : Launch) {base : Nat} {D : va_G} {ca : Nat → ClassId} {Ls : List gb_L} {ad : gb_L → Nat} {w : gb_L → va_E} {post : Int32 → mm_S → Prop} {s0 : mm_S} (hk : wp_X6_stolen post s0) : mm_Mi l yX6_stolen (ws_ yX6_stolen cX6_stolen 1 (some .int)) ({ frames := 1, cells := 0, slots := 0, locals := 21 } : Room) base D ca Ls ad w [] s0 post := by
  refine mm_start cX6_stolen 1 (some .int) _ (by decide) rfl rfl (Nat.le_of_ble_eq_true rfl) ?_
  intro p e s m args below meth c ls C hr hlk hH hS hl
  have hl : lv_has ls 1 [(0, .ref (ad (20, 0)))] := hl
  unfold wp_X6_stolen at hk
  refine lv_aload_n C.hx C.hb dX6_stolen_0 rfl (lv_at hl 0 rfl) ?_
  refine lv_aload_n C.hx C.hb dX6_stolen_1 rfl (lv_at hl 0 rfl) ?_
  refine mm_geti C hH 20 8 (by decide) rfl q1261 dX6_stolen_2 ?_
  refine mm_calli (As := [.int (s0.1 8)]) (rest := []) C (t_X6_plain l hk) (cwV 1 C.hts (lw_V q1388 q1390 qs32 q65 q1391) rfl rfl rfl (by decide +kernel) ⟨Nat.le_of_ble_eq_true rfl, Nat.le_of_ble_eq_true rfl⟩) hH hS rfl hl.1 rfl (lv_room (Nat.le_of_ble_eq_true rfl)) dX6_stolen_5 ⟨Nat.le_of_ble_eq_true rfl, Nat.le_of_ble_eq_true rfl⟩ (fun r1 s2 H locs hk hH hS => ?_)
  exact mm_iret C hr hlk hH hS hk dX6_stolen_8
/-! ToneGraphModel.valueOf(II)I -/
def wp_X6_valueOf (post : Int32 → Prop) (p1 : Int32) (p2 : Int32) : Prop := ((¬ p1 = 115 → ((¬ p1 = 113 → ((32768 ≤ p2 → post (((65535 - p2) / 16) - 1024)) ∧ (¬ 32768 ≤ p2 → post ((p2 / 16) - 1024)))) ∧ (p1 = 113 → ((32768 ≤ p2 → post (-1000)) ∧ (¬ 32768 ≤ p2 → post 1000))))) ∧ (p1 = 115 → post ((p2 / 32) - 1024)))
set_option maxHeartbeats 4000000 in
theorem t_X6_valueOf (l : Launch) {post : Int32 → Prop} {p1 : Int32} {p2 : Int32} (hk : wp_X6_valueOf post p1 p2) : gb_Ps l yX6_valueOf (ws_ yX6_valueOf cX6_valueOf 2 (some .int)) ({ frames := 0, cells := 0, slots := 0, locals := 0 } : Room) [.int p1, .int p2] post := by
  refine gb_start cX6_valueOf 2 (some .int) (by decide) rfl (Nat.le_of_ble_eq_true rfl) ?_
  intro p e s m args below meth c ls C hr hlk hl
  have hl : lv_has ls 2 [(0, .int p1), (1, .int p2)] := hl
  unfold wp_X6_valueOf at hk
  refine lv_iload_n C.1 C.2.1 dX6_valueOf_0 rfl (lv_at hl 0 rfl) ?_
  refine lv_bipush (v := 115) C.1 C.2.1 dX6_valueOf_1 (by decide) ?_
  refine lv_icmp_ne (tgt := 15) C.1 C.2.1 dX6_valueOf_3 (by decide) (fun c1 => ?_) (fun c1 => ?_)
  · have hk := hk.1 c1
    refine lv_iload_n C.1 C.2.1 dX6_valueOf_15 rfl (lv_at hl 0 rfl) ?_
    refine lv_bipush (v := 113) C.1 C.2.1 dX6_valueOf_16 (by decide) ?_
    refine lv_icmp_ne (tgt := 37) C.1 C.2.1 dX6_valueOf_18 (by decide) (fun c2 => ?_) (fun c2 => ?_)
    · have hk := hk.1 c2
      refine lv_iload_n C.1 C.2.1 dX6_valueOf_37 rfl (lv_at hl 1 rfl) ?_
      refine lv_ldc C.1 C.2.1 C.2.2.2.1 (C.2.2.2.2 _ q1530) dX6_valueOf_38 ?_
      refine lv_icmp_ge (tgt := 47) C.1 C.2.1 dX6_valueOf_40 (by decide) (fun c3 => ?_) (fun c3 => ?_)
      · have hk := hk.1 c3
        refine lv_ldc C.1 C.2.1 C.2.2.2.1 (C.2.2.2.2 _ q1531) dX6_valueOf_47 ?_
        refine lv_iload_n C.1 C.2.1 dX6_valueOf_49 rfl (lv_at hl 1 rfl) ?_
        refine lv_isub C.1 C.2.1 dX6_valueOf_50 ?_
        refine lv_bipush (v := 16) C.1 C.2.1 dX6_valueOf_51 (by decide) ?_
        refine lv_idiv C.1 C.2.1 dX6_valueOf_53 (by decide) ?_
        refine lv_sipush (v := 1024) C.1 C.2.1 dX6_valueOf_54 (by decide) ?_
        refine lv_isub C.1 C.2.1 dX6_valueOf_57 ?_
        exact gb_iret C hr hlk hk dX6_valueOf_58
      · have hk := hk.2 c3
        refine lv_iload_n C.1 C.2.1 dX6_valueOf_43 rfl (lv_at hl 1 rfl) ?_
        refine lv_goto (tgt := 51) C.1 C.2.1 dX6_valueOf_44 (by decide) ?_
        refine lv_bipush (v := 16) C.1 C.2.1 dX6_valueOf_51 (by decide) ?_
        refine lv_idiv C.1 C.2.1 dX6_valueOf_53 (by decide) ?_
        refine lv_sipush (v := 1024) C.1 C.2.1 dX6_valueOf_54 (by decide) ?_
        refine lv_isub C.1 C.2.1 dX6_valueOf_57 ?_
        exact gb_iret C hr hlk hk dX6_valueOf_58
    · have hk := hk.2 c2
      refine lv_iload_n C.1 C.2.1 dX6_valueOf_21 rfl (lv_at hl 1 rfl) ?_
      refine lv_ldc C.1 C.2.1 C.2.2.2.1 (C.2.2.2.2 _ q1530) dX6_valueOf_22 ?_
      refine lv_icmp_ge (tgt := 33) C.1 C.2.1 dX6_valueOf_24 (by decide) (fun c4 => ?_) (fun c4 => ?_)
      · have hk := hk.1 c4
        refine lv_sipush (v := (-1000)) C.1 C.2.1 dX6_valueOf_33 (by decide) ?_
        exact gb_iret C hr hlk hk dX6_valueOf_36
      · have hk := hk.2 c4
        refine lv_sipush (v := 1000) C.1 C.2.1 dX6_valueOf_27 (by decide) ?_
        refine lv_goto (tgt := 36) C.1 C.2.1 dX6_valueOf_30 (by decide) ?_
        exact gb_iret C hr hlk hk dX6_valueOf_36
  · have hk := hk.2 c1
    refine lv_iload_n C.1 C.2.1 dX6_valueOf_6 rfl (lv_at hl 1 rfl) ?_
    refine lv_bipush (v := 32) C.1 C.2.1 dX6_valueOf_7 (by decide) ?_
    refine lv_idiv C.1 C.2.1 dX6_valueOf_9 (by decide) ?_
    refine lv_sipush (v := 1024) C.1 C.2.1 dX6_valueOf_10 (by decide) ?_
    refine lv_isub C.1 C.2.1 dX6_valueOf_13 ?_
    exact gb_iret C hr hlk hk dX6_valueOf_14
/-! ToneGraphModel.baseOf(I)I -/
def wp_X6_baseOf (post : Int32 → Prop) (p1 : Int32) : Prop := ((6 ≤ p1 → ((11 ≤ p1 → post 121) ∧ (¬ 11 ≤ p1 → post (90 + (6 * (p1 - 6)))))) ∧ (¬ 6 ≤ p1 → ((3 ≤ p1 → ((¬ p1 = 3 → ((¬ p1 = 4 → post 85) ∧ (p1 = 4 → post 81))) ∧ (p1 = 3 → post 76))) ∧ (¬ 3 ≤ p1 → post (64 + (4 * p1))))))
set_option maxHeartbeats 4000000 in
theorem t_X6_baseOf (l : Launch) {post : Int32 → Prop} {p1 : Int32} (hk : wp_X6_baseOf post p1) : gb_Ps l yX6_baseOf (ws_ yX6_baseOf cX6_baseOf 1 (some .int)) ({ frames := 0, cells := 0, slots := 0, locals := 0 } : Room) [.int p1] post := by
  refine gb_start cX6_baseOf 1 (some .int) (by decide) rfl (Nat.le_of_ble_eq_true rfl) ?_
  intro p e s m args below meth c ls C hr hlk hl
  have hl : lv_has ls 1 [(0, .int p1)] := hl
  unfold wp_X6_baseOf at hk
  refine lv_iload_n C.1 C.2.1 dX6_baseOf_0 rfl (lv_at hl 0 rfl) ?_
  refine lv_bipush (v := 6) C.1 C.2.1 dX6_baseOf_1 (by decide) ?_
  refine lv_icmp_ge (tgt := 43) C.1 C.2.1 dX6_baseOf_3 (by decide) (fun c1 => ?_) (fun c1 => ?_)
  · have hk := hk.1 c1
    refine lv_iload_n C.1 C.2.1 dX6_baseOf_43 rfl (lv_at hl 0 rfl) ?_
    refine lv_bipush (v := 11) C.1 C.2.1 dX6_baseOf_44 (by decide) ?_
    refine lv_icmp_ge (tgt := 62) C.1 C.2.1 dX6_baseOf_46 (by decide) (fun c2 => ?_) (fun c2 => ?_)
    · have hk := hk.1 c2
      refine lv_bipush (v := 121) C.1 C.2.1 dX6_baseOf_62 (by decide) ?_
      exact gb_iret C hr hlk hk dX6_baseOf_64
    · have hk := hk.2 c2
      refine lv_bipush (v := 90) C.1 C.2.1 dX6_baseOf_49 (by decide) ?_
      refine lv_bipush (v := 6) C.1 C.2.1 dX6_baseOf_51 (by decide) ?_
      refine lv_iload_n C.1 C.2.1 dX6_baseOf_53 rfl (lv_at hl 0 rfl) ?_
      refine lv_bipush (v := 6) C.1 C.2.1 dX6_baseOf_54 (by decide) ?_
      refine lv_isub C.1 C.2.1 dX6_baseOf_56 ?_
      refine lv_imul C.1 C.2.1 dX6_baseOf_57 ?_
      refine lv_iadd C.1 C.2.1 dX6_baseOf_58 ?_
      refine lv_goto (tgt := 64) C.1 C.2.1 dX6_baseOf_59 (by decide) ?_
      exact gb_iret C hr hlk hk dX6_baseOf_64
  · have hk := hk.2 c1
    refine lv_iload_n C.1 C.2.1 dX6_baseOf_6 rfl (lv_at hl 0 rfl) ?_
    refine lv_iconst (v := 3) C.1 C.2.1 dX6_baseOf_7 (by decide) ?_
    refine lv_icmp_ge (tgt := 20) C.1 C.2.1 dX6_baseOf_8 (by decide) (fun c3 => ?_) (fun c3 => ?_)
    · have hk := hk.1 c3
      refine lv_iload_n C.1 C.2.1 dX6_baseOf_20 rfl (lv_at hl 0 rfl) ?_
      refine lv_iconst (v := 3) C.1 C.2.1 dX6_baseOf_21 (by decide) ?_
      refine lv_icmp_ne (tgt := 30) C.1 C.2.1 dX6_baseOf_22 (by decide) (fun c4 => ?_) (fun c4 => ?_)
      · have hk := hk.1 c4
        refine lv_iload_n C.1 C.2.1 dX6_baseOf_30 rfl (lv_at hl 0 rfl) ?_
        refine lv_iconst (v := 4) C.1 C.2.1 dX6_baseOf_31 (by decide) ?_
        refine lv_icmp_ne (tgt := 40) C.1 C.2.1 dX6_baseOf_32 (by decide) (fun c5 => ?_) (fun c5 => ?_)
        · have hk := hk.1 c5
          refine lv_bipush (v := 85) C.1 C.2.1 dX6_baseOf_40 (by decide) ?_
          exact gb_iret C hr hlk hk dX6_baseOf_42
        · have hk := hk.2 c5
          refine lv_bipush (v := 81) C.1 C.2.1 dX6_baseOf_35 (by decide) ?_
          refine lv_goto (tgt := 42) C.1 C.2.1 dX6_baseOf_37 (by decide) ?_
          exact gb_iret C hr hlk hk dX6_baseOf_42
      · have hk := hk.2 c4
        refine lv_bipush (v := 76) C.1 C.2.1 dX6_baseOf_25 (by decide) ?_
        refine lv_goto (tgt := 42) C.1 C.2.1 dX6_baseOf_27 (by decide) ?_
        exact gb_iret C hr hlk hk dX6_baseOf_42
    · have hk := hk.2 c3
      refine lv_bipush (v := 64) C.1 C.2.1 dX6_baseOf_11 (by decide) ?_
      refine lv_iconst (v := 4) C.1 C.2.1 dX6_baseOf_13 (by decide) ?_
      refine lv_iload_n C.1 C.2.1 dX6_baseOf_14 rfl (lv_at hl 0 rfl) ?_
      refine lv_imul C.1 C.2.1 dX6_baseOf_15 ?_
      refine lv_iadd C.1 C.2.1 dX6_baseOf_16 ?_
      refine lv_goto (tgt := 42) C.1 C.2.1 dX6_baseOf_17 (by decide) ?_
      exact gb_iret C hr hlk hk dX6_baseOf_42
/-! ToneGraphModel.stepOf(I)I -/
def wp_X6_stepOf (post : Int32 → Prop) (p1 : Int32) : Prop := wp_X6_baseOf (fun r1 => post (r1 <<< ((p1 / 12) &&& 31))) (p1 - p1 / 12 * 12)
set_option maxHeartbeats 4000000 in
theorem t_X6_stepOf (l : Launch) {post : Int32 → Prop} {p1 : Int32} (hk : wp_X6_stepOf post p1) : gb_Ps l yX6_stepOf (ws_ yX6_stepOf cX6_stepOf 1 (some .int)) ({ frames := 1, cells := 0, slots := 0, locals := 20 } : Room) [.int p1] post := by
  refine gb_start cX6_stepOf 1 (some .int) (by decide) rfl (Nat.le_of_ble_eq_true rfl) ?_
  intro p e s m args below meth c ls C hr hlk hl
  have hl : lv_has ls 1 [(0, .int p1)] := hl
  unfold wp_X6_stepOf at hk
  refine lv_iload_n C.1 C.2.1 dX6_stepOf_0 rfl (lv_at hl 0 rfl) ?_
  refine lv_bipush (v := 12) C.1 C.2.1 dX6_stepOf_1 (by decide) ?_
  refine lv_irem C.1 C.2.1 dX6_stepOf_3 (by decide) ?_
  refine gb_call (As := [.int (p1 - p1 / 12 * 12)]) (rest := []) C (t_X6_baseOf l hk) (va_cwS 1 C.2.2.2.2 (lw_S q1535 q1536 q65 q1537) rfl rfl rfl (by decide +kernel) ⟨Nat.le_of_ble_eq_true rfl, Nat.le_of_ble_eq_true rfl⟩) rfl hl.1 rfl (lv_room (Nat.le_of_ble_eq_true rfl)) dX6_stepOf_4 ⟨Nat.le_of_ble_eq_true rfl, Nat.le_of_ble_eq_true rfl⟩ (fun r1 hk => ?_)
  refine lv_iload_n C.1 C.2.1 dX6_stepOf_7 rfl (lv_at hl 0 rfl) ?_
  refine lv_bipush (v := 12) C.1 C.2.1 dX6_stepOf_8 (by decide) ?_
  refine lv_idiv C.1 C.2.1 dX6_stepOf_10 (by decide) ?_
  refine lv_ishl C.1 C.2.1 dX6_stepOf_11 ?_
  exact gb_iret C hr hlk hk dX6_stepOf_12
/-! ToneGraphModel.sings(I)I -/
def wp_X6_sings (post : Int32 → mm_S → Prop) (p1 : Int32) (s0 : mm_S) : Prop := wp_X6_plays (fun r1 s2 => ((¬ r1 = 0 → wp_X6_at (fun r4 s5 => wp_X6_at (fun r6 s7 => wp_X6_valueOf (fun r8 => wp_X6_levelAt (fun r9 s10 => wp_X6_at (fun r11 s12 => (∀ v13, v13 = ((((r8 * r9) / 1000) * r11) / 100) → wp_X6_at (fun r14 s15 => wp_X6_at (fun r16 s17 => wp_X6_stepOf (fun r18 => wp_X6_lay (fun s20 => wp_X6_isReleased (fun r21 s22 => ((r21 = 0 → wp_X6_at (fun r24 s25 => wp_X6_lay (fun s27 => post v13 s27) p1 10 (r24 + 1) s25) p1 10 s22) ∧ (¬ r21 = 0 → wp_X6_at (fun r28 s29 => wp_X6_lay (fun s31 => wp_X6_at (fun r32 s33 => wp_X6_at (fun r34 s35 => ((¬ r32 = r34 → post v13 s35) ∧ (r32 = r34 → wp_X6_lay (fun s38 => post v13 s38) p1 0 0 s35))) p1 8 s33) p1 12 s31) p1 12 (r28 + 1) s29) p1 12 s22))) p1 s20) p1 9 ((r14 + r18) - (r14 + r18) / 65536 * 65536) s17) r16) p1 2 s15) p1 9 s12)) p1 3 s10) p1 s7) r4 r6) p1 9 s5) p1 4 s2) ∧ (r1 = 0 → post 0 s2))) p1 s0
set_option maxHeartbeats 4000000 in
theorem t_X6_sings (l : Launch) {base : Nat} {D : va_G} {ca : Nat → ClassId} {Ls : List gb_L} {ad : gb_L → Nat} {w : gb_L → va_E} {post : Int32 → mm_S → Prop} {p1 : Int32} {s0 : mm_S} (hk : wp_X6_sings post p1 s0) : mm_Mi l yX6_sings (ws_ yX6_sings cX6_sings 3 (some .int)) ({ frames := 4, cells := 0, slots := 0, locals := 87 } : Room) base D ca Ls ad w [.int p1] s0 post := by
  refine mm_start cX6_sings 3 (some .int) _ (by decide) rfl rfl (Nat.le_of_ble_eq_true rfl) ?_
  intro p e s m args below meth c ls C hr hlk hH hS hl
  have hl : lv_has ls 3 [(0, .ref (ad (20, 0))), (1, .int p1)] := hl
  unfold wp_X6_sings at hk
  refine lv_aload_n C.hx C.hb dX6_sings_0 rfl (lv_at hl 0 rfl) ?_
  refine lv_iload_n C.hx C.hb dX6_sings_1 rfl (lv_at hl 1 rfl) ?_
  refine mm_calli (As := [.int p1]) (rest := []) C (t_X6_plays l hk) (cwV 1 C.hts (lw_V q1436 q1438 qs35 q65 q1439) rfl rfl rfl (by decide +kernel) ⟨Nat.le_of_ble_eq_true rfl, Nat.le_of_ble_eq_true rfl⟩) hH hS rfl hl.1 rfl (lv_room (Nat.le_of_ble_eq_true rfl)) dX6_sings_2 ⟨Nat.le_of_ble_eq_true rfl, Nat.le_of_ble_eq_true rfl⟩ (fun r1 s2 H locs hk hH hS => ?_)
  refine lv_if_ne (tgt := 10) C.hx C.hb dX6_sings_5 (by decide) (fun c3 => ?_) (fun c3 => ?_)
  · have hk := hk.1 c3
    refine lv_aload_n C.hx C.hb dX6_sings_10 rfl (lv_at hl 0 rfl) ?_
    refine lv_iload_n C.hx C.hb dX6_sings_11 rfl (lv_at hl 1 rfl) ?_
    refine lv_iconst (v := 4) C.hx C.hb dX6_sings_12 (by decide) ?_
    refine mm_calli (As := [.int p1, .int 4]) (rest := []) C (t_X6_at l hk) (cwV 2 C.hts (lw_V q1440 q1442 qs36 q65 q1443) rfl rfl rfl (by decide +kernel) ⟨Nat.le_of_ble_eq_true rfl, Nat.le_of_ble_eq_true rfl⟩) hH hS rfl hl.1 rfl (lv_room (Nat.le_of_ble_eq_true rfl)) dX6_sings_13 ⟨Nat.le_of_ble_eq_true rfl, Nat.le_of_ble_eq_true rfl⟩ (fun r4 s5 H locs hk hH hS => ?_)
    refine lv_aload_n C.hx C.hb dX6_sings_16 rfl (lv_at hl 0 rfl) ?_
    refine lv_iload_n C.hx C.hb dX6_sings_17 rfl (lv_at hl 1 rfl) ?_
    refine lv_bipush (v := 9) C.hx C.hb dX6_sings_18 (by decide) ?_
    refine mm_calli (As := [.int p1, .int 9]) (rest := [.int r4]) C (t_X6_at l hk) (cwV 2 C.hts (lw_V q1440 q1442 qs36 q65 q1443) rfl rfl rfl (by decide +kernel) ⟨Nat.le_of_ble_eq_true rfl, Nat.le_of_ble_eq_true rfl⟩) hH hS rfl hl.1 rfl (lv_room (Nat.le_of_ble_eq_true rfl)) dX6_sings_20 ⟨Nat.le_of_ble_eq_true rfl, Nat.le_of_ble_eq_true rfl⟩ (fun r6 s7 H locs hk hH hS => ?_)
    refine gb_call (As := [.int r4, .int r6]) (rest := []) C.1 (t_X6_valueOf l hk) (va_cwS 2 C.hts (lw_S q1527 q1528 q65 q1529) rfl rfl rfl (by decide +kernel) ⟨Nat.le_of_ble_eq_true rfl, Nat.le_of_ble_eq_true rfl⟩) rfl hl.1 rfl (lv_room (Nat.le_of_ble_eq_true rfl)) dX6_sings_23 ⟨Nat.le_of_ble_eq_true rfl, Nat.le_of_ble_eq_true rfl⟩ (fun r8 hk => ?_)
    refine lv_aload_n C.hx C.hb dX6_sings_26 rfl (lv_at hl 0 rfl) ?_
    refine lv_iload_n C.hx C.hb dX6_sings_27 rfl (lv_at hl 1 rfl) ?_
    refine mm_calli (As := [.int p1]) (rest := [.int r8]) C (t_X6_levelAt l hk) (cwV 1 C.hts (lw_V q1464 q1466 qs41 q65 q1467) rfl rfl rfl (by decide +kernel) ⟨Nat.le_of_ble_eq_true rfl, Nat.le_of_ble_eq_true rfl⟩) hH hS rfl hl.1 rfl (lv_room (Nat.le_of_ble_eq_true rfl)) dX6_sings_28 ⟨Nat.le_of_ble_eq_true rfl, Nat.le_of_ble_eq_true rfl⟩ (fun r9 s10 H locs hk hH hS => ?_)
    refine lv_imul C.hx C.hb dX6_sings_31 ?_
    refine lv_sipush (v := 1000) C.hx C.hb dX6_sings_32 (by decide) ?_
    refine lv_idiv C.hx C.hb dX6_sings_35 (by decide) ?_
    refine lv_aload_n C.hx C.hb dX6_sings_36 rfl (lv_at hl 0 rfl) ?_
    refine lv_iload_n C.hx C.hb dX6_sings_37 rfl (lv_at hl 1 rfl) ?_
    refine lv_iconst (v := 3) C.hx C.hb dX6_sings_38 (by decide) ?_
    refine mm_calli (As := [.int p1, .int 3]) (rest := [.int ((r8 * r9) / 1000)]) C (t_X6_at l hk) (cwV 2 C.hts (lw_V q1440 q1442 qs36 q65 q1443) rfl rfl rfl (by decide +kernel) ⟨Nat.le_of_ble_eq_true rfl, Nat.le_of_ble_eq_true rfl⟩) hH hS rfl hl.1 rfl (lv_room (Nat.le_of_ble_eq_true rfl)) dX6_sings_39 ⟨Nat.le_of_ble_eq_true rfl, Nat.le_of_ble_eq_true rfl⟩ (fun r11 s12 H locs hk hH hS => ?_)
    refine lv_imul C.hx C.hb dX6_sings_42 ?_
    refine lv_bipush (v := 100) C.hx C.hb dX6_sings_43 (by decide) ?_
    refine lv_idiv C.hx C.hb dX6_sings_45 (by decide) ?_
    refine lv_topi (fun v13 ev13 => ?_)
    have hk := hk v13 ev13
    refine lv_istore_n (lv' := [(2, .int v13), (0, .ref (ad (20, 0))), (1, .int p1)]) C.hx C.hb dX6_sings_46 rfl hl (by decide) rfl (fun ls hl => ?_)
    refine lv_aload_n C.hx C.hb dX6_sings_47 rfl (lv_at hl 1 rfl) ?_
    refine lv_iload_n C.hx C.hb dX6_sings_48 rfl (lv_at hl 2 rfl) ?_
    refine lv_bipush (v := 9) C.hx C.hb dX6_sings_49 (by decide) ?_
    refine lv_aload_n C.hx C.hb dX6_sings_51 rfl (lv_at hl 1 rfl) ?_
    refine lv_iload_n C.hx C.hb dX6_sings_52 rfl (lv_at hl 2 rfl) ?_
    refine lv_bipush (v := 9) C.hx C.hb dX6_sings_53 (by decide) ?_
    refine mm_calli (As := [.int p1, .int 9]) (rest := [.int 9, .int p1, .ref (ad (20, 0))]) C (t_X6_at l hk) (cwV 2 C.hts (lw_V q1440 q1442 qs36 q65 q1443) rfl rfl rfl (by decide +kernel) ⟨Nat.le_of_ble_eq_true rfl, Nat.le_of_ble_eq_true rfl⟩) hH hS rfl hl.1 rfl (lv_room (Nat.le_of_ble_eq_true rfl)) dX6_sings_55 ⟨Nat.le_of_ble_eq_true rfl, Nat.le_of_ble_eq_true rfl⟩ (fun r14 s15 H locs hk hH hS => ?_)
    refine lv_aload_n C.hx C.hb dX6_sings_58 rfl (lv_at hl 1 rfl) ?_
    refine lv_iload_n C.hx C.hb dX6_sings_59 rfl (lv_at hl 2 rfl) ?_
    refine lv_iconst (v := 2) C.hx C.hb dX6_sings_60 (by decide) ?_
    refine mm_calli (As := [.int p1, .int 2]) (rest := [.int r14, .int 9, .int p1, .ref (ad (20, 0))]) C (t_X6_at l hk) (cwV 2 C.hts (lw_V q1440 q1442 qs36 q65 q1443) rfl rfl rfl (by decide +kernel) ⟨Nat.le_of_ble_eq_true rfl, Nat.le_of_ble_eq_true rfl⟩) hH hS rfl hl.1 rfl (lv_room (Nat.le_of_ble_eq_true rfl)) dX6_sings_61 ⟨Nat.le_of_ble_eq_true rfl, Nat.le_of_ble_eq_true rfl⟩ (fun r16 s17 H locs hk hH hS => ?_)
    refine gb_call (As := [.int r16]) (rest := [.int r14, .int 9, .int p1, .ref (ad (20, 0))]) C.1 (t_X6_stepOf l hk) (va_cwS 1 C.hts (lw_S q1532 q1533 q65 q1534) rfl rfl rfl (by decide +kernel) ⟨Nat.le_of_ble_eq_true rfl, Nat.le_of_ble_eq_true rfl⟩) rfl hl.1 rfl (lv_room (Nat.le_of_ble_eq_true rfl)) dX6_sings_64 ⟨Nat.le_of_ble_eq_true rfl, Nat.le_of_ble_eq_true rfl⟩ (fun r18 hk => ?_)
    refine lv_iadd C.hx C.hb dX6_sings_67 ?_
    refine lv_ldc C.hx C.hb C.hown (C.hts _ q1538) dX6_sings_68 ?_
    refine lv_irem C.hx C.hb dX6_sings_70 (by decide) ?_
    refine mm_callv (As := [.int p1, .int 9, .int ((r14 + r18) - (r14 + r18) / 65536 * 65536)]) (rest := []) C (t_X6_lay l hk) (cwV 3 C.hts (lw_V q1448 q1450 qs38 q65 q1451) rfl rfl rfl (by decide +kernel) ⟨Nat.le_of_ble_eq_true rfl, Nat.le_of_ble_eq_true rfl⟩) hH hS rfl hl.1 rfl (lv_room (Nat.le_of_ble_eq_true rfl)) dX6_sings_71 ⟨Nat.le_of_ble_eq_true rfl, Nat.le_of_ble_eq_true rfl⟩ (fun s20 H locs hk hH hS => ?_)
    refine lv_aload_n C.hx C.hb dX6_sings_74 rfl (lv_at hl 1 rfl) ?_
    refine lv_iload_n C.hx C.hb dX6_sings_75 rfl (lv_at hl 2 rfl) ?_
    refine mm_calli (As := [.int p1]) (rest := []) C (t_X6_isReleased l hk) (cwV 1 C.hts (lw_V q1444 q1446 qs37 q65 q1447) rfl rfl rfl (by decide +kernel) ⟨Nat.le_of_ble_eq_true rfl, Nat.le_of_ble_eq_true rfl⟩) hH hS rfl hl.1 rfl (lv_room (Nat.le_of_ble_eq_true rfl)) dX6_sings_76 ⟨Nat.le_of_ble_eq_true rfl, Nat.le_of_ble_eq_true rfl⟩ (fun r21 s22 H locs hk hH hS => ?_)
    refine lv_if_eq (tgt := 125) C.hx C.hb dX6_sings_79 (by decide) (fun c23 => ?_) (fun c23 => ?_)
    · have hk := hk.1 c23
      refine lv_aload_n C.hx C.hb dX6_sings_125 rfl (lv_at hl 1 rfl) ?_
      refine lv_iload_n C.hx C.hb dX6_sings_126 rfl (lv_at hl 2 rfl) ?_
      refine lv_bipush (v := 10) C.hx C.hb dX6_sings_127 (by decide) ?_
      refine lv_aload_n C.hx C.hb dX6_sings_129 rfl (lv_at hl 1 rfl) ?_
      refine lv_iload_n C.hx C.hb dX6_sings_130 rfl (lv_at hl 2 rfl) ?_
      refine lv_bipush (v := 10) C.hx C.hb dX6_sings_131 (by decide) ?_
      refine mm_calli (As := [.int p1, .int 10]) (rest := [.int 10, .int p1, .ref (ad (20, 0))]) C (t_X6_at l hk) (cwV 2 C.hts (lw_V q1440 q1442 qs36 q65 q1443) rfl rfl rfl (by decide +kernel) ⟨Nat.le_of_ble_eq_true rfl, Nat.le_of_ble_eq_true rfl⟩) hH hS rfl hl.1 rfl (lv_room (Nat.le_of_ble_eq_true rfl)) dX6_sings_133 ⟨Nat.le_of_ble_eq_true rfl, Nat.le_of_ble_eq_true rfl⟩ (fun r24 s25 H locs hk hH hS => ?_)
      refine lv_iconst (v := 1) C.hx C.hb dX6_sings_136 (by decide) ?_
      refine lv_iadd C.hx C.hb dX6_sings_137 ?_
      refine mm_callv (As := [.int p1, .int 10, .int (r24 + 1)]) (rest := []) C (t_X6_lay l hk) (cwV 3 C.hts (lw_V q1448 q1450 qs38 q65 q1451) rfl rfl rfl (by decide +kernel) ⟨Nat.le_of_ble_eq_true rfl, Nat.le_of_ble_eq_true rfl⟩) hH hS rfl hl.1 rfl (lv_room (Nat.le_of_ble_eq_true rfl)) dX6_sings_138 ⟨Nat.le_of_ble_eq_true rfl, Nat.le_of_ble_eq_true rfl⟩ (fun s27 H locs hk hH hS => ?_)
      refine lv_iload_n C.hx C.hb dX6_sings_141 rfl (lv_at hl 0 rfl) ?_
      exact mm_iret C hr hlk hH hS hk dX6_sings_142
    · have hk := hk.2 c23
      refine lv_aload_n C.hx C.hb dX6_sings_82 rfl (lv_at hl 1 rfl) ?_
      refine lv_iload_n C.hx C.hb dX6_sings_83 rfl (lv_at hl 2 rfl) ?_
      refine lv_bipush (v := 12) C.hx C.hb dX6_sings_84 (by decide) ?_
      refine lv_aload_n C.hx C.hb dX6_sings_86 rfl (lv_at hl 1 rfl) ?_
      refine lv_iload_n C.hx C.hb dX6_sings_87 rfl (lv_at hl 2 rfl) ?_
      refine lv_bipush (v := 12) C.hx C.hb dX6_sings_88 (by decide) ?_
      refine mm_calli (As := [.int p1, .int 12]) (rest := [.int 12, .int p1, .ref (ad (20, 0))]) C (t_X6_at l hk) (cwV 2 C.hts (lw_V q1440 q1442 qs36 q65 q1443) rfl rfl rfl (by decide +kernel) ⟨Nat.le_of_ble_eq_true rfl, Nat.le_of_ble_eq_true rfl⟩) hH hS rfl hl.1 rfl (lv_room (Nat.le_of_ble_eq_true rfl)) dX6_sings_90 ⟨Nat.le_of_ble_eq_true rfl, Nat.le_of_ble_eq_true rfl⟩ (fun r28 s29 H locs hk hH hS => ?_)
      refine lv_iconst (v := 1) C.hx C.hb dX6_sings_93 (by decide) ?_
      refine lv_iadd C.hx C.hb dX6_sings_94 ?_
      refine mm_callv (As := [.int p1, .int 12, .int (r28 + 1)]) (rest := []) C (t_X6_lay l hk) (cwV 3 C.hts (lw_V q1448 q1450 qs38 q65 q1451) rfl rfl rfl (by decide +kernel) ⟨Nat.le_of_ble_eq_true rfl, Nat.le_of_ble_eq_true rfl⟩) hH hS rfl hl.1 rfl (lv_room (Nat.le_of_ble_eq_true rfl)) dX6_sings_95 ⟨Nat.le_of_ble_eq_true rfl, Nat.le_of_ble_eq_true rfl⟩ (fun s31 H locs hk hH hS => ?_)
      refine lv_aload_n C.hx C.hb dX6_sings_98 rfl (lv_at hl 1 rfl) ?_
      refine lv_iload_n C.hx C.hb dX6_sings_99 rfl (lv_at hl 2 rfl) ?_
      refine lv_bipush (v := 12) C.hx C.hb dX6_sings_100 (by decide) ?_
      refine mm_calli (As := [.int p1, .int 12]) (rest := []) C (t_X6_at l hk) (cwV 2 C.hts (lw_V q1440 q1442 qs36 q65 q1443) rfl rfl rfl (by decide +kernel) ⟨Nat.le_of_ble_eq_true rfl, Nat.le_of_ble_eq_true rfl⟩) hH hS rfl hl.1 rfl (lv_room (Nat.le_of_ble_eq_true rfl)) dX6_sings_102 ⟨Nat.le_of_ble_eq_true rfl, Nat.le_of_ble_eq_true rfl⟩ (fun r32 s33 H locs hk hH hS => ?_)
      refine lv_aload_n C.hx C.hb dX6_sings_105 rfl (lv_at hl 1 rfl) ?_
      refine lv_iload_n C.hx C.hb dX6_sings_106 rfl (lv_at hl 2 rfl) ?_
      refine lv_bipush (v := 8) C.hx C.hb dX6_sings_107 (by decide) ?_
      refine mm_calli (As := [.int p1, .int 8]) (rest := [.int r32]) C (t_X6_at l hk) (cwV 2 C.hts (lw_V q1440 q1442 qs36 q65 q1443) rfl rfl rfl (by decide +kernel) ⟨Nat.le_of_ble_eq_true rfl, Nat.le_of_ble_eq_true rfl⟩) hH hS rfl hl.1 rfl (lv_room (Nat.le_of_ble_eq_true rfl)) dX6_sings_109 ⟨Nat.le_of_ble_eq_true rfl, Nat.le_of_ble_eq_true rfl⟩ (fun r34 s35 H locs hk hH hS => ?_)
      refine lv_icmp_ne (tgt := 141) C.hx C.hb dX6_sings_112 (by decide) (fun c36 => ?_) (fun c36 => ?_)
      · have hk := hk.1 c36
        refine lv_iload_n C.hx C.hb dX6_sings_141 rfl (lv_at hl 0 rfl) ?_
        exact mm_iret C hr hlk hH hS hk dX6_sings_142
      · have hk := hk.2 c36
        refine lv_aload_n C.hx C.hb dX6_sings_115 rfl (lv_at hl 1 rfl) ?_
        refine lv_iload_n C.hx C.hb dX6_sings_116 rfl (lv_at hl 2 rfl) ?_
        refine lv_iconst (v := 0) C.hx C.hb dX6_sings_117 (by decide) ?_
        refine lv_iconst (v := 0) C.hx C.hb dX6_sings_118 (by decide) ?_
        refine mm_callv (As := [.int p1, .int 0, .int 0]) (rest := []) C (t_X6_lay l hk) (cwV 3 C.hts (lw_V q1448 q1450 qs38 q65 q1451) rfl rfl rfl (by decide +kernel) ⟨Nat.le_of_ble_eq_true rfl, Nat.le_of_ble_eq_true rfl⟩) hH hS rfl hl.1 rfl (lv_room (Nat.le_of_ble_eq_true rfl)) dX6_sings_119 ⟨Nat.le_of_ble_eq_true rfl, Nat.le_of_ble_eq_true rfl⟩ (fun s38 H locs hk hH hS => ?_)
        refine lv_goto (tgt := 141) C.hx C.hb dX6_sings_122 (by decide) ?_
        refine lv_iload_n C.hx C.hb dX6_sings_141 rfl (lv_at hl 0 rfl) ?_
        exact mm_iret C hr hlk hH hS hk dX6_sings_142
  · have hk := hk.2 c3
    refine lv_iconst (v := 0) C.hx C.hb dX6_sings_8 (by decide) ?_
    exact mm_iret C hr hlk hH hS hk dX6_sings_9
/-! ToneGraphModel.sung()I -/
def wp_X6_sung_4 (post : Int32 → mm_S → Prop) (K : Int32 → Int32 → mm_S → Prop) : Nat → Int32 → Int32 → mm_S → Prop
  | 0, _, _, _ => False
  | n4 + 1, x1, x2, s0 => ((4 ≤ x2 → K x1 x2 s0) ∧ (¬ 4 ≤ x2 → wp_X6_sings (fun r2 s3 => (∀ v4, v4 = (x1 + r2) → (∀ v5, v5 = x2 + 1 → wp_X6_sung_4 post K n4 v4 v5 s3))) x2 s0))
set_option maxHeartbeats 4000000 in
theorem tw_X6_sung_4 {p : Program} {l : Launch} {e : Env} {s : State} {m : MethodId} {args : Array Value} {below : List Frame} {meth : Method} {c : Code} {base : Nat} {D : va_G} {ca : Nat → ClassId} {Ls : List gb_L} {ad : gb_L → Nat} {w : gb_L → va_E} {post : Int32 → mm_S → Prop} {K : Int32 → Int32 → mm_S → Prop} (C : gb_C p m c cX6_sung 3 s args RX6 base D ca) (hr : meth.sig.returnType = (some .int)) (hlk : meth.locks = false) (hK : ∀ (x1 : Int32) (x2 : Int32) (σ' : mm_S) (H : Heap) (locs : List Loc) (ls : Array Slot), K x1 x2 σ' → mm_ok base D ca Ls ad w σ' H → va_S (fun q => base ≤ q) s.heap H locs → lv_has ls 3 [(0, .ref (ad (20, 0))), (1, .int x1), (2, .int x2)] → W p l e ({ frames := 5, cells := 0, slots := 0, locals := 109 } : Room) s m args below meth c H locs 0 0 (MQ below (va_Qi post (fun σ' t => mm_ok base D ca Ls ad w σ' t.heap) (fun q => base ≤ q)) args s 0 0 (fun q => base ≤ q)) (F0 m 23 ls [])) :
    ∀ (n : Nat) (x1 : Int32) (x2 : Int32) (s0 : mm_S) (H : Heap) (locs : List Loc) (ls : Array Slot), wp_X6_sung_4 post K n x1 x2 s0 → mm_ok base D ca Ls ad w s0 H → va_S (fun q => base ≤ q) s.heap H locs → lv_has ls 3 [(0, .ref (ad (20, 0))), (1, .int x1), (2, .int x2)] → W p l e ({ frames := 5, cells := 0, slots := 0, locals := 109 } : Room) s m args below meth c H locs 0 0 (MQ below (va_Qi post (fun σ' t => mm_ok base D ca Ls ad w σ' t.heap) (fun q => base ≤ q)) args s 0 0 (fun q => base ≤ q)) (F0 m 4 ls []) := by
  intro n
  induction n with
  | zero =>
    intro x1 x2 s0 H locs ls hk
    exact hk.elim
  | succ n ih =>
    intro x1 x2 s0 H locs ls hk hH hS hl
    rw [wp_X6_sung_4] at hk
    refine lv_iload_n C.hx C.hb dX6_sung_4 rfl (lv_at hl 2 rfl) ?_
    refine lv_iconst (v := 4) C.hx C.hb dX6_sung_5 (by decide) ?_
    refine lv_icmp_ge (tgt := 23) C.hx C.hb dX6_sung_6 (by decide) (fun c1 => ?_) (fun c1 => ?_)
    · have hk := hk.1 c1
      exact hK x1 x2 s0 _ _ _ hk hH hS (lv_sub hl [0, 1, 2] rfl)
    · have hk := hk.2 c1
      refine lv_iload_n C.hx C.hb dX6_sung_9 rfl (lv_at hl 1 rfl) ?_
      refine lv_aload_n C.hx C.hb dX6_sung_10 rfl (lv_at hl 0 rfl) ?_
      refine lv_iload_n C.hx C.hb dX6_sung_11 rfl (lv_at hl 2 rfl) ?_
      refine mm_calli (As := [.int x2]) (rest := [.int x1]) C (t_X6_sings l hk) (cwV 1 C.hts (lw_V q1523 q1525 qs47 q65 q1526) rfl rfl rfl (by decide +kernel) ⟨Nat.le_of_ble_eq_true rfl, Nat.le_of_ble_eq_true rfl⟩) hH hS rfl hl.1 rfl (lv_room (Nat.le_of_ble_eq_true rfl)) dX6_sung_12 ⟨Nat.le_of_ble_eq_true rfl, Nat.le_of_ble_eq_true rfl⟩ (fun r2 s3 H locs hk hH hS => ?_)
      refine lv_iadd C.hx C.hb dX6_sung_15 ?_
      refine lv_topi (fun v4 ev4 => ?_)
      have hk := hk v4 ev4
      refine lv_istore_n (lv' := [(1, .int v4), (0, .ref (ad (20, 0))), (2, .int x2)]) C.hx C.hb dX6_sung_16 rfl hl (by decide) rfl (fun ls hl => ?_)
      obtain ⟨v5, ev5⟩ : ∃ y : Int32, y = x2 + 1 := ⟨_, rfl⟩
      have hk := hk v5 ev5
      refine lv_iinc (v := v5) (lv' := [(2, .int v5), (1, .int v4), (0, .ref (ad (20, 0)))]) C.hx C.hb dX6_sung_17 hl (k := 2) rfl (by rw [ev5]; rfl) (by decide) rfl (fun ls hl => ?_)
      refine lv_goto (tgt := 4) C.hx C.hb dX6_sung_20 (by decide) ?_
      exact ih v4 v5 s3 _ _ _ hk hH hS (lv_sub hl [2, 1, 0] rfl)
def wp_X6_sung (post : Int32 → mm_S → Prop) (s0 : mm_S) : Prop := (∃ n4, wp_X6_sung_4 post (fun y6 y7 s8 => post y6 s8) n4 0 0 s0)
set_option maxHeartbeats 4000000 in
theorem t_X6_sung (l : Launch) {base : Nat} {D : va_G} {ca : Nat → ClassId} {Ls : List gb_L} {ad : gb_L → Nat} {w : gb_L → va_E} {post : Int32 → mm_S → Prop} {s0 : mm_S} (hk : wp_X6_sung post s0) : mm_Mi l yX6_sung (ws_ yX6_sung cX6_sung 3 (some .int)) ({ frames := 5, cells := 0, slots := 0, locals := 109 } : Room) base D ca Ls ad w [] s0 post := by
  refine mm_start cX6_sung 3 (some .int) _ (by decide) rfl rfl (Nat.le_of_ble_eq_true rfl) ?_
  intro p e s m args below meth c ls C hr hlk hH hS hl
  have hl : lv_has ls 3 [(0, .ref (ad (20, 0)))] := hl
  unfold wp_X6_sung at hk
  refine lv_iconst (v := 0) C.hx C.hb dX6_sung_0 (by decide) ?_
  refine lv_istore_n (lv' := [(1, .int 0), (0, .ref (ad (20, 0)))]) C.hx C.hb dX6_sung_1 rfl hl (by decide) rfl (fun ls hl => ?_)
  refine lv_iconst (v := 0) C.hx C.hb dX6_sung_2 (by decide) ?_
  refine lv_istore_n (lv' := [(2, .int 0), (1, .int 0), (0, .ref (ad (20, 0)))]) C.hx C.hb dX6_sung_3 rfl hl (by decide) rfl (fun ls hl => ?_)
  obtain ⟨n4, hk⟩ := hk
  refine tw_X6_sung_4 C hr hlk (fun y6 y7 s8 H locs ls hk hH hS hl => ?_) n4 0 0 s0 _ _ _ hk hH hS (lv_sub hl [2, 1, 0] rfl)
  refine lv_iload_n C.hx C.hb dX6_sung_23 rfl (lv_at hl 1 rfl) ?_
  exact mm_iret C hr hlk hH hS hk dX6_sung_24
/-! ToneGraphModel.inputOf(I)I -/
def wp_X6_inputOf_6 (post : Int32 → mm_S → Prop) (K : Int32 → Int32 → Int32 → mm_S → Prop) : Nat → Int32 → Int32 → Int32 → mm_S → Prop
  | 0, _, _, _, _ => False
  | n6 + 1, x1, x2, x3, s0 => (vp_in x1 10 ∧ ((((4 * x1) + (s0.2.1 8 x1.toNatClampNeg)) ≤ x3 → K x1 x2 x3 s0) ∧ (¬ ((4 * x1) + (s0.2.1 8 x1.toNatClampNeg)) ≤ x3 → (vp_in x3 40 ∧ (vp_in (630 + (s0.2.1 6 x3.toNatClampNeg)) 704 ∧ (vp_in x3 40 ∧ (∀ v7, v7 = (x2 + (((s0.2.1 0 (630 + (s0.2.1 6 x3.toNatClampNeg)).toNatClampNeg) * (s0.2.1 7 x3.toNatClampNeg)) / 100)) → (∀ v8, v8 = x3 + 1 → wp_X6_inputOf_6 post K n6 x1 v7 v8 s0))))))))
set_option maxHeartbeats 4000000 in
theorem tw_X6_inputOf_6 {p : Program} {l : Launch} {e : Env} {s : State} {m : MethodId} {args : Array Value} {below : List Frame} {meth : Method} {c : Code} {base : Nat} {D : va_G} {ca : Nat → ClassId} {Ls : List gb_L} {ad : gb_L → Nat} {w : gb_L → va_E} {post : Int32 → mm_S → Prop} {K : Int32 → Int32 → Int32 → mm_S → Prop} (C : gb_C p m c cX6_inputOf 4 s args RX6 base D ca) (hr : meth.sig.returnType = (some .int)) (hlk : meth.locks = false) (hK : ∀ (x1 : Int32) (x2 : Int32) (x3 : Int32) (σ' : mm_S) (H : Heap) (locs : List Loc) (ls : Array Slot), K x1 x2 x3 σ' → mm_ok base D ca Ls ad w σ' H → va_S (fun q => base ≤ q) s.heap H locs → lv_has ls 4 [(0, .ref (ad (20, 0))), (1, .int x1), (2, .int x2), (3, .int x3)] → W p l e ({ frames := 0, cells := 0, slots := 0, locals := 0 } : Room) s m args below meth c H locs 0 0 (MQ below (va_Qi post (fun σ' t => mm_ok base D ca Ls ad w σ' t.heap) (fun q => base ≤ q)) args s 0 0 (fun q => base ≤ q)) (F0 m 54 ls [])) :
    ∀ (n : Nat) (x1 : Int32) (x2 : Int32) (x3 : Int32) (s0 : mm_S) (H : Heap) (locs : List Loc) (ls : Array Slot), wp_X6_inputOf_6 post K n x1 x2 x3 s0 → mm_ok base D ca Ls ad w s0 H → va_S (fun q => base ≤ q) s.heap H locs → lv_has ls 4 [(0, .ref (ad (20, 0))), (1, .int x1), (2, .int x2), (3, .int x3)] → W p l e ({ frames := 0, cells := 0, slots := 0, locals := 0 } : Room) s m args below meth c H locs 0 0 (MQ below (va_Qi post (fun σ' t => mm_ok base D ca Ls ad w σ' t.heap) (fun q => base ≤ q)) args s 0 0 (fun q => base ≤ q)) (F0 m 6 ls []) := by
  intro n
  induction n with
  | zero =>
    intro x1 x2 x3 s0 H locs ls hk
    exact hk.elim
  | succ n ih =>
    intro x1 x2 x3 s0 H locs ls hk hH hS hl
    rw [wp_X6_inputOf_6] at hk
    refine lv_iload_n C.hx C.hb dX6_inputOf_6 rfl (lv_at hl 3 rfl) ?_
    refine lv_iconst (v := 4) C.hx C.hb dX6_inputOf_7 (by decide) ?_
    refine lv_iload_n C.hx C.hb dX6_inputOf_8 rfl (lv_at hl 1 rfl) ?_
    refine lv_imul C.hx C.hb dX6_inputOf_9 ?_
    refine lv_aload_n C.hx C.hb dX6_inputOf_10 rfl (lv_at hl 0 rfl) ?_
    refine mm_geta C hH 8 (by decide) q1249 dX6_inputOf_11 ?_
    refine lv_iload_n C.hx C.hb dX6_inputOf_14 rfl (lv_at hl 1 rfl) ?_
    obtain ⟨h2, hk⟩ := hk
    refine mm_ald C hH 8 (by decide) h2 dX6_inputOf_15 ?_
    refine lv_iadd C.hx C.hb dX6_inputOf_16 ?_
    refine lv_icmp_ge (tgt := 54) C.hx C.hb dX6_inputOf_17 (by decide) (fun c3 => ?_) (fun c3 => ?_)
    · have hk := hk.1 c3
      exact hK x1 x2 x3 s0 _ _ _ hk hH hS (lv_sub hl [0, 1, 2, 3] rfl)
    · have hk := hk.2 c3
      refine lv_iload_n C.hx C.hb dX6_inputOf_20 rfl (lv_at hl 2 rfl) ?_
      refine lv_aload_n C.hx C.hb dX6_inputOf_21 rfl (lv_at hl 0 rfl) ?_
      refine mm_geta C hH 0 (by decide) q1241 dX6_inputOf_22 ?_
      refine lv_sipush (v := 630) C.hx C.hb dX6_inputOf_25 (by decide) ?_
      refine lv_aload_n C.hx C.hb dX6_inputOf_28 rfl (lv_at hl 0 rfl) ?_
      refine mm_geta C hH 6 (by decide) q1247 dX6_inputOf_29 ?_
      refine lv_iload_n C.hx C.hb dX6_inputOf_32 rfl (lv_at hl 3 rfl) ?_
      obtain ⟨h4, hk⟩ := hk
      refine mm_ald C hH 6 (by decide) h4 dX6_inputOf_33 ?_
      refine lv_iadd C.hx C.hb dX6_inputOf_34 ?_
      obtain ⟨h5, hk⟩ := hk
      refine mm_ald C hH 0 (by decide) h5 dX6_inputOf_35 ?_
      refine lv_aload_n C.hx C.hb dX6_inputOf_36 rfl (lv_at hl 0 rfl) ?_
      refine mm_geta C hH 7 (by decide) q1248 dX6_inputOf_37 ?_
      refine lv_iload_n C.hx C.hb dX6_inputOf_40 rfl (lv_at hl 3 rfl) ?_
      obtain ⟨h6, hk⟩ := hk
      refine mm_ald C hH 7 (by decide) h6 dX6_inputOf_41 ?_
      refine lv_imul C.hx C.hb dX6_inputOf_42 ?_
      refine lv_bipush (v := 100) C.hx C.hb dX6_inputOf_43 (by decide) ?_
      refine lv_idiv C.hx C.hb dX6_inputOf_45 (by decide) ?_
      refine lv_iadd C.hx C.hb dX6_inputOf_46 ?_
      refine lv_topi (fun v7 ev7 => ?_)
      have hk := hk v7 ev7
      refine lv_istore_n (lv' := [(2, .int v7), (0, .ref (ad (20, 0))), (1, .int x1), (3, .int x3)]) C.hx C.hb dX6_inputOf_47 rfl hl (by decide) rfl (fun ls hl => ?_)
      obtain ⟨v8, ev8⟩ : ∃ y : Int32, y = x3 + 1 := ⟨_, rfl⟩
      have hk := hk v8 ev8
      refine lv_iinc (v := v8) (lv' := [(3, .int v8), (2, .int v7), (0, .ref (ad (20, 0))), (1, .int x1)]) C.hx C.hb dX6_inputOf_48 hl (k := 3) rfl (by rw [ev8]; rfl) (by decide) rfl (fun ls hl => ?_)
      refine lv_goto (tgt := 6) C.hx C.hb dX6_inputOf_51 (by decide) ?_
      exact ih x1 v7 v8 s0 _ _ _ hk hH hS (lv_sub hl [2, 3, 1, 0] rfl)
def wp_X6_inputOf (post : Int32 → mm_S → Prop) (p1 : Int32) (s0 : mm_S) : Prop := (∀ v1, v1 = (4 * p1) → (∃ n6, wp_X6_inputOf_6 post (fun y9 y10 y11 s12 => post y10 s12) n6 p1 0 v1 s0))
set_option maxHeartbeats 4000000 in
theorem t_X6_inputOf (l : Launch) {base : Nat} {D : va_G} {ca : Nat → ClassId} {Ls : List gb_L} {ad : gb_L → Nat} {w : gb_L → va_E} {post : Int32 → mm_S → Prop} {p1 : Int32} {s0 : mm_S} (hk : wp_X6_inputOf post p1 s0) : mm_Mi l yX6_inputOf (ws_ yX6_inputOf cX6_inputOf 4 (some .int)) ({ frames := 0, cells := 0, slots := 0, locals := 0 } : Room) base D ca Ls ad w [.int p1] s0 post := by
  refine mm_start cX6_inputOf 4 (some .int) _ (by decide) rfl rfl (Nat.le_of_ble_eq_true rfl) ?_
  intro p e s m args below meth c ls C hr hlk hH hS hl
  have hl : lv_has ls 4 [(0, .ref (ad (20, 0))), (1, .int p1)] := hl
  unfold wp_X6_inputOf at hk
  refine lv_iconst (v := 0) C.hx C.hb dX6_inputOf_0 (by decide) ?_
  refine lv_istore_n (lv' := [(2, .int 0), (0, .ref (ad (20, 0))), (1, .int p1)]) C.hx C.hb dX6_inputOf_1 rfl hl (by decide) rfl (fun ls hl => ?_)
  refine lv_iconst (v := 4) C.hx C.hb dX6_inputOf_2 (by decide) ?_
  refine lv_iload_n C.hx C.hb dX6_inputOf_3 rfl (lv_at hl 2 rfl) ?_
  refine lv_imul C.hx C.hb dX6_inputOf_4 ?_
  refine lv_topi (fun v1 ev1 => ?_)
  have hk := hk v1 ev1
  refine lv_istore_n (lv' := [(3, .int v1), (2, .int 0), (0, .ref (ad (20, 0))), (1, .int p1)]) C.hx C.hb dX6_inputOf_5 rfl hl (by decide) rfl (fun ls hl => ?_)
  obtain ⟨n6, hk⟩ := hk
  refine tw_X6_inputOf_6 C hr hlk (fun y9 y10 y11 s12 H locs ls hk hH hS hl => ?_) n6 p1 0 v1 s0 _ _ _ hk hH hS (lv_sub hl [2, 3, 1, 0] rfl)
  refine lv_iload_n C.hx C.hb dX6_inputOf_54 rfl (lv_at hl 2 rfl) ?_
  exact mm_iret C hr hlk hH hS hk dX6_inputOf_55
/-! ToneGraphModel.cut(I)I -/
def wp_X6_cut (post : Int32 → Prop) (p1 : Int32) : Prop := ((p1 ≤ 32767 → (((-32767) ≤ p1 → post p1) ∧ (¬ (-32767) ≤ p1 → post (-32767)))) ∧ (¬ p1 ≤ 32767 → post 32767))
set_option maxHeartbeats 4000000 in
theorem t_X6_cut (l : Launch) {post : Int32 → Prop} {p1 : Int32} (hk : wp_X6_cut post p1) : gb_Ps l yX6_cut (ws_ yX6_cut cX6_cut 1 (some .int)) ({ frames := 0, cells := 0, slots := 0, locals := 0 } : Room) [.int p1] post := by
  refine gb_start cX6_cut 1 (some .int) (by decide) rfl (Nat.le_of_ble_eq_true rfl) ?_
  intro p e s m args below meth c ls C hr hlk hl
  have hl : lv_has ls 1 [(0, .int p1)] := hl
  unfold wp_X6_cut at hk
  refine lv_iload_n C.1 C.2.1 dX6_cut_0 rfl (lv_at hl 0 rfl) ?_
  refine lv_sipush (v := 32767) C.1 C.2.1 dX6_cut_1 (by decide) ?_
  refine lv_icmp_le (tgt := 13) C.1 C.2.1 dX6_cut_4 (by decide) (fun c1 => ?_) (fun c1 => ?_)
  · have hk := hk.1 c1
    refine lv_iload_n C.1 C.2.1 dX6_cut_13 rfl (lv_at hl 0 rfl) ?_
    refine lv_sipush (v := (-32767)) C.1 C.2.1 dX6_cut_14 (by decide) ?_
    refine lv_icmp_ge (tgt := 26) C.1 C.2.1 dX6_cut_17 (by decide) (fun c2 => ?_) (fun c2 => ?_)
    · have hk := hk.1 c2
      refine lv_iload_n C.1 C.2.1 dX6_cut_26 rfl (lv_at hl 0 rfl) ?_
      exact gb_iret C hr hlk hk dX6_cut_27
    · have hk := hk.2 c2
      refine lv_sipush (v := (-32767)) C.1 C.2.1 dX6_cut_20 (by decide) ?_
      refine lv_goto (tgt := 27) C.1 C.2.1 dX6_cut_23 (by decide) ?_
      exact gb_iret C hr hlk hk dX6_cut_27
  · have hk := hk.2 c1
    refine lv_sipush (v := 32767) C.1 C.2.1 dX6_cut_7 (by decide) ?_
    refine lv_goto (tgt := 27) C.1 C.2.1 dX6_cut_10 (by decide) ?_
    exact gb_iret C hr hlk hk dX6_cut_27
/-! ToneGraphModel.filtered(I)I -/
def wp_X6_filtered (post : Int32 → mm_S → Prop) (p1 : Int32) (s0 : mm_S) : Prop := wp_X6_inputOf (fun r1 s2 => (vp_in p1 10 ∧ (vp_in p1 10 ∧ (vp_in (610 + p1) 704 ∧ (vp_in p1 10 ∧ (vp_in (620 + p1) 704 ∧ wp_X6_cut (fun r8 => (vp_in (610 + p1) 704 ∧ (∀ s10 : mm_S, s10 = ms_a s2 0 (610 + p1).toNatClampNeg r1 → (vp_in (620 + p1) 704 ∧ (∀ s12 : mm_S, s12 = ms_a s10 0 (620 + p1).toNatClampNeg r8 → post r8 s12))))) (((((s2.2.1 3 p1.toNatClampNeg) * r1) + ((s2.2.1 4 p1.toNatClampNeg) * (s2.2.1 0 (610 + p1).toNatClampNeg))) + ((s2.2.1 5 p1.toNatClampNeg) * (s2.2.1 0 (620 + p1).toNatClampNeg))) / 64))))))) p1 s0
set_option maxHeartbeats 4000000 in
theorem t_X6_filtered (l : Launch) {base : Nat} {D : va_G} {ca : Nat → ClassId} {Ls : List gb_L} {ad : gb_L → Nat} {w : gb_L → va_E} {post : Int32 → mm_S → Prop} {p1 : Int32} {s0 : mm_S} (hk : wp_X6_filtered post p1 s0) : mm_Mi l yX6_filtered (ws_ yX6_filtered cX6_filtered 4 (some .int)) ({ frames := 1, cells := 0, slots := 0, locals := 23 } : Room) base D ca Ls ad w [.int p1] s0 post := by
  refine mm_start cX6_filtered 4 (some .int) _ (by decide) rfl rfl (Nat.le_of_ble_eq_true rfl) ?_
  intro p e s m args below meth c ls C hr hlk hH hS hl
  have hl : lv_has ls 4 [(0, .ref (ad (20, 0))), (1, .int p1)] := hl
  unfold wp_X6_filtered at hk
  refine lv_aload_n C.hx C.hb dX6_filtered_0 rfl (lv_at hl 0 rfl) ?_
  refine lv_iload_n C.hx C.hb dX6_filtered_1 rfl (lv_at hl 1 rfl) ?_
  refine mm_calli (As := [.int p1]) (rest := []) C (t_X6_inputOf l hk) (cwV 1 C.hts (lw_V q1543 q1545 qs49 q65 q1546) rfl rfl rfl (by decide +kernel) ⟨Nat.le_of_ble_eq_true rfl, Nat.le_of_ble_eq_true rfl⟩) hH hS rfl hl.1 rfl (lv_room (Nat.le_of_ble_eq_true rfl)) dX6_filtered_2 ⟨Nat.le_of_ble_eq_true rfl, Nat.le_of_ble_eq_true rfl⟩ (fun r1 s2 H locs hk hH hS => ?_)
  refine lv_istore_n (lv' := [(2, .int r1), (0, .ref (ad (20, 0))), (1, .int p1)]) C.hx C.hb dX6_filtered_5 rfl hl (by decide) rfl (fun ls hl => ?_)
  refine lv_aload_n C.hx C.hb dX6_filtered_6 rfl (lv_at hl 1 rfl) ?_
  refine mm_geta C hH 3 (by decide) q1244 dX6_filtered_7 ?_
  refine lv_iload_n C.hx C.hb dX6_filtered_10 rfl (lv_at hl 2 rfl) ?_
  obtain ⟨h3, hk⟩ := hk
  refine mm_ald C hH 3 (by decide) h3 dX6_filtered_11 ?_
  refine lv_iload_n C.hx C.hb dX6_filtered_12 rfl (lv_at hl 0 rfl) ?_
  refine lv_imul C.hx C.hb dX6_filtered_13 ?_
  refine lv_aload_n C.hx C.hb dX6_filtered_14 rfl (lv_at hl 1 rfl) ?_
  refine mm_geta C hH 4 (by decide) q1245 dX6_filtered_15 ?_
  refine lv_iload_n C.hx C.hb dX6_filtered_18 rfl (lv_at hl 2 rfl) ?_
  obtain ⟨h4, hk⟩ := hk
  refine mm_ald C hH 4 (by decide) h4 dX6_filtered_19 ?_
  refine lv_aload_n C.hx C.hb dX6_filtered_20 rfl (lv_at hl 1 rfl) ?_
  refine mm_geta C hH 0 (by decide) q1241 dX6_filtered_21 ?_
  refine lv_sipush (v := 610) C.hx C.hb dX6_filtered_24 (by decide) ?_
  refine lv_iload_n C.hx C.hb dX6_filtered_27 rfl (lv_at hl 2 rfl) ?_
  refine lv_iadd C.hx C.hb dX6_filtered_28 ?_
  obtain ⟨h5, hk⟩ := hk
  refine mm_ald C hH 0 (by decide) h5 dX6_filtered_29 ?_
  refine lv_imul C.hx C.hb dX6_filtered_30 ?_
  refine lv_iadd C.hx C.hb dX6_filtered_31 ?_
  refine lv_aload_n C.hx C.hb dX6_filtered_32 rfl (lv_at hl 1 rfl) ?_
  refine mm_geta C hH 5 (by decide) q1246 dX6_filtered_33 ?_
  refine lv_iload_n C.hx C.hb dX6_filtered_36 rfl (lv_at hl 2 rfl) ?_
  obtain ⟨h6, hk⟩ := hk
  refine mm_ald C hH 5 (by decide) h6 dX6_filtered_37 ?_
  refine lv_aload_n C.hx C.hb dX6_filtered_38 rfl (lv_at hl 1 rfl) ?_
  refine mm_geta C hH 0 (by decide) q1241 dX6_filtered_39 ?_
  refine lv_sipush (v := 620) C.hx C.hb dX6_filtered_42 (by decide) ?_
  refine lv_iload_n C.hx C.hb dX6_filtered_45 rfl (lv_at hl 2 rfl) ?_
  refine lv_iadd C.hx C.hb dX6_filtered_46 ?_
  obtain ⟨h7, hk⟩ := hk
  refine mm_ald C hH 0 (by decide) h7 dX6_filtered_47 ?_
  refine lv_imul C.hx C.hb dX6_filtered_48 ?_
  refine lv_iadd C.hx C.hb dX6_filtered_49 ?_
  refine lv_bipush (v := 64) C.hx C.hb dX6_filtered_50 (by decide) ?_
  refine lv_idiv C.hx C.hb dX6_filtered_52 (by decide) ?_
  refine gb_call (As := [.int (((((s2.2.1 3 p1.toNatClampNeg) * r1) + ((s2.2.1 4 p1.toNatClampNeg) * (s2.2.1 0 (610 + p1).toNatClampNeg))) + ((s2.2.1 5 p1.toNatClampNeg) * (s2.2.1 0 (620 + p1).toNatClampNeg))) / 64)]) (rest := []) C.1 (t_X6_cut l hk) (va_cwS 1 C.hts (lw_S q1547 q1548 q65 q1549) rfl rfl rfl (by decide +kernel) ⟨Nat.le_of_ble_eq_true rfl, Nat.le_of_ble_eq_true rfl⟩) rfl hl.1 rfl (lv_room (Nat.le_of_ble_eq_true rfl)) dX6_filtered_53 ⟨Nat.le_of_ble_eq_true rfl, Nat.le_of_ble_eq_true rfl⟩ (fun r8 hk => ?_)
  refine lv_istore_n (lv' := [(3, .int r8), (2, .int r1), (0, .ref (ad (20, 0))), (1, .int p1)]) C.hx C.hb dX6_filtered_56 rfl hl (by decide) rfl (fun ls hl => ?_)
  refine lv_aload_n C.hx C.hb dX6_filtered_57 rfl (lv_at hl 2 rfl) ?_
  refine mm_geta C hH 0 (by decide) q1241 dX6_filtered_58 ?_
  refine lv_sipush (v := 610) C.hx C.hb dX6_filtered_61 (by decide) ?_
  refine lv_iload_n C.hx C.hb dX6_filtered_64 rfl (lv_at hl 3 rfl) ?_
  refine lv_iadd C.hx C.hb dX6_filtered_65 ?_
  refine lv_iload_n C.hx C.hb dX6_filtered_66 rfl (lv_at hl 1 rfl) ?_
  obtain ⟨h9, hk⟩ := hk
  refine mm_ast C hH hS 0 (by decide) h9 dX6_filtered_67 (fun s10 es10 H locs hH hS => ?_)
  have hk := hk s10 es10
  refine lv_aload_n C.hx C.hb dX6_filtered_68 rfl (lv_at hl 2 rfl) ?_
  refine mm_geta C hH 0 (by decide) q1241 dX6_filtered_69 ?_
  refine lv_sipush (v := 620) C.hx C.hb dX6_filtered_72 (by decide) ?_
  refine lv_iload_n C.hx C.hb dX6_filtered_75 rfl (lv_at hl 3 rfl) ?_
  refine lv_iadd C.hx C.hb dX6_filtered_76 ?_
  refine lv_iload_n C.hx C.hb dX6_filtered_77 rfl (lv_at hl 0 rfl) ?_
  obtain ⟨h11, hk⟩ := hk
  refine mm_ast C hH hS 0 (by decide) h11 dX6_filtered_78 (fun s12 es12 H locs hH hS => ?_)
  have hk := hk s12 es12
  refine lv_iload_n C.hx C.hb dX6_filtered_79 rfl (lv_at hl 0 rfl) ?_
  exact mm_iret C hr hlk hH hS hk dX6_filtered_80
/-! ToneGraphModel.size(I)I -/
def wp_X6_size (post : Int32 → Prop) (p1 : Int32) : Prop := ((0 ≤ p1 → post p1) ∧ (¬ 0 ≤ p1 → post (-p1)))
set_option maxHeartbeats 4000000 in
theorem t_X6_size (l : Launch) {post : Int32 → Prop} {p1 : Int32} (hk : wp_X6_size post p1) : gb_Ps l yX6_size (ws_ yX6_size cX6_size 1 (some .int)) ({ frames := 0, cells := 0, slots := 0, locals := 0 } : Room) [.int p1] post := by
  refine gb_start cX6_size 1 (some .int) (by decide) rfl (Nat.le_of_ble_eq_true rfl) ?_
  intro p e s m args below meth c ls C hr hlk hl
  have hl : lv_has ls 1 [(0, .int p1)] := hl
  unfold wp_X6_size at hk
  refine lv_iload_n C.1 C.2.1 dX6_size_0 rfl (lv_at hl 0 rfl) ?_
  refine lv_if_ge (tgt := 9) C.1 C.2.1 dX6_size_1 (by decide) (fun c1 => ?_) (fun c1 => ?_)
  · have hk := hk.1 c1
    refine lv_iload_n C.1 C.2.1 dX6_size_9 rfl (lv_at hl 0 rfl) ?_
    exact gb_iret C hr hlk hk dX6_size_10
  · have hk := hk.2 c1
    refine lv_iload_n C.1 C.2.1 dX6_size_4 rfl (lv_at hl 0 rfl) ?_
    refine lv_ineg C.1 C.2.1 dX6_size_5 ?_
    refine lv_goto (tgt := 10) C.1 C.2.1 dX6_size_6 (by decide) ?_
    exact gb_iret C hr hlk hk dX6_size_10
/-! ToneGraphModel.limited(II)I -/
def wp_X6_limited (post : Int32 → Prop) (p1 : Int32) (p2 : Int32) : Prop := wp_X6_size (fun r1 => ((p2 < r1 → wp_X6_size (fun r3 => (∀ v4, v4 = (p2 + ((r3 - p2) / 4)) → ((0 ≤ p1 → post v4) ∧ (¬ 0 ≤ p1 → post (-v4))))) p1) ∧ (¬ p2 < r1 → post p1))) p1
set_option maxHeartbeats 4000000 in
theorem t_X6_limited (l : Launch) {post : Int32 → Prop} {p1 : Int32} {p2 : Int32} (hk : wp_X6_limited post p1 p2) : gb_Ps l yX6_limited (ws_ yX6_limited cX6_limited 3 (some .int)) ({ frames := 1, cells := 0, slots := 0, locals := 20 } : Room) [.int p1, .int p2] post := by
  refine gb_start cX6_limited 3 (some .int) (by decide) rfl (Nat.le_of_ble_eq_true rfl) ?_
  intro p e s m args below meth c ls C hr hlk hl
  have hl : lv_has ls 3 [(0, .int p1), (1, .int p2)] := hl
  unfold wp_X6_limited at hk
  refine lv_iload_n C.1 C.2.1 dX6_limited_0 rfl (lv_at hl 0 rfl) ?_
  refine gb_call (As := [.int p1]) (rest := []) C (t_X6_size l hk) (va_cwS 1 C.2.2.2.2 (lw_S q1553 q1554 q65 q1555) rfl rfl rfl (by decide +kernel) ⟨Nat.le_of_ble_eq_true rfl, Nat.le_of_ble_eq_true rfl⟩) rfl hl.1 rfl (lv_room (Nat.le_of_ble_eq_true rfl)) dX6_limited_1 ⟨Nat.le_of_ble_eq_true rfl, Nat.le_of_ble_eq_true rfl⟩ (fun r1 hk => ?_)
  refine lv_iload_n C.1 C.2.1 dX6_limited_4 rfl (lv_at hl 1 rfl) ?_
  refine lv_icmp_gt (tgt := 10) C.1 C.2.1 dX6_limited_5 (by decide) (fun c2 => ?_) (fun c2 => ?_)
  · have hk := hk.1 c2
    refine lv_iload_n C.1 C.2.1 dX6_limited_10 rfl (lv_at hl 1 rfl) ?_
    refine lv_iload_n C.1 C.2.1 dX6_limited_11 rfl (lv_at hl 0 rfl) ?_
    refine gb_call (As := [.int p1]) (rest := [.int p2]) C (t_X6_size l hk) (va_cwS 1 C.2.2.2.2 (lw_S q1553 q1554 q65 q1555) rfl rfl rfl (by decide +kernel) ⟨Nat.le_of_ble_eq_true rfl, Nat.le_of_ble_eq_true rfl⟩) rfl hl.1 rfl (lv_room (Nat.le_of_ble_eq_true rfl)) dX6_limited_12 ⟨Nat.le_of_ble_eq_true rfl, Nat.le_of_ble_eq_true rfl⟩ (fun r3 hk => ?_)
    refine lv_iload_n C.1 C.2.1 dX6_limited_15 rfl (lv_at hl 1 rfl) ?_
    refine lv_isub C.1 C.2.1 dX6_limited_16 ?_
    refine lv_iconst (v := 4) C.1 C.2.1 dX6_limited_17 (by decide) ?_
    refine lv_idiv C.1 C.2.1 dX6_limited_18 (by decide) ?_
    refine lv_iadd C.1 C.2.1 dX6_limited_19 ?_
    refine lv_topi (fun v4 ev4 => ?_)
    have hk := hk v4 ev4
    refine lv_istore_n (lv' := [(2, .int v4), (0, .int p1), (1, .int p2)]) C.1 C.2.1 dX6_limited_20 rfl hl (by decide) rfl (fun ls hl => ?_)
    refine lv_iload_n C.1 C.2.1 dX6_limited_21 rfl (lv_at hl 1 rfl) ?_
    refine lv_if_ge (tgt := 30) C.1 C.2.1 dX6_limited_22 (by decide) (fun c5 => ?_) (fun c5 => ?_)
    · have hk := hk.1 c5
      refine lv_iload_n C.1 C.2.1 dX6_limited_30 rfl (lv_at hl 0 rfl) ?_
      exact gb_iret C hr hlk hk dX6_limited_31
    · have hk := hk.2 c5
      refine lv_iload_n C.1 C.2.1 dX6_limited_25 rfl (lv_at hl 0 rfl) ?_
      refine lv_ineg C.1 C.2.1 dX6_limited_26 ?_
      refine lv_goto (tgt := 31) C.1 C.2.1 dX6_limited_27 (by decide) ?_
      exact gb_iret C hr hlk hk dX6_limited_31
  · have hk := hk.2 c2
    refine lv_iload_n C.1 C.2.1 dX6_limited_8 rfl (lv_at hl 0 rfl) ?_
    exact gb_iret C hr hlk hk dX6_limited_9
/-! ToneGraphModel.sounds(I)I -/
def wp_X6_sounds (post : Int32 → mm_S → Prop) (p1 : Int32) (s0 : mm_S) : Prop := (vp_in p1 10 ∧ (∀ v2, v2 = (s0.2.1 2 p1.toNatClampNeg) → ((¬ v2 = 0 → ((¬ v2 = 3 → ((¬ v2 = 1 → wp_X6_inputOf (fun r6 s7 => (vp_in p1 10 ∧ wp_X6_limited (fun r9 => post r9 s7) r6 (s7.2.1 3 p1.toNatClampNeg))) p1 s0) ∧ (v2 = 1 → wp_X6_inputOf (fun r10 s11 => (vp_in p1 10 ∧ post ((r10 * (s11.2.1 3 p1.toNatClampNeg)) / 100) s11)) p1 s0))) ∧ (v2 = 3 → wp_X6_filtered (fun r13 s14 => post r13 s14) p1 s0))) ∧ (v2 = 0 → wp_X6_sung (fun r15 s16 => post r15 s16)  s0))))
set_option maxHeartbeats 4000000 in
theorem t_X6_sounds (l : Launch) {base : Nat} {D : va_G} {ca : Nat → ClassId} {Ls : List gb_L} {ad : gb_L → Nat} {w : gb_L → va_E} {post : Int32 → mm_S → Prop} {p1 : Int32} {s0 : mm_S} (hk : wp_X6_sounds post p1 s0) : mm_Mi l yX6_sounds (ws_ yX6_sounds cX6_sounds 3 (some .int)) ({ frames := 6, cells := 0, slots := 0, locals := 131 } : Room) base D ca Ls ad w [.int p1] s0 post := by
  refine mm_start cX6_sounds 3 (some .int) _ (by decide) rfl rfl (Nat.le_of_ble_eq_true rfl) ?_
  intro p e s m args below meth c ls C hr hlk hH hS hl
  have hl : lv_has ls 3 [(0, .ref (ad (20, 0))), (1, .int p1)] := hl
  unfold wp_X6_sounds at hk
  refine lv_aload_n C.hx C.hb dX6_sounds_0 rfl (lv_at hl 0 rfl) ?_
  refine mm_geta C hH 2 (by decide) q1243 dX6_sounds_1 ?_
  refine lv_iload_n C.hx C.hb dX6_sounds_4 rfl (lv_at hl 1 rfl) ?_
  obtain ⟨h1, hk⟩ := hk
  refine mm_ald C hH 2 (by decide) h1 dX6_sounds_5 ?_
  refine lv_topi (fun v2 ev2 => ?_)
  have hk := hk v2 ev2
  refine lv_istore_n (lv' := [(2, .int v2), (0, .ref (ad (20, 0))), (1, .int p1)]) C.hx C.hb dX6_sounds_6 rfl hl (by decide) rfl (fun ls hl => ?_)
  refine lv_iload_n C.hx C.hb dX6_sounds_7 rfl (lv_at hl 0 rfl) ?_
  refine lv_if_ne (tgt := 16) C.hx C.hb dX6_sounds_8 (by decide) (fun c3 => ?_) (fun c3 => ?_)
  · have hk := hk.1 c3
    refine lv_iload_n C.hx C.hb dX6_sounds_16 rfl (lv_at hl 0 rfl) ?_
    refine lv_iconst (v := 3) C.hx C.hb dX6_sounds_17 (by decide) ?_
    refine lv_icmp_ne (tgt := 27) C.hx C.hb dX6_sounds_18 (by decide) (fun c4 => ?_) (fun c4 => ?_)
    · have hk := hk.1 c4
      refine lv_iload_n C.hx C.hb dX6_sounds_27 rfl (lv_at hl 0 rfl) ?_
      refine lv_iconst (v := 1) C.hx C.hb dX6_sounds_28 (by decide) ?_
      refine lv_icmp_ne (tgt := 50) C.hx C.hb dX6_sounds_29 (by decide) (fun c5 => ?_) (fun c5 => ?_)
      · have hk := hk.1 c5
        refine lv_aload_n C.hx C.hb dX6_sounds_50 rfl (lv_at hl 1 rfl) ?_
        refine lv_iload_n C.hx C.hb dX6_sounds_51 rfl (lv_at hl 2 rfl) ?_
        refine mm_calli (As := [.int p1]) (rest := []) C (t_X6_inputOf l hk) (cwV 1 C.hts (lw_V q1543 q1545 qs49 q65 q1546) rfl rfl rfl (by decide +kernel) ⟨Nat.le_of_ble_eq_true rfl, Nat.le_of_ble_eq_true rfl⟩) hH hS rfl hl.1 rfl (lv_room (Nat.le_of_ble_eq_true rfl)) dX6_sounds_52 ⟨Nat.le_of_ble_eq_true rfl, Nat.le_of_ble_eq_true rfl⟩ (fun r6 s7 H locs hk hH hS => ?_)
        refine lv_aload_n C.hx C.hb dX6_sounds_55 rfl (lv_at hl 1 rfl) ?_
        refine mm_geta C hH 3 (by decide) q1244 dX6_sounds_56 ?_
        refine lv_iload_n C.hx C.hb dX6_sounds_59 rfl (lv_at hl 2 rfl) ?_
        obtain ⟨h8, hk⟩ := hk
        refine mm_ald C hH 3 (by decide) h8 dX6_sounds_60 ?_
        refine gb_call (As := [.int r6, .int (s7.2.1 3 p1.toNatClampNeg)]) (rest := []) C.1 (t_X6_limited l hk) (va_cwS 2 C.hts (lw_S q1550 q1551 q65 q1552) rfl rfl rfl (by decide +kernel) ⟨Nat.le_of_ble_eq_true rfl, Nat.le_of_ble_eq_true rfl⟩) rfl hl.1 rfl (lv_room (Nat.le_of_ble_eq_true rfl)) dX6_sounds_61 ⟨Nat.le_of_ble_eq_true rfl, Nat.le_of_ble_eq_true rfl⟩ (fun r9 hk => ?_)
        exact mm_iret C hr hlk hH hS hk dX6_sounds_64
      · have hk := hk.2 c5
        refine lv_aload_n C.hx C.hb dX6_sounds_32 rfl (lv_at hl 1 rfl) ?_
        refine lv_iload_n C.hx C.hb dX6_sounds_33 rfl (lv_at hl 2 rfl) ?_
        refine mm_calli (As := [.int p1]) (rest := []) C (t_X6_inputOf l hk) (cwV 1 C.hts (lw_V q1543 q1545 qs49 q65 q1546) rfl rfl rfl (by decide +kernel) ⟨Nat.le_of_ble_eq_true rfl, Nat.le_of_ble_eq_true rfl⟩) hH hS rfl hl.1 rfl (lv_room (Nat.le_of_ble_eq_true rfl)) dX6_sounds_34 ⟨Nat.le_of_ble_eq_true rfl, Nat.le_of_ble_eq_true rfl⟩ (fun r10 s11 H locs hk hH hS => ?_)
        refine lv_aload_n C.hx C.hb dX6_sounds_37 rfl (lv_at hl 1 rfl) ?_
        refine mm_geta C hH 3 (by decide) q1244 dX6_sounds_38 ?_
        refine lv_iload_n C.hx C.hb dX6_sounds_41 rfl (lv_at hl 2 rfl) ?_
        obtain ⟨h12, hk⟩ := hk
        refine mm_ald C hH 3 (by decide) h12 dX6_sounds_42 ?_
        refine lv_imul C.hx C.hb dX6_sounds_43 ?_
        refine lv_bipush (v := 100) C.hx C.hb dX6_sounds_44 (by decide) ?_
        refine lv_idiv C.hx C.hb dX6_sounds_46 (by decide) ?_
        refine lv_goto (tgt := 64) C.hx C.hb dX6_sounds_47 (by decide) ?_
        exact mm_iret C hr hlk hH hS hk dX6_sounds_64
    · have hk := hk.2 c4
      refine lv_aload_n C.hx C.hb dX6_sounds_21 rfl (lv_at hl 1 rfl) ?_
      refine lv_iload_n C.hx C.hb dX6_sounds_22 rfl (lv_at hl 2 rfl) ?_
      refine mm_calli (As := [.int p1]) (rest := []) C (t_X6_filtered l hk) (cwV 1 C.hts (lw_V q1539 q1541 qs48 q65 q1542) rfl rfl rfl (by decide +kernel) ⟨Nat.le_of_ble_eq_true rfl, Nat.le_of_ble_eq_true rfl⟩) hH hS rfl hl.1 rfl (lv_room (Nat.le_of_ble_eq_true rfl)) dX6_sounds_23 ⟨Nat.le_of_ble_eq_true rfl, Nat.le_of_ble_eq_true rfl⟩ (fun r13 s14 H locs hk hH hS => ?_)
      exact mm_iret C hr hlk hH hS hk dX6_sounds_26
  · have hk := hk.2 c3
    refine lv_aload_n C.hx C.hb dX6_sounds_11 rfl (lv_at hl 1 rfl) ?_
    refine mm_calli (As := []) (rest := []) C (t_X6_sung l hk) (cwV 0 C.hts (lw_V q1519 q1521 qs46 q65 q1522) rfl rfl rfl (by decide +kernel) ⟨Nat.le_of_ble_eq_true rfl, Nat.le_of_ble_eq_true rfl⟩) hH hS rfl hl.1 rfl (lv_room (Nat.le_of_ble_eq_true rfl)) dX6_sounds_12 ⟨Nat.le_of_ble_eq_true rfl, Nat.le_of_ble_eq_true rfl⟩ (fun r15 s16 H locs hk hH hS => ?_)
    exact mm_iret C hr hlk hH hS hk dX6_sounds_15
/-! ToneGraphModel.samples()I -/
def wp_X6_samples_2 (post : Int32 → mm_S → Prop) (K : Int32 → mm_S → Prop) : Nat → Int32 → mm_S → Prop
  | 0, _, _ => False
  | n2 + 1, x1, s0 => (((s0.1 1) ≤ x1 → K x1 s0) ∧ (¬ (s0.1 1) ≤ x1 → (vp_in x1 10 ∧ ((¬ (s0.2.1 2 x1.toNatClampNeg) = 2 → (∀ v4, v4 = x1 + 1 → wp_X6_samples_2 post K n2 v4 s0)) ∧ ((s0.2.1 2 x1.toNatClampNeg) = 2 → (vp_in (600 + x1) 704 ∧ (vp_in ((0 + (60 * x1)) + (s0.2.1 0 (600 + x1).toNatClampNeg)) 704 ∧ (vp_in (630 + x1) 704 ∧ (∀ s8 : mm_S, s8 = ms_a s0 0 (630 + x1).toNatClampNeg (s0.2.1 0 ((0 + (60 * x1)) + (s0.2.1 0 (600 + x1).toNatClampNeg)).toNatClampNeg) → (∀ v9, v9 = x1 + 1 → wp_X6_samples_2 post K n2 v9 s8))))))))))
set_option maxHeartbeats 4000000 in
theorem tw_X6_samples_2 {p : Program} {l : Launch} {e : Env} {s : State} {m : MethodId} {args : Array Value} {below : List Frame} {meth : Method} {c : Code} {base : Nat} {D : va_G} {ca : Nat → ClassId} {Ls : List gb_L} {ad : gb_L → Nat} {w : gb_L → va_E} {post : Int32 → mm_S → Prop} {K : Int32 → mm_S → Prop} (C : gb_C p m c cX6_samples 2 s args RX6 base D ca) (hr : meth.sig.returnType = (some .int)) (hlk : meth.locks = false) (hK : ∀ (x1 : Int32) (σ' : mm_S) (H : Heap) (locs : List Loc) (ls : Array Slot), K x1 σ' → mm_ok base D ca Ls ad w σ' H → va_S (fun q => base ≤ q) s.heap H locs → lv_has ls 2 [(0, .ref (ad (20, 0))), (1, .int x1)] → W p l e ({ frames := 7, cells := 0, slots := 0, locals := 153 } : Room) s m args below meth c H locs 0 0 (MQ below (va_Qi post (fun σ' t => mm_ok base D ca Ls ad w σ' t.heap) (fun q => base ≤ q)) args s 0 0 (fun q => base ≤ q)) (F0 m 58 ls [])) :
    ∀ (n : Nat) (x1 : Int32) (s0 : mm_S) (H : Heap) (locs : List Loc) (ls : Array Slot), wp_X6_samples_2 post K n x1 s0 → mm_ok base D ca Ls ad w s0 H → va_S (fun q => base ≤ q) s.heap H locs → lv_has ls 2 [(0, .ref (ad (20, 0))), (1, .int x1)] → W p l e ({ frames := 7, cells := 0, slots := 0, locals := 153 } : Room) s m args below meth c H locs 0 0 (MQ below (va_Qi post (fun σ' t => mm_ok base D ca Ls ad w σ' t.heap) (fun q => base ≤ q)) args s 0 0 (fun q => base ≤ q)) (F0 m 2 ls []) := by
  intro n
  induction n with
  | zero =>
    intro x1 s0 H locs ls hk
    exact hk.elim
  | succ n ih =>
    intro x1 s0 H locs ls hk hH hS hl
    rw [wp_X6_samples_2] at hk
    refine lv_iload_n C.hx C.hb dX6_samples_2 rfl (lv_at hl 1 rfl) ?_
    refine lv_aload_n C.hx C.hb dX6_samples_3 rfl (lv_at hl 0 rfl) ?_
    refine mm_geti C hH 13 1 (by decide) rfl q1254 dX6_samples_4 ?_
    refine lv_icmp_ge (tgt := 58) C.hx C.hb dX6_samples_7 (by decide) (fun c1 => ?_) (fun c1 => ?_)
    · have hk := hk.1 c1
      exact hK x1 s0 _ _ _ hk hH hS (lv_sub hl [0, 1] rfl)
    · have hk := hk.2 c1
      refine lv_aload_n C.hx C.hb dX6_samples_10 rfl (lv_at hl 0 rfl) ?_
      refine mm_geta C hH 2 (by decide) q1243 dX6_samples_11 ?_
      refine lv_iload_n C.hx C.hb dX6_samples_14 rfl (lv_at hl 1 rfl) ?_
      obtain ⟨h2, hk⟩ := hk
      refine mm_ald C hH 2 (by decide) h2 dX6_samples_15 ?_
      refine lv_iconst (v := 2) C.hx C.hb dX6_samples_16 (by decide) ?_
      refine lv_icmp_ne (tgt := 52) C.hx C.hb dX6_samples_17 (by decide) (fun c3 => ?_) (fun c3 => ?_)
      · have hk := hk.1 c3
        obtain ⟨v4, ev4⟩ : ∃ y : Int32, y = x1 + 1 := ⟨_, rfl⟩
        have hk := hk v4 ev4
        refine lv_iinc (v := v4) (lv' := [(1, .int v4), (0, .ref (ad (20, 0)))]) C.hx C.hb dX6_samples_52 hl (k := 1) rfl (by rw [ev4]; rfl) (by decide) rfl (fun ls hl => ?_)
        refine lv_goto (tgt := 2) C.hx C.hb dX6_samples_55 (by decide) ?_
        exact ih v4 s0 _ _ _ hk hH hS (lv_sub hl [1, 0] rfl)
      · have hk := hk.2 c3
        refine lv_aload_n C.hx C.hb dX6_samples_20 rfl (lv_at hl 0 rfl) ?_
        refine mm_geta C hH 0 (by decide) q1241 dX6_samples_21 ?_
        refine lv_sipush (v := 630) C.hx C.hb dX6_samples_24 (by decide) ?_
        refine lv_iload_n C.hx C.hb dX6_samples_27 rfl (lv_at hl 1 rfl) ?_
        refine lv_iadd C.hx C.hb dX6_samples_28 ?_
        refine lv_aload_n C.hx C.hb dX6_samples_29 rfl (lv_at hl 0 rfl) ?_
        refine mm_geta C hH 0 (by decide) q1241 dX6_samples_30 ?_
        refine lv_iconst (v := 0) C.hx C.hb dX6_samples_33 (by decide) ?_
        refine lv_bipush (v := 60) C.hx C.hb dX6_samples_34 (by decide) ?_
        refine lv_iload_n C.hx C.hb dX6_samples_36 rfl (lv_at hl 1 rfl) ?_
        refine lv_imul C.hx C.hb dX6_samples_37 ?_
        refine lv_iadd C.hx C.hb dX6_samples_38 ?_
        refine lv_aload_n C.hx C.hb dX6_samples_39 rfl (lv_at hl 0 rfl) ?_
        refine mm_geta C hH 0 (by decide) q1241 dX6_samples_40 ?_
        refine lv_sipush (v := 600) C.hx C.hb dX6_samples_43 (by decide) ?_
        refine lv_iload_n C.hx C.hb dX6_samples_46 rfl (lv_at hl 1 rfl) ?_
        refine lv_iadd C.hx C.hb dX6_samples_47 ?_
        obtain ⟨h5, hk⟩ := hk
        refine mm_ald C hH 0 (by decide) h5 dX6_samples_48 ?_
        refine lv_iadd C.hx C.hb dX6_samples_49 ?_
        obtain ⟨h6, hk⟩ := hk
        refine mm_ald C hH 0 (by decide) h6 dX6_samples_50 ?_
        obtain ⟨h7, hk⟩ := hk
        refine mm_ast C hH hS 0 (by decide) h7 dX6_samples_51 (fun s8 es8 H locs hH hS => ?_)
        have hk := hk s8 es8
        obtain ⟨v9, ev9⟩ : ∃ y : Int32, y = x1 + 1 := ⟨_, rfl⟩
        have hk := hk v9 ev9
        refine lv_iinc (v := v9) (lv' := [(1, .int v9), (0, .ref (ad (20, 0)))]) C.hx C.hb dX6_samples_52 hl (k := 1) rfl (by rw [ev9]; rfl) (by decide) rfl (fun ls hl => ?_)
        refine lv_goto (tgt := 2) C.hx C.hb dX6_samples_55 (by decide) ?_
        exact ih v9 s8 _ _ _ hk hH hS (lv_sub hl [1, 0] rfl)
def wp_X6_samples_60 (post : Int32 → mm_S → Prop) (K : Int32 → mm_S → Prop) : Nat → Int32 → mm_S → Prop
  | 0, _, _ => False
  | n60 + 1, x1, s0 => (((s0.1 1) ≤ x1 → K x1 s0) ∧ (¬ (s0.1 1) ≤ x1 → (vp_in x1 10 ∧ (vp_in (s0.2.1 9 x1.toNatClampNeg) 10 ∧ (((s0.2.1 2 (s0.2.1 9 x1.toNatClampNeg).toNatClampNeg) = 2 → (∀ v16, v16 = x1 + 1 → wp_X6_samples_60 post K n60 v16 s0)) ∧ (¬ (s0.2.1 2 (s0.2.1 9 x1.toNatClampNeg).toNatClampNeg) = 2 → (vp_in x1 10 ∧ (vp_in x1 10 ∧ wp_X6_sounds (fun r19 s20 => wp_X6_cut (fun r21 => (vp_in (630 + (s0.2.1 9 x1.toNatClampNeg)) 704 ∧ (∀ s23 : mm_S, s23 = ms_a s20 0 (630 + (s0.2.1 9 x1.toNatClampNeg)).toNatClampNeg r21 → (∀ v24, v24 = x1 + 1 → wp_X6_samples_60 post K n60 v24 s23)))) r19) (s0.2.1 9 x1.toNatClampNeg) s0))))))))
set_option maxHeartbeats 4000000 in
theorem tw_X6_samples_60 {p : Program} {l : Launch} {e : Env} {s : State} {m : MethodId} {args : Array Value} {below : List Frame} {meth : Method} {c : Code} {base : Nat} {D : va_G} {ca : Nat → ClassId} {Ls : List gb_L} {ad : gb_L → Nat} {w : gb_L → va_E} {post : Int32 → mm_S → Prop} {K : Int32 → mm_S → Prop} (C : gb_C p m c cX6_samples 2 s args RX6 base D ca) (hr : meth.sig.returnType = (some .int)) (hlk : meth.locks = false) (hK : ∀ (x1 : Int32) (σ' : mm_S) (H : Heap) (locs : List Loc) (ls : Array Slot), K x1 σ' → mm_ok base D ca Ls ad w σ' H → va_S (fun q => base ≤ q) s.heap H locs → lv_has ls 2 [(0, .ref (ad (20, 0))), (1, .int x1)] → W p l e ({ frames := 7, cells := 0, slots := 0, locals := 153 } : Room) s m args below meth c H locs 0 0 (MQ below (va_Qi post (fun σ' t => mm_ok base D ca Ls ad w σ' t.heap) (fun q => base ≤ q)) args s 0 0 (fun q => base ≤ q)) (F0 m 117 ls [])) :
    ∀ (n : Nat) (x1 : Int32) (s0 : mm_S) (H : Heap) (locs : List Loc) (ls : Array Slot), wp_X6_samples_60 post K n x1 s0 → mm_ok base D ca Ls ad w s0 H → va_S (fun q => base ≤ q) s.heap H locs → lv_has ls 2 [(0, .ref (ad (20, 0))), (1, .int x1)] → W p l e ({ frames := 7, cells := 0, slots := 0, locals := 153 } : Room) s m args below meth c H locs 0 0 (MQ below (va_Qi post (fun σ' t => mm_ok base D ca Ls ad w σ' t.heap) (fun q => base ≤ q)) args s 0 0 (fun q => base ≤ q)) (F0 m 60 ls []) := by
  intro n
  induction n with
  | zero =>
    intro x1 s0 H locs ls hk
    exact hk.elim
  | succ n ih =>
    intro x1 s0 H locs ls hk hH hS hl
    rw [wp_X6_samples_60] at hk
    refine lv_iload_n C.hx C.hb dX6_samples_60 rfl (lv_at hl 1 rfl) ?_
    refine lv_aload_n C.hx C.hb dX6_samples_61 rfl (lv_at hl 0 rfl) ?_
    refine mm_geti C hH 13 1 (by decide) rfl q1254 dX6_samples_62 ?_
    refine lv_icmp_ge (tgt := 117) C.hx C.hb dX6_samples_65 (by decide) (fun c12 => ?_) (fun c12 => ?_)
    · have hk := hk.1 c12
      exact hK x1 s0 _ _ _ hk hH hS (lv_sub hl [0, 1] rfl)
    · have hk := hk.2 c12
      refine lv_aload_n C.hx C.hb dX6_samples_68 rfl (lv_at hl 0 rfl) ?_
      refine mm_geta C hH 2 (by decide) q1243 dX6_samples_69 ?_
      refine lv_aload_n C.hx C.hb dX6_samples_72 rfl (lv_at hl 0 rfl) ?_
      refine mm_geta C hH 9 (by decide) q1250 dX6_samples_73 ?_
      refine lv_iload_n C.hx C.hb dX6_samples_76 rfl (lv_at hl 1 rfl) ?_
      obtain ⟨h13, hk⟩ := hk
      refine mm_ald C hH 9 (by decide) h13 dX6_samples_77 ?_
      obtain ⟨h14, hk⟩ := hk
      refine mm_ald C hH 2 (by decide) h14 dX6_samples_78 ?_
      refine lv_iconst (v := 2) C.hx C.hb dX6_samples_79 (by decide) ?_
      refine lv_icmp_eq (tgt := 111) C.hx C.hb dX6_samples_80 (by decide) (fun c15 => ?_) (fun c15 => ?_)
      · have hk := hk.1 c15
        obtain ⟨v16, ev16⟩ : ∃ y : Int32, y = x1 + 1 := ⟨_, rfl⟩
        have hk := hk v16 ev16
        refine lv_iinc (v := v16) (lv' := [(1, .int v16), (0, .ref (ad (20, 0)))]) C.hx C.hb dX6_samples_111 hl (k := 1) rfl (by rw [ev16]; rfl) (by decide) rfl (fun ls hl => ?_)
        refine lv_goto (tgt := 60) C.hx C.hb dX6_samples_114 (by decide) ?_
        exact ih v16 s0 _ _ _ hk hH hS (lv_sub hl [1, 0] rfl)
      · have hk := hk.2 c15
        refine lv_aload_n C.hx C.hb dX6_samples_83 rfl (lv_at hl 0 rfl) ?_
        refine mm_geta C hH 0 (by decide) q1241 dX6_samples_84 ?_
        refine lv_sipush (v := 630) C.hx C.hb dX6_samples_87 (by decide) ?_
        refine lv_aload_n C.hx C.hb dX6_samples_90 rfl (lv_at hl 0 rfl) ?_
        refine mm_geta C hH 9 (by decide) q1250 dX6_samples_91 ?_
        refine lv_iload_n C.hx C.hb dX6_samples_94 rfl (lv_at hl 1 rfl) ?_
        obtain ⟨h17, hk⟩ := hk
        refine mm_ald C hH 9 (by decide) h17 dX6_samples_95 ?_
        refine lv_iadd C.hx C.hb dX6_samples_96 ?_
        refine lv_aload_n C.hx C.hb dX6_samples_97 rfl (lv_at hl 0 rfl) ?_
        refine lv_aload_n C.hx C.hb dX6_samples_98 rfl (lv_at hl 0 rfl) ?_
        refine mm_geta C hH 9 (by decide) q1250 dX6_samples_99 ?_
        refine lv_iload_n C.hx C.hb dX6_samples_102 rfl (lv_at hl 1 rfl) ?_
        obtain ⟨h18, hk⟩ := hk
        refine mm_ald C hH 9 (by decide) h18 dX6_samples_103 ?_
        refine mm_calli (As := [.int (s0.2.1 9 x1.toNatClampNeg)]) (rest := [.int (630 + (s0.2.1 9 x1.toNatClampNeg)), .ref (ad (21, 0))]) C (t_X6_sounds l hk) (cwV 1 C.hts (lw_V q1515 q1517 qs45 q65 q1518) rfl rfl rfl (by decide +kernel) ⟨Nat.le_of_ble_eq_true rfl, Nat.le_of_ble_eq_true rfl⟩) hH hS rfl hl.1 rfl (lv_room (Nat.le_of_ble_eq_true rfl)) dX6_samples_104 ⟨Nat.le_of_ble_eq_true rfl, Nat.le_of_ble_eq_true rfl⟩ (fun r19 s20 H locs hk hH hS => ?_)
        refine gb_call (As := [.int r19]) (rest := [.int (630 + (s0.2.1 9 x1.toNatClampNeg)), .ref (ad (21, 0))]) C.1 (t_X6_cut l hk) (va_cwS 1 C.hts (lw_S q1547 q1548 q65 q1549) rfl rfl rfl (by decide +kernel) ⟨Nat.le_of_ble_eq_true rfl, Nat.le_of_ble_eq_true rfl⟩) rfl hl.1 rfl (lv_room (Nat.le_of_ble_eq_true rfl)) dX6_samples_107 ⟨Nat.le_of_ble_eq_true rfl, Nat.le_of_ble_eq_true rfl⟩ (fun r21 hk => ?_)
        obtain ⟨h22, hk⟩ := hk
        refine mm_ast C hH hS 0 (by decide) h22 dX6_samples_110 (fun s23 es23 H locs hH hS => ?_)
        have hk := hk s23 es23
        obtain ⟨v24, ev24⟩ : ∃ y : Int32, y = x1 + 1 := ⟨_, rfl⟩
        have hk := hk v24 ev24
        refine lv_iinc (v := v24) (lv' := [(1, .int v24), (0, .ref (ad (20, 0)))]) C.hx C.hb dX6_samples_111 hl (k := 1) rfl (by rw [ev24]; rfl) (by decide) rfl (fun ls hl => ?_)
        refine lv_goto (tgt := 60) C.hx C.hb dX6_samples_114 (by decide) ?_
        exact ih v24 s23 _ _ _ hk hH hS (lv_sub hl [1, 0] rfl)
def wp_X6_samples_119 (post : Int32 → mm_S → Prop) (K : Int32 → mm_S → Prop) : Nat → Int32 → mm_S → Prop
  | 0, _, _ => False
  | n119 + 1, x1, s0 => (((s0.1 1) ≤ x1 → K x1 s0) ∧ (¬ (s0.1 1) ≤ x1 → (vp_in x1 10 ∧ (((s0.2.1 2 x1.toNatClampNeg) = 2 → (vp_in (600 + x1) 704 ∧ wp_X6_inputOf (fun r31 s32 => (vp_in (630 + x1) 704 ∧ (vp_in x1 10 ∧ wp_X6_cut (fun r35 => (vp_in ((0 + (60 * x1)) + (s0.2.1 0 (600 + x1).toNatClampNeg)) 704 ∧ (∀ s37 : mm_S, s37 = ms_a s32 0 ((0 + (60 * x1)) + (s0.2.1 0 (600 + x1).toNatClampNeg)).toNatClampNeg r35 → (vp_in (600 + x1) 704 ∧ (vp_in x1 10 ∧ (¬ (s37.2.1 3 x1.toNatClampNeg) = 0 ∧ (vp_in (600 + x1) 704 ∧ (∀ s42 : mm_S, s42 = ms_a s37 0 (600 + x1).toNatClampNeg (((s37.2.1 0 (600 + x1).toNatClampNeg) + 1) - ((s37.2.1 0 (600 + x1).toNatClampNeg) + 1) / (s37.2.1 3 x1.toNatClampNeg) * (s37.2.1 3 x1.toNatClampNeg)) → (∀ v43, v43 = x1 + 1 → wp_X6_samples_119 post K n119 v43 s42))))))))) (r31 + (((s32.2.1 0 (630 + x1).toNatClampNeg) * (s32.2.1 4 x1.toNatClampNeg)) / 100))))) x1 s0)) ∧ (¬ (s0.2.1 2 x1.toNatClampNeg) = 2 → (∀ v44, v44 = x1 + 1 → wp_X6_samples_119 post K n119 v44 s0))))))
set_option maxHeartbeats 4000000 in
theorem tw_X6_samples_119 {p : Program} {l : Launch} {e : Env} {s : State} {m : MethodId} {args : Array Value} {below : List Frame} {meth : Method} {c : Code} {base : Nat} {D : va_G} {ca : Nat → ClassId} {Ls : List gb_L} {ad : gb_L → Nat} {w : gb_L → va_E} {post : Int32 → mm_S → Prop} {K : Int32 → mm_S → Prop} (C : gb_C p m c cX6_samples 2 s args RX6 base D ca) (hr : meth.sig.returnType = (some .int)) (hlk : meth.locks = false) (hK : ∀ (x1 : Int32) (σ' : mm_S) (H : Heap) (locs : List Loc) (ls : Array Slot), K x1 σ' → mm_ok base D ca Ls ad w σ' H → va_S (fun q => base ≤ q) s.heap H locs → lv_has ls 2 [(0, .ref (ad (20, 0))), (1, .int x1)] → W p l e ({ frames := 7, cells := 0, slots := 0, locals := 153 } : Room) s m args below meth c H locs 0 0 (MQ below (va_Qi post (fun σ' t => mm_ok base D ca Ls ad w σ' t.heap) (fun q => base ≤ q)) args s 0 0 (fun q => base ≤ q)) (F0 m 226 ls [])) :
    ∀ (n : Nat) (x1 : Int32) (s0 : mm_S) (H : Heap) (locs : List Loc) (ls : Array Slot), wp_X6_samples_119 post K n x1 s0 → mm_ok base D ca Ls ad w s0 H → va_S (fun q => base ≤ q) s.heap H locs → lv_has ls 2 [(0, .ref (ad (20, 0))), (1, .int x1)] → W p l e ({ frames := 7, cells := 0, slots := 0, locals := 153 } : Room) s m args below meth c H locs 0 0 (MQ below (va_Qi post (fun σ' t => mm_ok base D ca Ls ad w σ' t.heap) (fun q => base ≤ q)) args s 0 0 (fun q => base ≤ q)) (F0 m 119 ls []) := by
  intro n
  induction n with
  | zero =>
    intro x1 s0 H locs ls hk
    exact hk.elim
  | succ n ih =>
    intro x1 s0 H locs ls hk hH hS hl
    rw [wp_X6_samples_119] at hk
    refine lv_iload_n C.hx C.hb dX6_samples_119 rfl (lv_at hl 1 rfl) ?_
    refine lv_aload_n C.hx C.hb dX6_samples_120 rfl (lv_at hl 0 rfl) ?_
    refine mm_geti C hH 13 1 (by decide) rfl q1254 dX6_samples_121 ?_
    refine lv_icmp_ge (tgt := 226) C.hx C.hb dX6_samples_124 (by decide) (fun c27 => ?_) (fun c27 => ?_)
    · have hk := hk.1 c27
      exact hK x1 s0 _ _ _ hk hH hS (lv_sub hl [0, 1] rfl)
    · have hk := hk.2 c27
      refine lv_aload_n C.hx C.hb dX6_samples_127 rfl (lv_at hl 0 rfl) ?_
      refine mm_geta C hH 2 (by decide) q1243 dX6_samples_128 ?_
      refine lv_iload_n C.hx C.hb dX6_samples_131 rfl (lv_at hl 1 rfl) ?_
      obtain ⟨h28, hk⟩ := hk
      refine mm_ald C hH 2 (by decide) h28 dX6_samples_132 ?_
      refine lv_iconst (v := 2) C.hx C.hb dX6_samples_133 (by decide) ?_
      refine lv_icmp_eq (tgt := 140) C.hx C.hb dX6_samples_134 (by decide) (fun c29 => ?_) (fun c29 => ?_)
      · have hk := hk.1 c29
        refine lv_aload_n C.hx C.hb dX6_samples_140 rfl (lv_at hl 0 rfl) ?_
        refine mm_geta C hH 0 (by decide) q1241 dX6_samples_141 ?_
        refine lv_iconst (v := 0) C.hx C.hb dX6_samples_144 (by decide) ?_
        refine lv_bipush (v := 60) C.hx C.hb dX6_samples_145 (by decide) ?_
        refine lv_iload_n C.hx C.hb dX6_samples_147 rfl (lv_at hl 1 rfl) ?_
        refine lv_imul C.hx C.hb dX6_samples_148 ?_
        refine lv_iadd C.hx C.hb dX6_samples_149 ?_
        refine lv_aload_n C.hx C.hb dX6_samples_150 rfl (lv_at hl 0 rfl) ?_
        refine mm_geta C hH 0 (by decide) q1241 dX6_samples_151 ?_
        refine lv_sipush (v := 600) C.hx C.hb dX6_samples_154 (by decide) ?_
        refine lv_iload_n C.hx C.hb dX6_samples_157 rfl (lv_at hl 1 rfl) ?_
        refine lv_iadd C.hx C.hb dX6_samples_158 ?_
        obtain ⟨h30, hk⟩ := hk
        refine mm_ald C hH 0 (by decide) h30 dX6_samples_159 ?_
        refine lv_iadd C.hx C.hb dX6_samples_160 ?_
        refine lv_aload_n C.hx C.hb dX6_samples_161 rfl (lv_at hl 0 rfl) ?_
        refine lv_iload_n C.hx C.hb dX6_samples_162 rfl (lv_at hl 1 rfl) ?_
        refine mm_calli (As := [.int x1]) (rest := [.int ((0 + (60 * x1)) + (s0.2.1 0 (600 + x1).toNatClampNeg)), .ref (ad (21, 0))]) C (t_X6_inputOf l hk) (cwV 1 C.hts (lw_V q1543 q1545 qs49 q65 q1546) rfl rfl rfl (by decide +kernel) ⟨Nat.le_of_ble_eq_true rfl, Nat.le_of_ble_eq_true rfl⟩) hH hS rfl hl.1 rfl (lv_room (Nat.le_of_ble_eq_true rfl)) dX6_samples_163 ⟨Nat.le_of_ble_eq_true rfl, Nat.le_of_ble_eq_true rfl⟩ (fun r31 s32 H locs hk hH hS => ?_)
        refine lv_aload_n C.hx C.hb dX6_samples_166 rfl (lv_at hl 0 rfl) ?_
        refine mm_geta C hH 0 (by decide) q1241 dX6_samples_167 ?_
        refine lv_sipush (v := 630) C.hx C.hb dX6_samples_170 (by decide) ?_
        refine lv_iload_n C.hx C.hb dX6_samples_173 rfl (lv_at hl 1 rfl) ?_
        refine lv_iadd C.hx C.hb dX6_samples_174 ?_
        obtain ⟨h33, hk⟩ := hk
        refine mm_ald C hH 0 (by decide) h33 dX6_samples_175 ?_
        refine lv_aload_n C.hx C.hb dX6_samples_176 rfl (lv_at hl 0 rfl) ?_
        refine mm_geta C hH 4 (by decide) q1245 dX6_samples_177 ?_
        refine lv_iload_n C.hx C.hb dX6_samples_180 rfl (lv_at hl 1 rfl) ?_
        obtain ⟨h34, hk⟩ := hk
        refine mm_ald C hH 4 (by decide) h34 dX6_samples_181 ?_
        refine lv_imul C.hx C.hb dX6_samples_182 ?_
        refine lv_bipush (v := 100) C.hx C.hb dX6_samples_183 (by decide) ?_
        refine lv_idiv C.hx C.hb dX6_samples_185 (by decide) ?_
        refine lv_iadd C.hx C.hb dX6_samples_186 ?_
        refine gb_call (As := [.int (r31 + (((s32.2.1 0 (630 + x1).toNatClampNeg) * (s32.2.1 4 x1.toNatClampNeg)) / 100))]) (rest := [.int ((0 + (60 * x1)) + (s0.2.1 0 (600 + x1).toNatClampNeg)), .ref (ad (21, 0))]) C.1 (t_X6_cut l hk) (va_cwS 1 C.hts (lw_S q1547 q1548 q65 q1549) rfl rfl rfl (by decide +kernel) ⟨Nat.le_of_ble_eq_true rfl, Nat.le_of_ble_eq_true rfl⟩) rfl hl.1 rfl (lv_room (Nat.le_of_ble_eq_true rfl)) dX6_samples_187 ⟨Nat.le_of_ble_eq_true rfl, Nat.le_of_ble_eq_true rfl⟩ (fun r35 hk => ?_)
        obtain ⟨h36, hk⟩ := hk
        refine mm_ast C hH hS 0 (by decide) h36 dX6_samples_190 (fun s37 es37 H locs hH hS => ?_)
        have hk := hk s37 es37
        refine lv_aload_n C.hx C.hb dX6_samples_191 rfl (lv_at hl 0 rfl) ?_
        refine mm_geta C hH 0 (by decide) q1241 dX6_samples_192 ?_
        refine lv_sipush (v := 600) C.hx C.hb dX6_samples_195 (by decide) ?_
        refine lv_iload_n C.hx C.hb dX6_samples_198 rfl (lv_at hl 1 rfl) ?_
        refine lv_iadd C.hx C.hb dX6_samples_199 ?_
        refine lv_aload_n C.hx C.hb dX6_samples_200 rfl (lv_at hl 0 rfl) ?_
        refine mm_geta C hH 0 (by decide) q1241 dX6_samples_201 ?_
        refine lv_sipush (v := 600) C.hx C.hb dX6_samples_204 (by decide) ?_
        refine lv_iload_n C.hx C.hb dX6_samples_207 rfl (lv_at hl 1 rfl) ?_
        refine lv_iadd C.hx C.hb dX6_samples_208 ?_
        obtain ⟨h38, hk⟩ := hk
        refine mm_ald C hH 0 (by decide) h38 dX6_samples_209 ?_
        refine lv_iconst (v := 1) C.hx C.hb dX6_samples_210 (by decide) ?_
        refine lv_iadd C.hx C.hb dX6_samples_211 ?_
        refine lv_aload_n C.hx C.hb dX6_samples_212 rfl (lv_at hl 0 rfl) ?_
        refine mm_geta C hH 3 (by decide) q1244 dX6_samples_213 ?_
        refine lv_iload_n C.hx C.hb dX6_samples_216 rfl (lv_at hl 1 rfl) ?_
        obtain ⟨h39, hk⟩ := hk
        refine mm_ald C hH 3 (by decide) h39 dX6_samples_217 ?_
        obtain ⟨h40, hk⟩ := hk
        refine lv_irem C.hx C.hb dX6_samples_218 h40 ?_
        obtain ⟨h41, hk⟩ := hk
        refine mm_ast C hH hS 0 (by decide) h41 dX6_samples_219 (fun s42 es42 H locs hH hS => ?_)
        have hk := hk s42 es42
        obtain ⟨v43, ev43⟩ : ∃ y : Int32, y = x1 + 1 := ⟨_, rfl⟩
        have hk := hk v43 ev43
        refine lv_iinc (v := v43) (lv' := [(1, .int v43), (0, .ref (ad (20, 0)))]) C.hx C.hb dX6_samples_220 hl (k := 1) rfl (by rw [ev43]; rfl) (by decide) rfl (fun ls hl => ?_)
        refine lv_goto (tgt := 119) C.hx C.hb dX6_samples_223 (by decide) ?_
        exact ih v43 s42 _ _ _ hk hH hS (lv_sub hl [1, 0] rfl)
      · have hk := hk.2 c29
        refine lv_goto (tgt := 220) C.hx C.hb dX6_samples_137 (by decide) ?_
        obtain ⟨v44, ev44⟩ : ∃ y : Int32, y = x1 + 1 := ⟨_, rfl⟩
        have hk := hk v44 ev44
        refine lv_iinc (v := v44) (lv' := [(1, .int v44), (0, .ref (ad (20, 0)))]) C.hx C.hb dX6_samples_220 hl (k := 1) rfl (by rw [ev44]; rfl) (by decide) rfl (fun ls hl => ?_)
        refine lv_goto (tgt := 119) C.hx C.hb dX6_samples_223 (by decide) ?_
        exact ih v44 s0 _ _ _ hk hH hS (lv_sub hl [1, 0] rfl)
def wp_X6_samples (post : Int32 → mm_S → Prop) (s0 : mm_S) : Prop := (∃ n2, wp_X6_samples_2 post (fun y10 s11 => (∃ n60, wp_X6_samples_60 post (fun y25 s26 => (∃ n119, wp_X6_samples_119 post (fun y45 s46 => (vp_in (630 + (s46.1 2)) 704 ∧ post (s46.2.1 0 (630 + (s46.1 2)).toNatClampNeg) s46)) n119 0 s26)) n60 0 s11)) n2 0 s0)
set_option maxHeartbeats 4000000 in
theorem t_X6_samples (l : Launch) {base : Nat} {D : va_G} {ca : Nat → ClassId} {Ls : List gb_L} {ad : gb_L → Nat} {w : gb_L → va_E} {post : Int32 → mm_S → Prop} {s0 : mm_S} (hk : wp_X6_samples post s0) : mm_Mi l yX6_samples (ws_ yX6_samples cX6_samples 2 (some .int)) ({ frames := 7, cells := 0, slots := 0, locals := 153 } : Room) base D ca Ls ad w [] s0 post := by
  refine mm_start cX6_samples 2 (some .int) _ (by decide) rfl rfl (Nat.le_of_ble_eq_true rfl) ?_
  intro p e s m args below meth c ls C hr hlk hH hS hl
  have hl : lv_has ls 2 [(0, .ref (ad (20, 0)))] := hl
  unfold wp_X6_samples at hk
  refine lv_iconst (v := 0) C.hx C.hb dX6_samples_0 (by decide) ?_
  refine lv_istore_n (lv' := [(1, .int 0), (0, .ref (ad (20, 0)))]) C.hx C.hb dX6_samples_1 rfl hl (by decide) rfl (fun ls hl => ?_)
  obtain ⟨n2, hk⟩ := hk
  refine tw_X6_samples_2 C hr hlk (fun y10 s11 H locs ls hk hH hS hl => ?_) n2 0 s0 _ _ _ hk hH hS (lv_sub hl [1, 0] rfl)
  refine lv_iconst (v := 0) C.hx C.hb dX6_samples_58 (by decide) ?_
  refine lv_istore_n (lv' := [(1, .int 0), (0, .ref (ad (20, 0)))]) C.hx C.hb dX6_samples_59 rfl hl (by decide) rfl (fun ls hl => ?_)
  obtain ⟨n60, hk⟩ := hk
  refine tw_X6_samples_60 C hr hlk (fun y25 s26 H locs ls hk hH hS hl => ?_) n60 0 s11 _ _ _ hk hH hS (lv_sub hl [1, 0] rfl)
  refine lv_iconst (v := 0) C.hx C.hb dX6_samples_117 (by decide) ?_
  refine lv_istore_n (lv' := [(1, .int 0), (0, .ref (ad (20, 0)))]) C.hx C.hb dX6_samples_118 rfl hl (by decide) rfl (fun ls hl => ?_)
  obtain ⟨n119, hk⟩ := hk
  refine tw_X6_samples_119 C hr hlk (fun y45 s46 H locs ls hk hH hS hl => ?_) n119 0 s26 _ _ _ hk hH hS (lv_sub hl [1, 0] rfl)
  refine lv_aload_n C.hx C.hb dX6_samples_226 rfl (lv_at hl 0 rfl) ?_
  refine mm_geta C hH 0 (by decide) q1241 dX6_samples_227 ?_
  refine lv_sipush (v := 630) C.hx C.hb dX6_samples_230 (by decide) ?_
  refine lv_aload_n C.hx C.hb dX6_samples_233 rfl (lv_at hl 0 rfl) ?_
  refine mm_geti C hH 14 2 (by decide) rfl q1255 dX6_samples_234 ?_
  refine lv_iadd C.hx C.hb dX6_samples_237 ?_
  obtain ⟨h47, hk⟩ := hk
  refine mm_ald C hH 0 (by decide) h47 dX6_samples_238 ?_
  exact mm_iret C hr hlk hH hS hk dX6_samples_239

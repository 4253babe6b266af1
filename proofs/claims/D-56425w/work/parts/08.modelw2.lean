/-! the reference's methods: wp and walk, by program (gen/decm.py) -/
set_option maxRecDepth 100000
/-! ToneGraphModel.sampled()I -/
def wp_X6_sampled (post : Int32 → mm_S → Prop) (s0 : mm_S) : Prop := wp_X6_samples (fun r1 s2 => (vp_in ((s2.1 10) - (s2.1 10) / 64 * 64) 64 ∧ (∀ s4 : mm_S, s4 = ms_a s2 10 ((s2.1 10) - (s2.1 10) / 64 * 64).toNatClampNeg r1 → (∀ s5 : mm_S, s5 = ms_f s4 10 ((s4.1 10) + 1) → wp_X6_size (fun r6 => ((r6 ≤ (s5.1 11) → (∀ s8 : mm_S, s8 = ms_f s5 11 (s5.1 11) → ((¬ r1 = 0 → (∀ s10 : mm_S, s10 = ms_f s8 12 ((s8.1 12) + 0) → (∀ s11 : mm_S, s11 = ms_e s10 (s10.2.2 + (r1.toInt64 * r1.toInt64)) → post r1 s11))) ∧ (r1 = 0 → (∀ s12 : mm_S, s12 = ms_f s8 12 ((s8.1 12) + 1) → (∀ s13 : mm_S, s13 = ms_e s12 (s12.2.2 + (r1.toInt64 * r1.toInt64)) → post r1 s13)))))) ∧ (¬ r6 ≤ (s5.1 11) → wp_X6_size (fun r14 => (∀ s15 : mm_S, s15 = ms_f s5 11 r14 → ((¬ r1 = 0 → (∀ s17 : mm_S, s17 = ms_f s15 12 ((s15.1 12) + 0) → (∀ s18 : mm_S, s18 = ms_e s17 (s17.2.2 + (r1.toInt64 * r1.toInt64)) → post r1 s18))) ∧ (r1 = 0 → (∀ s19 : mm_S, s19 = ms_f s15 12 ((s15.1 12) + 1) → (∀ s20 : mm_S, s20 = ms_e s19 (s19.2.2 + (r1.toInt64 * r1.toInt64)) → post r1 s20)))))) r1))) r1))))  s0
set_option maxHeartbeats 4000000 in
theorem t_X6_sampled (l : Launch) {base : Nat} {D : va_G} {ca : Nat → ClassId} {Ls : List gb_L} {ad : gb_L → Nat} {w : gb_L → va_E} {post : Int32 → mm_S → Prop} {s0 : mm_S} (hk : wp_X6_sampled post s0) : mm_Mi l yX6_sampled (ws_ yX6_sampled cX6_sampled 2 (some .int)) ({ frames := 8, cells := 0, slots := 0, locals := 174 } : Room) base D ca Ls ad w [] s0 post := by
  refine mm_start cX6_sampled 2 (some .int) _ (by decide) rfl rfl (Nat.le_of_ble_eq_true rfl) ?_
  intro p e s m args below meth c ls C hr hlk hH hS hl
  have hl : lv_has ls 2 [(0, .ref (ad (20, 0)))] := hl
  unfold wp_X6_sampled at hk
  refine lv_aload_n C.hx C.hb dX6_sampled_0 rfl (lv_at hl 0 rfl) ?_
  refine mm_calli (As := []) (rest := []) C (t_X6_samples l hk) (cwV 0 C.hts (lw_V q1511 q1513 qs44 q65 q1514) rfl rfl rfl (by decide +kernel) ⟨Nat.le_of_ble_eq_true rfl, Nat.le_of_ble_eq_true rfl⟩) hH hS rfl hl.1 rfl (lv_room (Nat.le_of_ble_eq_true rfl)) dX6_sampled_1 ⟨Nat.le_of_ble_eq_true rfl, Nat.le_of_ble_eq_true rfl⟩ (fun r1 s2 H locs hk hH hS => ?_)
  refine lv_istore_n (lv' := [(1, .int r1), (0, .ref (ad (20, 0)))]) C.hx C.hb dX6_sampled_4 rfl hl (by decide) rfl (fun ls hl => ?_)
  refine lv_aload_n C.hx C.hb dX6_sampled_5 rfl (lv_at hl 1 rfl) ?_
  refine mm_geta C hH 10 (by decide) q1251 dX6_sampled_6 ?_
  refine lv_aload_n C.hx C.hb dX6_sampled_9 rfl (lv_at hl 1 rfl) ?_
  refine mm_geti C hH 22 10 (by decide) rfl q1263 dX6_sampled_10 ?_
  refine lv_bipush (v := 64) C.hx C.hb dX6_sampled_13 (by decide) ?_
  refine lv_irem C.hx C.hb dX6_sampled_15 (by decide) ?_
  refine lv_iload_n C.hx C.hb dX6_sampled_16 rfl (lv_at hl 0 rfl) ?_
  obtain ⟨h3, hk⟩ := hk
  refine mm_ast C hH hS 10 (by decide) h3 dX6_sampled_17 (fun s4 es4 H locs hH hS => ?_)
  have hk := hk s4 es4
  refine lv_aload_n C.hx C.hb dX6_sampled_18 rfl (lv_at hl 1 rfl) ?_
  refine lv_dup C.hx C.hb dX6_sampled_19 rfl ?_
  refine mm_geti C hH 22 10 (by decide) rfl q1263 dX6_sampled_20 ?_
  refine lv_iconst (v := 1) C.hx C.hb dX6_sampled_23 (by decide) ?_
  refine lv_iadd C.hx C.hb dX6_sampled_24 ?_
  refine mm_puti C hH hS 22 10 (by decide) rfl q1263 dX6_sampled_25 rfl rfl (fun s5 es5 H locs hH hS => ?_)
  have hk := hk s5 es5
  refine lv_aload_n C.hx C.hb dX6_sampled_28 rfl (lv_at hl 1 rfl) ?_
  refine lv_iload_n C.hx C.hb dX6_sampled_29 rfl (lv_at hl 0 rfl) ?_
  refine gb_call (As := [.int r1]) (rest := [.ref (ad (20, 0))]) C.1 (t_X6_size l hk) (va_cwS 1 C.hts (lw_S q1553 q1554 q65 q1555) rfl rfl rfl (by decide +kernel) ⟨Nat.le_of_ble_eq_true rfl, Nat.le_of_ble_eq_true rfl⟩) rfl hl.1 rfl (lv_room (Nat.le_of_ble_eq_true rfl)) dX6_sampled_30 ⟨Nat.le_of_ble_eq_true rfl, Nat.le_of_ble_eq_true rfl⟩ (fun r6 hk => ?_)
  refine lv_aload_n C.hx C.hb dX6_sampled_33 rfl (lv_at hl 1 rfl) ?_
  refine mm_geti C hH 23 11 (by decide) rfl q1264 dX6_sampled_34 ?_
  refine lv_icmp_le (tgt := 47) C.hx C.hb dX6_sampled_37 (by decide) (fun c7 => ?_) (fun c7 => ?_)
  · have hk := hk.1 c7
    refine lv_aload_n C.hx C.hb dX6_sampled_47 rfl (lv_at hl 1 rfl) ?_
    refine mm_geti C hH 23 11 (by decide) rfl q1264 dX6_sampled_48 ?_
    refine mm_puti C hH hS 23 11 (by decide) rfl q1264 dX6_sampled_51 rfl rfl (fun s8 es8 H locs hH hS => ?_)
    have hk := hk s8 es8
    refine lv_aload_n C.hx C.hb dX6_sampled_54 rfl (lv_at hl 1 rfl) ?_
    refine lv_dup C.hx C.hb dX6_sampled_55 rfl ?_
    refine mm_geti C hH 24 12 (by decide) rfl q1265 dX6_sampled_56 ?_
    refine lv_iload_n C.hx C.hb dX6_sampled_59 rfl (lv_at hl 0 rfl) ?_
    refine lv_if_ne (tgt := 67) C.hx C.hb dX6_sampled_60 (by decide) (fun c9 => ?_) (fun c9 => ?_)
    · have hk := hk.1 c9
      refine lv_iconst (v := 0) C.hx C.hb dX6_sampled_67 (by decide) ?_
      refine lv_iadd C.hx C.hb dX6_sampled_68 ?_
      refine mm_puti C hH hS 24 12 (by decide) rfl q1265 dX6_sampled_69 rfl rfl (fun s10 es10 H locs hH hS => ?_)
      have hk := hk s10 es10
      refine lv_aload_n C.hx C.hb dX6_sampled_72 rfl (lv_at hl 1 rfl) ?_
      refine lv_dup C.hx C.hb dX6_sampled_73 rfl ?_
      refine mm_gete C hH q1266 dX6_sampled_74 ?_
      refine lv_iload_n C.hx C.hb dX6_sampled_77 rfl (lv_at hl 0 rfl) ?_
      refine lv_i2l C.hx C.hb dX6_sampled_78 rfl ?_
      refine lv_iload_n C.hx C.hb dX6_sampled_79 rfl (lv_at hl 0 rfl) ?_
      refine lv_i2l C.hx C.hb dX6_sampled_80 rfl ?_
      refine lv_lmul C.hx C.hb dX6_sampled_81 ?_
      refine lv_ladd C.hx C.hb dX6_sampled_82 ?_
      refine mm_pute C hH hS q1266 dX6_sampled_83 (fun s11 es11 H locs hH hS => ?_)
      have hk := hk s11 es11
      refine lv_iload_n C.hx C.hb dX6_sampled_86 rfl (lv_at hl 0 rfl) ?_
      exact mm_iret C hr hlk hH hS hk dX6_sampled_87
    · have hk := hk.2 c9
      refine lv_iconst (v := 1) C.hx C.hb dX6_sampled_63 (by decide) ?_
      refine lv_goto (tgt := 68) C.hx C.hb dX6_sampled_64 (by decide) ?_
      refine lv_iadd C.hx C.hb dX6_sampled_68 ?_
      refine mm_puti C hH hS 24 12 (by decide) rfl q1265 dX6_sampled_69 rfl rfl (fun s12 es12 H locs hH hS => ?_)
      have hk := hk s12 es12
      refine lv_aload_n C.hx C.hb dX6_sampled_72 rfl (lv_at hl 1 rfl) ?_
      refine lv_dup C.hx C.hb dX6_sampled_73 rfl ?_
      refine mm_gete C hH q1266 dX6_sampled_74 ?_
      refine lv_iload_n C.hx C.hb dX6_sampled_77 rfl (lv_at hl 0 rfl) ?_
      refine lv_i2l C.hx C.hb dX6_sampled_78 rfl ?_
      refine lv_iload_n C.hx C.hb dX6_sampled_79 rfl (lv_at hl 0 rfl) ?_
      refine lv_i2l C.hx C.hb dX6_sampled_80 rfl ?_
      refine lv_lmul C.hx C.hb dX6_sampled_81 ?_
      refine lv_ladd C.hx C.hb dX6_sampled_82 ?_
      refine mm_pute C hH hS q1266 dX6_sampled_83 (fun s13 es13 H locs hH hS => ?_)
      have hk := hk s13 es13
      refine lv_iload_n C.hx C.hb dX6_sampled_86 rfl (lv_at hl 0 rfl) ?_
      exact mm_iret C hr hlk hH hS hk dX6_sampled_87
  · have hk := hk.2 c7
    refine lv_iload_n C.hx C.hb dX6_sampled_40 rfl (lv_at hl 0 rfl) ?_
    refine gb_call (As := [.int r1]) (rest := [.ref (ad (20, 0))]) C.1 (t_X6_size l hk) (va_cwS 1 C.hts (lw_S q1553 q1554 q65 q1555) rfl rfl rfl (by decide +kernel) ⟨Nat.le_of_ble_eq_true rfl, Nat.le_of_ble_eq_true rfl⟩) rfl hl.1 rfl (lv_room (Nat.le_of_ble_eq_true rfl)) dX6_sampled_41 ⟨Nat.le_of_ble_eq_true rfl, Nat.le_of_ble_eq_true rfl⟩ (fun r14 hk => ?_)
    refine lv_goto (tgt := 51) C.hx C.hb dX6_sampled_44 (by decide) ?_
    refine mm_puti C hH hS 23 11 (by decide) rfl q1264 dX6_sampled_51 rfl rfl (fun s15 es15 H locs hH hS => ?_)
    have hk := hk s15 es15
    refine lv_aload_n C.hx C.hb dX6_sampled_54 rfl (lv_at hl 1 rfl) ?_
    refine lv_dup C.hx C.hb dX6_sampled_55 rfl ?_
    refine mm_geti C hH 24 12 (by decide) rfl q1265 dX6_sampled_56 ?_
    refine lv_iload_n C.hx C.hb dX6_sampled_59 rfl (lv_at hl 0 rfl) ?_
    refine lv_if_ne (tgt := 67) C.hx C.hb dX6_sampled_60 (by decide) (fun c16 => ?_) (fun c16 => ?_)
    · have hk := hk.1 c16
      refine lv_iconst (v := 0) C.hx C.hb dX6_sampled_67 (by decide) ?_
      refine lv_iadd C.hx C.hb dX6_sampled_68 ?_
      refine mm_puti C hH hS 24 12 (by decide) rfl q1265 dX6_sampled_69 rfl rfl (fun s17 es17 H locs hH hS => ?_)
      have hk := hk s17 es17
      refine lv_aload_n C.hx C.hb dX6_sampled_72 rfl (lv_at hl 1 rfl) ?_
      refine lv_dup C.hx C.hb dX6_sampled_73 rfl ?_
      refine mm_gete C hH q1266 dX6_sampled_74 ?_
      refine lv_iload_n C.hx C.hb dX6_sampled_77 rfl (lv_at hl 0 rfl) ?_
      refine lv_i2l C.hx C.hb dX6_sampled_78 rfl ?_
      refine lv_iload_n C.hx C.hb dX6_sampled_79 rfl (lv_at hl 0 rfl) ?_
      refine lv_i2l C.hx C.hb dX6_sampled_80 rfl ?_
      refine lv_lmul C.hx C.hb dX6_sampled_81 ?_
      refine lv_ladd C.hx C.hb dX6_sampled_82 ?_
      refine mm_pute C hH hS q1266 dX6_sampled_83 (fun s18 es18 H locs hH hS => ?_)
      have hk := hk s18 es18
      refine lv_iload_n C.hx C.hb dX6_sampled_86 rfl (lv_at hl 0 rfl) ?_
      exact mm_iret C hr hlk hH hS hk dX6_sampled_87
    · have hk := hk.2 c16
      refine lv_iconst (v := 1) C.hx C.hb dX6_sampled_63 (by decide) ?_
      refine lv_goto (tgt := 68) C.hx C.hb dX6_sampled_64 (by decide) ?_
      refine lv_iadd C.hx C.hb dX6_sampled_68 ?_
      refine mm_puti C hH hS 24 12 (by decide) rfl q1265 dX6_sampled_69 rfl rfl (fun s19 es19 H locs hH hS => ?_)
      have hk := hk s19 es19
      refine lv_aload_n C.hx C.hb dX6_sampled_72 rfl (lv_at hl 1 rfl) ?_
      refine lv_dup C.hx C.hb dX6_sampled_73 rfl ?_
      refine mm_gete C hH q1266 dX6_sampled_74 ?_
      refine lv_iload_n C.hx C.hb dX6_sampled_77 rfl (lv_at hl 0 rfl) ?_
      refine lv_i2l C.hx C.hb dX6_sampled_78 rfl ?_
      refine lv_iload_n C.hx C.hb dX6_sampled_79 rfl (lv_at hl 0 rfl) ?_
      refine lv_i2l C.hx C.hb dX6_sampled_80 rfl ?_
      refine lv_lmul C.hx C.hb dX6_sampled_81 ?_
      refine lv_ladd C.hx C.hb dX6_sampled_82 ?_
      refine mm_pute C hH hS q1266 dX6_sampled_83 (fun s20 es20 H locs hH hS => ?_)
      have hk := hk s20 es20
      refine lv_iload_n C.hx C.hb dX6_sampled_86 rfl (lv_at hl 0 rfl) ?_
      exact mm_iret C hr hlk hH hS hk dX6_sampled_87
/-! ToneGraphModel.play(I)I -/
def wp_X6_play_20 (post : Int32 → mm_S → Prop) (K : Int32 → Int32 → Int32 → mm_S → Prop) : Nat → Int32 → Int32 → Int32 → mm_S → Prop
  | 0, _, _, _, _ => False
  | n20 + 1, x1, x2, x3, s0 => ((x1 ≤ x3 → K x1 x2 x3 s0) ∧ (¬ x1 ≤ x3 → wp_X6_sampled (fun r6 s7 => (∀ v8, v8 = x3 + 1 → wp_X6_play_20 post K n20 x1 r6 v8 s7))  s0))
set_option maxHeartbeats 4000000 in
theorem tw_X6_play_20 {p : Program} {l : Launch} {e : Env} {s : State} {m : MethodId} {args : Array Value} {below : List Frame} {meth : Method} {c : Code} {base : Nat} {D : va_G} {ca : Nat → ClassId} {Ls : List gb_L} {ad : gb_L → Nat} {w : gb_L → va_E} {post : Int32 → mm_S → Prop} {K : Int32 → Int32 → Int32 → mm_S → Prop} (C : gb_C p m c cX6_play 4 s args RX6 base D ca) (hr : meth.sig.returnType = (some .int)) (hlk : meth.locks = false) (hK : ∀ (x1 : Int32) (x2 : Int32) (x3 : Int32) (σ' : mm_S) (H : Heap) (locs : List Loc) (ls : Array Slot), K x1 x2 x3 σ' → mm_ok base D ca Ls ad w σ' H → va_S (fun q => base ≤ q) s.heap H locs → lv_has ls 4 [(0, .ref (ad (20, 0))), (1, .int x1), (2, .int x2), (3, .int x3)] → W p l e ({ frames := 9, cells := 0, slots := 0, locals := 195 } : Room) s m args below meth c H locs 0 0 (MQ below (va_Qi post (fun σ' t => mm_ok base D ca Ls ad w σ' t.heap) (fun q => base ≤ q)) args s 0 0 (fun q => base ≤ q)) (F0 m 36 ls [])) :
    ∀ (n : Nat) (x1 : Int32) (x2 : Int32) (x3 : Int32) (s0 : mm_S) (H : Heap) (locs : List Loc) (ls : Array Slot), wp_X6_play_20 post K n x1 x2 x3 s0 → mm_ok base D ca Ls ad w s0 H → va_S (fun q => base ≤ q) s.heap H locs → lv_has ls 4 [(0, .ref (ad (20, 0))), (1, .int x1), (2, .int x2), (3, .int x3)] → W p l e ({ frames := 9, cells := 0, slots := 0, locals := 195 } : Room) s m args below meth c H locs 0 0 (MQ below (va_Qi post (fun σ' t => mm_ok base D ca Ls ad w σ' t.heap) (fun q => base ≤ q)) args s 0 0 (fun q => base ≤ q)) (F0 m 20 ls []) := by
  intro n
  induction n with
  | zero =>
    intro x1 x2 x3 s0 H locs ls hk
    exact hk.elim
  | succ n ih =>
    intro x1 x2 x3 s0 H locs ls hk hH hS hl
    rw [wp_X6_play_20] at hk
    refine lv_iload_n C.hx C.hb dX6_play_20 rfl (lv_at hl 3 rfl) ?_
    refine lv_iload_n C.hx C.hb dX6_play_21 rfl (lv_at hl 1 rfl) ?_
    refine lv_icmp_ge (tgt := 36) C.hx C.hb dX6_play_22 (by decide) (fun c5 => ?_) (fun c5 => ?_)
    · have hk := hk.1 c5
      exact hK x1 x2 x3 s0 _ _ _ hk hH hS (lv_sub hl [0, 1, 2, 3] rfl)
    · have hk := hk.2 c5
      refine lv_aload_n C.hx C.hb dX6_play_25 rfl (lv_at hl 0 rfl) ?_
      refine mm_calli (As := []) (rest := []) C (t_X6_sampled l hk) (cwV 0 C.hts (lw_V q1507 q1509 qs43 q65 q1510) rfl rfl rfl (by decide +kernel) ⟨Nat.le_of_ble_eq_true rfl, Nat.le_of_ble_eq_true rfl⟩) hH hS rfl hl.1 rfl (lv_room (Nat.le_of_ble_eq_true rfl)) dX6_play_26 ⟨Nat.le_of_ble_eq_true rfl, Nat.le_of_ble_eq_true rfl⟩ (fun r6 s7 H locs hk hH hS => ?_)
      refine lv_istore_n (lv' := [(2, .int r6), (0, .ref (ad (20, 0))), (1, .int x1), (3, .int x3)]) C.hx C.hb dX6_play_29 rfl hl (by decide) rfl (fun ls hl => ?_)
      obtain ⟨v8, ev8⟩ : ∃ y : Int32, y = x3 + 1 := ⟨_, rfl⟩
      have hk := hk v8 ev8
      refine lv_iinc (v := v8) (lv' := [(3, .int v8), (2, .int r6), (0, .ref (ad (20, 0))), (1, .int x1)]) C.hx C.hb dX6_play_30 hl (k := 3) rfl (by rw [ev8]; rfl) (by decide) rfl (fun ls hl => ?_)
      refine lv_goto (tgt := 20) C.hx C.hb dX6_play_33 (by decide) ?_
      exact ih x1 r6 v8 s7 _ _ _ hk hH hS (lv_sub hl [2, 3, 1, 0] rfl)
def wp_X6_play (post : Int32 → mm_S → Prop) (p1 : Int32) (s0 : mm_S) : Prop := wp_X6_in (fun r1 => wp_X6_checked (fun r2 s3 => ((r2 ≤ 0 → (∃ n20, wp_X6_play_20 post (fun y9 y10 y11 s12 => post y10 s12) n20 p1 0 0 s3)) ∧ (¬ r2 ≤ 0 → post 0 s3))) r1 s0) p1 1 64
set_option maxHeartbeats 4000000 in
theorem t_X6_play (l : Launch) {base : Nat} {D : va_G} {ca : Nat → ClassId} {Ls : List gb_L} {ad : gb_L → Nat} {w : gb_L → va_E} {post : Int32 → mm_S → Prop} {p1 : Int32} {s0 : mm_S} (hk : wp_X6_play post p1 s0) : mm_Mi l yX6_play (ws_ yX6_play cX6_play 4 (some .int)) ({ frames := 9, cells := 0, slots := 0, locals := 195 } : Room) base D ca Ls ad w [.int p1] s0 post := by
  refine mm_start cX6_play 4 (some .int) _ (by decide) rfl rfl (Nat.le_of_ble_eq_true rfl) ?_
  intro p e s m args below meth c ls C hr hlk hH hS hl
  have hl : lv_has ls 4 [(0, .ref (ad (20, 0))), (1, .int p1)] := hl
  unfold wp_X6_play at hk
  refine lv_aload_n C.hx C.hb dX6_play_0 rfl (lv_at hl 0 rfl) ?_
  refine lv_iload_n C.hx C.hb dX6_play_1 rfl (lv_at hl 1 rfl) ?_
  refine lv_iconst (v := 1) C.hx C.hb dX6_play_2 (by decide) ?_
  refine lv_bipush (v := 64) C.hx C.hb dX6_play_3 (by decide) ?_
  refine gb_call (As := [.int p1, .int 1, .int 64]) (rest := [.ref (ad (20, 0))]) C.1 (t_X6_in l hk) (va_cwS 3 C.hts (lw_S q1329 q1330 q65 q1331) rfl rfl rfl (by decide +kernel) ⟨Nat.le_of_ble_eq_true rfl, Nat.le_of_ble_eq_true rfl⟩) rfl hl.1 rfl (lv_room (Nat.le_of_ble_eq_true rfl)) dX6_play_5 ⟨Nat.le_of_ble_eq_true rfl, Nat.le_of_ble_eq_true rfl⟩ (fun r1 hk => ?_)
  refine mm_calli (As := [.int r1]) (rest := []) C (t_X6_checked l hk) (cwV 1 C.hts (lw_V q1380 q1382 qs31 q65 q1383) rfl rfl rfl (by decide +kernel) ⟨Nat.le_of_ble_eq_true rfl, Nat.le_of_ble_eq_true rfl⟩) hH hS rfl hl.1 rfl (lv_room (Nat.le_of_ble_eq_true rfl)) dX6_play_8 ⟨Nat.le_of_ble_eq_true rfl, Nat.le_of_ble_eq_true rfl⟩ (fun r2 s3 H locs hk hH hS => ?_)
  refine lv_if_le (tgt := 16) C.hx C.hb dX6_play_11 (by decide) (fun c4 => ?_) (fun c4 => ?_)
  · have hk := hk.1 c4
    refine lv_iconst (v := 0) C.hx C.hb dX6_play_16 (by decide) ?_
    refine lv_istore_n (lv' := [(2, .int 0), (0, .ref (ad (20, 0))), (1, .int p1)]) C.hx C.hb dX6_play_17 rfl hl (by decide) rfl (fun ls hl => ?_)
    refine lv_iconst (v := 0) C.hx C.hb dX6_play_18 (by decide) ?_
    refine lv_istore_n (lv' := [(3, .int 0), (2, .int 0), (0, .ref (ad (20, 0))), (1, .int p1)]) C.hx C.hb dX6_play_19 rfl hl (by decide) rfl (fun ls hl => ?_)
    obtain ⟨n20, hk⟩ := hk
    refine tw_X6_play_20 C hr hlk (fun y9 y10 y11 s12 H locs ls hk hH hS hl => ?_) n20 p1 0 0 s3 _ _ _ hk hH hS (lv_sub hl [2, 3, 1, 0] rfl)
    refine lv_iload_n C.hx C.hb dX6_play_36 rfl (lv_at hl 2 rfl) ?_
    exact mm_iret C hr hlk hH hS hk dX6_play_37
  · have hk := hk.2 c4
    refine lv_iconst (v := 0) C.hx C.hb dX6_play_14 (by decide) ?_
    exact mm_iret C hr hlk hH hS hk dX6_play_15
/-! ToneGraphModel.step()I -/
def wp_X6_step (post : Int32 → mm_S → Prop) (s0 : mm_S) : Prop := wp_X6_sampled (fun r1 s2 => wp_X6_plain (fun r3 s4 => post r3 s4) r1 s2)  s0
set_option maxHeartbeats 4000000 in
theorem t_X6_step (l : Launch) {base : Nat} {D : va_G} {ca : Nat → ClassId} {Ls : List gb_L} {ad : gb_L → Nat} {w : gb_L → va_E} {post : Int32 → mm_S → Prop} {s0 : mm_S} (hk : wp_X6_step post s0) : mm_Mi l yX6_step (ws_ yX6_step cX6_step 1 (some .int)) ({ frames := 9, cells := 0, slots := 0, locals := 195 } : Room) base D ca Ls ad w [] s0 post := by
  refine mm_start cX6_step 1 (some .int) _ (by decide) rfl rfl (Nat.le_of_ble_eq_true rfl) ?_
  intro p e s m args below meth c ls C hr hlk hH hS hl
  have hl : lv_has ls 1 [(0, .ref (ad (20, 0)))] := hl
  unfold wp_X6_step at hk
  refine lv_aload_n C.hx C.hb dX6_step_0 rfl (lv_at hl 0 rfl) ?_
  refine lv_aload_n C.hx C.hb dX6_step_1 rfl (lv_at hl 0 rfl) ?_
  refine mm_calli (As := []) (rest := [.ref (ad (20, 0))]) C (t_X6_sampled l hk) (cwV 0 C.hts (lw_V q1507 q1509 qs43 q65 q1510) rfl rfl rfl (by decide +kernel) ⟨Nat.le_of_ble_eq_true rfl, Nat.le_of_ble_eq_true rfl⟩) hH hS rfl hl.1 rfl (lv_room (Nat.le_of_ble_eq_true rfl)) dX6_step_2 ⟨Nat.le_of_ble_eq_true rfl, Nat.le_of_ble_eq_true rfl⟩ (fun r1 s2 H locs hk hH hS => ?_)
  refine mm_calli (As := [.int r1]) (rest := []) C (t_X6_plain l hk) (cwV 1 C.hts (lw_V q1388 q1390 qs32 q65 q1391) rfl rfl rfl (by decide +kernel) ⟨Nat.le_of_ble_eq_true rfl, Nat.le_of_ble_eq_true rfl⟩) hH hS rfl hl.1 rfl (lv_room (Nat.le_of_ble_eq_true rfl)) dX6_step_5 ⟨Nat.le_of_ble_eq_true rfl, Nat.le_of_ble_eq_true rfl⟩ (fun r3 s4 H locs hk hH hS => ?_)
  exact mm_iret C hr hlk hH hS hk dX6_step_8
/-! ToneGraphModel.foreseen(I)I -/
def wp_X6_foreseen_4 (post : Int32 → mm_S → Prop) (K : Int32 → Int32 → Int32 → mm_S → Prop) : Nat → Int32 → Int32 → Int32 → mm_S → Prop
  | 0, _, _, _, _ => False
  | n4 + 1, x1, x2, x3, s0 => ((704 ≤ x3 → K x1 x2 x3 s0) ∧ (¬ 704 ≤ x3 → (vp_in x3 704 ∧ (vp_in x3 704 ∧ (∀ s4 : mm_S, s4 = ms_a s0 1 x3.toNatClampNeg (s0.2.1 0 x3.toNatClampNeg) → (∀ v5, v5 = x3 + 1 → wp_X6_foreseen_4 post K n4 x1 x2 v5 s4))))))
set_option maxHeartbeats 4000000 in
theorem tw_X6_foreseen_4 {p : Program} {l : Launch} {e : Env} {s : State} {m : MethodId} {args : Array Value} {below : List Frame} {meth : Method} {c : Code} {base : Nat} {D : va_G} {ca : Nat → ClassId} {Ls : List gb_L} {ad : gb_L → Nat} {w : gb_L → va_E} {post : Int32 → mm_S → Prop} {K : Int32 → Int32 → Int32 → mm_S → Prop} (C : gb_C p m c cX6_foreseen 4 s args RX6 base D ca) (hr : meth.sig.returnType = (some .int)) (hlk : meth.locks = false) (hK : ∀ (x1 : Int32) (x2 : Int32) (x3 : Int32) (σ' : mm_S) (H : Heap) (locs : List Loc) (ls : Array Slot), K x1 x2 x3 σ' → mm_ok base D ca Ls ad w σ' H → va_S (fun q => base ≤ q) s.heap H locs → lv_has ls 4 [(0, .ref (ad (20, 0))), (1, .int x1), (2, .int x2), (3, .int x3)] → W p l e ({ frames := 8, cells := 0, slots := 0, locals := 174 } : Room) s m args below meth c H locs 0 0 (MQ below (va_Qi post (fun σ' t => mm_ok base D ca Ls ad w σ' t.heap) (fun q => base ≤ q)) args s 0 0 (fun q => base ≤ q)) (F0 m 29 ls [])) :
    ∀ (n : Nat) (x1 : Int32) (x2 : Int32) (x3 : Int32) (s0 : mm_S) (H : Heap) (locs : List Loc) (ls : Array Slot), wp_X6_foreseen_4 post K n x1 x2 x3 s0 → mm_ok base D ca Ls ad w s0 H → va_S (fun q => base ≤ q) s.heap H locs → lv_has ls 4 [(0, .ref (ad (20, 0))), (1, .int x1), (2, .int x2), (3, .int x3)] → W p l e ({ frames := 8, cells := 0, slots := 0, locals := 174 } : Room) s m args below meth c H locs 0 0 (MQ below (va_Qi post (fun σ' t => mm_ok base D ca Ls ad w σ' t.heap) (fun q => base ≤ q)) args s 0 0 (fun q => base ≤ q)) (F0 m 4 ls []) := by
  intro n
  induction n with
  | zero =>
    intro x1 x2 x3 s0 H locs ls hk
    exact hk.elim
  | succ n ih =>
    intro x1 x2 x3 s0 H locs ls hk hH hS hl
    rw [wp_X6_foreseen_4] at hk
    refine lv_iload_n C.hx C.hb dX6_foreseen_4 rfl (lv_at hl 3 rfl) ?_
    refine lv_sipush (v := 704) C.hx C.hb dX6_foreseen_5 (by decide) ?_
    refine lv_icmp_ge (tgt := 29) C.hx C.hb dX6_foreseen_8 (by decide) (fun c1 => ?_) (fun c1 => ?_)
    · have hk := hk.1 c1
      exact hK x1 x2 x3 s0 _ _ _ hk hH hS (lv_sub hl [0, 1, 2, 3] rfl)
    · have hk := hk.2 c1
      refine lv_aload_n C.hx C.hb dX6_foreseen_11 rfl (lv_at hl 0 rfl) ?_
      refine mm_geta C hH 1 (by decide) q1242 dX6_foreseen_12 ?_
      refine lv_iload_n C.hx C.hb dX6_foreseen_15 rfl (lv_at hl 3 rfl) ?_
      refine lv_aload_n C.hx C.hb dX6_foreseen_16 rfl (lv_at hl 0 rfl) ?_
      refine mm_geta C hH 0 (by decide) q1241 dX6_foreseen_17 ?_
      refine lv_iload_n C.hx C.hb dX6_foreseen_20 rfl (lv_at hl 3 rfl) ?_
      obtain ⟨h2, hk⟩ := hk
      refine mm_ald C hH 0 (by decide) h2 dX6_foreseen_21 ?_
      obtain ⟨h3, hk⟩ := hk
      refine mm_ast C hH hS 1 (by decide) h3 dX6_foreseen_22 (fun s4 es4 H locs hH hS => ?_)
      have hk := hk s4 es4
      obtain ⟨v5, ev5⟩ : ∃ y : Int32, y = x3 + 1 := ⟨_, rfl⟩
      have hk := hk v5 ev5
      refine lv_iinc (v := v5) (lv' := [(3, .int v5), (0, .ref (ad (20, 0))), (1, .int x1), (2, .int x2)]) C.hx C.hb dX6_foreseen_23 hl (k := 3) rfl (by rw [ev5]; rfl) (by decide) rfl (fun ls hl => ?_)
      refine lv_goto (tgt := 4) C.hx C.hb dX6_foreseen_26 (by decide) ?_
      exact ih x1 x2 v5 s4 _ _ _ hk hH hS (lv_sub hl [1, 2, 3, 0] rfl)
def wp_X6_foreseen_31 (post : Int32 → mm_S → Prop) (K : Int32 → Int32 → Int32 → mm_S → Prop) : Nat → Int32 → Int32 → Int32 → mm_S → Prop
  | 0, _, _, _, _ => False
  | n31 + 1, x1, x2, x3, s0 => ((x1 ≤ x3 → K x1 x2 x3 s0) ∧ (¬ x1 ≤ x3 → wp_X6_samples (fun r11 s12 => (∀ v13, v13 = x3 + 1 → wp_X6_foreseen_31 post K n31 x1 r11 v13 s12))  s0))
set_option maxHeartbeats 4000000 in
theorem tw_X6_foreseen_31 {p : Program} {l : Launch} {e : Env} {s : State} {m : MethodId} {args : Array Value} {below : List Frame} {meth : Method} {c : Code} {base : Nat} {D : va_G} {ca : Nat → ClassId} {Ls : List gb_L} {ad : gb_L → Nat} {w : gb_L → va_E} {post : Int32 → mm_S → Prop} {K : Int32 → Int32 → Int32 → mm_S → Prop} (C : gb_C p m c cX6_foreseen 4 s args RX6 base D ca) (hr : meth.sig.returnType = (some .int)) (hlk : meth.locks = false) (hK : ∀ (x1 : Int32) (x2 : Int32) (x3 : Int32) (σ' : mm_S) (H : Heap) (locs : List Loc) (ls : Array Slot), K x1 x2 x3 σ' → mm_ok base D ca Ls ad w σ' H → va_S (fun q => base ≤ q) s.heap H locs → lv_has ls 4 [(0, .ref (ad (20, 0))), (1, .int x1), (2, .int x2), (3, .int x3)] → W p l e ({ frames := 8, cells := 0, slots := 0, locals := 174 } : Room) s m args below meth c H locs 0 0 (MQ below (va_Qi post (fun σ' t => mm_ok base D ca Ls ad w σ' t.heap) (fun q => base ≤ q)) args s 0 0 (fun q => base ≤ q)) (F0 m 47 ls [])) :
    ∀ (n : Nat) (x1 : Int32) (x2 : Int32) (x3 : Int32) (s0 : mm_S) (H : Heap) (locs : List Loc) (ls : Array Slot), wp_X6_foreseen_31 post K n x1 x2 x3 s0 → mm_ok base D ca Ls ad w s0 H → va_S (fun q => base ≤ q) s.heap H locs → lv_has ls 4 [(0, .ref (ad (20, 0))), (1, .int x1), (2, .int x2), (3, .int x3)] → W p l e ({ frames := 8, cells := 0, slots := 0, locals := 174 } : Room) s m args below meth c H locs 0 0 (MQ below (va_Qi post (fun σ' t => mm_ok base D ca Ls ad w σ' t.heap) (fun q => base ≤ q)) args s 0 0 (fun q => base ≤ q)) (F0 m 31 ls []) := by
  intro n
  induction n with
  | zero =>
    intro x1 x2 x3 s0 H locs ls hk
    exact hk.elim
  | succ n ih =>
    intro x1 x2 x3 s0 H locs ls hk hH hS hl
    rw [wp_X6_foreseen_31] at hk
    refine lv_iload_n C.hx C.hb dX6_foreseen_31 rfl (lv_at hl 3 rfl) ?_
    refine lv_iload_n C.hx C.hb dX6_foreseen_32 rfl (lv_at hl 1 rfl) ?_
    refine lv_icmp_ge (tgt := 47) C.hx C.hb dX6_foreseen_33 (by decide) (fun c10 => ?_) (fun c10 => ?_)
    · have hk := hk.1 c10
      exact hK x1 x2 x3 s0 _ _ _ hk hH hS (lv_sub hl [0, 1, 2, 3] rfl)
    · have hk := hk.2 c10
      refine lv_aload_n C.hx C.hb dX6_foreseen_36 rfl (lv_at hl 0 rfl) ?_
      refine mm_calli (As := []) (rest := []) C (t_X6_samples l hk) (cwV 0 C.hts (lw_V q1511 q1513 qs44 q65 q1514) rfl rfl rfl (by decide +kernel) ⟨Nat.le_of_ble_eq_true rfl, Nat.le_of_ble_eq_true rfl⟩) hH hS rfl hl.1 rfl (lv_room (Nat.le_of_ble_eq_true rfl)) dX6_foreseen_37 ⟨Nat.le_of_ble_eq_true rfl, Nat.le_of_ble_eq_true rfl⟩ (fun r11 s12 H locs hk hH hS => ?_)
      refine lv_istore_n (lv' := [(2, .int r11), (0, .ref (ad (20, 0))), (1, .int x1), (3, .int x3)]) C.hx C.hb dX6_foreseen_40 rfl hl (by decide) rfl (fun ls hl => ?_)
      obtain ⟨v13, ev13⟩ : ∃ y : Int32, y = x3 + 1 := ⟨_, rfl⟩
      have hk := hk v13 ev13
      refine lv_iinc (v := v13) (lv' := [(3, .int v13), (2, .int r11), (0, .ref (ad (20, 0))), (1, .int x1)]) C.hx C.hb dX6_foreseen_41 hl (k := 3) rfl (by rw [ev13]; rfl) (by decide) rfl (fun ls hl => ?_)
      refine lv_goto (tgt := 31) C.hx C.hb dX6_foreseen_44 (by decide) ?_
      exact ih x1 r11 v13 s12 _ _ _ hk hH hS (lv_sub hl [2, 3, 1, 0] rfl)
def wp_X6_foreseen_49 (post : Int32 → mm_S → Prop) (K : Int32 → Int32 → Int32 → mm_S → Prop) : Nat → Int32 → Int32 → Int32 → mm_S → Prop
  | 0, _, _, _, _ => False
  | n49 + 1, x1, x2, x3, s0 => ((704 ≤ x3 → K x1 x2 x3 s0) ∧ (¬ 704 ≤ x3 → (vp_in x3 704 ∧ (vp_in x3 704 ∧ (∀ s21 : mm_S, s21 = ms_a s0 0 x3.toNatClampNeg (s0.2.1 1 x3.toNatClampNeg) → (∀ v22, v22 = x3 + 1 → wp_X6_foreseen_49 post K n49 x1 x2 v22 s21))))))
set_option maxHeartbeats 4000000 in
theorem tw_X6_foreseen_49 {p : Program} {l : Launch} {e : Env} {s : State} {m : MethodId} {args : Array Value} {below : List Frame} {meth : Method} {c : Code} {base : Nat} {D : va_G} {ca : Nat → ClassId} {Ls : List gb_L} {ad : gb_L → Nat} {w : gb_L → va_E} {post : Int32 → mm_S → Prop} {K : Int32 → Int32 → Int32 → mm_S → Prop} (C : gb_C p m c cX6_foreseen 4 s args RX6 base D ca) (hr : meth.sig.returnType = (some .int)) (hlk : meth.locks = false) (hK : ∀ (x1 : Int32) (x2 : Int32) (x3 : Int32) (σ' : mm_S) (H : Heap) (locs : List Loc) (ls : Array Slot), K x1 x2 x3 σ' → mm_ok base D ca Ls ad w σ' H → va_S (fun q => base ≤ q) s.heap H locs → lv_has ls 4 [(0, .ref (ad (20, 0))), (1, .int x1), (2, .int x2), (3, .int x3)] → W p l e ({ frames := 8, cells := 0, slots := 0, locals := 174 } : Room) s m args below meth c H locs 0 0 (MQ below (va_Qi post (fun σ' t => mm_ok base D ca Ls ad w σ' t.heap) (fun q => base ≤ q)) args s 0 0 (fun q => base ≤ q)) (F0 m 74 ls [])) :
    ∀ (n : Nat) (x1 : Int32) (x2 : Int32) (x3 : Int32) (s0 : mm_S) (H : Heap) (locs : List Loc) (ls : Array Slot), wp_X6_foreseen_49 post K n x1 x2 x3 s0 → mm_ok base D ca Ls ad w s0 H → va_S (fun q => base ≤ q) s.heap H locs → lv_has ls 4 [(0, .ref (ad (20, 0))), (1, .int x1), (2, .int x2), (3, .int x3)] → W p l e ({ frames := 8, cells := 0, slots := 0, locals := 174 } : Room) s m args below meth c H locs 0 0 (MQ below (va_Qi post (fun σ' t => mm_ok base D ca Ls ad w σ' t.heap) (fun q => base ≤ q)) args s 0 0 (fun q => base ≤ q)) (F0 m 49 ls []) := by
  intro n
  induction n with
  | zero =>
    intro x1 x2 x3 s0 H locs ls hk
    exact hk.elim
  | succ n ih =>
    intro x1 x2 x3 s0 H locs ls hk hH hS hl
    rw [wp_X6_foreseen_49] at hk
    refine lv_iload_n C.hx C.hb dX6_foreseen_49 rfl (lv_at hl 3 rfl) ?_
    refine lv_sipush (v := 704) C.hx C.hb dX6_foreseen_50 (by decide) ?_
    refine lv_icmp_ge (tgt := 74) C.hx C.hb dX6_foreseen_53 (by decide) (fun c18 => ?_) (fun c18 => ?_)
    · have hk := hk.1 c18
      exact hK x1 x2 x3 s0 _ _ _ hk hH hS (lv_sub hl [0, 1, 2, 3] rfl)
    · have hk := hk.2 c18
      refine lv_aload_n C.hx C.hb dX6_foreseen_56 rfl (lv_at hl 0 rfl) ?_
      refine mm_geta C hH 0 (by decide) q1241 dX6_foreseen_57 ?_
      refine lv_iload_n C.hx C.hb dX6_foreseen_60 rfl (lv_at hl 3 rfl) ?_
      refine lv_aload_n C.hx C.hb dX6_foreseen_61 rfl (lv_at hl 0 rfl) ?_
      refine mm_geta C hH 1 (by decide) q1242 dX6_foreseen_62 ?_
      refine lv_iload_n C.hx C.hb dX6_foreseen_65 rfl (lv_at hl 3 rfl) ?_
      obtain ⟨h19, hk⟩ := hk
      refine mm_ald C hH 1 (by decide) h19 dX6_foreseen_66 ?_
      obtain ⟨h20, hk⟩ := hk
      refine mm_ast C hH hS 0 (by decide) h20 dX6_foreseen_67 (fun s21 es21 H locs hH hS => ?_)
      have hk := hk s21 es21
      obtain ⟨v22, ev22⟩ : ∃ y : Int32, y = x3 + 1 := ⟨_, rfl⟩
      have hk := hk v22 ev22
      refine lv_iinc (v := v22) (lv' := [(3, .int v22), (0, .ref (ad (20, 0))), (1, .int x1), (2, .int x2)]) C.hx C.hb dX6_foreseen_68 hl (k := 3) rfl (by rw [ev22]; rfl) (by decide) rfl (fun ls hl => ?_)
      refine lv_goto (tgt := 49) C.hx C.hb dX6_foreseen_71 (by decide) ?_
      exact ih x1 x2 v22 s21 _ _ _ hk hH hS (lv_sub hl [1, 2, 3, 0] rfl)
def wp_X6_foreseen (post : Int32 → mm_S → Prop) (p1 : Int32) (s0 : mm_S) : Prop := (∃ n4, wp_X6_foreseen_4 post (fun y6 y7 y8 s9 => (∃ n31, wp_X6_foreseen_31 post (fun y14 y15 y16 s17 => (∃ n49, wp_X6_foreseen_49 post (fun y23 y24 y25 s26 => post y24 s26) n49 y14 y15 0 s17)) n31 y6 y7 0 s9)) n4 p1 0 0 s0)
set_option maxHeartbeats 4000000 in
theorem t_X6_foreseen (l : Launch) {base : Nat} {D : va_G} {ca : Nat → ClassId} {Ls : List gb_L} {ad : gb_L → Nat} {w : gb_L → va_E} {post : Int32 → mm_S → Prop} {p1 : Int32} {s0 : mm_S} (hk : wp_X6_foreseen post p1 s0) : mm_Mi l yX6_foreseen (ws_ yX6_foreseen cX6_foreseen 4 (some .int)) ({ frames := 8, cells := 0, slots := 0, locals := 174 } : Room) base D ca Ls ad w [.int p1] s0 post := by
  refine mm_start cX6_foreseen 4 (some .int) _ (by decide) rfl rfl (Nat.le_of_ble_eq_true rfl) ?_
  intro p e s m args below meth c ls C hr hlk hH hS hl
  have hl : lv_has ls 4 [(0, .ref (ad (20, 0))), (1, .int p1)] := hl
  unfold wp_X6_foreseen at hk
  refine lv_iconst (v := 0) C.hx C.hb dX6_foreseen_0 (by decide) ?_
  refine lv_istore_n (lv' := [(2, .int 0), (0, .ref (ad (20, 0))), (1, .int p1)]) C.hx C.hb dX6_foreseen_1 rfl hl (by decide) rfl (fun ls hl => ?_)
  refine lv_iconst (v := 0) C.hx C.hb dX6_foreseen_2 (by decide) ?_
  refine lv_istore_n (lv' := [(3, .int 0), (2, .int 0), (0, .ref (ad (20, 0))), (1, .int p1)]) C.hx C.hb dX6_foreseen_3 rfl hl (by decide) rfl (fun ls hl => ?_)
  obtain ⟨n4, hk⟩ := hk
  refine tw_X6_foreseen_4 C hr hlk (fun y6 y7 y8 s9 H locs ls hk hH hS hl => ?_) n4 p1 0 0 s0 _ _ _ hk hH hS (lv_sub hl [2, 3, 1, 0] rfl)
  refine lv_iconst (v := 0) C.hx C.hb dX6_foreseen_29 (by decide) ?_
  refine lv_istore_n (lv' := [(3, .int 0), (0, .ref (ad (20, 0))), (1, .int y6), (2, .int y7)]) C.hx C.hb dX6_foreseen_30 rfl hl (by decide) rfl (fun ls hl => ?_)
  obtain ⟨n31, hk⟩ := hk
  refine tw_X6_foreseen_31 C hr hlk (fun y14 y15 y16 s17 H locs ls hk hH hS hl => ?_) n31 y6 y7 0 s9 _ _ _ hk hH hS (lv_sub hl [1, 2, 3, 0] rfl)
  refine lv_iconst (v := 0) C.hx C.hb dX6_foreseen_47 (by decide) ?_
  refine lv_istore_n (lv' := [(3, .int 0), (0, .ref (ad (20, 0))), (1, .int y14), (2, .int y15)]) C.hx C.hb dX6_foreseen_48 rfl hl (by decide) rfl (fun ls hl => ?_)
  obtain ⟨n49, hk⟩ := hk
  refine tw_X6_foreseen_49 C hr hlk (fun y23 y24 y25 s26 H locs ls hk hH hS hl => ?_) n49 y14 y15 0 s17 _ _ _ hk hH hS (lv_sub hl [1, 2, 3, 0] rfl)
  refine lv_iload_n C.hx C.hb dX6_foreseen_74 rfl (lv_at hl 2 rfl) ?_
  exact mm_iret C hr hlk hH hS hk dX6_foreseen_75
/-! ToneGraphModel.ahead(I)I -/
def wp_X6_ahead (post : Int32 → mm_S → Prop) (p1 : Int32) (s0 : mm_S) : Prop := wp_X6_in (fun r1 => wp_X6_checked (fun r2 s3 => ((r2 ≤ 0 → wp_X6_foreseen (fun r5 s6 => post r5 s6) p1 s3) ∧ (¬ r2 ≤ 0 → post 0 s3))) r1 s0) p1 1 40
set_option maxHeartbeats 4000000 in
theorem t_X6_ahead (l : Launch) {base : Nat} {D : va_G} {ca : Nat → ClassId} {Ls : List gb_L} {ad : gb_L → Nat} {w : gb_L → va_E} {post : Int32 → mm_S → Prop} {p1 : Int32} {s0 : mm_S} (hk : wp_X6_ahead post p1 s0) : mm_Mi l yX6_ahead (ws_ yX6_ahead cX6_ahead 2 (some .int)) ({ frames := 9, cells := 0, slots := 0, locals := 197 } : Room) base D ca Ls ad w [.int p1] s0 post := by
  refine mm_start cX6_ahead 2 (some .int) _ (by decide) rfl rfl (Nat.le_of_ble_eq_true rfl) ?_
  intro p e s m args below meth c ls C hr hlk hH hS hl
  have hl : lv_has ls 2 [(0, .ref (ad (20, 0))), (1, .int p1)] := hl
  unfold wp_X6_ahead at hk
  refine lv_aload_n C.hx C.hb dX6_ahead_0 rfl (lv_at hl 0 rfl) ?_
  refine lv_iload_n C.hx C.hb dX6_ahead_1 rfl (lv_at hl 1 rfl) ?_
  refine lv_iconst (v := 1) C.hx C.hb dX6_ahead_2 (by decide) ?_
  refine lv_bipush (v := 40) C.hx C.hb dX6_ahead_3 (by decide) ?_
  refine gb_call (As := [.int p1, .int 1, .int 40]) (rest := [.ref (ad (20, 0))]) C.1 (t_X6_in l hk) (va_cwS 3 C.hts (lw_S q1329 q1330 q65 q1331) rfl rfl rfl (by decide +kernel) ⟨Nat.le_of_ble_eq_true rfl, Nat.le_of_ble_eq_true rfl⟩) rfl hl.1 rfl (lv_room (Nat.le_of_ble_eq_true rfl)) dX6_ahead_5 ⟨Nat.le_of_ble_eq_true rfl, Nat.le_of_ble_eq_true rfl⟩ (fun r1 hk => ?_)
  refine mm_calli (As := [.int r1]) (rest := []) C (t_X6_checked l hk) (cwV 1 C.hts (lw_V q1380 q1382 qs31 q65 q1383) rfl rfl rfl (by decide +kernel) ⟨Nat.le_of_ble_eq_true rfl, Nat.le_of_ble_eq_true rfl⟩) hH hS rfl hl.1 rfl (lv_room (Nat.le_of_ble_eq_true rfl)) dX6_ahead_8 ⟨Nat.le_of_ble_eq_true rfl, Nat.le_of_ble_eq_true rfl⟩ (fun r2 s3 H locs hk hH hS => ?_)
  refine lv_if_le (tgt := 18) C.hx C.hb dX6_ahead_11 (by decide) (fun c4 => ?_) (fun c4 => ?_)
  · have hk := hk.1 c4
    refine lv_aload_n C.hx C.hb dX6_ahead_18 rfl (lv_at hl 0 rfl) ?_
    refine lv_iload_n C.hx C.hb dX6_ahead_19 rfl (lv_at hl 1 rfl) ?_
    refine mm_calli (As := [.int p1]) (rest := []) C (t_X6_foreseen l hk) (cwV 1 C.hts (lw_V q1564 q1566 qs50 q65 q1567) rfl rfl rfl (by decide +kernel) ⟨Nat.le_of_ble_eq_true rfl, Nat.le_of_ble_eq_true rfl⟩) hH hS rfl hl.1 rfl (lv_room (Nat.le_of_ble_eq_true rfl)) dX6_ahead_20 ⟨Nat.le_of_ble_eq_true rfl, Nat.le_of_ble_eq_true rfl⟩ (fun r5 s6 H locs hk hH hS => ?_)
    exact mm_iret C hr hlk hH hS hk dX6_ahead_23
  · have hk := hk.2 c4
    refine lv_iconst (v := 0) C.hx C.hb dX6_ahead_14 (by decide) ?_
    refine lv_goto (tgt := 23) C.hx C.hb dX6_ahead_15 (by decide) ?_
    exact mm_iret C hr hlk hH hS hk dX6_ahead_23
/-! ToneGraphModel.aheadByBlocks(II)I -/
def wp_X6_aheadByBlocks (post : Int32 → mm_S → Prop) (p1 : Int32) (p2 : Int32) (s0 : mm_S) : Prop := wp_X6_in (fun r1 => ((r1 = 0 → wp_X6_checked (fun r3 s4 => ((r3 ≤ 0 → wp_X6_foreseen (fun r6 s7 => post r6 s7) p1 s4) ∧ (¬ r3 ≤ 0 → post 0 s4))) 0 s0) ∧ (¬ r1 = 0 → wp_X6_in (fun r8 => ((r8 = 0 → wp_X6_checked (fun r10 s11 => ((r10 ≤ 0 → wp_X6_foreseen (fun r13 s14 => post r13 s14) p1 s11) ∧ (¬ r10 ≤ 0 → post 0 s11))) 0 s0) ∧ (¬ r8 = 0 → wp_X6_checked (fun r15 s16 => ((r15 ≤ 0 → wp_X6_foreseen (fun r18 s19 => post r18 s19) p1 s16) ∧ (¬ r15 ≤ 0 → post 0 s16))) 1 s0))) p2 1 64))) p1 1 40
set_option maxHeartbeats 4000000 in
theorem t_X6_aheadByBlocks (l : Launch) {base : Nat} {D : va_G} {ca : Nat → ClassId} {Ls : List gb_L} {ad : gb_L → Nat} {w : gb_L → va_E} {post : Int32 → mm_S → Prop} {p1 : Int32} {p2 : Int32} {s0 : mm_S} (hk : wp_X6_aheadByBlocks post p1 p2 s0) : mm_Mi l yX6_aheadByBlocks (ws_ yX6_aheadByBlocks cX6_aheadByBlocks 3 (some .int)) ({ frames := 9, cells := 0, slots := 0, locals := 197 } : Room) base D ca Ls ad w [.int p1, .int p2] s0 post := by
  refine mm_start cX6_aheadByBlocks 3 (some .int) _ (by decide) rfl rfl (Nat.le_of_ble_eq_true rfl) ?_
  intro p e s m args below meth c ls C hr hlk hH hS hl
  have hl : lv_has ls 3 [(0, .ref (ad (20, 0))), (1, .int p1), (2, .int p2)] := hl
  unfold wp_X6_aheadByBlocks at hk
  refine lv_aload_n C.hx C.hb dX6_aheadByBlocks_0 rfl (lv_at hl 0 rfl) ?_
  refine lv_iload_n C.hx C.hb dX6_aheadByBlocks_1 rfl (lv_at hl 1 rfl) ?_
  refine lv_iconst (v := 1) C.hx C.hb dX6_aheadByBlocks_2 (by decide) ?_
  refine lv_bipush (v := 40) C.hx C.hb dX6_aheadByBlocks_3 (by decide) ?_
  refine gb_call (As := [.int p1, .int 1, .int 40]) (rest := [.ref (ad (20, 0))]) C.1 (t_X6_in l hk) (va_cwS 3 C.hts (lw_S q1329 q1330 q65 q1331) rfl rfl rfl (by decide +kernel) ⟨Nat.le_of_ble_eq_true rfl, Nat.le_of_ble_eq_true rfl⟩) rfl hl.1 rfl (lv_room (Nat.le_of_ble_eq_true rfl)) dX6_aheadByBlocks_5 ⟨Nat.le_of_ble_eq_true rfl, Nat.le_of_ble_eq_true rfl⟩ (fun r1 hk => ?_)
  refine lv_if_eq (tgt := 25) C.hx C.hb dX6_aheadByBlocks_8 (by decide) (fun c2 => ?_) (fun c2 => ?_)
  · have hk := hk.1 c2
    refine lv_iconst (v := 0) C.hx C.hb dX6_aheadByBlocks_25 (by decide) ?_
    refine mm_calli (As := [.int 0]) (rest := []) C (t_X6_checked l hk) (cwV 1 C.hts (lw_V q1380 q1382 qs31 q65 q1383) rfl rfl rfl (by decide +kernel) ⟨Nat.le_of_ble_eq_true rfl, Nat.le_of_ble_eq_true rfl⟩) hH hS rfl hl.1 rfl (lv_room (Nat.le_of_ble_eq_true rfl)) dX6_aheadByBlocks_26 ⟨Nat.le_of_ble_eq_true rfl, Nat.le_of_ble_eq_true rfl⟩ (fun r3 s4 H locs hk hH hS => ?_)
    refine lv_if_le (tgt := 36) C.hx C.hb dX6_aheadByBlocks_29 (by decide) (fun c5 => ?_) (fun c5 => ?_)
    · have hk := hk.1 c5
      refine lv_aload_n C.hx C.hb dX6_aheadByBlocks_36 rfl (lv_at hl 0 rfl) ?_
      refine lv_iload_n C.hx C.hb dX6_aheadByBlocks_37 rfl (lv_at hl 1 rfl) ?_
      refine mm_calli (As := [.int p1]) (rest := []) C (t_X6_foreseen l hk) (cwV 1 C.hts (lw_V q1564 q1566 qs50 q65 q1567) rfl rfl rfl (by decide +kernel) ⟨Nat.le_of_ble_eq_true rfl, Nat.le_of_ble_eq_true rfl⟩) hH hS rfl hl.1 rfl (lv_room (Nat.le_of_ble_eq_true rfl)) dX6_aheadByBlocks_38 ⟨Nat.le_of_ble_eq_true rfl, Nat.le_of_ble_eq_true rfl⟩ (fun r6 s7 H locs hk hH hS => ?_)
      exact mm_iret C hr hlk hH hS hk dX6_aheadByBlocks_41
    · have hk := hk.2 c5
      refine lv_iconst (v := 0) C.hx C.hb dX6_aheadByBlocks_32 (by decide) ?_
      refine lv_goto (tgt := 41) C.hx C.hb dX6_aheadByBlocks_33 (by decide) ?_
      exact mm_iret C hr hlk hH hS hk dX6_aheadByBlocks_41
  · have hk := hk.2 c2
    refine lv_iload_n C.hx C.hb dX6_aheadByBlocks_11 rfl (lv_at hl 2 rfl) ?_
    refine lv_iconst (v := 1) C.hx C.hb dX6_aheadByBlocks_12 (by decide) ?_
    refine lv_bipush (v := 64) C.hx C.hb dX6_aheadByBlocks_13 (by decide) ?_
    refine gb_call (As := [.int p2, .int 1, .int 64]) (rest := [.ref (ad (20, 0))]) C.1 (t_X6_in l hk) (va_cwS 3 C.hts (lw_S q1329 q1330 q65 q1331) rfl rfl rfl (by decide +kernel) ⟨Nat.le_of_ble_eq_true rfl, Nat.le_of_ble_eq_true rfl⟩) rfl hl.1 rfl (lv_room (Nat.le_of_ble_eq_true rfl)) dX6_aheadByBlocks_15 ⟨Nat.le_of_ble_eq_true rfl, Nat.le_of_ble_eq_true rfl⟩ (fun r8 hk => ?_)
    refine lv_if_eq (tgt := 25) C.hx C.hb dX6_aheadByBlocks_18 (by decide) (fun c9 => ?_) (fun c9 => ?_)
    · have hk := hk.1 c9
      refine lv_iconst (v := 0) C.hx C.hb dX6_aheadByBlocks_25 (by decide) ?_
      refine mm_calli (As := [.int 0]) (rest := []) C (t_X6_checked l hk) (cwV 1 C.hts (lw_V q1380 q1382 qs31 q65 q1383) rfl rfl rfl (by decide +kernel) ⟨Nat.le_of_ble_eq_true rfl, Nat.le_of_ble_eq_true rfl⟩) hH hS rfl hl.1 rfl (lv_room (Nat.le_of_ble_eq_true rfl)) dX6_aheadByBlocks_26 ⟨Nat.le_of_ble_eq_true rfl, Nat.le_of_ble_eq_true rfl⟩ (fun r10 s11 H locs hk hH hS => ?_)
      refine lv_if_le (tgt := 36) C.hx C.hb dX6_aheadByBlocks_29 (by decide) (fun c12 => ?_) (fun c12 => ?_)
      · have hk := hk.1 c12
        refine lv_aload_n C.hx C.hb dX6_aheadByBlocks_36 rfl (lv_at hl 0 rfl) ?_
        refine lv_iload_n C.hx C.hb dX6_aheadByBlocks_37 rfl (lv_at hl 1 rfl) ?_
        refine mm_calli (As := [.int p1]) (rest := []) C (t_X6_foreseen l hk) (cwV 1 C.hts (lw_V q1564 q1566 qs50 q65 q1567) rfl rfl rfl (by decide +kernel) ⟨Nat.le_of_ble_eq_true rfl, Nat.le_of_ble_eq_true rfl⟩) hH hS rfl hl.1 rfl (lv_room (Nat.le_of_ble_eq_true rfl)) dX6_aheadByBlocks_38 ⟨Nat.le_of_ble_eq_true rfl, Nat.le_of_ble_eq_true rfl⟩ (fun r13 s14 H locs hk hH hS => ?_)
        exact mm_iret C hr hlk hH hS hk dX6_aheadByBlocks_41
      · have hk := hk.2 c12
        refine lv_iconst (v := 0) C.hx C.hb dX6_aheadByBlocks_32 (by decide) ?_
        refine lv_goto (tgt := 41) C.hx C.hb dX6_aheadByBlocks_33 (by decide) ?_
        exact mm_iret C hr hlk hH hS hk dX6_aheadByBlocks_41
    · have hk := hk.2 c9
      refine lv_iconst (v := 1) C.hx C.hb dX6_aheadByBlocks_21 (by decide) ?_
      refine lv_goto (tgt := 26) C.hx C.hb dX6_aheadByBlocks_22 (by decide) ?_
      refine mm_calli (As := [.int 1]) (rest := []) C (t_X6_checked l hk) (cwV 1 C.hts (lw_V q1380 q1382 qs31 q65 q1383) rfl rfl rfl (by decide +kernel) ⟨Nat.le_of_ble_eq_true rfl, Nat.le_of_ble_eq_true rfl⟩) hH hS rfl hl.1 rfl (lv_room (Nat.le_of_ble_eq_true rfl)) dX6_aheadByBlocks_26 ⟨Nat.le_of_ble_eq_true rfl, Nat.le_of_ble_eq_true rfl⟩ (fun r15 s16 H locs hk hH hS => ?_)
      refine lv_if_le (tgt := 36) C.hx C.hb dX6_aheadByBlocks_29 (by decide) (fun c17 => ?_) (fun c17 => ?_)
      · have hk := hk.1 c17
        refine lv_aload_n C.hx C.hb dX6_aheadByBlocks_36 rfl (lv_at hl 0 rfl) ?_
        refine lv_iload_n C.hx C.hb dX6_aheadByBlocks_37 rfl (lv_at hl 1 rfl) ?_
        refine mm_calli (As := [.int p1]) (rest := []) C (t_X6_foreseen l hk) (cwV 1 C.hts (lw_V q1564 q1566 qs50 q65 q1567) rfl rfl rfl (by decide +kernel) ⟨Nat.le_of_ble_eq_true rfl, Nat.le_of_ble_eq_true rfl⟩) hH hS rfl hl.1 rfl (lv_room (Nat.le_of_ble_eq_true rfl)) dX6_aheadByBlocks_38 ⟨Nat.le_of_ble_eq_true rfl, Nat.le_of_ble_eq_true rfl⟩ (fun r18 s19 H locs hk hH hS => ?_)
        exact mm_iret C hr hlk hH hS hk dX6_aheadByBlocks_41
      · have hk := hk.2 c17
        refine lv_iconst (v := 0) C.hx C.hb dX6_aheadByBlocks_32 (by decide) ?_
        refine lv_goto (tgt := 41) C.hx C.hb dX6_aheadByBlocks_33 (by decide) ?_
        exact mm_iret C hr hlk hH hS hk dX6_aheadByBlocks_41
/-! ToneGraphModel.heard(I)I -/
def wp_X6_heard (post : Int32 → mm_S → Prop) (p1 : Int32) (s0 : mm_S) : Prop := wp_X6_in (fun r1 => ((¬ r1 = 0 → ((p1 < (s0.1 10) → (∀ s4 : mm_S, s4 = ms_f s0 0 0 → (((s4.1 0) ≤ 0 → (vp_in ((((s4.1 10) - 1) - p1) - (((s4.1 10) - 1) - p1) / 64 * 64) 64 ∧ post (s4.2.1 10 ((((s4.1 10) - 1) - p1) - (((s4.1 10) - 1) - p1) / 64 * 64).toNatClampNeg) s4)) ∧ (¬ (s4.1 0) ≤ 0 → post 0 s4)))) ∧ (¬ p1 < (s0.1 10) → (∀ s7 : mm_S, s7 = ms_f s0 0 2 → (((s7.1 0) ≤ 0 → (vp_in ((((s7.1 10) - 1) - p1) - (((s7.1 10) - 1) - p1) / 64 * 64) 64 ∧ post (s7.2.1 10 ((((s7.1 10) - 1) - p1) - (((s7.1 10) - 1) - p1) / 64 * 64).toNatClampNeg) s7)) ∧ (¬ (s7.1 0) ≤ 0 → post 0 s7)))))) ∧ (r1 = 0 → (∀ s10 : mm_S, s10 = ms_f s0 0 1 → (((s10.1 0) ≤ 0 → (vp_in ((((s10.1 10) - 1) - p1) - (((s10.1 10) - 1) - p1) / 64 * 64) 64 ∧ post (s10.2.1 10 ((((s10.1 10) - 1) - p1) - (((s10.1 10) - 1) - p1) / 64 * 64).toNatClampNeg) s10)) ∧ (¬ (s10.1 0) ≤ 0 → post 0 s10)))))) p1 0 63
set_option maxHeartbeats 4000000 in
theorem t_X6_heard (l : Launch) {base : Nat} {D : va_G} {ca : Nat → ClassId} {Ls : List gb_L} {ad : gb_L → Nat} {w : gb_L → va_E} {post : Int32 → mm_S → Prop} {p1 : Int32} {s0 : mm_S} (hk : wp_X6_heard post p1 s0) : mm_Mi l yX6_heard (ws_ yX6_heard cX6_heard 2 (some .int)) ({ frames := 1, cells := 0, slots := 0, locals := 22 } : Room) base D ca Ls ad w [.int p1] s0 post := by
  refine mm_start cX6_heard 2 (some .int) _ (by decide) rfl rfl (Nat.le_of_ble_eq_true rfl) ?_
  intro p e s m args below meth c ls C hr hlk hH hS hl
  have hl : lv_has ls 2 [(0, .ref (ad (20, 0))), (1, .int p1)] := hl
  unfold wp_X6_heard at hk
  refine lv_aload_n C.hx C.hb dX6_heard_0 rfl (lv_at hl 0 rfl) ?_
  refine lv_iload_n C.hx C.hb dX6_heard_1 rfl (lv_at hl 1 rfl) ?_
  refine lv_iconst (v := 0) C.hx C.hb dX6_heard_2 (by decide) ?_
  refine lv_bipush (v := 63) C.hx C.hb dX6_heard_3 (by decide) ?_
  refine gb_call (As := [.int p1, .int 0, .int 63]) (rest := [.ref (ad (20, 0))]) C.1 (t_X6_in l hk) (va_cwS 3 C.hts (lw_S q1329 q1330 q65 q1331) rfl rfl rfl (by decide +kernel) ⟨Nat.le_of_ble_eq_true rfl, Nat.le_of_ble_eq_true rfl⟩) rfl hl.1 rfl (lv_room (Nat.le_of_ble_eq_true rfl)) dX6_heard_5 ⟨Nat.le_of_ble_eq_true rfl, Nat.le_of_ble_eq_true rfl⟩ (fun r1 hk => ?_)
  refine lv_if_ne (tgt := 15) C.hx C.hb dX6_heard_8 (by decide) (fun c2 => ?_) (fun c2 => ?_)
  · have hk := hk.1 c2
    refine lv_iload_n C.hx C.hb dX6_heard_15 rfl (lv_at hl 1 rfl) ?_
    refine lv_aload_n C.hx C.hb dX6_heard_16 rfl (lv_at hl 0 rfl) ?_
    refine mm_geti C hH 22 10 (by decide) rfl q1263 dX6_heard_17 ?_
    refine lv_icmp_lt (tgt := 27) C.hx C.hb dX6_heard_20 (by decide) (fun c3 => ?_) (fun c3 => ?_)
    · have hk := hk.1 c3
      refine lv_iconst (v := 0) C.hx C.hb dX6_heard_27 (by decide) ?_
      refine mm_puti C hH hS 12 0 (by decide) rfl q1253 dX6_heard_28 rfl rfl (fun s4 es4 H locs hH hS => ?_)
      have hk := hk s4 es4
      refine lv_aload_n C.hx C.hb dX6_heard_31 rfl (lv_at hl 0 rfl) ?_
      refine mm_geti C hH 12 0 (by decide) rfl q1253 dX6_heard_32 ?_
      refine lv_if_le (tgt := 42) C.hx C.hb dX6_heard_35 (by decide) (fun c5 => ?_) (fun c5 => ?_)
      · have hk := hk.1 c5
        refine lv_aload_n C.hx C.hb dX6_heard_42 rfl (lv_at hl 0 rfl) ?_
        refine mm_geta C hH 10 (by decide) q1251 dX6_heard_43 ?_
        refine lv_aload_n C.hx C.hb dX6_heard_46 rfl (lv_at hl 0 rfl) ?_
        refine mm_geti C hH 22 10 (by decide) rfl q1263 dX6_heard_47 ?_
        refine lv_iconst (v := 1) C.hx C.hb dX6_heard_50 (by decide) ?_
        refine lv_isub C.hx C.hb dX6_heard_51 ?_
        refine lv_iload_n C.hx C.hb dX6_heard_52 rfl (lv_at hl 1 rfl) ?_
        refine lv_isub C.hx C.hb dX6_heard_53 ?_
        refine lv_bipush (v := 64) C.hx C.hb dX6_heard_54 (by decide) ?_
        refine lv_irem C.hx C.hb dX6_heard_56 (by decide) ?_
        obtain ⟨h6, hk⟩ := hk
        refine mm_ald C hH 10 (by decide) h6 dX6_heard_57 ?_
        exact mm_iret C hr hlk hH hS hk dX6_heard_58
      · have hk := hk.2 c5
        refine lv_iconst (v := 0) C.hx C.hb dX6_heard_38 (by decide) ?_
        refine lv_goto (tgt := 58) C.hx C.hb dX6_heard_39 (by decide) ?_
        exact mm_iret C hr hlk hH hS hk dX6_heard_58
    · have hk := hk.2 c3
      refine lv_iconst (v := 2) C.hx C.hb dX6_heard_23 (by decide) ?_
      refine lv_goto (tgt := 28) C.hx C.hb dX6_heard_24 (by decide) ?_
      refine mm_puti C hH hS 12 0 (by decide) rfl q1253 dX6_heard_28 rfl rfl (fun s7 es7 H locs hH hS => ?_)
      have hk := hk s7 es7
      refine lv_aload_n C.hx C.hb dX6_heard_31 rfl (lv_at hl 0 rfl) ?_
      refine mm_geti C hH 12 0 (by decide) rfl q1253 dX6_heard_32 ?_
      refine lv_if_le (tgt := 42) C.hx C.hb dX6_heard_35 (by decide) (fun c8 => ?_) (fun c8 => ?_)
      · have hk := hk.1 c8
        refine lv_aload_n C.hx C.hb dX6_heard_42 rfl (lv_at hl 0 rfl) ?_
        refine mm_geta C hH 10 (by decide) q1251 dX6_heard_43 ?_
        refine lv_aload_n C.hx C.hb dX6_heard_46 rfl (lv_at hl 0 rfl) ?_
        refine mm_geti C hH 22 10 (by decide) rfl q1263 dX6_heard_47 ?_
        refine lv_iconst (v := 1) C.hx C.hb dX6_heard_50 (by decide) ?_
        refine lv_isub C.hx C.hb dX6_heard_51 ?_
        refine lv_iload_n C.hx C.hb dX6_heard_52 rfl (lv_at hl 1 rfl) ?_
        refine lv_isub C.hx C.hb dX6_heard_53 ?_
        refine lv_bipush (v := 64) C.hx C.hb dX6_heard_54 (by decide) ?_
        refine lv_irem C.hx C.hb dX6_heard_56 (by decide) ?_
        obtain ⟨h9, hk⟩ := hk
        refine mm_ald C hH 10 (by decide) h9 dX6_heard_57 ?_
        exact mm_iret C hr hlk hH hS hk dX6_heard_58
      · have hk := hk.2 c8
        refine lv_iconst (v := 0) C.hx C.hb dX6_heard_38 (by decide) ?_
        refine lv_goto (tgt := 58) C.hx C.hb dX6_heard_39 (by decide) ?_
        exact mm_iret C hr hlk hH hS hk dX6_heard_58
  · have hk := hk.2 c2
    refine lv_iconst (v := 1) C.hx C.hb dX6_heard_11 (by decide) ?_
    refine lv_goto (tgt := 28) C.hx C.hb dX6_heard_12 (by decide) ?_
    refine mm_puti C hH hS 12 0 (by decide) rfl q1253 dX6_heard_28 rfl rfl (fun s10 es10 H locs hH hS => ?_)
    have hk := hk s10 es10
    refine lv_aload_n C.hx C.hb dX6_heard_31 rfl (lv_at hl 0 rfl) ?_
    refine mm_geti C hH 12 0 (by decide) rfl q1253 dX6_heard_32 ?_
    refine lv_if_le (tgt := 42) C.hx C.hb dX6_heard_35 (by decide) (fun c11 => ?_) (fun c11 => ?_)
    · have hk := hk.1 c11
      refine lv_aload_n C.hx C.hb dX6_heard_42 rfl (lv_at hl 0 rfl) ?_
      refine mm_geta C hH 10 (by decide) q1251 dX6_heard_43 ?_
      refine lv_aload_n C.hx C.hb dX6_heard_46 rfl (lv_at hl 0 rfl) ?_
      refine mm_geti C hH 22 10 (by decide) rfl q1263 dX6_heard_47 ?_
      refine lv_iconst (v := 1) C.hx C.hb dX6_heard_50 (by decide) ?_
      refine lv_isub C.hx C.hb dX6_heard_51 ?_
      refine lv_iload_n C.hx C.hb dX6_heard_52 rfl (lv_at hl 1 rfl) ?_
      refine lv_isub C.hx C.hb dX6_heard_53 ?_
      refine lv_bipush (v := 64) C.hx C.hb dX6_heard_54 (by decide) ?_
      refine lv_irem C.hx C.hb dX6_heard_56 (by decide) ?_
      obtain ⟨h12, hk⟩ := hk
      refine mm_ald C hH 10 (by decide) h12 dX6_heard_57 ?_
      exact mm_iret C hr hlk hH hS hk dX6_heard_58
    · have hk := hk.2 c11
      refine lv_iconst (v := 0) C.hx C.hb dX6_heard_38 (by decide) ?_
      refine lv_goto (tgt := 58) C.hx C.hb dX6_heard_39 (by decide) ?_
      exact mm_iret C hr hlk hH hS hk dX6_heard_58
/-! ToneGraphModel.outputOf(I)I -/
def wp_X6_outputOf (post : Int32 → mm_S → Prop) (p1 : Int32) (s0 : mm_S) : Prop := wp_X6_isNode (fun r1 s2 => wp_X6_checked (fun r3 s4 => ((r3 ≤ 0 → (vp_in (630 + p1) 704 ∧ post (s4.2.1 0 (630 + p1).toNatClampNeg) s4)) ∧ (¬ r3 ≤ 0 → post 0 s4))) r1 s2) p1 s0
set_option maxHeartbeats 4000000 in
theorem t_X6_outputOf (l : Launch) {base : Nat} {D : va_G} {ca : Nat → ClassId} {Ls : List gb_L} {ad : gb_L → Nat} {w : gb_L → va_E} {post : Int32 → mm_S → Prop} {p1 : Int32} {s0 : mm_S} (hk : wp_X6_outputOf post p1 s0) : mm_Mi l yX6_outputOf (ws_ yX6_outputOf cX6_outputOf 2 (some .int)) ({ frames := 2, cells := 0, slots := 0, locals := 43 } : Room) base D ca Ls ad w [.int p1] s0 post := by
  refine mm_start cX6_outputOf 2 (some .int) _ (by decide) rfl rfl (Nat.le_of_ble_eq_true rfl) ?_
  intro p e s m args below meth c ls C hr hlk hH hS hl
  have hl : lv_has ls 2 [(0, .ref (ad (20, 0))), (1, .int p1)] := hl
  unfold wp_X6_outputOf at hk
  refine lv_aload_n C.hx C.hb dX6_outputOf_0 rfl (lv_at hl 0 rfl) ?_
  refine lv_aload_n C.hx C.hb dX6_outputOf_1 rfl (lv_at hl 0 rfl) ?_
  refine lv_iload_n C.hx C.hb dX6_outputOf_2 rfl (lv_at hl 1 rfl) ?_
  refine mm_calli (As := [.int p1]) (rest := [.ref (ad (20, 0))]) C (t_X6_isNode l hk) (cwV 1 C.hts (lw_V q1356 q1358 qs28 q65 q1359) rfl rfl rfl (by decide +kernel) ⟨Nat.le_of_ble_eq_true rfl, Nat.le_of_ble_eq_true rfl⟩) hH hS rfl hl.1 rfl (lv_room (Nat.le_of_ble_eq_true rfl)) dX6_outputOf_3 ⟨Nat.le_of_ble_eq_true rfl, Nat.le_of_ble_eq_true rfl⟩ (fun r1 s2 H locs hk hH hS => ?_)
  refine mm_calli (As := [.int r1]) (rest := []) C (t_X6_checked l hk) (cwV 1 C.hts (lw_V q1380 q1382 qs31 q65 q1383) rfl rfl rfl (by decide +kernel) ⟨Nat.le_of_ble_eq_true rfl, Nat.le_of_ble_eq_true rfl⟩) hH hS rfl hl.1 rfl (lv_room (Nat.le_of_ble_eq_true rfl)) dX6_outputOf_6 ⟨Nat.le_of_ble_eq_true rfl, Nat.le_of_ble_eq_true rfl⟩ (fun r3 s4 H locs hk hH hS => ?_)
  refine lv_if_le (tgt := 16) C.hx C.hb dX6_outputOf_9 (by decide) (fun c5 => ?_) (fun c5 => ?_)
  · have hk := hk.1 c5
    refine lv_aload_n C.hx C.hb dX6_outputOf_16 rfl (lv_at hl 0 rfl) ?_
    refine mm_geta C hH 0 (by decide) q1241 dX6_outputOf_17 ?_
    refine lv_sipush (v := 630) C.hx C.hb dX6_outputOf_20 (by decide) ?_
    refine lv_iload_n C.hx C.hb dX6_outputOf_23 rfl (lv_at hl 1 rfl) ?_
    refine lv_iadd C.hx C.hb dX6_outputOf_24 ?_
    obtain ⟨h6, hk⟩ := hk
    refine mm_ald C hH 0 (by decide) h6 dX6_outputOf_25 ?_
    exact mm_iret C hr hlk hH hS hk dX6_outputOf_26
  · have hk := hk.2 c5
    refine lv_iconst (v := 0) C.hx C.hb dX6_outputOf_12 (by decide) ?_
    refine lv_goto (tgt := 26) C.hx C.hb dX6_outputOf_13 (by decide) ?_
    exact mm_iret C hr hlk hH hS hk dX6_outputOf_26
/-! ToneGraphModel.time()I -/
def wp_X6_time (post : Int32 → mm_S → Prop) (s0 : mm_S) : Prop := wp_X6_plain (fun r1 s2 => post r1 s2) (s0.1 10) s0
set_option maxHeartbeats 4000000 in
theorem t_X6_time (l : Launch) {base : Nat} {D : va_G} {ca : Nat → ClassId} {Ls : List gb_L} {ad : gb_L → Nat} {w : gb_L → va_E} {post : Int32 → mm_S → Prop} {s0 : mm_S} (hk : wp_X6_time post s0) : mm_Mi l yX6_time (ws_ yX6_time cX6_time 1 (some .int)) ({ frames := 1, cells := 0, slots := 0, locals := 21 } : Room) base D ca Ls ad w [] s0 post := by
  refine mm_start cX6_time 1 (some .int) _ (by decide) rfl rfl (Nat.le_of_ble_eq_true rfl) ?_
  intro p e s m args below meth c ls C hr hlk hH hS hl
  have hl : lv_has ls 1 [(0, .ref (ad (20, 0)))] := hl
  unfold wp_X6_time at hk
  refine lv_aload_n C.hx C.hb dX6_time_0 rfl (lv_at hl 0 rfl) ?_
  refine lv_aload_n C.hx C.hb dX6_time_1 rfl (lv_at hl 0 rfl) ?_
  refine mm_geti C hH 22 10 (by decide) rfl q1263 dX6_time_2 ?_
  refine mm_calli (As := [.int (s0.1 10)]) (rest := []) C (t_X6_plain l hk) (cwV 1 C.hts (lw_V q1388 q1390 qs32 q65 q1391) rfl rfl rfl (by decide +kernel) ⟨Nat.le_of_ble_eq_true rfl, Nat.le_of_ble_eq_true rfl⟩) hH hS rfl hl.1 rfl (lv_room (Nat.le_of_ble_eq_true rfl)) dX6_time_5 ⟨Nat.le_of_ble_eq_true rfl, Nat.le_of_ble_eq_true rfl⟩ (fun r1 s2 H locs hk hH hS => ?_)
  exact mm_iret C hr hlk hH hS hk dX6_time_8
/-! ToneGraphModel.greatest()I -/
def wp_X6_greatest (post : Int32 → mm_S → Prop) (s0 : mm_S) : Prop := wp_X6_plain (fun r1 s2 => post r1 s2) (s0.1 11) s0
set_option maxHeartbeats 4000000 in
theorem t_X6_greatest (l : Launch) {base : Nat} {D : va_G} {ca : Nat → ClassId} {Ls : List gb_L} {ad : gb_L → Nat} {w : gb_L → va_E} {post : Int32 → mm_S → Prop} {s0 : mm_S} (hk : wp_X6_greatest post s0) : mm_Mi l yX6_greatest (ws_ yX6_greatest cX6_greatest 1 (some .int)) ({ frames := 1, cells := 0, slots := 0, locals := 21 } : Room) base D ca Ls ad w [] s0 post := by
  refine mm_start cX6_greatest 1 (some .int) _ (by decide) rfl rfl (Nat.le_of_ble_eq_true rfl) ?_
  intro p e s m args below meth c ls C hr hlk hH hS hl
  have hl : lv_has ls 1 [(0, .ref (ad (20, 0)))] := hl
  unfold wp_X6_greatest at hk
  refine lv_aload_n C.hx C.hb dX6_greatest_0 rfl (lv_at hl 0 rfl) ?_
  refine lv_aload_n C.hx C.hb dX6_greatest_1 rfl (lv_at hl 0 rfl) ?_
  refine mm_geti C hH 23 11 (by decide) rfl q1264 dX6_greatest_2 ?_
  refine mm_calli (As := [.int (s0.1 11)]) (rest := []) C (t_X6_plain l hk) (cwV 1 C.hts (lw_V q1388 q1390 qs32 q65 q1391) rfl rfl rfl (by decide +kernel) ⟨Nat.le_of_ble_eq_true rfl, Nat.le_of_ble_eq_true rfl⟩) hH hS rfl hl.1 rfl (lv_room (Nat.le_of_ble_eq_true rfl)) dX6_greatest_5 ⟨Nat.le_of_ble_eq_true rfl, Nat.le_of_ble_eq_true rfl⟩ (fun r1 s2 H locs hk hH hS => ?_)
  exact mm_iret C hr hlk hH hS hk dX6_greatest_8
/-! ToneGraphModel.energy()J -/
def wp_X6_energy (post : Int64 → mm_S → Prop) (s0 : mm_S) : Prop := (∀ s1 : mm_S, s1 = ms_f s0 0 0 → post s1.2.2 s1)
set_option maxHeartbeats 4000000 in
theorem t_X6_energy (l : Launch) {base : Nat} {D : va_G} {ca : Nat → ClassId} {Ls : List gb_L} {ad : gb_L → Nat} {w : gb_L → va_E} {post : Int64 → mm_S → Prop} {s0 : mm_S} (hk : wp_X6_energy post s0) : mm_Ml l yX6_energy (ws_ yX6_energy cX6_energy 1 (some .long)) ({ frames := 0, cells := 0, slots := 0, locals := 0 } : Room) base D ca Ls ad w [] s0 post := by
  refine mm_start cX6_energy 1 (some .long) _ (by decide) rfl rfl (Nat.le_of_ble_eq_true rfl) ?_
  intro p e s m args below meth c ls C hr hlk hH hS hl
  have hl : lv_has ls 1 [(0, .ref (ad (20, 0)))] := hl
  unfold wp_X6_energy at hk
  refine lv_aload_n C.hx C.hb dX6_energy_0 rfl (lv_at hl 0 rfl) ?_
  refine lv_iconst (v := 0) C.hx C.hb dX6_energy_1 (by decide) ?_
  refine mm_puti C hH hS 12 0 (by decide) rfl q1253 dX6_energy_2 rfl rfl (fun s1 es1 H locs hH hS => ?_)
  have hk := hk s1 es1
  refine lv_aload_n C.hx C.hb dX6_energy_5 rfl (lv_at hl 0 rfl) ?_
  refine mm_gete C hH q1266 dX6_energy_6 ?_
  exact mm_lret C hr hlk hH hS hk dX6_energy_9
/-! ToneGraphModel.meanEnergy()D -/
def wp_X6_meanEnergy (post : UInt64 → mm_S → Prop) (s0 : mm_S) : Prop := (((s0.1 10) ≤ 0 → wp_X6_checked (fun r2 s3 => ((r2 ≤ 0 → (vf_n64 (FP.ddiv (FP.l2d s3.2.2) (FP.i2d (s3.1 10))) ∧ post (FP.ddiv (FP.l2d s3.2.2) (FP.i2d (s3.1 10))) s3)) ∧ (¬ r2 ≤ 0 → post 0 s3))) 0 s0) ∧ (¬ (s0.1 10) ≤ 0 → wp_X6_checked (fun r6 s7 => ((r6 ≤ 0 → (vf_n64 (FP.ddiv (FP.l2d s7.2.2) (FP.i2d (s7.1 10))) ∧ post (FP.ddiv (FP.l2d s7.2.2) (FP.i2d (s7.1 10))) s7)) ∧ (¬ r6 ≤ 0 → post 0 s7))) 1 s0))
set_option maxHeartbeats 4000000 in
theorem t_X6_meanEnergy (l : Launch) {base : Nat} {D : va_G} {ca : Nat → ClassId} {Ls : List gb_L} {ad : gb_L → Nat} {w : gb_L → va_E} {post : UInt64 → mm_S → Prop} {s0 : mm_S} (hk : wp_X6_meanEnergy post s0) : mm_Md l yX6_meanEnergy (ws_ yX6_meanEnergy cX6_meanEnergy 1 (some .double)) ({ frames := 1, cells := 0, slots := 0, locals := 21 } : Room) base D ca Ls ad w [] s0 post := by
  refine mm_start cX6_meanEnergy 1 (some .double) _ (by decide) rfl rfl (Nat.le_of_ble_eq_true rfl) ?_
  intro p e s m args below meth c ls C hr hlk hH hS hl
  have hl : lv_has ls 1 [(0, .ref (ad (20, 0)))] := hl
  unfold wp_X6_meanEnergy at hk
  refine lv_aload_n C.hx C.hb dX6_meanEnergy_0 rfl (lv_at hl 0 rfl) ?_
  refine lv_aload_n C.hx C.hb dX6_meanEnergy_1 rfl (lv_at hl 0 rfl) ?_
  refine mm_geti C hH 22 10 (by decide) rfl q1263 dX6_meanEnergy_2 ?_
  refine lv_if_le (tgt := 12) C.hx C.hb dX6_meanEnergy_5 (by decide) (fun c1 => ?_) (fun c1 => ?_)
  · have hk := hk.1 c1
    refine lv_iconst (v := 0) C.hx C.hb dX6_meanEnergy_12 (by decide) ?_
    refine mm_calli (As := [.int 0]) (rest := []) C (t_X6_checked l hk) (cwV 1 C.hts (lw_V q1380 q1382 qs31 q65 q1383) rfl rfl rfl (by decide +kernel) ⟨Nat.le_of_ble_eq_true rfl, Nat.le_of_ble_eq_true rfl⟩) hH hS rfl hl.1 rfl (lv_room (Nat.le_of_ble_eq_true rfl)) dX6_meanEnergy_13 ⟨Nat.le_of_ble_eq_true rfl, Nat.le_of_ble_eq_true rfl⟩ (fun r2 s3 H locs hk hH hS => ?_)
    refine lv_if_le (tgt := 23) C.hx C.hb dX6_meanEnergy_16 (by decide) (fun c4 => ?_) (fun c4 => ?_)
    · have hk := hk.1 c4
      refine lv_aload_n C.hx C.hb dX6_meanEnergy_23 rfl (lv_at hl 0 rfl) ?_
      refine mm_gete C hH q1266 dX6_meanEnergy_24 ?_
      refine lv_l2d C.hx C.hb dX6_meanEnergy_27 ?_
      refine lv_aload_n C.hx C.hb dX6_meanEnergy_28 rfl (lv_at hl 0 rfl) ?_
      refine mm_geti C hH 22 10 (by decide) rfl q1263 dX6_meanEnergy_29 ?_
      refine lv_i2d C.hx C.hb dX6_meanEnergy_32 ?_
      obtain ⟨h5, hk⟩ := hk
      refine lv_ddiv C.hx C.hb dX6_meanEnergy_33 h5 ?_
      exact mm_dret C hr hlk hH hS hk dX6_meanEnergy_34
    · have hk := hk.2 c4
      refine lv_dconst0 C.hx C.hb dX6_meanEnergy_19 ?_
      refine lv_goto (tgt := 34) C.hx C.hb dX6_meanEnergy_20 (by decide) ?_
      exact mm_dret C hr hlk hH hS hk dX6_meanEnergy_34
  · have hk := hk.2 c1
    refine lv_iconst (v := 1) C.hx C.hb dX6_meanEnergy_8 (by decide) ?_
    refine lv_goto (tgt := 13) C.hx C.hb dX6_meanEnergy_9 (by decide) ?_
    refine mm_calli (As := [.int 1]) (rest := []) C (t_X6_checked l hk) (cwV 1 C.hts (lw_V q1380 q1382 qs31 q65 q1383) rfl rfl rfl (by decide +kernel) ⟨Nat.le_of_ble_eq_true rfl, Nat.le_of_ble_eq_true rfl⟩) hH hS rfl hl.1 rfl (lv_room (Nat.le_of_ble_eq_true rfl)) dX6_meanEnergy_13 ⟨Nat.le_of_ble_eq_true rfl, Nat.le_of_ble_eq_true rfl⟩ (fun r6 s7 H locs hk hH hS => ?_)
    refine lv_if_le (tgt := 23) C.hx C.hb dX6_meanEnergy_16 (by decide) (fun c8 => ?_) (fun c8 => ?_)
    · have hk := hk.1 c8
      refine lv_aload_n C.hx C.hb dX6_meanEnergy_23 rfl (lv_at hl 0 rfl) ?_
      refine mm_gete C hH q1266 dX6_meanEnergy_24 ?_
      refine lv_l2d C.hx C.hb dX6_meanEnergy_27 ?_
      refine lv_aload_n C.hx C.hb dX6_meanEnergy_28 rfl (lv_at hl 0 rfl) ?_
      refine mm_geti C hH 22 10 (by decide) rfl q1263 dX6_meanEnergy_29 ?_
      refine lv_i2d C.hx C.hb dX6_meanEnergy_32 ?_
      obtain ⟨h9, hk⟩ := hk
      refine lv_ddiv C.hx C.hb dX6_meanEnergy_33 h9 ?_
      exact mm_dret C hr hlk hH hS hk dX6_meanEnergy_34
    · have hk := hk.2 c8
      refine lv_dconst0 C.hx C.hb dX6_meanEnergy_19 ?_
      refine lv_goto (tgt := 34) C.hx C.hb dX6_meanEnergy_20 (by decide) ?_
      exact mm_dret C hr hlk hH hS hk dX6_meanEnergy_34
/-! ToneGraphModel.quietShare()F -/
def wp_X6_quietShare (post : UInt32 → mm_S → Prop) (s0 : mm_S) : Prop := (((s0.1 10) ≤ 0 → wp_X6_checked (fun r2 s3 => ((r2 ≤ 0 → (vf_n32 (FP.fdiv (FP.i2f (s3.1 12)) (FP.i2f (s3.1 10))) ∧ post (FP.fdiv (FP.i2f (s3.1 12)) (FP.i2f (s3.1 10))) s3)) ∧ (¬ r2 ≤ 0 → post 0 s3))) 0 s0) ∧ (¬ (s0.1 10) ≤ 0 → wp_X6_checked (fun r6 s7 => ((r6 ≤ 0 → (vf_n32 (FP.fdiv (FP.i2f (s7.1 12)) (FP.i2f (s7.1 10))) ∧ post (FP.fdiv (FP.i2f (s7.1 12)) (FP.i2f (s7.1 10))) s7)) ∧ (¬ r6 ≤ 0 → post 0 s7))) 1 s0))
set_option maxHeartbeats 4000000 in
theorem t_X6_quietShare (l : Launch) {base : Nat} {D : va_G} {ca : Nat → ClassId} {Ls : List gb_L} {ad : gb_L → Nat} {w : gb_L → va_E} {post : UInt32 → mm_S → Prop} {s0 : mm_S} (hk : wp_X6_quietShare post s0) : mm_Mf l yX6_quietShare (ws_ yX6_quietShare cX6_quietShare 1 (some .float)) ({ frames := 1, cells := 0, slots := 0, locals := 21 } : Room) base D ca Ls ad w [] s0 post := by
  refine mm_start cX6_quietShare 1 (some .float) _ (by decide) rfl rfl (Nat.le_of_ble_eq_true rfl) ?_
  intro p e s m args below meth c ls C hr hlk hH hS hl
  have hl : lv_has ls 1 [(0, .ref (ad (20, 0)))] := hl
  unfold wp_X6_quietShare at hk
  refine lv_aload_n C.hx C.hb dX6_quietShare_0 rfl (lv_at hl 0 rfl) ?_
  refine lv_aload_n C.hx C.hb dX6_quietShare_1 rfl (lv_at hl 0 rfl) ?_
  refine mm_geti C hH 22 10 (by decide) rfl q1263 dX6_quietShare_2 ?_
  refine lv_if_le (tgt := 12) C.hx C.hb dX6_quietShare_5 (by decide) (fun c1 => ?_) (fun c1 => ?_)
  · have hk := hk.1 c1
    refine lv_iconst (v := 0) C.hx C.hb dX6_quietShare_12 (by decide) ?_
    refine mm_calli (As := [.int 0]) (rest := []) C (t_X6_checked l hk) (cwV 1 C.hts (lw_V q1380 q1382 qs31 q65 q1383) rfl rfl rfl (by decide +kernel) ⟨Nat.le_of_ble_eq_true rfl, Nat.le_of_ble_eq_true rfl⟩) hH hS rfl hl.1 rfl (lv_room (Nat.le_of_ble_eq_true rfl)) dX6_quietShare_13 ⟨Nat.le_of_ble_eq_true rfl, Nat.le_of_ble_eq_true rfl⟩ (fun r2 s3 H locs hk hH hS => ?_)
    refine lv_if_le (tgt := 23) C.hx C.hb dX6_quietShare_16 (by decide) (fun c4 => ?_) (fun c4 => ?_)
    · have hk := hk.1 c4
      refine lv_aload_n C.hx C.hb dX6_quietShare_23 rfl (lv_at hl 0 rfl) ?_
      refine mm_geti C hH 24 12 (by decide) rfl q1265 dX6_quietShare_24 ?_
      refine lv_i2f C.hx C.hb dX6_quietShare_27 ?_
      refine lv_aload_n C.hx C.hb dX6_quietShare_28 rfl (lv_at hl 0 rfl) ?_
      refine mm_geti C hH 22 10 (by decide) rfl q1263 dX6_quietShare_29 ?_
      refine lv_i2f C.hx C.hb dX6_quietShare_32 ?_
      obtain ⟨h5, hk⟩ := hk
      refine lv_fdiv C.hx C.hb dX6_quietShare_33 h5 ?_
      exact mm_fret C hr hlk hH hS hk dX6_quietShare_34
    · have hk := hk.2 c4
      refine lv_fconst0 C.hx C.hb dX6_quietShare_19 ?_
      refine lv_goto (tgt := 34) C.hx C.hb dX6_quietShare_20 (by decide) ?_
      exact mm_fret C hr hlk hH hS hk dX6_quietShare_34
  · have hk := hk.2 c1
    refine lv_iconst (v := 1) C.hx C.hb dX6_quietShare_8 (by decide) ?_
    refine lv_goto (tgt := 13) C.hx C.hb dX6_quietShare_9 (by decide) ?_
    refine mm_calli (As := [.int 1]) (rest := []) C (t_X6_checked l hk) (cwV 1 C.hts (lw_V q1380 q1382 qs31 q65 q1383) rfl rfl rfl (by decide +kernel) ⟨Nat.le_of_ble_eq_true rfl, Nat.le_of_ble_eq_true rfl⟩) hH hS rfl hl.1 rfl (lv_room (Nat.le_of_ble_eq_true rfl)) dX6_quietShare_13 ⟨Nat.le_of_ble_eq_true rfl, Nat.le_of_ble_eq_true rfl⟩ (fun r6 s7 H locs hk hH hS => ?_)
    refine lv_if_le (tgt := 23) C.hx C.hb dX6_quietShare_16 (by decide) (fun c8 => ?_) (fun c8 => ?_)
    · have hk := hk.1 c8
      refine lv_aload_n C.hx C.hb dX6_quietShare_23 rfl (lv_at hl 0 rfl) ?_
      refine mm_geti C hH 24 12 (by decide) rfl q1265 dX6_quietShare_24 ?_
      refine lv_i2f C.hx C.hb dX6_quietShare_27 ?_
      refine lv_aload_n C.hx C.hb dX6_quietShare_28 rfl (lv_at hl 0 rfl) ?_
      refine mm_geti C hH 22 10 (by decide) rfl q1263 dX6_quietShare_29 ?_
      refine lv_i2f C.hx C.hb dX6_quietShare_32 ?_
      obtain ⟨h9, hk⟩ := hk
      refine lv_fdiv C.hx C.hb dX6_quietShare_33 h9 ?_
      exact mm_fret C hr hlk hH hS hk dX6_quietShare_34
    · have hk := hk.2 c8
      refine lv_fconst0 C.hx C.hb dX6_quietShare_19 ?_
      refine lv_goto (tgt := 34) C.hx C.hb dX6_quietShare_20 (by decide) ?_
      exact mm_fret C hr hlk hH hS hk dX6_quietShare_34
/-! ToneGraphModel.placeOf(I)I -/
def wp_X6_placeOf_2 (post : Int32 → mm_S → Prop) (K : Int32 → Int32 → mm_S → Prop) : Nat → Int32 → Int32 → mm_S → Prop
  | 0, _, _, _ => False
  | n2 + 1, x1, x2, s0 => (vp_in x2 10 ∧ (((s0.2.1 9 x2.toNatClampNeg) = x1 → K x1 x2 s0) ∧ (¬ (s0.2.1 9 x2.toNatClampNeg) = x1 → (∀ v3, v3 = x2 + 1 → wp_X6_placeOf_2 post K n2 x1 v3 s0))))
set_option maxHeartbeats 4000000 in
theorem tw_X6_placeOf_2 {p : Program} {l : Launch} {e : Env} {s : State} {m : MethodId} {args : Array Value} {below : List Frame} {meth : Method} {c : Code} {base : Nat} {D : va_G} {ca : Nat → ClassId} {Ls : List gb_L} {ad : gb_L → Nat} {w : gb_L → va_E} {post : Int32 → mm_S → Prop} {K : Int32 → Int32 → mm_S → Prop} (C : gb_C p m c cX6_placeOf 3 s args RX6 base D ca) (hr : meth.sig.returnType = (some .int)) (hlk : meth.locks = false) (hK : ∀ (x1 : Int32) (x2 : Int32) (σ' : mm_S) (H : Heap) (locs : List Loc) (ls : Array Slot), K x1 x2 σ' → mm_ok base D ca Ls ad w σ' H → va_S (fun q => base ≤ q) s.heap H locs → lv_has ls 3 [(0, .ref (ad (20, 0))), (1, .int x1), (2, .int x2)] → W p l e ({ frames := 0, cells := 0, slots := 0, locals := 0 } : Room) s m args below meth c H locs 0 0 (MQ below (va_Qi post (fun σ' t => mm_ok base D ca Ls ad w σ' t.heap) (fun q => base ≤ q)) args s 0 0 (fun q => base ≤ q)) (F0 m 18 ls [])) :
    ∀ (n : Nat) (x1 : Int32) (x2 : Int32) (s0 : mm_S) (H : Heap) (locs : List Loc) (ls : Array Slot), wp_X6_placeOf_2 post K n x1 x2 s0 → mm_ok base D ca Ls ad w s0 H → va_S (fun q => base ≤ q) s.heap H locs → lv_has ls 3 [(0, .ref (ad (20, 0))), (1, .int x1), (2, .int x2)] → W p l e ({ frames := 0, cells := 0, slots := 0, locals := 0 } : Room) s m args below meth c H locs 0 0 (MQ below (va_Qi post (fun σ' t => mm_ok base D ca Ls ad w σ' t.heap) (fun q => base ≤ q)) args s 0 0 (fun q => base ≤ q)) (F0 m 2 ls []) := by
  intro n
  induction n with
  | zero =>
    intro x1 x2 s0 H locs ls hk
    exact hk.elim
  | succ n ih =>
    intro x1 x2 s0 H locs ls hk hH hS hl
    rw [wp_X6_placeOf_2] at hk
    refine lv_aload_n C.hx C.hb dX6_placeOf_2 rfl (lv_at hl 0 rfl) ?_
    refine mm_geta C hH 9 (by decide) q1250 dX6_placeOf_3 ?_
    refine lv_iload_n C.hx C.hb dX6_placeOf_6 rfl (lv_at hl 2 rfl) ?_
    obtain ⟨h1, hk⟩ := hk
    refine mm_ald C hH 9 (by decide) h1 dX6_placeOf_7 ?_
    refine lv_iload_n C.hx C.hb dX6_placeOf_8 rfl (lv_at hl 1 rfl) ?_
    refine lv_icmp_eq (tgt := 18) C.hx C.hb dX6_placeOf_9 (by decide) (fun c2 => ?_) (fun c2 => ?_)
    · have hk := hk.1 c2
      exact hK x1 x2 s0 _ _ _ hk hH hS (lv_sub hl [0, 1, 2] rfl)
    · have hk := hk.2 c2
      obtain ⟨v3, ev3⟩ : ∃ y : Int32, y = x2 + 1 := ⟨_, rfl⟩
      have hk := hk v3 ev3
      refine lv_iinc (v := v3) (lv' := [(2, .int v3), (0, .ref (ad (20, 0))), (1, .int x1)]) C.hx C.hb dX6_placeOf_12 hl (k := 2) rfl (by rw [ev3]; rfl) (by decide) rfl (fun ls hl => ?_)
      refine lv_goto (tgt := 2) C.hx C.hb dX6_placeOf_15 (by decide) ?_
      exact ih x1 v3 s0 _ _ _ hk hH hS (lv_sub hl [1, 2, 0] rfl)
def wp_X6_placeOf (post : Int32 → mm_S → Prop) (p1 : Int32) (s0 : mm_S) : Prop := (∃ n2, wp_X6_placeOf_2 post (fun y4 y5 s6 => post y5 s6) n2 p1 0 s0)
set_option maxHeartbeats 4000000 in
theorem t_X6_placeOf (l : Launch) {base : Nat} {D : va_G} {ca : Nat → ClassId} {Ls : List gb_L} {ad : gb_L → Nat} {w : gb_L → va_E} {post : Int32 → mm_S → Prop} {p1 : Int32} {s0 : mm_S} (hk : wp_X6_placeOf post p1 s0) : mm_Mi l yX6_placeOf (ws_ yX6_placeOf cX6_placeOf 3 (some .int)) ({ frames := 0, cells := 0, slots := 0, locals := 0 } : Room) base D ca Ls ad w [.int p1] s0 post := by
  refine mm_start cX6_placeOf 3 (some .int) _ (by decide) rfl rfl (Nat.le_of_ble_eq_true rfl) ?_
  intro p e s m args below meth c ls C hr hlk hH hS hl
  have hl : lv_has ls 3 [(0, .ref (ad (20, 0))), (1, .int p1)] := hl
  unfold wp_X6_placeOf at hk
  refine lv_iconst (v := 0) C.hx C.hb dX6_placeOf_0 (by decide) ?_
  refine lv_istore_n (lv' := [(2, .int 0), (0, .ref (ad (20, 0))), (1, .int p1)]) C.hx C.hb dX6_placeOf_1 rfl hl (by decide) rfl (fun ls hl => ?_)
  obtain ⟨n2, hk⟩ := hk
  refine tw_X6_placeOf_2 C hr hlk (fun y4 y5 s6 H locs ls hk hH hS hl => ?_) n2 p1 0 s0 _ _ _ hk hH hS (lv_sub hl [1, 2, 0] rfl)
  refine lv_iload_n C.hx C.hb dX6_placeOf_18 rfl (lv_at hl 2 rfl) ?_
  exact mm_iret C hr hlk hH hS hk dX6_placeOf_19
/-! ToneGraphModel.isConsistent()Z -/
def wp_X6_isConsistent_17 (post : Int32 → mm_S → Prop) (K : Int32 → Int32 → mm_S → Prop) : Nat → Int32 → Int32 → mm_S → Prop
  | 0, _, _, _ => False
  | n17 + 1, x1, x2, s0 => (vp_in x1 10 ∧ (((s0.2.1 8 x1.toNatClampNeg) ≤ x2 → K x1 x2 s0) ∧ (¬ (s0.2.1 8 x1.toNatClampNeg) ≤ x2 → (vp_in x1 10 ∧ (((s0.2.1 2 x1.toNatClampNeg) = 2 → K x1 x2 s0) ∧ (¬ (s0.2.1 2 x1.toNatClampNeg) = 2 → (vp_in ((4 * x1) + x2) 40 ∧ wp_X6_placeOf (fun r8 s9 => wp_X6_placeOf (fun r10 s11 => ((r8 ≤ r10 → (∀ v13, v13 = x2 + 1 → wp_X6_isConsistent_17 post K n17 x1 v13 s11)) ∧ (¬ r8 ≤ r10 → post 0 s11))) x1 s9) (s0.2.1 6 ((4 * x1) + x2).toNatClampNeg) s0)))))))
set_option maxHeartbeats 4000000 in
theorem tw_X6_isConsistent_17 {p : Program} {l : Launch} {e : Env} {s : State} {m : MethodId} {args : Array Value} {below : List Frame} {meth : Method} {c : Code} {base : Nat} {D : va_G} {ca : Nat → ClassId} {Ls : List gb_L} {ad : gb_L → Nat} {w : gb_L → va_E} {post : Int32 → mm_S → Prop} {K : Int32 → Int32 → mm_S → Prop} (C : gb_C p m c cX6_isConsistent 3 s args RX6 base D ca) (hr : meth.sig.returnType = (some .boolean)) (hlk : meth.locks = false) (hK : ∀ (x1 : Int32) (x2 : Int32) (σ' : mm_S) (H : Heap) (locs : List Loc) (ls : Array Slot), K x1 x2 σ' → mm_ok base D ca Ls ad w σ' H → va_S (fun q => base ≤ q) s.heap H locs → lv_has ls 3 [(0, .ref (ad (20, 0))), (1, .int x1), (2, .int x2)] → W p l e ({ frames := 4, cells := 0, slots := 0, locals := 87 } : Room) s m args below meth c H locs 0 0 (MQ below (va_Qi post (fun σ' t => mm_ok base D ca Ls ad w σ' t.heap) (fun q => base ≤ q)) args s 0 0 (fun q => base ≤ q)) (F0 m 67 ls [])) :
    ∀ (n : Nat) (x1 : Int32) (x2 : Int32) (s0 : mm_S) (H : Heap) (locs : List Loc) (ls : Array Slot), wp_X6_isConsistent_17 post K n x1 x2 s0 → mm_ok base D ca Ls ad w s0 H → va_S (fun q => base ≤ q) s.heap H locs → lv_has ls 3 [(0, .ref (ad (20, 0))), (1, .int x1), (2, .int x2)] → W p l e ({ frames := 4, cells := 0, slots := 0, locals := 87 } : Room) s m args below meth c H locs 0 0 (MQ below (va_Qi post (fun σ' t => mm_ok base D ca Ls ad w σ' t.heap) (fun q => base ≤ q)) args s 0 0 (fun q => base ≤ q)) (F0 m 17 ls []) := by
  intro n
  induction n with
  | zero =>
    intro x1 x2 s0 H locs ls hk
    exact hk.elim
  | succ n ih =>
    intro x1 x2 s0 H locs ls hk hH hS hl
    rw [wp_X6_isConsistent_17] at hk
    refine lv_iload_n C.hx C.hb dX6_isConsistent_17 rfl (lv_at hl 2 rfl) ?_
    refine lv_aload_n C.hx C.hb dX6_isConsistent_18 rfl (lv_at hl 0 rfl) ?_
    refine mm_geta C hH 8 (by decide) q1249 dX6_isConsistent_19 ?_
    refine lv_iload_n C.hx C.hb dX6_isConsistent_22 rfl (lv_at hl 1 rfl) ?_
    obtain ⟨h3, hk⟩ := hk
    refine mm_ald C hH 8 (by decide) h3 dX6_isConsistent_23 ?_
    refine lv_icmp_ge (tgt := 67) C.hx C.hb dX6_isConsistent_24 (by decide) (fun c4 => ?_) (fun c4 => ?_)
    · have hk := hk.1 c4
      exact hK x1 x2 s0 _ _ _ hk hH hS (lv_sub hl [0, 1, 2] rfl)
    · have hk := hk.2 c4
      refine lv_aload_n C.hx C.hb dX6_isConsistent_27 rfl (lv_at hl 0 rfl) ?_
      refine mm_geta C hH 2 (by decide) q1243 dX6_isConsistent_28 ?_
      refine lv_iload_n C.hx C.hb dX6_isConsistent_31 rfl (lv_at hl 1 rfl) ?_
      obtain ⟨h5, hk⟩ := hk
      refine mm_ald C hH 2 (by decide) h5 dX6_isConsistent_32 ?_
      refine lv_iconst (v := 2) C.hx C.hb dX6_isConsistent_33 (by decide) ?_
      refine lv_icmp_eq (tgt := 67) C.hx C.hb dX6_isConsistent_34 (by decide) (fun c6 => ?_) (fun c6 => ?_)
      · have hk := hk.1 c6
        exact hK x1 x2 s0 _ _ _ hk hH hS (lv_sub hl [0, 1, 2] rfl)
      · have hk := hk.2 c6
        refine lv_aload_n C.hx C.hb dX6_isConsistent_37 rfl (lv_at hl 0 rfl) ?_
        refine lv_aload_n C.hx C.hb dX6_isConsistent_38 rfl (lv_at hl 0 rfl) ?_
        refine mm_geta C hH 6 (by decide) q1247 dX6_isConsistent_39 ?_
        refine lv_iconst (v := 4) C.hx C.hb dX6_isConsistent_42 (by decide) ?_
        refine lv_iload_n C.hx C.hb dX6_isConsistent_43 rfl (lv_at hl 1 rfl) ?_
        refine lv_imul C.hx C.hb dX6_isConsistent_44 ?_
        refine lv_iload_n C.hx C.hb dX6_isConsistent_45 rfl (lv_at hl 2 rfl) ?_
        refine lv_iadd C.hx C.hb dX6_isConsistent_46 ?_
        obtain ⟨h7, hk⟩ := hk
        refine mm_ald C hH 6 (by decide) h7 dX6_isConsistent_47 ?_
        refine mm_calli (As := [.int (s0.2.1 6 ((4 * x1) + x2).toNatClampNeg)]) (rest := []) C (t_X6_placeOf l hk) (cwV 1 C.hts (lw_V q1604 q1606 qs51 q65 q1607) rfl rfl rfl (by decide +kernel) ⟨Nat.le_of_ble_eq_true rfl, Nat.le_of_ble_eq_true rfl⟩) hH hS rfl hl.1 rfl (lv_room (Nat.le_of_ble_eq_true rfl)) dX6_isConsistent_48 ⟨Nat.le_of_ble_eq_true rfl, Nat.le_of_ble_eq_true rfl⟩ (fun r8 s9 H locs hk hH hS => ?_)
        refine lv_aload_n C.hx C.hb dX6_isConsistent_51 rfl (lv_at hl 0 rfl) ?_
        refine lv_iload_n C.hx C.hb dX6_isConsistent_52 rfl (lv_at hl 1 rfl) ?_
        refine mm_calli (As := [.int x1]) (rest := [.int r8]) C (t_X6_placeOf l hk) (cwV 1 C.hts (lw_V q1604 q1606 qs51 q65 q1607) rfl rfl rfl (by decide +kernel) ⟨Nat.le_of_ble_eq_true rfl, Nat.le_of_ble_eq_true rfl⟩) hH hS rfl hl.1 rfl (lv_room (Nat.le_of_ble_eq_true rfl)) dX6_isConsistent_53 ⟨Nat.le_of_ble_eq_true rfl, Nat.le_of_ble_eq_true rfl⟩ (fun r10 s11 H locs hk hH hS => ?_)
        refine lv_icmp_le (tgt := 61) C.hx C.hb dX6_isConsistent_56 (by decide) (fun c12 => ?_) (fun c12 => ?_)
        · have hk := hk.1 c12
          obtain ⟨v13, ev13⟩ : ∃ y : Int32, y = x2 + 1 := ⟨_, rfl⟩
          have hk := hk v13 ev13
          refine lv_iinc (v := v13) (lv' := [(2, .int v13), (0, .ref (ad (20, 0))), (1, .int x1)]) C.hx C.hb dX6_isConsistent_61 hl (k := 2) rfl (by rw [ev13]; rfl) (by decide) rfl (fun ls hl => ?_)
          refine lv_goto (tgt := 17) C.hx C.hb dX6_isConsistent_64 (by decide) ?_
          exact ih x1 v13 s11 _ _ _ hk hH hS (lv_sub hl [1, 2, 0] rfl)
        · have hk := hk.2 c12
          refine lv_iconst (v := 0) C.hx C.hb dX6_isConsistent_59 (by decide) ?_
          exact mm_zret (ty := .boolean) C hr hlk (by decide) hH hS hk dX6_isConsistent_60
def wp_X6_isConsistent_7 (post : Int32 → mm_S → Prop) (K : Int32 → mm_S → Prop) : Nat → Int32 → mm_S → Prop
  | 0, _, _ => False
  | n7 + 1, x1, s0 => (((s0.1 1) ≤ x1 → K x1 s0) ∧ (¬ (s0.1 1) ≤ x1 → (∃ n17, wp_X6_isConsistent_17 post (fun y14 y15 s16 => (∀ v17, v17 = y14 + 1 → wp_X6_isConsistent_7 post K n7 v17 s16)) n17 x1 0 s0)))
set_option maxHeartbeats 4000000 in
theorem tw_X6_isConsistent_7 {p : Program} {l : Launch} {e : Env} {s : State} {m : MethodId} {args : Array Value} {below : List Frame} {meth : Method} {c : Code} {base : Nat} {D : va_G} {ca : Nat → ClassId} {Ls : List gb_L} {ad : gb_L → Nat} {w : gb_L → va_E} {post : Int32 → mm_S → Prop} {K : Int32 → mm_S → Prop} (C : gb_C p m c cX6_isConsistent 3 s args RX6 base D ca) (hr : meth.sig.returnType = (some .boolean)) (hlk : meth.locks = false) (hK : ∀ (x1 : Int32) (σ' : mm_S) (H : Heap) (locs : List Loc) (ls : Array Slot), K x1 σ' → mm_ok base D ca Ls ad w σ' H → va_S (fun q => base ≤ q) s.heap H locs → lv_has ls 3 [(0, .ref (ad (20, 0))), (1, .int x1)] → W p l e ({ frames := 4, cells := 0, slots := 0, locals := 87 } : Room) s m args below meth c H locs 0 0 (MQ below (va_Qi post (fun σ' t => mm_ok base D ca Ls ad w σ' t.heap) (fun q => base ≤ q)) args s 0 0 (fun q => base ≤ q)) (F0 m 73 ls [])) :
    ∀ (n : Nat) (x1 : Int32) (s0 : mm_S) (H : Heap) (locs : List Loc) (ls : Array Slot), wp_X6_isConsistent_7 post K n x1 s0 → mm_ok base D ca Ls ad w s0 H → va_S (fun q => base ≤ q) s.heap H locs → lv_has ls 3 [(0, .ref (ad (20, 0))), (1, .int x1)] → W p l e ({ frames := 4, cells := 0, slots := 0, locals := 87 } : Room) s m args below meth c H locs 0 0 (MQ below (va_Qi post (fun σ' t => mm_ok base D ca Ls ad w σ' t.heap) (fun q => base ≤ q)) args s 0 0 (fun q => base ≤ q)) (F0 m 7 ls []) := by
  intro n
  induction n with
  | zero =>
    intro x1 s0 H locs ls hk
    exact hk.elim
  | succ n ih =>
    intro x1 s0 H locs ls hk hH hS hl
    rw [wp_X6_isConsistent_7] at hk
    refine lv_iload_n C.hx C.hb dX6_isConsistent_7 rfl (lv_at hl 1 rfl) ?_
    refine lv_aload_n C.hx C.hb dX6_isConsistent_8 rfl (lv_at hl 0 rfl) ?_
    refine mm_geti C hH 13 1 (by decide) rfl q1254 dX6_isConsistent_9 ?_
    refine lv_icmp_ge (tgt := 73) C.hx C.hb dX6_isConsistent_12 (by decide) (fun c2 => ?_) (fun c2 => ?_)
    · have hk := hk.1 c2
      exact hK x1 s0 _ _ _ hk hH hS (lv_sub hl [0, 1] rfl)
    · have hk := hk.2 c2
      refine lv_iconst (v := 0) C.hx C.hb dX6_isConsistent_15 (by decide) ?_
      refine lv_istore_n (lv' := [(2, .int 0), (0, .ref (ad (20, 0))), (1, .int x1)]) C.hx C.hb dX6_isConsistent_16 rfl hl (by decide) rfl (fun ls hl => ?_)
      obtain ⟨n17, hk⟩ := hk
      refine tw_X6_isConsistent_17 C hr hlk (fun y14 y15 s16 H locs ls hk hH hS hl => ?_) n17 x1 0 s0 _ _ _ hk hH hS (lv_sub hl [1, 2, 0] rfl)
      obtain ⟨v17, ev17⟩ : ∃ y : Int32, y = y14 + 1 := ⟨_, rfl⟩
      have hk := hk v17 ev17
      refine lv_iinc (v := v17) (lv' := [(1, .int v17), (0, .ref (ad (20, 0))), (2, .int y15)]) C.hx C.hb dX6_isConsistent_67 hl (k := 1) rfl (by rw [ev17]; rfl) (by decide) rfl (fun ls hl => ?_)
      refine lv_goto (tgt := 7) C.hx C.hb dX6_isConsistent_70 (by decide) ?_
      exact ih v17 s16 _ _ _ hk hH hS (lv_sub hl [1, 0] rfl)
def wp_X6_isConsistent_75 (post : Int32 → mm_S → Prop) (K : Int32 → mm_S → Prop) : Nat → Int32 → mm_S → Prop
  | 0, _, _ => False
  | n75 + 1, x1, s0 => ((4 ≤ x1 → K x1 s0) ∧ (¬ 4 ≤ x1 → wp_X6_levelAt (fun r21 s22 => wp_X6_in (fun r23 => ((¬ r23 = 0 → (∀ v25, v25 = x1 + 1 → wp_X6_isConsistent_75 post K n75 v25 s22)) ∧ (r23 = 0 → post 0 s22))) r21 0 1000) x1 s0))
set_option maxHeartbeats 4000000 in
theorem tw_X6_isConsistent_75 {p : Program} {l : Launch} {e : Env} {s : State} {m : MethodId} {args : Array Value} {below : List Frame} {meth : Method} {c : Code} {base : Nat} {D : va_G} {ca : Nat → ClassId} {Ls : List gb_L} {ad : gb_L → Nat} {w : gb_L → va_E} {post : Int32 → mm_S → Prop} {K : Int32 → mm_S → Prop} (C : gb_C p m c cX6_isConsistent 3 s args RX6 base D ca) (hr : meth.sig.returnType = (some .boolean)) (hlk : meth.locks = false) (hK : ∀ (x1 : Int32) (σ' : mm_S) (H : Heap) (locs : List Loc) (ls : Array Slot), K x1 σ' → mm_ok base D ca Ls ad w σ' H → va_S (fun q => base ≤ q) s.heap H locs → lv_has ls 3 [(0, .ref (ad (20, 0))), (1, .int x1)] → W p l e ({ frames := 4, cells := 0, slots := 0, locals := 87 } : Room) s m args below meth c H locs 0 0 (MQ below (va_Qi post (fun σ' t => mm_ok base D ca Ls ad w σ' t.heap) (fun q => base ≤ q)) args s 0 0 (fun q => base ≤ q)) (F0 m 103 ls [])) :
    ∀ (n : Nat) (x1 : Int32) (s0 : mm_S) (H : Heap) (locs : List Loc) (ls : Array Slot), wp_X6_isConsistent_75 post K n x1 s0 → mm_ok base D ca Ls ad w s0 H → va_S (fun q => base ≤ q) s.heap H locs → lv_has ls 3 [(0, .ref (ad (20, 0))), (1, .int x1)] → W p l e ({ frames := 4, cells := 0, slots := 0, locals := 87 } : Room) s m args below meth c H locs 0 0 (MQ below (va_Qi post (fun σ' t => mm_ok base D ca Ls ad w σ' t.heap) (fun q => base ≤ q)) args s 0 0 (fun q => base ≤ q)) (F0 m 75 ls []) := by
  intro n
  induction n with
  | zero =>
    intro x1 s0 H locs ls hk
    exact hk.elim
  | succ n ih =>
    intro x1 s0 H locs ls hk hH hS hl
    rw [wp_X6_isConsistent_75] at hk
    refine lv_iload_n C.hx C.hb dX6_isConsistent_75 rfl (lv_at hl 1 rfl) ?_
    refine lv_iconst (v := 4) C.hx C.hb dX6_isConsistent_76 (by decide) ?_
    refine lv_icmp_ge (tgt := 103) C.hx C.hb dX6_isConsistent_77 (by decide) (fun c20 => ?_) (fun c20 => ?_)
    · have hk := hk.1 c20
      exact hK x1 s0 _ _ _ hk hH hS (lv_sub hl [0, 1] rfl)
    · have hk := hk.2 c20
      refine lv_aload_n C.hx C.hb dX6_isConsistent_80 rfl (lv_at hl 0 rfl) ?_
      refine lv_iload_n C.hx C.hb dX6_isConsistent_81 rfl (lv_at hl 1 rfl) ?_
      refine mm_calli (As := [.int x1]) (rest := []) C (t_X6_levelAt l hk) (cwV 1 C.hts (lw_V q1464 q1466 qs41 q65 q1467) rfl rfl rfl (by decide +kernel) ⟨Nat.le_of_ble_eq_true rfl, Nat.le_of_ble_eq_true rfl⟩) hH hS rfl hl.1 rfl (lv_room (Nat.le_of_ble_eq_true rfl)) dX6_isConsistent_82 ⟨Nat.le_of_ble_eq_true rfl, Nat.le_of_ble_eq_true rfl⟩ (fun r21 s22 H locs hk hH hS => ?_)
      refine lv_iconst (v := 0) C.hx C.hb dX6_isConsistent_85 (by decide) ?_
      refine lv_sipush (v := 1000) C.hx C.hb dX6_isConsistent_86 (by decide) ?_
      refine gb_call (As := [.int r21, .int 0, .int 1000]) (rest := []) C.1 (t_X6_in l hk) (va_cwS 3 C.hts (lw_S q1329 q1330 q65 q1331) rfl rfl rfl (by decide +kernel) ⟨Nat.le_of_ble_eq_true rfl, Nat.le_of_ble_eq_true rfl⟩) rfl hl.1 rfl (lv_room (Nat.le_of_ble_eq_true rfl)) dX6_isConsistent_89 ⟨Nat.le_of_ble_eq_true rfl, Nat.le_of_ble_eq_true rfl⟩ (fun r23 hk => ?_)
      refine lv_if_ne (tgt := 97) C.hx C.hb dX6_isConsistent_92 (by decide) (fun c24 => ?_) (fun c24 => ?_)
      · have hk := hk.1 c24
        obtain ⟨v25, ev25⟩ : ∃ y : Int32, y = x1 + 1 := ⟨_, rfl⟩
        have hk := hk v25 ev25
        refine lv_iinc (v := v25) (lv' := [(1, .int v25), (0, .ref (ad (20, 0)))]) C.hx C.hb dX6_isConsistent_97 hl (k := 1) rfl (by rw [ev25]; rfl) (by decide) rfl (fun ls hl => ?_)
        refine lv_goto (tgt := 75) C.hx C.hb dX6_isConsistent_100 (by decide) ?_
        exact ih v25 s22 _ _ _ hk hH hS (lv_sub hl [1, 0] rfl)
      · have hk := hk.2 c24
        refine lv_iconst (v := 0) C.hx C.hb dX6_isConsistent_95 (by decide) ?_
        exact mm_zret (ty := .boolean) C hr hlk (by decide) hH hS hk dX6_isConsistent_96
def wp_X6_isConsistent (post : Int32 → mm_S → Prop) (s0 : mm_S) : Prop := (∀ s1 : mm_S, s1 = ms_f s0 0 0 → (∃ n7, wp_X6_isConsistent_7 post (fun y18 s19 => (∃ n75, wp_X6_isConsistent_75 post (fun y26 s27 => post 1 s27) n75 0 s19)) n7 0 s1))
set_option maxHeartbeats 4000000 in
theorem t_X6_isConsistent (l : Launch) {base : Nat} {D : va_G} {ca : Nat → ClassId} {Ls : List gb_L} {ad : gb_L → Nat} {w : gb_L → va_E} {post : Int32 → mm_S → Prop} {s0 : mm_S} (hk : wp_X6_isConsistent post s0) : mm_Mi l yX6_isConsistent (ws_ yX6_isConsistent cX6_isConsistent 3 (some .boolean)) ({ frames := 4, cells := 0, slots := 0, locals := 87 } : Room) base D ca Ls ad w [] s0 post := by
  refine mm_start cX6_isConsistent 3 (some .boolean) _ (by decide) rfl rfl (Nat.le_of_ble_eq_true rfl) ?_
  intro p e s m args below meth c ls C hr hlk hH hS hl
  have hl : lv_has ls 3 [(0, .ref (ad (20, 0)))] := hl
  unfold wp_X6_isConsistent at hk
  refine lv_aload_n C.hx C.hb dX6_isConsistent_0 rfl (lv_at hl 0 rfl) ?_
  refine lv_iconst (v := 0) C.hx C.hb dX6_isConsistent_1 (by decide) ?_
  refine mm_puti C hH hS 12 0 (by decide) rfl q1253 dX6_isConsistent_2 rfl rfl (fun s1 es1 H locs hH hS => ?_)
  have hk := hk s1 es1
  refine lv_iconst (v := 0) C.hx C.hb dX6_isConsistent_5 (by decide) ?_
  refine lv_istore_n (lv' := [(1, .int 0), (0, .ref (ad (20, 0)))]) C.hx C.hb dX6_isConsistent_6 rfl hl (by decide) rfl (fun ls hl => ?_)
  obtain ⟨n7, hk⟩ := hk
  refine tw_X6_isConsistent_7 C hr hlk (fun y18 s19 H locs ls hk hH hS hl => ?_) n7 0 s1 _ _ _ hk hH hS (lv_sub hl [1, 0] rfl)
  refine lv_iconst (v := 0) C.hx C.hb dX6_isConsistent_73 (by decide) ?_
  refine lv_istore_n (lv' := [(1, .int 0), (0, .ref (ad (20, 0)))]) C.hx C.hb dX6_isConsistent_74 rfl hl (by decide) rfl (fun ls hl => ?_)
  obtain ⟨n75, hk⟩ := hk
  refine tw_X6_isConsistent_75 C hr hlk (fun y26 s27 H locs ls hk hH hS hl => ?_) n75 0 s19 _ _ _ hk hH hS (lv_sub hl [1, 0] rfl)
  refine lv_iconst (v := 1) C.hx C.hb dX6_isConsistent_103 (by decide) ?_
  exact mm_zret (ty := .boolean) C hr hlk (by decide) hH hS hk dX6_isConsistent_104

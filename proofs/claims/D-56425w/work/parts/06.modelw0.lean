/-! the reference's methods: wp and walk, by program (gen/decm.py) -/
set_option maxRecDepth 100000
/-! ToneGraphModel.canCome(I)Z -/
def wp_X6_canCome_13 (post : Int32 → mm_S → Prop) (K : Int32 → Int32 → mm_S → Prop) : Nat → Int32 → Int32 → mm_S → Prop
  | 0, _, _, _ => False
  | n13 + 1, x1, x2, s0 => (vp_in x1 10 ∧ (((s0.2.1 8 x1.toNatClampNeg) ≤ x2 → K x1 x2 s0) ∧ (¬ (s0.2.1 8 x1.toNatClampNeg) ≤ x2 → (vp_in x1 10 ∧ (((s0.2.1 2 x1.toNatClampNeg) = 2 → K x1 x2 s0) ∧ (¬ (s0.2.1 2 x1.toNatClampNeg) = 2 → (vp_in ((4 * x1) + x2) 40 ∧ (vp_in (s0.2.1 6 ((4 * x1) + x2).toNatClampNeg) 10 ∧ ((¬ (s0.2.1 11 (s0.2.1 6 ((4 * x1) + x2).toNatClampNeg).toNatClampNeg) = 0 → (∀ v10, v10 = x2 + 1 → wp_X6_canCome_13 post K n13 x1 v10 s0)) ∧ ((s0.2.1 11 (s0.2.1 6 ((4 * x1) + x2).toNatClampNeg).toNatClampNeg) = 0 → post 0 s0))))))))))
set_option maxHeartbeats 4000000 in
theorem tw_X6_canCome_13 {p : Program} {l : Launch} {e : Env} {s : State} {m : MethodId} {args : Array Value} {below : List Frame} {meth : Method} {c : Code} {base : Nat} {D : va_G} {ca : Nat → ClassId} {Ls : List gb_L} {ad : gb_L → Nat} {w : gb_L → va_E} {post : Int32 → mm_S → Prop} {K : Int32 → Int32 → mm_S → Prop} (C : gb_C p m c cX6_canCome 3 s args RX6 base D ca) (hr : meth.sig.returnType = (some .boolean)) (hlk : meth.locks = false) (hK : ∀ (x1 : Int32) (x2 : Int32) (σ' : mm_S) (H : Heap) (locs : List Loc) (ls : Array Slot), K x1 x2 σ' → mm_ok base D ca Ls ad w σ' H → va_S (fun q => base ≤ q) s.heap H locs → lv_has ls 3 [(0, .ref (ad (20, 0))), (1, .int x1), (2, .int x2)] → W p l e ({ frames := 0, cells := 0, slots := 0, locals := 0 } : Room) s m args below meth c H locs 0 0 (MQ below (va_Qi post (fun σ' t => mm_ok base D ca Ls ad w σ' t.heap) (fun q => base ≤ q)) args s 0 0 (fun q => base ≤ q)) (F0 m 59 ls [])) :
    ∀ (n : Nat) (x1 : Int32) (x2 : Int32) (s0 : mm_S) (H : Heap) (locs : List Loc) (ls : Array Slot), wp_X6_canCome_13 post K n x1 x2 s0 → mm_ok base D ca Ls ad w s0 H → va_S (fun q => base ≤ q) s.heap H locs → lv_has ls 3 [(0, .ref (ad (20, 0))), (1, .int x1), (2, .int x2)] → W p l e ({ frames := 0, cells := 0, slots := 0, locals := 0 } : Room) s m args below meth c H locs 0 0 (MQ below (va_Qi post (fun σ' t => mm_ok base D ca Ls ad w σ' t.heap) (fun q => base ≤ q)) args s 0 0 (fun q => base ≤ q)) (F0 m 13 ls []) := by
  intro n
  induction n with
  | zero =>
    intro x1 x2 s0 H locs ls hk
    exact hk.elim
  | succ n ih =>
    intro x1 x2 s0 H locs ls hk hH hS hl
    rw [wp_X6_canCome_13] at hk
    refine lv_iload_n C.hx C.hb dX6_canCome_13 rfl (lv_at hl 2 rfl) ?_
    refine lv_aload_n C.hx C.hb dX6_canCome_14 rfl (lv_at hl 0 rfl) ?_
    refine mm_geta C hH 8 (by decide) q1249 dX6_canCome_15 ?_
    refine lv_iload_n C.hx C.hb dX6_canCome_18 rfl (lv_at hl 1 rfl) ?_
    obtain ⟨h3, hk⟩ := hk
    refine mm_ald C hH 8 (by decide) h3 dX6_canCome_19 ?_
    refine lv_icmp_ge (tgt := 59) C.hx C.hb dX6_canCome_20 (by decide) (fun c4 => ?_) (fun c4 => ?_)
    · have hk := hk.1 c4
      exact hK x1 x2 s0 _ _ _ hk hH hS (lv_sub hl [0, 1, 2] rfl)
    · have hk := hk.2 c4
      refine lv_aload_n C.hx C.hb dX6_canCome_23 rfl (lv_at hl 0 rfl) ?_
      refine mm_geta C hH 2 (by decide) q1243 dX6_canCome_24 ?_
      refine lv_iload_n C.hx C.hb dX6_canCome_27 rfl (lv_at hl 1 rfl) ?_
      obtain ⟨h5, hk⟩ := hk
      refine mm_ald C hH 2 (by decide) h5 dX6_canCome_28 ?_
      refine lv_iconst (v := 2) C.hx C.hb dX6_canCome_29 (by decide) ?_
      refine lv_icmp_eq (tgt := 59) C.hx C.hb dX6_canCome_30 (by decide) (fun c6 => ?_) (fun c6 => ?_)
      · have hk := hk.1 c6
        exact hK x1 x2 s0 _ _ _ hk hH hS (lv_sub hl [0, 1, 2] rfl)
      · have hk := hk.2 c6
        refine lv_aload_n C.hx C.hb dX6_canCome_33 rfl (lv_at hl 0 rfl) ?_
        refine mm_geta C hH 11 (by decide) q1252 dX6_canCome_34 ?_
        refine lv_aload_n C.hx C.hb dX6_canCome_37 rfl (lv_at hl 0 rfl) ?_
        refine mm_geta C hH 6 (by decide) q1247 dX6_canCome_38 ?_
        refine lv_iconst (v := 4) C.hx C.hb dX6_canCome_41 (by decide) ?_
        refine lv_iload_n C.hx C.hb dX6_canCome_42 rfl (lv_at hl 1 rfl) ?_
        refine lv_imul C.hx C.hb dX6_canCome_43 ?_
        refine lv_iload_n C.hx C.hb dX6_canCome_44 rfl (lv_at hl 2 rfl) ?_
        refine lv_iadd C.hx C.hb dX6_canCome_45 ?_
        obtain ⟨h7, hk⟩ := hk
        refine mm_ald C hH 6 (by decide) h7 dX6_canCome_46 ?_
        obtain ⟨h8, hk⟩ := hk
        refine mm_aldz C hH h8 dX6_canCome_47 ?_
        refine lv_if_ne (tgt := 53) C.hx C.hb dX6_canCome_48 (by decide) (fun c9 => ?_) (fun c9 => ?_)
        · have hk := hk.1 c9
          obtain ⟨v10, ev10⟩ : ∃ y : Int32, y = x2 + 1 := ⟨_, rfl⟩
          have hk := hk v10 ev10
          refine lv_iinc (v := v10) (lv' := [(2, .int v10), (0, .ref (ad (20, 0))), (1, .int x1)]) C.hx C.hb dX6_canCome_53 hl (k := 2) rfl (by rw [ev10]; rfl) (by decide) rfl (fun ls hl => ?_)
          refine lv_goto (tgt := 13) C.hx C.hb dX6_canCome_56 (by decide) ?_
          exact ih x1 v10 s0 _ _ _ hk hH hS (lv_sub hl [1, 2, 0] rfl)
        · have hk := hk.2 c9
          refine lv_iconst (v := 0) C.hx C.hb dX6_canCome_51 (by decide) ?_
          exact mm_zret (ty := .boolean) C hr hlk (by decide) hH hS hk dX6_canCome_52
def wp_X6_canCome (post : Int32 → mm_S → Prop) (p1 : Int32) (s0 : mm_S) : Prop := (vp_in p1 10 ∧ (((s0.2.1 11 p1.toNatClampNeg) = 0 → (∃ n13, wp_X6_canCome_13 post (fun y11 y12 s13 => post 1 s13) n13 p1 0 s0)) ∧ (¬ (s0.2.1 11 p1.toNatClampNeg) = 0 → post 0 s0)))
set_option maxHeartbeats 4000000 in
theorem t_X6_canCome (l : Launch) {base : Nat} {D : va_G} {ca : Nat → ClassId} {Ls : List gb_L} {ad : gb_L → Nat} {w : gb_L → va_E} {post : Int32 → mm_S → Prop} {p1 : Int32} {s0 : mm_S} (hk : wp_X6_canCome post p1 s0) : mm_Mi l yX6_canCome (ws_ yX6_canCome cX6_canCome 3 (some .boolean)) ({ frames := 0, cells := 0, slots := 0, locals := 0 } : Room) base D ca Ls ad w [.int p1] s0 post := by
  refine mm_start cX6_canCome 3 (some .boolean) _ (by decide) rfl rfl (Nat.le_of_ble_eq_true rfl) ?_
  intro p e s m args below meth c ls C hr hlk hH hS hl
  have hl : lv_has ls 3 [(0, .ref (ad (20, 0))), (1, .int p1)] := hl
  unfold wp_X6_canCome at hk
  refine lv_aload_n C.hx C.hb dX6_canCome_0 rfl (lv_at hl 0 rfl) ?_
  refine mm_geta C hH 11 (by decide) q1252 dX6_canCome_1 ?_
  refine lv_iload_n C.hx C.hb dX6_canCome_4 rfl (lv_at hl 1 rfl) ?_
  obtain ⟨h1, hk⟩ := hk
  refine mm_aldz C hH h1 dX6_canCome_5 ?_
  refine lv_if_eq (tgt := 11) C.hx C.hb dX6_canCome_6 (by decide) (fun c2 => ?_) (fun c2 => ?_)
  · have hk := hk.1 c2
    refine lv_iconst (v := 0) C.hx C.hb dX6_canCome_11 (by decide) ?_
    refine lv_istore_n (lv' := [(2, .int 0), (0, .ref (ad (20, 0))), (1, .int p1)]) C.hx C.hb dX6_canCome_12 rfl hl (by decide) rfl (fun ls hl => ?_)
    obtain ⟨n13, hk⟩ := hk
    refine tw_X6_canCome_13 C hr hlk (fun y11 y12 s13 H locs ls hk hH hS hl => ?_) n13 p1 0 s0 _ _ _ hk hH hS (lv_sub hl [1, 2, 0] rfl)
    refine lv_iconst (v := 1) C.hx C.hb dX6_canCome_59 (by decide) ?_
    exact mm_zret (ty := .boolean) C hr hlk (by decide) hH hS hk dX6_canCome_60
  · have hk := hk.2 c2
    refine lv_iconst (v := 0) C.hx C.hb dX6_canCome_9 (by decide) ?_
    exact mm_zret (ty := .boolean) C hr hlk (by decide) hH hS hk dX6_canCome_10
/-! ToneGraphModel.lays()V -/
def wp_X6_lays_2 (post : mm_S → Prop) (K : Int32 → mm_S → Prop) : Nat → Int32 → mm_S → Prop
  | 0, _, _ => False
  | n2 + 1, x1, s0 => ((10 ≤ x1 → K x1 s0) ∧ (¬ 10 ≤ x1 → (vp_in x1 10 ∧ (∀ s3 : mm_S, s3 = ms_a s0 11 x1.toNatClampNeg (vp_nar .boolean 0) → (∀ v4, v4 = x1 + 1 → wp_X6_lays_2 post K n2 v4 s3)))))
set_option maxHeartbeats 4000000 in
theorem tw_X6_lays_2 {p : Program} {l : Launch} {e : Env} {s : State} {m : MethodId} {args : Array Value} {below : List Frame} {meth : Method} {c : Code} {base : Nat} {D : va_G} {ca : Nat → ClassId} {Ls : List gb_L} {ad : gb_L → Nat} {w : gb_L → va_E} {post : mm_S → Prop} {K : Int32 → mm_S → Prop} (C : gb_C p m c cX6_lays 3 s args RX6 base D ca) (hr : meth.sig.returnType = none) (hlk : meth.locks = false) (hK : ∀ (x1 : Int32) (σ' : mm_S) (H : Heap) (locs : List Loc) (ls : Array Slot), K x1 σ' → mm_ok base D ca Ls ad w σ' H → va_S (fun q => base ≤ q) s.heap H locs → lv_has ls 3 [(0, .ref (ad (20, 0))), (1, .int x1)] → W p l e ({ frames := 1, cells := 0, slots := 0, locals := 22 } : Room) s m args below meth c H locs 0 0 (MQ below (va_Qv post (fun σ' t => mm_ok base D ca Ls ad w σ' t.heap) (fun q => base ≤ q)) args s 0 0 (fun q => base ≤ q)) (F0 m 21 ls [])) :
    ∀ (n : Nat) (x1 : Int32) (s0 : mm_S) (H : Heap) (locs : List Loc) (ls : Array Slot), wp_X6_lays_2 post K n x1 s0 → mm_ok base D ca Ls ad w s0 H → va_S (fun q => base ≤ q) s.heap H locs → lv_has ls 3 [(0, .ref (ad (20, 0))), (1, .int x1)] → W p l e ({ frames := 1, cells := 0, slots := 0, locals := 22 } : Room) s m args below meth c H locs 0 0 (MQ below (va_Qv post (fun σ' t => mm_ok base D ca Ls ad w σ' t.heap) (fun q => base ≤ q)) args s 0 0 (fun q => base ≤ q)) (F0 m 2 ls []) := by
  intro n
  induction n with
  | zero =>
    intro x1 s0 H locs ls hk
    exact hk.elim
  | succ n ih =>
    intro x1 s0 H locs ls hk hH hS hl
    rw [wp_X6_lays_2] at hk
    refine lv_iload_n C.hx C.hb dX6_lays_2 rfl (lv_at hl 1 rfl) ?_
    refine lv_bipush (v := 10) C.hx C.hb dX6_lays_3 (by decide) ?_
    refine lv_icmp_ge (tgt := 21) C.hx C.hb dX6_lays_5 (by decide) (fun c1 => ?_) (fun c1 => ?_)
    · have hk := hk.1 c1
      exact hK x1 s0 _ _ _ hk hH hS (lv_sub hl [0, 1] rfl)
    · have hk := hk.2 c1
      refine lv_aload_n C.hx C.hb dX6_lays_8 rfl (lv_at hl 0 rfl) ?_
      refine mm_geta C hH 11 (by decide) q1252 dX6_lays_9 ?_
      refine lv_iload_n C.hx C.hb dX6_lays_12 rfl (lv_at hl 1 rfl) ?_
      refine lv_iconst (v := 0) C.hx C.hb dX6_lays_13 (by decide) ?_
      obtain ⟨h2, hk⟩ := hk
      refine mm_astz C hH hS h2 dX6_lays_14 (fun s3 es3 H locs hH hS => ?_)
      have hk := hk s3 es3
      obtain ⟨v4, ev4⟩ : ∃ y : Int32, y = x1 + 1 := ⟨_, rfl⟩
      have hk := hk v4 ev4
      refine lv_iinc (v := v4) (lv' := [(1, .int v4), (0, .ref (ad (20, 0)))]) C.hx C.hb dX6_lays_15 hl (k := 1) rfl (by rw [ev4]; rfl) (by decide) rfl (fun ls hl => ?_)
      refine lv_goto (tgt := 2) C.hx C.hb dX6_lays_18 (by decide) ?_
      exact ih v4 s3 _ _ _ hk hH hS (lv_sub hl [1, 0] rfl)
def wp_X6_lays_33 (post : mm_S → Prop) (K : Int32 → Int32 → mm_S → Prop) : Nat → Int32 → Int32 → mm_S → Prop
  | 0, _, _, _ => False
  | n33 + 1, x1, x2, s0 => wp_X6_canCome (fun r8 s9 => ((¬ r8 = 0 → K x1 x2 s9) ∧ (r8 = 0 → (∀ v11, v11 = x2 + 1 → wp_X6_lays_33 post K n33 x1 v11 s9)))) x2 s0
set_option maxHeartbeats 4000000 in
theorem tw_X6_lays_33 {p : Program} {l : Launch} {e : Env} {s : State} {m : MethodId} {args : Array Value} {below : List Frame} {meth : Method} {c : Code} {base : Nat} {D : va_G} {ca : Nat → ClassId} {Ls : List gb_L} {ad : gb_L → Nat} {w : gb_L → va_E} {post : mm_S → Prop} {K : Int32 → Int32 → mm_S → Prop} (C : gb_C p m c cX6_lays 3 s args RX6 base D ca) (hr : meth.sig.returnType = none) (hlk : meth.locks = false) (hK : ∀ (x1 : Int32) (x2 : Int32) (σ' : mm_S) (H : Heap) (locs : List Loc) (ls : Array Slot), K x1 x2 σ' → mm_ok base D ca Ls ad w σ' H → va_S (fun q => base ≤ q) s.heap H locs → lv_has ls 3 [(0, .ref (ad (20, 0))), (1, .int x1), (2, .int x2)] → W p l e ({ frames := 1, cells := 0, slots := 0, locals := 22 } : Room) s m args below meth c H locs 0 0 (MQ below (va_Qv post (fun σ' t => mm_ok base D ca Ls ad w σ' t.heap) (fun q => base ≤ q)) args s 0 0 (fun q => base ≤ q)) (F0 m 47 ls [])) :
    ∀ (n : Nat) (x1 : Int32) (x2 : Int32) (s0 : mm_S) (H : Heap) (locs : List Loc) (ls : Array Slot), wp_X6_lays_33 post K n x1 x2 s0 → mm_ok base D ca Ls ad w s0 H → va_S (fun q => base ≤ q) s.heap H locs → lv_has ls 3 [(0, .ref (ad (20, 0))), (1, .int x1), (2, .int x2)] → W p l e ({ frames := 1, cells := 0, slots := 0, locals := 22 } : Room) s m args below meth c H locs 0 0 (MQ below (va_Qv post (fun σ' t => mm_ok base D ca Ls ad w σ' t.heap) (fun q => base ≤ q)) args s 0 0 (fun q => base ≤ q)) (F0 m 33 ls []) := by
  intro n
  induction n with
  | zero =>
    intro x1 x2 s0 H locs ls hk
    exact hk.elim
  | succ n ih =>
    intro x1 x2 s0 H locs ls hk hH hS hl
    rw [wp_X6_lays_33] at hk
    refine lv_aload_n C.hx C.hb dX6_lays_33 rfl (lv_at hl 0 rfl) ?_
    refine lv_iload_n C.hx C.hb dX6_lays_34 rfl (lv_at hl 2 rfl) ?_
    refine mm_calli (As := [.int x2]) (rest := []) C (t_X6_canCome l hk) (cwV 1 C.hts (lw_V q1237 q1239 qs25 q65 q1240) rfl rfl rfl (by decide +kernel) ⟨Nat.le_of_ble_eq_true rfl, Nat.le_of_ble_eq_true rfl⟩) hH hS rfl hl.1 rfl (lv_room (Nat.le_of_ble_eq_true rfl)) dX6_lays_35 ⟨Nat.le_of_ble_eq_true rfl, Nat.le_of_ble_eq_true rfl⟩ (fun r8 s9 H locs hk hH hS => ?_)
    refine lv_if_ne (tgt := 47) C.hx C.hb dX6_lays_38 (by decide) (fun c10 => ?_) (fun c10 => ?_)
    · have hk := hk.1 c10
      exact hK x1 x2 s9 _ _ _ hk hH hS (lv_sub hl [0, 1, 2] rfl)
    · have hk := hk.2 c10
      obtain ⟨v11, ev11⟩ : ∃ y : Int32, y = x2 + 1 := ⟨_, rfl⟩
      have hk := hk v11 ev11
      refine lv_iinc (v := v11) (lv' := [(2, .int v11), (0, .ref (ad (20, 0))), (1, .int x1)]) C.hx C.hb dX6_lays_41 hl (k := 2) rfl (by rw [ev11]; rfl) (by decide) rfl (fun ls hl => ?_)
      refine lv_goto (tgt := 33) C.hx C.hb dX6_lays_44 (by decide) ?_
      exact ih x1 v11 s9 _ _ _ hk hH hS (lv_sub hl [1, 2, 0] rfl)
def wp_X6_lays_23 (post : mm_S → Prop) (K : Int32 → mm_S → Prop) : Nat → Int32 → mm_S → Prop
  | 0, _, _ => False
  | n23 + 1, x1, s0 => (((s0.1 1) ≤ x1 → K x1 s0) ∧ (¬ (s0.1 1) ≤ x1 → (∃ n33, wp_X6_lays_33 post (fun y12 y13 s14 => (vp_in y13 10 ∧ (∀ s16 : mm_S, s16 = ms_a s14 11 y13.toNatClampNeg (vp_nar .boolean 1) → (vp_in y12 10 ∧ (∀ s18 : mm_S, s18 = ms_a s16 9 y12.toNatClampNeg y13 → (∀ v19, v19 = y12 + 1 → wp_X6_lays_23 post K n23 v19 s18)))))) n33 x1 0 s0)))
set_option maxHeartbeats 4000000 in
theorem tw_X6_lays_23 {p : Program} {l : Launch} {e : Env} {s : State} {m : MethodId} {args : Array Value} {below : List Frame} {meth : Method} {c : Code} {base : Nat} {D : va_G} {ca : Nat → ClassId} {Ls : List gb_L} {ad : gb_L → Nat} {w : gb_L → va_E} {post : mm_S → Prop} {K : Int32 → mm_S → Prop} (C : gb_C p m c cX6_lays 3 s args RX6 base D ca) (hr : meth.sig.returnType = none) (hlk : meth.locks = false) (hK : ∀ (x1 : Int32) (σ' : mm_S) (H : Heap) (locs : List Loc) (ls : Array Slot), K x1 σ' → mm_ok base D ca Ls ad w σ' H → va_S (fun q => base ≤ q) s.heap H locs → lv_has ls 3 [(0, .ref (ad (20, 0))), (1, .int x1)] → W p l e ({ frames := 1, cells := 0, slots := 0, locals := 22 } : Room) s m args below meth c H locs 0 0 (MQ below (va_Qv post (fun σ' t => mm_ok base D ca Ls ad w σ' t.heap) (fun q => base ≤ q)) args s 0 0 (fun q => base ≤ q)) (F0 m 67 ls [])) :
    ∀ (n : Nat) (x1 : Int32) (s0 : mm_S) (H : Heap) (locs : List Loc) (ls : Array Slot), wp_X6_lays_23 post K n x1 s0 → mm_ok base D ca Ls ad w s0 H → va_S (fun q => base ≤ q) s.heap H locs → lv_has ls 3 [(0, .ref (ad (20, 0))), (1, .int x1)] → W p l e ({ frames := 1, cells := 0, slots := 0, locals := 22 } : Room) s m args below meth c H locs 0 0 (MQ below (va_Qv post (fun σ' t => mm_ok base D ca Ls ad w σ' t.heap) (fun q => base ≤ q)) args s 0 0 (fun q => base ≤ q)) (F0 m 23 ls []) := by
  intro n
  induction n with
  | zero =>
    intro x1 s0 H locs ls hk
    exact hk.elim
  | succ n ih =>
    intro x1 s0 H locs ls hk hH hS hl
    rw [wp_X6_lays_23] at hk
    refine lv_iload_n C.hx C.hb dX6_lays_23 rfl (lv_at hl 1 rfl) ?_
    refine lv_aload_n C.hx C.hb dX6_lays_24 rfl (lv_at hl 0 rfl) ?_
    refine mm_geti C hH 13 1 (by decide) rfl q1254 dX6_lays_25 ?_
    refine lv_icmp_ge (tgt := 67) C.hx C.hb dX6_lays_28 (by decide) (fun c7 => ?_) (fun c7 => ?_)
    · have hk := hk.1 c7
      exact hK x1 s0 _ _ _ hk hH hS (lv_sub hl [0, 1] rfl)
    · have hk := hk.2 c7
      refine lv_iconst (v := 0) C.hx C.hb dX6_lays_31 (by decide) ?_
      refine lv_istore_n (lv' := [(2, .int 0), (0, .ref (ad (20, 0))), (1, .int x1)]) C.hx C.hb dX6_lays_32 rfl hl (by decide) rfl (fun ls hl => ?_)
      obtain ⟨n33, hk⟩ := hk
      refine tw_X6_lays_33 C hr hlk (fun y12 y13 s14 H locs ls hk hH hS hl => ?_) n33 x1 0 s0 _ _ _ hk hH hS (lv_sub hl [1, 2, 0] rfl)
      refine lv_aload_n C.hx C.hb dX6_lays_47 rfl (lv_at hl 0 rfl) ?_
      refine mm_geta C hH 11 (by decide) q1252 dX6_lays_48 ?_
      refine lv_iload_n C.hx C.hb dX6_lays_51 rfl (lv_at hl 2 rfl) ?_
      refine lv_iconst (v := 1) C.hx C.hb dX6_lays_52 (by decide) ?_
      obtain ⟨h15, hk⟩ := hk
      refine mm_astz C hH hS h15 dX6_lays_53 (fun s16 es16 H locs hH hS => ?_)
      have hk := hk s16 es16
      refine lv_aload_n C.hx C.hb dX6_lays_54 rfl (lv_at hl 0 rfl) ?_
      refine mm_geta C hH 9 (by decide) q1250 dX6_lays_55 ?_
      refine lv_iload_n C.hx C.hb dX6_lays_58 rfl (lv_at hl 1 rfl) ?_
      refine lv_iload_n C.hx C.hb dX6_lays_59 rfl (lv_at hl 2 rfl) ?_
      obtain ⟨h17, hk⟩ := hk
      refine mm_ast C hH hS 9 (by decide) h17 dX6_lays_60 (fun s18 es18 H locs hH hS => ?_)
      have hk := hk s18 es18
      obtain ⟨v19, ev19⟩ : ∃ y : Int32, y = y12 + 1 := ⟨_, rfl⟩
      have hk := hk v19 ev19
      refine lv_iinc (v := v19) (lv' := [(1, .int v19), (0, .ref (ad (20, 0))), (2, .int y13)]) C.hx C.hb dX6_lays_61 hl (k := 1) rfl (by rw [ev19]; rfl) (by decide) rfl (fun ls hl => ?_)
      refine lv_goto (tgt := 23) C.hx C.hb dX6_lays_64 (by decide) ?_
      exact ih v19 s18 _ _ _ hk hH hS (lv_sub hl [1, 0] rfl)
def wp_X6_lays (post : mm_S → Prop) (s0 : mm_S) : Prop := (∃ n2, wp_X6_lays_2 post (fun y5 s6 => (∃ n23, wp_X6_lays_23 post (fun y20 s21 => post s21) n23 0 s6)) n2 0 s0)
set_option maxHeartbeats 4000000 in
theorem t_X6_lays (l : Launch) {base : Nat} {D : va_G} {ca : Nat → ClassId} {Ls : List gb_L} {ad : gb_L → Nat} {w : gb_L → va_E} {post : mm_S → Prop} {s0 : mm_S} (hk : wp_X6_lays post s0) : mm_Mv l yX6_lays (ws_ yX6_lays cX6_lays 3 none) ({ frames := 1, cells := 0, slots := 0, locals := 22 } : Room) base D ca Ls ad w [] s0 post := by
  refine mm_start cX6_lays 3 none _ (by decide) rfl rfl (Nat.le_of_ble_eq_true rfl) ?_
  intro p e s m args below meth c ls C hr hlk hH hS hl
  have hl : lv_has ls 3 [(0, .ref (ad (20, 0)))] := hl
  unfold wp_X6_lays at hk
  refine lv_iconst (v := 0) C.hx C.hb dX6_lays_0 (by decide) ?_
  refine lv_istore_n (lv' := [(1, .int 0), (0, .ref (ad (20, 0)))]) C.hx C.hb dX6_lays_1 rfl hl (by decide) rfl (fun ls hl => ?_)
  obtain ⟨n2, hk⟩ := hk
  refine tw_X6_lays_2 C hr hlk (fun y5 s6 H locs ls hk hH hS hl => ?_) n2 0 s0 _ _ _ hk hH hS (lv_sub hl [1, 0] rfl)
  refine lv_iconst (v := 0) C.hx C.hb dX6_lays_21 (by decide) ?_
  refine lv_istore_n (lv' := [(1, .int 0), (0, .ref (ad (20, 0)))]) C.hx C.hb dX6_lays_22 rfl hl (by decide) rfl (fun ls hl => ?_)
  obtain ⟨n23, hk⟩ := hk
  refine tw_X6_lays_23 C hr hlk (fun y20 s21 H locs ls hk hH hS hl => ?_) n23 0 s6 _ _ _ hk hH hS (lv_sub hl [1, 0] rfl)
  exact mm_vret C hr hlk hH hS hk dX6_lays_67
/-! ToneGraphModel.thrown()I -/
def wp_X6_thrown (post : Int32 → mm_S → Prop) (s0 : mm_S) : Prop := post (s0.1 0) s0
set_option maxHeartbeats 4000000 in
theorem t_X6_thrown (l : Launch) {base : Nat} {D : va_G} {ca : Nat → ClassId} {Ls : List gb_L} {ad : gb_L → Nat} {w : gb_L → va_E} {post : Int32 → mm_S → Prop} {s0 : mm_S} (hk : wp_X6_thrown post s0) : mm_Mi l yX6_thrown (ws_ yX6_thrown cX6_thrown 1 (some .int)) ({ frames := 0, cells := 0, slots := 0, locals := 0 } : Room) base D ca Ls ad w [] s0 post := by
  refine mm_start cX6_thrown 1 (some .int) _ (by decide) rfl rfl (Nat.le_of_ble_eq_true rfl) ?_
  intro p e s m args below meth c ls C hr hlk hH hS hl
  have hl : lv_has ls 1 [(0, .ref (ad (20, 0)))] := hl
  unfold wp_X6_thrown at hk
  refine lv_aload_n C.hx C.hb dX6_thrown_0 rfl (lv_at hl 0 rfl) ?_
  refine mm_geti C hH 12 0 (by decide) rfl q1253 dX6_thrown_1 ?_
  exact mm_iret C hr hlk hH hS hk dX6_thrown_4
/-! ToneGraphModel.in(III)Z -/
def wp_X6_in (post : Int32 → Prop) (p1 : Int32) (p2 : Int32) (p3 : Int32) : Prop := ((p1 < p2 → post 0) ∧ (¬ p1 < p2 → ((p3 < p1 → post 0) ∧ (¬ p3 < p1 → post 1))))
set_option maxHeartbeats 4000000 in
theorem t_X6_in (l : Launch) {post : Int32 → Prop} {p1 : Int32} {p2 : Int32} {p3 : Int32} (hk : wp_X6_in post p1 p2 p3) : gb_Ps l yX6_in (ws_ yX6_in cX6_in 3 (some .boolean)) ({ frames := 0, cells := 0, slots := 0, locals := 0 } : Room) [.int p1, .int p2, .int p3] post := by
  refine gb_start cX6_in 3 (some .boolean) (by decide) rfl (Nat.le_of_ble_eq_true rfl) ?_
  intro p e s m args below meth c ls C hr hlk hl
  have hl : lv_has ls 3 [(0, .int p1), (1, .int p2), (2, .int p3)] := hl
  unfold wp_X6_in at hk
  refine lv_iload_n C.1 C.2.1 dX6_in_0 rfl (lv_at hl 0 rfl) ?_
  refine lv_iload_n C.1 C.2.1 dX6_in_1 rfl (lv_at hl 1 rfl) ?_
  refine lv_icmp_lt (tgt := 14) C.1 C.2.1 dX6_in_2 (by decide) (fun c1 => ?_) (fun c1 => ?_)
  · have hk := hk.1 c1
    refine lv_iconst (v := 0) C.1 C.2.1 dX6_in_14 (by decide) ?_
    exact gb_zret (ty := .boolean) C hr hlk (by decide) hk dX6_in_15
  · have hk := hk.2 c1
    refine lv_iload_n C.1 C.2.1 dX6_in_5 rfl (lv_at hl 0 rfl) ?_
    refine lv_iload_n C.1 C.2.1 dX6_in_6 rfl (lv_at hl 2 rfl) ?_
    refine lv_icmp_gt (tgt := 14) C.1 C.2.1 dX6_in_7 (by decide) (fun c2 => ?_) (fun c2 => ?_)
    · have hk := hk.1 c2
      refine lv_iconst (v := 0) C.1 C.2.1 dX6_in_14 (by decide) ?_
      exact gb_zret (ty := .boolean) C hr hlk (by decide) hk dX6_in_15
    · have hk := hk.2 c2
      refine lv_iconst (v := 1) C.1 C.2.1 dX6_in_10 (by decide) ?_
      refine lv_goto (tgt := 15) C.1 C.2.1 dX6_in_11 (by decide) ?_
      exact gb_zret (ty := .boolean) C hr hlk (by decide) hk dX6_in_15
/-! ToneGraphModel.isFull(Z)Z -/
def wp_X6_isFull (post : Int32 → mm_S → Prop) (p1 : Int32) (s0 : mm_S) : Prop := ((p1 = 0 → ((¬ (s0.1 1) = 10 → (∀ s3 : mm_S, s3 = ms_f s0 0 0 → (((s3.1 0) ≤ 0 → post 0 s3) ∧ (¬ (s3.1 0) ≤ 0 → post 1 s3)))) ∧ ((s0.1 1) = 10 → (∀ s5 : mm_S, s5 = ms_f s0 0 2 → (((s5.1 0) ≤ 0 → post 0 s5) ∧ (¬ (s5.1 0) ≤ 0 → post 1 s5)))))) ∧ (¬ p1 = 0 → (∀ s7 : mm_S, s7 = ms_f s0 0 1 → (((s7.1 0) ≤ 0 → post 0 s7) ∧ (¬ (s7.1 0) ≤ 0 → post 1 s7)))))
set_option maxHeartbeats 4000000 in
theorem t_X6_isFull (l : Launch) {base : Nat} {D : va_G} {ca : Nat → ClassId} {Ls : List gb_L} {ad : gb_L → Nat} {w : gb_L → va_E} {post : Int32 → mm_S → Prop} {p1 : Int32} {s0 : mm_S} (hk : wp_X6_isFull post p1 s0) : mm_Mi l yX6_isFull (ws_ yX6_isFull cX6_isFull 2 (some .boolean)) ({ frames := 0, cells := 0, slots := 0, locals := 0 } : Room) base D ca Ls ad w [.int p1] s0 post := by
  refine mm_start cX6_isFull 2 (some .boolean) _ (by decide) rfl rfl (Nat.le_of_ble_eq_true rfl) ?_
  intro p e s m args below meth c ls C hr hlk hH hS hl
  have hl : lv_has ls 2 [(0, .ref (ad (20, 0))), (1, .int p1)] := hl
  unfold wp_X6_isFull at hk
  refine lv_aload_n C.hx C.hb dX6_isFull_0 rfl (lv_at hl 0 rfl) ?_
  refine lv_iload_n C.hx C.hb dX6_isFull_1 rfl (lv_at hl 1 rfl) ?_
  refine lv_if_eq (tgt := 9) C.hx C.hb dX6_isFull_2 (by decide) (fun c1 => ?_) (fun c1 => ?_)
  · have hk := hk.1 c1
    refine lv_aload_n C.hx C.hb dX6_isFull_9 rfl (lv_at hl 0 rfl) ?_
    refine mm_geti C hH 13 1 (by decide) rfl q1254 dX6_isFull_10 ?_
    refine lv_bipush (v := 10) C.hx C.hb dX6_isFull_13 (by decide) ?_
    refine lv_icmp_ne (tgt := 22) C.hx C.hb dX6_isFull_15 (by decide) (fun c2 => ?_) (fun c2 => ?_)
    · have hk := hk.1 c2
      refine lv_iconst (v := 0) C.hx C.hb dX6_isFull_22 (by decide) ?_
      refine mm_puti C hH hS 12 0 (by decide) rfl q1253 dX6_isFull_23 rfl rfl (fun s3 es3 H locs hH hS => ?_)
      have hk := hk s3 es3
      refine lv_aload_n C.hx C.hb dX6_isFull_26 rfl (lv_at hl 0 rfl) ?_
      refine mm_geti C hH 12 0 (by decide) rfl q1253 dX6_isFull_27 ?_
      refine lv_if_le (tgt := 37) C.hx C.hb dX6_isFull_30 (by decide) (fun c4 => ?_) (fun c4 => ?_)
      · have hk := hk.1 c4
        refine lv_iconst (v := 0) C.hx C.hb dX6_isFull_37 (by decide) ?_
        exact mm_zret (ty := .boolean) C hr hlk (by decide) hH hS hk dX6_isFull_38
      · have hk := hk.2 c4
        refine lv_iconst (v := 1) C.hx C.hb dX6_isFull_33 (by decide) ?_
        refine lv_goto (tgt := 38) C.hx C.hb dX6_isFull_34 (by decide) ?_
        exact mm_zret (ty := .boolean) C hr hlk (by decide) hH hS hk dX6_isFull_38
    · have hk := hk.2 c2
      refine lv_iconst (v := 2) C.hx C.hb dX6_isFull_18 (by decide) ?_
      refine lv_goto (tgt := 23) C.hx C.hb dX6_isFull_19 (by decide) ?_
      refine mm_puti C hH hS 12 0 (by decide) rfl q1253 dX6_isFull_23 rfl rfl (fun s5 es5 H locs hH hS => ?_)
      have hk := hk s5 es5
      refine lv_aload_n C.hx C.hb dX6_isFull_26 rfl (lv_at hl 0 rfl) ?_
      refine mm_geti C hH 12 0 (by decide) rfl q1253 dX6_isFull_27 ?_
      refine lv_if_le (tgt := 37) C.hx C.hb dX6_isFull_30 (by decide) (fun c6 => ?_) (fun c6 => ?_)
      · have hk := hk.1 c6
        refine lv_iconst (v := 0) C.hx C.hb dX6_isFull_37 (by decide) ?_
        exact mm_zret (ty := .boolean) C hr hlk (by decide) hH hS hk dX6_isFull_38
      · have hk := hk.2 c6
        refine lv_iconst (v := 1) C.hx C.hb dX6_isFull_33 (by decide) ?_
        refine lv_goto (tgt := 38) C.hx C.hb dX6_isFull_34 (by decide) ?_
        exact mm_zret (ty := .boolean) C hr hlk (by decide) hH hS hk dX6_isFull_38
  · have hk := hk.2 c1
    refine lv_iconst (v := 1) C.hx C.hb dX6_isFull_5 (by decide) ?_
    refine lv_goto (tgt := 23) C.hx C.hb dX6_isFull_6 (by decide) ?_
    refine mm_puti C hH hS 12 0 (by decide) rfl q1253 dX6_isFull_23 rfl rfl (fun s7 es7 H locs hH hS => ?_)
    have hk := hk s7 es7
    refine lv_aload_n C.hx C.hb dX6_isFull_26 rfl (lv_at hl 0 rfl) ?_
    refine mm_geti C hH 12 0 (by decide) rfl q1253 dX6_isFull_27 ?_
    refine lv_if_le (tgt := 37) C.hx C.hb dX6_isFull_30 (by decide) (fun c8 => ?_) (fun c8 => ?_)
    · have hk := hk.1 c8
      refine lv_iconst (v := 0) C.hx C.hb dX6_isFull_37 (by decide) ?_
      exact mm_zret (ty := .boolean) C hr hlk (by decide) hH hS hk dX6_isFull_38
    · have hk := hk.2 c8
      refine lv_iconst (v := 1) C.hx C.hb dX6_isFull_33 (by decide) ?_
      refine lv_goto (tgt := 38) C.hx C.hb dX6_isFull_34 (by decide) ?_
      exact mm_zret (ty := .boolean) C hr hlk (by decide) hH hS hk dX6_isFull_38
/-! ToneGraphModel.adds(IIII)I -/
def wp_X6_adds (post : Int32 → mm_S → Prop) (p1 : Int32) (p2 : Int32) (p3 : Int32) (p4 : Int32) (s0 : mm_S) : Prop := (vp_in (s0.1 1) 10 ∧ (∀ s2 : mm_S, s2 = ms_a s0 2 (s0.1 1).toNatClampNeg p1 → (vp_in (s2.1 1) 10 ∧ (∀ s4 : mm_S, s4 = ms_a s2 3 (s2.1 1).toNatClampNeg p2 → (vp_in (s4.1 1) 10 ∧ (∀ s6 : mm_S, s6 = ms_a s4 4 (s4.1 1).toNatClampNeg p3 → (vp_in (s6.1 1) 10 ∧ (∀ s8 : mm_S, s8 = ms_a s6 5 (s6.1 1).toNatClampNeg p4 → (∀ s9 : mm_S, s9 = ms_f s8 1 ((s8.1 1) + 1) → wp_X6_lays (fun s11 => post ((s11.1 1) - 1) s11)  s9)))))))))
set_option maxHeartbeats 4000000 in
theorem t_X6_adds (l : Launch) {base : Nat} {D : va_G} {ca : Nat → ClassId} {Ls : List gb_L} {ad : gb_L → Nat} {w : gb_L → va_E} {post : Int32 → mm_S → Prop} {p1 : Int32} {p2 : Int32} {p3 : Int32} {p4 : Int32} {s0 : mm_S} (hk : wp_X6_adds post p1 p2 p3 p4 s0) : mm_Mi l yX6_adds (ws_ yX6_adds cX6_adds 5 (some .int)) ({ frames := 2, cells := 0, slots := 0, locals := 44 } : Room) base D ca Ls ad w [.int p1, .int p2, .int p3, .int p4] s0 post := by
  refine mm_start cX6_adds 5 (some .int) _ (by decide) rfl rfl (Nat.le_of_ble_eq_true rfl) ?_
  intro p e s m args below meth c ls C hr hlk hH hS hl
  have hl : lv_has ls 5 [(0, .ref (ad (20, 0))), (1, .int p1), (2, .int p2), (3, .int p3), (4, .int p4)] := hl
  unfold wp_X6_adds at hk
  refine lv_aload_n C.hx C.hb dX6_adds_0 rfl (lv_at hl 0 rfl) ?_
  refine mm_geta C hH 2 (by decide) q1243 dX6_adds_1 ?_
  refine lv_aload_n C.hx C.hb dX6_adds_4 rfl (lv_at hl 0 rfl) ?_
  refine mm_geti C hH 13 1 (by decide) rfl q1254 dX6_adds_5 ?_
  refine lv_iload_n C.hx C.hb dX6_adds_8 rfl (lv_at hl 1 rfl) ?_
  obtain ⟨h1, hk⟩ := hk
  refine mm_ast C hH hS 2 (by decide) h1 dX6_adds_9 (fun s2 es2 H locs hH hS => ?_)
  have hk := hk s2 es2
  refine lv_aload_n C.hx C.hb dX6_adds_10 rfl (lv_at hl 0 rfl) ?_
  refine mm_geta C hH 3 (by decide) q1244 dX6_adds_11 ?_
  refine lv_aload_n C.hx C.hb dX6_adds_14 rfl (lv_at hl 0 rfl) ?_
  refine mm_geti C hH 13 1 (by decide) rfl q1254 dX6_adds_15 ?_
  refine lv_iload_n C.hx C.hb dX6_adds_18 rfl (lv_at hl 2 rfl) ?_
  obtain ⟨h3, hk⟩ := hk
  refine mm_ast C hH hS 3 (by decide) h3 dX6_adds_19 (fun s4 es4 H locs hH hS => ?_)
  have hk := hk s4 es4
  refine lv_aload_n C.hx C.hb dX6_adds_20 rfl (lv_at hl 0 rfl) ?_
  refine mm_geta C hH 4 (by decide) q1245 dX6_adds_21 ?_
  refine lv_aload_n C.hx C.hb dX6_adds_24 rfl (lv_at hl 0 rfl) ?_
  refine mm_geti C hH 13 1 (by decide) rfl q1254 dX6_adds_25 ?_
  refine lv_iload_n C.hx C.hb dX6_adds_28 rfl (lv_at hl 3 rfl) ?_
  obtain ⟨h5, hk⟩ := hk
  refine mm_ast C hH hS 4 (by decide) h5 dX6_adds_29 (fun s6 es6 H locs hH hS => ?_)
  have hk := hk s6 es6
  refine lv_aload_n C.hx C.hb dX6_adds_30 rfl (lv_at hl 0 rfl) ?_
  refine mm_geta C hH 5 (by decide) q1246 dX6_adds_31 ?_
  refine lv_aload_n C.hx C.hb dX6_adds_34 rfl (lv_at hl 0 rfl) ?_
  refine mm_geti C hH 13 1 (by decide) rfl q1254 dX6_adds_35 ?_
  refine lv_iload C.hx C.hb dX6_adds_38 (lv_at hl 4 rfl) ?_
  obtain ⟨h7, hk⟩ := hk
  refine mm_ast C hH hS 5 (by decide) h7 dX6_adds_40 (fun s8 es8 H locs hH hS => ?_)
  have hk := hk s8 es8
  refine lv_aload_n C.hx C.hb dX6_adds_41 rfl (lv_at hl 0 rfl) ?_
  refine lv_dup C.hx C.hb dX6_adds_42 rfl ?_
  refine mm_geti C hH 13 1 (by decide) rfl q1254 dX6_adds_43 ?_
  refine lv_iconst (v := 1) C.hx C.hb dX6_adds_46 (by decide) ?_
  refine lv_iadd C.hx C.hb dX6_adds_47 ?_
  refine mm_puti C hH hS 13 1 (by decide) rfl q1254 dX6_adds_48 rfl rfl (fun s9 es9 H locs hH hS => ?_)
  have hk := hk s9 es9
  refine lv_aload_n C.hx C.hb dX6_adds_51 rfl (lv_at hl 0 rfl) ?_
  refine mm_callv (As := []) (rest := []) C (t_X6_lays l hk) (cwV 0 C.hts (lw_V q1233 q1235 qs24 q65 q1236) rfl rfl rfl (by decide +kernel) ⟨Nat.le_of_ble_eq_true rfl, Nat.le_of_ble_eq_true rfl⟩) hH hS rfl hl.1 rfl (lv_room (Nat.le_of_ble_eq_true rfl)) dX6_adds_52 ⟨Nat.le_of_ble_eq_true rfl, Nat.le_of_ble_eq_true rfl⟩ (fun s11 H locs hk hH hS => ?_)
  refine lv_aload_n C.hx C.hb dX6_adds_55 rfl (lv_at hl 0 rfl) ?_
  refine mm_geti C hH 13 1 (by decide) rfl q1254 dX6_adds_56 ?_
  refine lv_iconst (v := 1) C.hx C.hb dX6_adds_59 (by decide) ?_
  refine lv_isub C.hx C.hb dX6_adds_60 ?_
  exact mm_iret C hr hlk hH hS hk dX6_adds_61
/-! ToneGraphModel.addGain(I)I -/
def wp_X6_addGain (post : Int32 → mm_S → Prop) (p1 : Int32) (s0 : mm_S) : Prop := wp_X6_in (fun r1 => ((¬ r1 = 0 → wp_X6_isFull (fun r3 s4 => ((r3 = 0 → wp_X6_adds (fun r6 s7 => post r6 s7) 1 p1 0 0 s4) ∧ (¬ r3 = 0 → post 0 s4))) 0 s0) ∧ (r1 = 0 → wp_X6_isFull (fun r8 s9 => ((r8 = 0 → wp_X6_adds (fun r11 s12 => post r11 s12) 1 p1 0 0 s9) ∧ (¬ r8 = 0 → post 0 s9))) 1 s0))) p1 (-200) 200
set_option maxHeartbeats 4000000 in
theorem t_X6_addGain (l : Launch) {base : Nat} {D : va_G} {ca : Nat → ClassId} {Ls : List gb_L} {ad : gb_L → Nat} {w : gb_L → va_E} {post : Int32 → mm_S → Prop} {p1 : Int32} {s0 : mm_S} (hk : wp_X6_addGain post p1 s0) : mm_Mi l yX6_addGain (ws_ yX6_addGain cX6_addGain 2 (some .int)) ({ frames := 3, cells := 0, slots := 0, locals := 68 } : Room) base D ca Ls ad w [.int p1] s0 post := by
  refine mm_start cX6_addGain 2 (some .int) _ (by decide) rfl rfl (Nat.le_of_ble_eq_true rfl) ?_
  intro p e s m args below meth c ls C hr hlk hH hS hl
  have hl : lv_has ls 2 [(0, .ref (ad (20, 0))), (1, .int p1)] := hl
  unfold wp_X6_addGain at hk
  refine lv_aload_n C.hx C.hb dX6_addGain_0 rfl (lv_at hl 0 rfl) ?_
  refine lv_iload_n C.hx C.hb dX6_addGain_1 rfl (lv_at hl 1 rfl) ?_
  refine lv_sipush (v := (-200)) C.hx C.hb dX6_addGain_2 (by decide) ?_
  refine lv_sipush (v := 200) C.hx C.hb dX6_addGain_5 (by decide) ?_
  refine gb_call (As := [.int p1, .int (-200), .int 200]) (rest := [.ref (ad (20, 0))]) C.1 (t_X6_in l hk) (va_cwS 3 C.hts (lw_S q1329 q1330 q65 q1331) rfl rfl rfl (by decide +kernel) ⟨Nat.le_of_ble_eq_true rfl, Nat.le_of_ble_eq_true rfl⟩) rfl hl.1 rfl (lv_room (Nat.le_of_ble_eq_true rfl)) dX6_addGain_8 ⟨Nat.le_of_ble_eq_true rfl, Nat.le_of_ble_eq_true rfl⟩ (fun r1 hk => ?_)
  refine lv_if_ne (tgt := 18) C.hx C.hb dX6_addGain_11 (by decide) (fun c2 => ?_) (fun c2 => ?_)
  · have hk := hk.1 c2
    refine lv_iconst (v := 0) C.hx C.hb dX6_addGain_18 (by decide) ?_
    refine mm_calli (As := [.int 0]) (rest := []) C (t_X6_isFull l hk) (cwV 1 C.hts (lw_V q1332 q1334 qs26 q65 q1335) rfl rfl rfl (by decide +kernel) ⟨Nat.le_of_ble_eq_true rfl, Nat.le_of_ble_eq_true rfl⟩) hH hS rfl hl.1 rfl (lv_room (Nat.le_of_ble_eq_true rfl)) dX6_addGain_19 ⟨Nat.le_of_ble_eq_true rfl, Nat.le_of_ble_eq_true rfl⟩ (fun r3 s4 H locs hk hH hS => ?_)
    refine lv_if_eq (tgt := 29) C.hx C.hb dX6_addGain_22 (by decide) (fun c5 => ?_) (fun c5 => ?_)
    · have hk := hk.1 c5
      refine lv_aload_n C.hx C.hb dX6_addGain_29 rfl (lv_at hl 0 rfl) ?_
      refine lv_iconst (v := 1) C.hx C.hb dX6_addGain_30 (by decide) ?_
      refine lv_iload_n C.hx C.hb dX6_addGain_31 rfl (lv_at hl 1 rfl) ?_
      refine lv_iconst (v := 0) C.hx C.hb dX6_addGain_32 (by decide) ?_
      refine lv_iconst (v := 0) C.hx C.hb dX6_addGain_33 (by decide) ?_
      refine mm_calli (As := [.int 1, .int p1, .int 0, .int 0]) (rest := []) C (t_X6_adds l hk) (cwV 4 C.hts (lw_V q1336 q1338 qs27 q65 q1339) rfl rfl rfl (by decide +kernel) ⟨Nat.le_of_ble_eq_true rfl, Nat.le_of_ble_eq_true rfl⟩) hH hS rfl hl.1 rfl (lv_room (Nat.le_of_ble_eq_true rfl)) dX6_addGain_34 ⟨Nat.le_of_ble_eq_true rfl, Nat.le_of_ble_eq_true rfl⟩ (fun r6 s7 H locs hk hH hS => ?_)
      exact mm_iret C hr hlk hH hS hk dX6_addGain_37
    · have hk := hk.2 c5
      refine lv_iconst (v := 0) C.hx C.hb dX6_addGain_25 (by decide) ?_
      refine lv_goto (tgt := 37) C.hx C.hb dX6_addGain_26 (by decide) ?_
      exact mm_iret C hr hlk hH hS hk dX6_addGain_37
  · have hk := hk.2 c2
    refine lv_iconst (v := 1) C.hx C.hb dX6_addGain_14 (by decide) ?_
    refine lv_goto (tgt := 19) C.hx C.hb dX6_addGain_15 (by decide) ?_
    refine mm_calli (As := [.int 1]) (rest := []) C (t_X6_isFull l hk) (cwV 1 C.hts (lw_V q1332 q1334 qs26 q65 q1335) rfl rfl rfl (by decide +kernel) ⟨Nat.le_of_ble_eq_true rfl, Nat.le_of_ble_eq_true rfl⟩) hH hS rfl hl.1 rfl (lv_room (Nat.le_of_ble_eq_true rfl)) dX6_addGain_19 ⟨Nat.le_of_ble_eq_true rfl, Nat.le_of_ble_eq_true rfl⟩ (fun r8 s9 H locs hk hH hS => ?_)
    refine lv_if_eq (tgt := 29) C.hx C.hb dX6_addGain_22 (by decide) (fun c10 => ?_) (fun c10 => ?_)
    · have hk := hk.1 c10
      refine lv_aload_n C.hx C.hb dX6_addGain_29 rfl (lv_at hl 0 rfl) ?_
      refine lv_iconst (v := 1) C.hx C.hb dX6_addGain_30 (by decide) ?_
      refine lv_iload_n C.hx C.hb dX6_addGain_31 rfl (lv_at hl 1 rfl) ?_
      refine lv_iconst (v := 0) C.hx C.hb dX6_addGain_32 (by decide) ?_
      refine lv_iconst (v := 0) C.hx C.hb dX6_addGain_33 (by decide) ?_
      refine mm_calli (As := [.int 1, .int p1, .int 0, .int 0]) (rest := []) C (t_X6_adds l hk) (cwV 4 C.hts (lw_V q1336 q1338 qs27 q65 q1339) rfl rfl rfl (by decide +kernel) ⟨Nat.le_of_ble_eq_true rfl, Nat.le_of_ble_eq_true rfl⟩) hH hS rfl hl.1 rfl (lv_room (Nat.le_of_ble_eq_true rfl)) dX6_addGain_34 ⟨Nat.le_of_ble_eq_true rfl, Nat.le_of_ble_eq_true rfl⟩ (fun r11 s12 H locs hk hH hS => ?_)
      exact mm_iret C hr hlk hH hS hk dX6_addGain_37
    · have hk := hk.2 c10
      refine lv_iconst (v := 0) C.hx C.hb dX6_addGain_25 (by decide) ?_
      refine lv_goto (tgt := 37) C.hx C.hb dX6_addGain_26 (by decide) ?_
      exact mm_iret C hr hlk hH hS hk dX6_addGain_37
/-! ToneGraphModel.addDelay(II)I -/
def wp_X6_addDelay (post : Int32 → mm_S → Prop) (p1 : Int32) (p2 : Int32) (s0 : mm_S) : Prop := wp_X6_in (fun r1 => ((r1 = 0 → wp_X6_isFull (fun r3 s4 => ((r3 = 0 → wp_X6_adds (fun r6 s7 => post r6 s7) 2 p1 p2 0 s4) ∧ (¬ r3 = 0 → post 0 s4))) 1 s0) ∧ (¬ r1 = 0 → wp_X6_in (fun r8 => ((¬ r8 = 0 → wp_X6_isFull (fun r10 s11 => ((r10 = 0 → wp_X6_adds (fun r13 s14 => post r13 s14) 2 p1 p2 0 s11) ∧ (¬ r10 = 0 → post 0 s11))) 0 s0) ∧ (r8 = 0 → wp_X6_isFull (fun r15 s16 => ((r15 = 0 → wp_X6_adds (fun r18 s19 => post r18 s19) 2 p1 p2 0 s16) ∧ (¬ r15 = 0 → post 0 s16))) 1 s0))) p2 (-95) 95))) p1 1 60
set_option maxHeartbeats 4000000 in
theorem t_X6_addDelay (l : Launch) {base : Nat} {D : va_G} {ca : Nat → ClassId} {Ls : List gb_L} {ad : gb_L → Nat} {w : gb_L → va_E} {post : Int32 → mm_S → Prop} {p1 : Int32} {p2 : Int32} {s0 : mm_S} (hk : wp_X6_addDelay post p1 p2 s0) : mm_Mi l yX6_addDelay (ws_ yX6_addDelay cX6_addDelay 3 (some .int)) ({ frames := 3, cells := 0, slots := 0, locals := 68 } : Room) base D ca Ls ad w [.int p1, .int p2] s0 post := by
  refine mm_start cX6_addDelay 3 (some .int) _ (by decide) rfl rfl (Nat.le_of_ble_eq_true rfl) ?_
  intro p e s m args below meth c ls C hr hlk hH hS hl
  have hl : lv_has ls 3 [(0, .ref (ad (20, 0))), (1, .int p1), (2, .int p2)] := hl
  unfold wp_X6_addDelay at hk
  refine lv_aload_n C.hx C.hb dX6_addDelay_0 rfl (lv_at hl 0 rfl) ?_
  refine lv_iload_n C.hx C.hb dX6_addDelay_1 rfl (lv_at hl 1 rfl) ?_
  refine lv_iconst (v := 1) C.hx C.hb dX6_addDelay_2 (by decide) ?_
  refine lv_bipush (v := 60) C.hx C.hb dX6_addDelay_3 (by decide) ?_
  refine gb_call (As := [.int p1, .int 1, .int 60]) (rest := [.ref (ad (20, 0))]) C.1 (t_X6_in l hk) (va_cwS 3 C.hts (lw_S q1329 q1330 q65 q1331) rfl rfl rfl (by decide +kernel) ⟨Nat.le_of_ble_eq_true rfl, Nat.le_of_ble_eq_true rfl⟩) rfl hl.1 rfl (lv_room (Nat.le_of_ble_eq_true rfl)) dX6_addDelay_5 ⟨Nat.le_of_ble_eq_true rfl, Nat.le_of_ble_eq_true rfl⟩ (fun r1 hk => ?_)
  refine lv_if_eq (tgt := 22) C.hx C.hb dX6_addDelay_8 (by decide) (fun c2 => ?_) (fun c2 => ?_)
  · have hk := hk.1 c2
    refine lv_iconst (v := 1) C.hx C.hb dX6_addDelay_22 (by decide) ?_
    refine lv_goto (tgt := 27) C.hx C.hb dX6_addDelay_23 (by decide) ?_
    refine mm_calli (As := [.int 1]) (rest := []) C (t_X6_isFull l hk) (cwV 1 C.hts (lw_V q1332 q1334 qs26 q65 q1335) rfl rfl rfl (by decide +kernel) ⟨Nat.le_of_ble_eq_true rfl, Nat.le_of_ble_eq_true rfl⟩) hH hS rfl hl.1 rfl (lv_room (Nat.le_of_ble_eq_true rfl)) dX6_addDelay_27 ⟨Nat.le_of_ble_eq_true rfl, Nat.le_of_ble_eq_true rfl⟩ (fun r3 s4 H locs hk hH hS => ?_)
    refine lv_if_eq (tgt := 37) C.hx C.hb dX6_addDelay_30 (by decide) (fun c5 => ?_) (fun c5 => ?_)
    · have hk := hk.1 c5
      refine lv_aload_n C.hx C.hb dX6_addDelay_37 rfl (lv_at hl 0 rfl) ?_
      refine lv_iconst (v := 2) C.hx C.hb dX6_addDelay_38 (by decide) ?_
      refine lv_iload_n C.hx C.hb dX6_addDelay_39 rfl (lv_at hl 1 rfl) ?_
      refine lv_iload_n C.hx C.hb dX6_addDelay_40 rfl (lv_at hl 2 rfl) ?_
      refine lv_iconst (v := 0) C.hx C.hb dX6_addDelay_41 (by decide) ?_
      refine mm_calli (As := [.int 2, .int p1, .int p2, .int 0]) (rest := []) C (t_X6_adds l hk) (cwV 4 C.hts (lw_V q1336 q1338 qs27 q65 q1339) rfl rfl rfl (by decide +kernel) ⟨Nat.le_of_ble_eq_true rfl, Nat.le_of_ble_eq_true rfl⟩) hH hS rfl hl.1 rfl (lv_room (Nat.le_of_ble_eq_true rfl)) dX6_addDelay_42 ⟨Nat.le_of_ble_eq_true rfl, Nat.le_of_ble_eq_true rfl⟩ (fun r6 s7 H locs hk hH hS => ?_)
      exact mm_iret C hr hlk hH hS hk dX6_addDelay_45
    · have hk := hk.2 c5
      refine lv_iconst (v := 0) C.hx C.hb dX6_addDelay_33 (by decide) ?_
      refine lv_goto (tgt := 45) C.hx C.hb dX6_addDelay_34 (by decide) ?_
      exact mm_iret C hr hlk hH hS hk dX6_addDelay_45
  · have hk := hk.2 c2
    refine lv_iload_n C.hx C.hb dX6_addDelay_11 rfl (lv_at hl 2 rfl) ?_
    refine lv_bipush (v := (-95)) C.hx C.hb dX6_addDelay_12 (by decide) ?_
    refine lv_bipush (v := 95) C.hx C.hb dX6_addDelay_14 (by decide) ?_
    refine gb_call (As := [.int p2, .int (-95), .int 95]) (rest := [.ref (ad (20, 0))]) C.1 (t_X6_in l hk) (va_cwS 3 C.hts (lw_S q1329 q1330 q65 q1331) rfl rfl rfl (by decide +kernel) ⟨Nat.le_of_ble_eq_true rfl, Nat.le_of_ble_eq_true rfl⟩) rfl hl.1 rfl (lv_room (Nat.le_of_ble_eq_true rfl)) dX6_addDelay_16 ⟨Nat.le_of_ble_eq_true rfl, Nat.le_of_ble_eq_true rfl⟩ (fun r8 hk => ?_)
    refine lv_if_ne (tgt := 26) C.hx C.hb dX6_addDelay_19 (by decide) (fun c9 => ?_) (fun c9 => ?_)
    · have hk := hk.1 c9
      refine lv_iconst (v := 0) C.hx C.hb dX6_addDelay_26 (by decide) ?_
      refine mm_calli (As := [.int 0]) (rest := []) C (t_X6_isFull l hk) (cwV 1 C.hts (lw_V q1332 q1334 qs26 q65 q1335) rfl rfl rfl (by decide +kernel) ⟨Nat.le_of_ble_eq_true rfl, Nat.le_of_ble_eq_true rfl⟩) hH hS rfl hl.1 rfl (lv_room (Nat.le_of_ble_eq_true rfl)) dX6_addDelay_27 ⟨Nat.le_of_ble_eq_true rfl, Nat.le_of_ble_eq_true rfl⟩ (fun r10 s11 H locs hk hH hS => ?_)
      refine lv_if_eq (tgt := 37) C.hx C.hb dX6_addDelay_30 (by decide) (fun c12 => ?_) (fun c12 => ?_)
      · have hk := hk.1 c12
        refine lv_aload_n C.hx C.hb dX6_addDelay_37 rfl (lv_at hl 0 rfl) ?_
        refine lv_iconst (v := 2) C.hx C.hb dX6_addDelay_38 (by decide) ?_
        refine lv_iload_n C.hx C.hb dX6_addDelay_39 rfl (lv_at hl 1 rfl) ?_
        refine lv_iload_n C.hx C.hb dX6_addDelay_40 rfl (lv_at hl 2 rfl) ?_
        refine lv_iconst (v := 0) C.hx C.hb dX6_addDelay_41 (by decide) ?_
        refine mm_calli (As := [.int 2, .int p1, .int p2, .int 0]) (rest := []) C (t_X6_adds l hk) (cwV 4 C.hts (lw_V q1336 q1338 qs27 q65 q1339) rfl rfl rfl (by decide +kernel) ⟨Nat.le_of_ble_eq_true rfl, Nat.le_of_ble_eq_true rfl⟩) hH hS rfl hl.1 rfl (lv_room (Nat.le_of_ble_eq_true rfl)) dX6_addDelay_42 ⟨Nat.le_of_ble_eq_true rfl, Nat.le_of_ble_eq_true rfl⟩ (fun r13 s14 H locs hk hH hS => ?_)
        exact mm_iret C hr hlk hH hS hk dX6_addDelay_45
      · have hk := hk.2 c12
        refine lv_iconst (v := 0) C.hx C.hb dX6_addDelay_33 (by decide) ?_
        refine lv_goto (tgt := 45) C.hx C.hb dX6_addDelay_34 (by decide) ?_
        exact mm_iret C hr hlk hH hS hk dX6_addDelay_45
    · have hk := hk.2 c9
      refine lv_iconst (v := 1) C.hx C.hb dX6_addDelay_22 (by decide) ?_
      refine lv_goto (tgt := 27) C.hx C.hb dX6_addDelay_23 (by decide) ?_
      refine mm_calli (As := [.int 1]) (rest := []) C (t_X6_isFull l hk) (cwV 1 C.hts (lw_V q1332 q1334 qs26 q65 q1335) rfl rfl rfl (by decide +kernel) ⟨Nat.le_of_ble_eq_true rfl, Nat.le_of_ble_eq_true rfl⟩) hH hS rfl hl.1 rfl (lv_room (Nat.le_of_ble_eq_true rfl)) dX6_addDelay_27 ⟨Nat.le_of_ble_eq_true rfl, Nat.le_of_ble_eq_true rfl⟩ (fun r15 s16 H locs hk hH hS => ?_)
      refine lv_if_eq (tgt := 37) C.hx C.hb dX6_addDelay_30 (by decide) (fun c17 => ?_) (fun c17 => ?_)
      · have hk := hk.1 c17
        refine lv_aload_n C.hx C.hb dX6_addDelay_37 rfl (lv_at hl 0 rfl) ?_
        refine lv_iconst (v := 2) C.hx C.hb dX6_addDelay_38 (by decide) ?_
        refine lv_iload_n C.hx C.hb dX6_addDelay_39 rfl (lv_at hl 1 rfl) ?_
        refine lv_iload_n C.hx C.hb dX6_addDelay_40 rfl (lv_at hl 2 rfl) ?_
        refine lv_iconst (v := 0) C.hx C.hb dX6_addDelay_41 (by decide) ?_
        refine mm_calli (As := [.int 2, .int p1, .int p2, .int 0]) (rest := []) C (t_X6_adds l hk) (cwV 4 C.hts (lw_V q1336 q1338 qs27 q65 q1339) rfl rfl rfl (by decide +kernel) ⟨Nat.le_of_ble_eq_true rfl, Nat.le_of_ble_eq_true rfl⟩) hH hS rfl hl.1 rfl (lv_room (Nat.le_of_ble_eq_true rfl)) dX6_addDelay_42 ⟨Nat.le_of_ble_eq_true rfl, Nat.le_of_ble_eq_true rfl⟩ (fun r18 s19 H locs hk hH hS => ?_)
        exact mm_iret C hr hlk hH hS hk dX6_addDelay_45
      · have hk := hk.2 c17
        refine lv_iconst (v := 0) C.hx C.hb dX6_addDelay_33 (by decide) ?_
        refine lv_goto (tgt := 45) C.hx C.hb dX6_addDelay_34 (by decide) ?_
        exact mm_iret C hr hlk hH hS hk dX6_addDelay_45
/-! ToneGraphModel.addFilter(III)I -/
def wp_X6_addFilter (post : Int32 → mm_S → Prop) (p1 : Int32) (p2 : Int32) (p3 : Int32) (s0 : mm_S) : Prop := wp_X6_in (fun r1 => ((r1 = 0 → wp_X6_isFull (fun r3 s4 => ((r3 = 0 → wp_X6_adds (fun r6 s7 => post r6 s7) 3 p1 p2 p3 s4) ∧ (¬ r3 = 0 → post 0 s4))) 1 s0) ∧ (¬ r1 = 0 → wp_X6_in (fun r8 => ((r8 = 0 → wp_X6_isFull (fun r10 s11 => ((r10 = 0 → wp_X6_adds (fun r13 s14 => post r13 s14) 3 p1 p2 p3 s11) ∧ (¬ r10 = 0 → post 0 s11))) 1 s0) ∧ (¬ r8 = 0 → wp_X6_in (fun r15 => ((¬ r15 = 0 → wp_X6_isFull (fun r17 s18 => ((r17 = 0 → wp_X6_adds (fun r20 s21 => post r20 s21) 3 p1 p2 p3 s18) ∧ (¬ r17 = 0 → post 0 s18))) 0 s0) ∧ (r15 = 0 → wp_X6_isFull (fun r22 s23 => ((r22 = 0 → wp_X6_adds (fun r25 s26 => post r25 s26) 3 p1 p2 p3 s23) ∧ (¬ r22 = 0 → post 0 s23))) 1 s0))) p3 (-64) 64))) p2 (-64) 64))) p1 (-64) 64
set_option maxHeartbeats 4000000 in
theorem t_X6_addFilter (l : Launch) {base : Nat} {D : va_G} {ca : Nat → ClassId} {Ls : List gb_L} {ad : gb_L → Nat} {w : gb_L → va_E} {post : Int32 → mm_S → Prop} {p1 : Int32} {p2 : Int32} {p3 : Int32} {s0 : mm_S} (hk : wp_X6_addFilter post p1 p2 p3 s0) : mm_Mi l yX6_addFilter (ws_ yX6_addFilter cX6_addFilter 4 (some .int)) ({ frames := 3, cells := 0, slots := 0, locals := 68 } : Room) base D ca Ls ad w [.int p1, .int p2, .int p3] s0 post := by
  refine mm_start cX6_addFilter 4 (some .int) _ (by decide) rfl rfl (Nat.le_of_ble_eq_true rfl) ?_
  intro p e s m args below meth c ls C hr hlk hH hS hl
  have hl : lv_has ls 4 [(0, .ref (ad (20, 0))), (1, .int p1), (2, .int p2), (3, .int p3)] := hl
  unfold wp_X6_addFilter at hk
  refine lv_aload_n C.hx C.hb dX6_addFilter_0 rfl (lv_at hl 0 rfl) ?_
  refine lv_iload_n C.hx C.hb dX6_addFilter_1 rfl (lv_at hl 1 rfl) ?_
  refine lv_bipush (v := (-64)) C.hx C.hb dX6_addFilter_2 (by decide) ?_
  refine lv_bipush (v := 64) C.hx C.hb dX6_addFilter_4 (by decide) ?_
  refine gb_call (As := [.int p1, .int (-64), .int 64]) (rest := [.ref (ad (20, 0))]) C.1 (t_X6_in l hk) (va_cwS 3 C.hts (lw_S q1329 q1330 q65 q1331) rfl rfl rfl (by decide +kernel) ⟨Nat.le_of_ble_eq_true rfl, Nat.le_of_ble_eq_true rfl⟩) rfl hl.1 rfl (lv_room (Nat.le_of_ble_eq_true rfl)) dX6_addFilter_6 ⟨Nat.le_of_ble_eq_true rfl, Nat.le_of_ble_eq_true rfl⟩ (fun r1 hk => ?_)
  refine lv_if_eq (tgt := 34) C.hx C.hb dX6_addFilter_9 (by decide) (fun c2 => ?_) (fun c2 => ?_)
  · have hk := hk.1 c2
    refine lv_iconst (v := 1) C.hx C.hb dX6_addFilter_34 (by decide) ?_
    refine lv_goto (tgt := 39) C.hx C.hb dX6_addFilter_35 (by decide) ?_
    refine mm_calli (As := [.int 1]) (rest := []) C (t_X6_isFull l hk) (cwV 1 C.hts (lw_V q1332 q1334 qs26 q65 q1335) rfl rfl rfl (by decide +kernel) ⟨Nat.le_of_ble_eq_true rfl, Nat.le_of_ble_eq_true rfl⟩) hH hS rfl hl.1 rfl (lv_room (Nat.le_of_ble_eq_true rfl)) dX6_addFilter_39 ⟨Nat.le_of_ble_eq_true rfl, Nat.le_of_ble_eq_true rfl⟩ (fun r3 s4 H locs hk hH hS => ?_)
    refine lv_if_eq (tgt := 49) C.hx C.hb dX6_addFilter_42 (by decide) (fun c5 => ?_) (fun c5 => ?_)
    · have hk := hk.1 c5
      refine lv_aload_n C.hx C.hb dX6_addFilter_49 rfl (lv_at hl 0 rfl) ?_
      refine lv_iconst (v := 3) C.hx C.hb dX6_addFilter_50 (by decide) ?_
      refine lv_iload_n C.hx C.hb dX6_addFilter_51 rfl (lv_at hl 1 rfl) ?_
      refine lv_iload_n C.hx C.hb dX6_addFilter_52 rfl (lv_at hl 2 rfl) ?_
      refine lv_iload_n C.hx C.hb dX6_addFilter_53 rfl (lv_at hl 3 rfl) ?_
      refine mm_calli (As := [.int 3, .int p1, .int p2, .int p3]) (rest := []) C (t_X6_adds l hk) (cwV 4 C.hts (lw_V q1336 q1338 qs27 q65 q1339) rfl rfl rfl (by decide +kernel) ⟨Nat.le_of_ble_eq_true rfl, Nat.le_of_ble_eq_true rfl⟩) hH hS rfl hl.1 rfl (lv_room (Nat.le_of_ble_eq_true rfl)) dX6_addFilter_54 ⟨Nat.le_of_ble_eq_true rfl, Nat.le_of_ble_eq_true rfl⟩ (fun r6 s7 H locs hk hH hS => ?_)
      exact mm_iret C hr hlk hH hS hk dX6_addFilter_57
    · have hk := hk.2 c5
      refine lv_iconst (v := 0) C.hx C.hb dX6_addFilter_45 (by decide) ?_
      refine lv_goto (tgt := 57) C.hx C.hb dX6_addFilter_46 (by decide) ?_
      exact mm_iret C hr hlk hH hS hk dX6_addFilter_57
  · have hk := hk.2 c2
    refine lv_iload_n C.hx C.hb dX6_addFilter_12 rfl (lv_at hl 2 rfl) ?_
    refine lv_bipush (v := (-64)) C.hx C.hb dX6_addFilter_13 (by decide) ?_
    refine lv_bipush (v := 64) C.hx C.hb dX6_addFilter_15 (by decide) ?_
    refine gb_call (As := [.int p2, .int (-64), .int 64]) (rest := [.ref (ad (20, 0))]) C.1 (t_X6_in l hk) (va_cwS 3 C.hts (lw_S q1329 q1330 q65 q1331) rfl rfl rfl (by decide +kernel) ⟨Nat.le_of_ble_eq_true rfl, Nat.le_of_ble_eq_true rfl⟩) rfl hl.1 rfl (lv_room (Nat.le_of_ble_eq_true rfl)) dX6_addFilter_17 ⟨Nat.le_of_ble_eq_true rfl, Nat.le_of_ble_eq_true rfl⟩ (fun r8 hk => ?_)
    refine lv_if_eq (tgt := 34) C.hx C.hb dX6_addFilter_20 (by decide) (fun c9 => ?_) (fun c9 => ?_)
    · have hk := hk.1 c9
      refine lv_iconst (v := 1) C.hx C.hb dX6_addFilter_34 (by decide) ?_
      refine lv_goto (tgt := 39) C.hx C.hb dX6_addFilter_35 (by decide) ?_
      refine mm_calli (As := [.int 1]) (rest := []) C (t_X6_isFull l hk) (cwV 1 C.hts (lw_V q1332 q1334 qs26 q65 q1335) rfl rfl rfl (by decide +kernel) ⟨Nat.le_of_ble_eq_true rfl, Nat.le_of_ble_eq_true rfl⟩) hH hS rfl hl.1 rfl (lv_room (Nat.le_of_ble_eq_true rfl)) dX6_addFilter_39 ⟨Nat.le_of_ble_eq_true rfl, Nat.le_of_ble_eq_true rfl⟩ (fun r10 s11 H locs hk hH hS => ?_)
      refine lv_if_eq (tgt := 49) C.hx C.hb dX6_addFilter_42 (by decide) (fun c12 => ?_) (fun c12 => ?_)
      · have hk := hk.1 c12
        refine lv_aload_n C.hx C.hb dX6_addFilter_49 rfl (lv_at hl 0 rfl) ?_
        refine lv_iconst (v := 3) C.hx C.hb dX6_addFilter_50 (by decide) ?_
        refine lv_iload_n C.hx C.hb dX6_addFilter_51 rfl (lv_at hl 1 rfl) ?_
        refine lv_iload_n C.hx C.hb dX6_addFilter_52 rfl (lv_at hl 2 rfl) ?_
        refine lv_iload_n C.hx C.hb dX6_addFilter_53 rfl (lv_at hl 3 rfl) ?_
        refine mm_calli (As := [.int 3, .int p1, .int p2, .int p3]) (rest := []) C (t_X6_adds l hk) (cwV 4 C.hts (lw_V q1336 q1338 qs27 q65 q1339) rfl rfl rfl (by decide +kernel) ⟨Nat.le_of_ble_eq_true rfl, Nat.le_of_ble_eq_true rfl⟩) hH hS rfl hl.1 rfl (lv_room (Nat.le_of_ble_eq_true rfl)) dX6_addFilter_54 ⟨Nat.le_of_ble_eq_true rfl, Nat.le_of_ble_eq_true rfl⟩ (fun r13 s14 H locs hk hH hS => ?_)
        exact mm_iret C hr hlk hH hS hk dX6_addFilter_57
      · have hk := hk.2 c12
        refine lv_iconst (v := 0) C.hx C.hb dX6_addFilter_45 (by decide) ?_
        refine lv_goto (tgt := 57) C.hx C.hb dX6_addFilter_46 (by decide) ?_
        exact mm_iret C hr hlk hH hS hk dX6_addFilter_57
    · have hk := hk.2 c9
      refine lv_iload_n C.hx C.hb dX6_addFilter_23 rfl (lv_at hl 3 rfl) ?_
      refine lv_bipush (v := (-64)) C.hx C.hb dX6_addFilter_24 (by decide) ?_
      refine lv_bipush (v := 64) C.hx C.hb dX6_addFilter_26 (by decide) ?_
      refine gb_call (As := [.int p3, .int (-64), .int 64]) (rest := [.ref (ad (20, 0))]) C.1 (t_X6_in l hk) (va_cwS 3 C.hts (lw_S q1329 q1330 q65 q1331) rfl rfl rfl (by decide +kernel) ⟨Nat.le_of_ble_eq_true rfl, Nat.le_of_ble_eq_true rfl⟩) rfl hl.1 rfl (lv_room (Nat.le_of_ble_eq_true rfl)) dX6_addFilter_28 ⟨Nat.le_of_ble_eq_true rfl, Nat.le_of_ble_eq_true rfl⟩ (fun r15 hk => ?_)
      refine lv_if_ne (tgt := 38) C.hx C.hb dX6_addFilter_31 (by decide) (fun c16 => ?_) (fun c16 => ?_)
      · have hk := hk.1 c16
        refine lv_iconst (v := 0) C.hx C.hb dX6_addFilter_38 (by decide) ?_
        refine mm_calli (As := [.int 0]) (rest := []) C (t_X6_isFull l hk) (cwV 1 C.hts (lw_V q1332 q1334 qs26 q65 q1335) rfl rfl rfl (by decide +kernel) ⟨Nat.le_of_ble_eq_true rfl, Nat.le_of_ble_eq_true rfl⟩) hH hS rfl hl.1 rfl (lv_room (Nat.le_of_ble_eq_true rfl)) dX6_addFilter_39 ⟨Nat.le_of_ble_eq_true rfl, Nat.le_of_ble_eq_true rfl⟩ (fun r17 s18 H locs hk hH hS => ?_)
        refine lv_if_eq (tgt := 49) C.hx C.hb dX6_addFilter_42 (by decide) (fun c19 => ?_) (fun c19 => ?_)
        · have hk := hk.1 c19
          refine lv_aload_n C.hx C.hb dX6_addFilter_49 rfl (lv_at hl 0 rfl) ?_
          refine lv_iconst (v := 3) C.hx C.hb dX6_addFilter_50 (by decide) ?_
          refine lv_iload_n C.hx C.hb dX6_addFilter_51 rfl (lv_at hl 1 rfl) ?_
          refine lv_iload_n C.hx C.hb dX6_addFilter_52 rfl (lv_at hl 2 rfl) ?_
          refine lv_iload_n C.hx C.hb dX6_addFilter_53 rfl (lv_at hl 3 rfl) ?_
          refine mm_calli (As := [.int 3, .int p1, .int p2, .int p3]) (rest := []) C (t_X6_adds l hk) (cwV 4 C.hts (lw_V q1336 q1338 qs27 q65 q1339) rfl rfl rfl (by decide +kernel) ⟨Nat.le_of_ble_eq_true rfl, Nat.le_of_ble_eq_true rfl⟩) hH hS rfl hl.1 rfl (lv_room (Nat.le_of_ble_eq_true rfl)) dX6_addFilter_54 ⟨Nat.le_of_ble_eq_true rfl, Nat.le_of_ble_eq_true rfl⟩ (fun r20 s21 H locs hk hH hS => ?_)
          exact mm_iret C hr hlk hH hS hk dX6_addFilter_57
        · have hk := hk.2 c19
          refine lv_iconst (v := 0) C.hx C.hb dX6_addFilter_45 (by decide) ?_
          refine lv_goto (tgt := 57) C.hx C.hb dX6_addFilter_46 (by decide) ?_
          exact mm_iret C hr hlk hH hS hk dX6_addFilter_57
      · have hk := hk.2 c16
        refine lv_iconst (v := 1) C.hx C.hb dX6_addFilter_34 (by decide) ?_
        refine lv_goto (tgt := 39) C.hx C.hb dX6_addFilter_35 (by decide) ?_
        refine mm_calli (As := [.int 1]) (rest := []) C (t_X6_isFull l hk) (cwV 1 C.hts (lw_V q1332 q1334 qs26 q65 q1335) rfl rfl rfl (by decide +kernel) ⟨Nat.le_of_ble_eq_true rfl, Nat.le_of_ble_eq_true rfl⟩) hH hS rfl hl.1 rfl (lv_room (Nat.le_of_ble_eq_true rfl)) dX6_addFilter_39 ⟨Nat.le_of_ble_eq_true rfl, Nat.le_of_ble_eq_true rfl⟩ (fun r22 s23 H locs hk hH hS => ?_)
        refine lv_if_eq (tgt := 49) C.hx C.hb dX6_addFilter_42 (by decide) (fun c24 => ?_) (fun c24 => ?_)
        · have hk := hk.1 c24
          refine lv_aload_n C.hx C.hb dX6_addFilter_49 rfl (lv_at hl 0 rfl) ?_
          refine lv_iconst (v := 3) C.hx C.hb dX6_addFilter_50 (by decide) ?_
          refine lv_iload_n C.hx C.hb dX6_addFilter_51 rfl (lv_at hl 1 rfl) ?_
          refine lv_iload_n C.hx C.hb dX6_addFilter_52 rfl (lv_at hl 2 rfl) ?_
          refine lv_iload_n C.hx C.hb dX6_addFilter_53 rfl (lv_at hl 3 rfl) ?_
          refine mm_calli (As := [.int 3, .int p1, .int p2, .int p3]) (rest := []) C (t_X6_adds l hk) (cwV 4 C.hts (lw_V q1336 q1338 qs27 q65 q1339) rfl rfl rfl (by decide +kernel) ⟨Nat.le_of_ble_eq_true rfl, Nat.le_of_ble_eq_true rfl⟩) hH hS rfl hl.1 rfl (lv_room (Nat.le_of_ble_eq_true rfl)) dX6_addFilter_54 ⟨Nat.le_of_ble_eq_true rfl, Nat.le_of_ble_eq_true rfl⟩ (fun r25 s26 H locs hk hH hS => ?_)
          exact mm_iret C hr hlk hH hS hk dX6_addFilter_57
        · have hk := hk.2 c24
          refine lv_iconst (v := 0) C.hx C.hb dX6_addFilter_45 (by decide) ?_
          refine lv_goto (tgt := 57) C.hx C.hb dX6_addFilter_46 (by decide) ?_
          exact mm_iret C hr hlk hH hS hk dX6_addFilter_57
/-! ToneGraphModel.addBus(I)I -/
def wp_X6_addBus (post : Int32 → mm_S → Prop) (p1 : Int32) (s0 : mm_S) : Prop := wp_X6_in (fun r1 => ((¬ r1 = 0 → wp_X6_isFull (fun r3 s4 => ((r3 = 0 → wp_X6_adds (fun r6 s7 => post r6 s7) 4 p1 0 0 s4) ∧ (¬ r3 = 0 → post 0 s4))) 0 s0) ∧ (r1 = 0 → wp_X6_isFull (fun r8 s9 => ((r8 = 0 → wp_X6_adds (fun r11 s12 => post r11 s12) 4 p1 0 0 s9) ∧ (¬ r8 = 0 → post 0 s9))) 1 s0))) p1 0 32767
set_option maxHeartbeats 4000000 in
theorem t_X6_addBus (l : Launch) {base : Nat} {D : va_G} {ca : Nat → ClassId} {Ls : List gb_L} {ad : gb_L → Nat} {w : gb_L → va_E} {post : Int32 → mm_S → Prop} {p1 : Int32} {s0 : mm_S} (hk : wp_X6_addBus post p1 s0) : mm_Mi l yX6_addBus (ws_ yX6_addBus cX6_addBus 2 (some .int)) ({ frames := 3, cells := 0, slots := 0, locals := 68 } : Room) base D ca Ls ad w [.int p1] s0 post := by
  refine mm_start cX6_addBus 2 (some .int) _ (by decide) rfl rfl (Nat.le_of_ble_eq_true rfl) ?_
  intro p e s m args below meth c ls C hr hlk hH hS hl
  have hl : lv_has ls 2 [(0, .ref (ad (20, 0))), (1, .int p1)] := hl
  unfold wp_X6_addBus at hk
  refine lv_aload_n C.hx C.hb dX6_addBus_0 rfl (lv_at hl 0 rfl) ?_
  refine lv_iload_n C.hx C.hb dX6_addBus_1 rfl (lv_at hl 1 rfl) ?_
  refine lv_iconst (v := 0) C.hx C.hb dX6_addBus_2 (by decide) ?_
  refine lv_sipush (v := 32767) C.hx C.hb dX6_addBus_3 (by decide) ?_
  refine gb_call (As := [.int p1, .int 0, .int 32767]) (rest := [.ref (ad (20, 0))]) C.1 (t_X6_in l hk) (va_cwS 3 C.hts (lw_S q1329 q1330 q65 q1331) rfl rfl rfl (by decide +kernel) ⟨Nat.le_of_ble_eq_true rfl, Nat.le_of_ble_eq_true rfl⟩) rfl hl.1 rfl (lv_room (Nat.le_of_ble_eq_true rfl)) dX6_addBus_6 ⟨Nat.le_of_ble_eq_true rfl, Nat.le_of_ble_eq_true rfl⟩ (fun r1 hk => ?_)
  refine lv_if_ne (tgt := 16) C.hx C.hb dX6_addBus_9 (by decide) (fun c2 => ?_) (fun c2 => ?_)
  · have hk := hk.1 c2
    refine lv_iconst (v := 0) C.hx C.hb dX6_addBus_16 (by decide) ?_
    refine mm_calli (As := [.int 0]) (rest := []) C (t_X6_isFull l hk) (cwV 1 C.hts (lw_V q1332 q1334 qs26 q65 q1335) rfl rfl rfl (by decide +kernel) ⟨Nat.le_of_ble_eq_true rfl, Nat.le_of_ble_eq_true rfl⟩) hH hS rfl hl.1 rfl (lv_room (Nat.le_of_ble_eq_true rfl)) dX6_addBus_17 ⟨Nat.le_of_ble_eq_true rfl, Nat.le_of_ble_eq_true rfl⟩ (fun r3 s4 H locs hk hH hS => ?_)
    refine lv_if_eq (tgt := 27) C.hx C.hb dX6_addBus_20 (by decide) (fun c5 => ?_) (fun c5 => ?_)
    · have hk := hk.1 c5
      refine lv_aload_n C.hx C.hb dX6_addBus_27 rfl (lv_at hl 0 rfl) ?_
      refine lv_iconst (v := 4) C.hx C.hb dX6_addBus_28 (by decide) ?_
      refine lv_iload_n C.hx C.hb dX6_addBus_29 rfl (lv_at hl 1 rfl) ?_
      refine lv_iconst (v := 0) C.hx C.hb dX6_addBus_30 (by decide) ?_
      refine lv_iconst (v := 0) C.hx C.hb dX6_addBus_31 (by decide) ?_
      refine mm_calli (As := [.int 4, .int p1, .int 0, .int 0]) (rest := []) C (t_X6_adds l hk) (cwV 4 C.hts (lw_V q1336 q1338 qs27 q65 q1339) rfl rfl rfl (by decide +kernel) ⟨Nat.le_of_ble_eq_true rfl, Nat.le_of_ble_eq_true rfl⟩) hH hS rfl hl.1 rfl (lv_room (Nat.le_of_ble_eq_true rfl)) dX6_addBus_32 ⟨Nat.le_of_ble_eq_true rfl, Nat.le_of_ble_eq_true rfl⟩ (fun r6 s7 H locs hk hH hS => ?_)
      exact mm_iret C hr hlk hH hS hk dX6_addBus_35
    · have hk := hk.2 c5
      refine lv_iconst (v := 0) C.hx C.hb dX6_addBus_23 (by decide) ?_
      refine lv_goto (tgt := 35) C.hx C.hb dX6_addBus_24 (by decide) ?_
      exact mm_iret C hr hlk hH hS hk dX6_addBus_35
  · have hk := hk.2 c2
    refine lv_iconst (v := 1) C.hx C.hb dX6_addBus_12 (by decide) ?_
    refine lv_goto (tgt := 17) C.hx C.hb dX6_addBus_13 (by decide) ?_
    refine mm_calli (As := [.int 1]) (rest := []) C (t_X6_isFull l hk) (cwV 1 C.hts (lw_V q1332 q1334 qs26 q65 q1335) rfl rfl rfl (by decide +kernel) ⟨Nat.le_of_ble_eq_true rfl, Nat.le_of_ble_eq_true rfl⟩) hH hS rfl hl.1 rfl (lv_room (Nat.le_of_ble_eq_true rfl)) dX6_addBus_17 ⟨Nat.le_of_ble_eq_true rfl, Nat.le_of_ble_eq_true rfl⟩ (fun r8 s9 H locs hk hH hS => ?_)
    refine lv_if_eq (tgt := 27) C.hx C.hb dX6_addBus_20 (by decide) (fun c10 => ?_) (fun c10 => ?_)
    · have hk := hk.1 c10
      refine lv_aload_n C.hx C.hb dX6_addBus_27 rfl (lv_at hl 0 rfl) ?_
      refine lv_iconst (v := 4) C.hx C.hb dX6_addBus_28 (by decide) ?_
      refine lv_iload_n C.hx C.hb dX6_addBus_29 rfl (lv_at hl 1 rfl) ?_
      refine lv_iconst (v := 0) C.hx C.hb dX6_addBus_30 (by decide) ?_
      refine lv_iconst (v := 0) C.hx C.hb dX6_addBus_31 (by decide) ?_
      refine mm_calli (As := [.int 4, .int p1, .int 0, .int 0]) (rest := []) C (t_X6_adds l hk) (cwV 4 C.hts (lw_V q1336 q1338 qs27 q65 q1339) rfl rfl rfl (by decide +kernel) ⟨Nat.le_of_ble_eq_true rfl, Nat.le_of_ble_eq_true rfl⟩) hH hS rfl hl.1 rfl (lv_room (Nat.le_of_ble_eq_true rfl)) dX6_addBus_32 ⟨Nat.le_of_ble_eq_true rfl, Nat.le_of_ble_eq_true rfl⟩ (fun r11 s12 H locs hk hH hS => ?_)
      exact mm_iret C hr hlk hH hS hk dX6_addBus_35
    · have hk := hk.2 c10
      refine lv_iconst (v := 0) C.hx C.hb dX6_addBus_23 (by decide) ?_
      refine lv_goto (tgt := 35) C.hx C.hb dX6_addBus_24 (by decide) ?_
      exact mm_iret C hr hlk hH hS hk dX6_addBus_35
/-! ToneGraphModel.isNode(I)Z -/
def wp_X6_isNode (post : Int32 → mm_S → Prop) (p1 : Int32) (s0 : mm_S) : Prop := wp_X6_in (fun r1 => (narrow .boolean (.int r1) = .int r1 ∧ post r1 s0)) p1 0 ((s0.1 1) - 1)
set_option maxHeartbeats 4000000 in
theorem t_X6_isNode (l : Launch) {base : Nat} {D : va_G} {ca : Nat → ClassId} {Ls : List gb_L} {ad : gb_L → Nat} {w : gb_L → va_E} {post : Int32 → mm_S → Prop} {p1 : Int32} {s0 : mm_S} (hk : wp_X6_isNode post p1 s0) : mm_Mi l yX6_isNode (ws_ yX6_isNode cX6_isNode 2 (some .boolean)) ({ frames := 1, cells := 0, slots := 0, locals := 22 } : Room) base D ca Ls ad w [.int p1] s0 post := by
  refine mm_start cX6_isNode 2 (some .boolean) _ (by decide) rfl rfl (Nat.le_of_ble_eq_true rfl) ?_
  intro p e s m args below meth c ls C hr hlk hH hS hl
  have hl : lv_has ls 2 [(0, .ref (ad (20, 0))), (1, .int p1)] := hl
  unfold wp_X6_isNode at hk
  refine lv_iload_n C.hx C.hb dX6_isNode_0 rfl (lv_at hl 1 rfl) ?_
  refine lv_iconst (v := 0) C.hx C.hb dX6_isNode_1 (by decide) ?_
  refine lv_aload_n C.hx C.hb dX6_isNode_2 rfl (lv_at hl 0 rfl) ?_
  refine mm_geti C hH 13 1 (by decide) rfl q1254 dX6_isNode_3 ?_
  refine lv_iconst (v := 1) C.hx C.hb dX6_isNode_6 (by decide) ?_
  refine lv_isub C.hx C.hb dX6_isNode_7 ?_
  refine gb_call (As := [.int p1, .int 0, .int ((s0.1 1) - 1)]) (rest := []) C.1 (t_X6_in l hk) (va_cwS 3 C.hts (lw_S q1329 q1330 q65 q1331) rfl rfl rfl (by decide +kernel) ⟨Nat.le_of_ble_eq_true rfl, Nat.le_of_ble_eq_true rfl⟩) rfl hl.1 rfl (lv_room (Nat.le_of_ble_eq_true rfl)) dX6_isNode_8 ⟨Nat.le_of_ble_eq_true rfl, Nat.le_of_ble_eq_true rfl⟩ (fun r1 hk => ?_)
  obtain ⟨h2, hk⟩ := hk
  exact mm_zret (ty := .boolean) C hr hlk h2 hH hS hk dX6_isNode_11
/-! ToneGraphModel.wire(II)I -/
def wp_X6_wire_2 (post : Int32 → mm_S → Prop) (K : Int32 → Int32 → Int32 → mm_S → Prop) : Nat → Int32 → Int32 → Int32 → mm_S → Prop
  | 0, _, _, _, _ => False
  | n2 + 1, x1, x2, x3, s0 => (vp_in x2 10 ∧ (((s0.2.1 8 x2.toNatClampNeg) ≤ x3 → K x1 x2 x3 s0) ∧ (¬ (s0.2.1 8 x2.toNatClampNeg) ≤ x3 → (vp_in ((4 * x2) + x3) 40 ∧ ((¬ (s0.2.1 6 ((4 * x2) + x3).toNatClampNeg) = x1 → (∀ v5, v5 = x3 + 1 → wp_X6_wire_2 post K n2 x1 x2 v5 s0)) ∧ ((s0.2.1 6 ((4 * x2) + x3).toNatClampNeg) = x1 → post x3 s0))))))
set_option maxHeartbeats 4000000 in
theorem tw_X6_wire_2 {p : Program} {l : Launch} {e : Env} {s : State} {m : MethodId} {args : Array Value} {below : List Frame} {meth : Method} {c : Code} {base : Nat} {D : va_G} {ca : Nat → ClassId} {Ls : List gb_L} {ad : gb_L → Nat} {w : gb_L → va_E} {post : Int32 → mm_S → Prop} {K : Int32 → Int32 → Int32 → mm_S → Prop} (C : gb_C p m c cX6_wire 4 s args RX6 base D ca) (hr : meth.sig.returnType = (some .int)) (hlk : meth.locks = false) (hK : ∀ (x1 : Int32) (x2 : Int32) (x3 : Int32) (σ' : mm_S) (H : Heap) (locs : List Loc) (ls : Array Slot), K x1 x2 x3 σ' → mm_ok base D ca Ls ad w σ' H → va_S (fun q => base ≤ q) s.heap H locs → lv_has ls 4 [(0, .ref (ad (20, 0))), (1, .int x1), (2, .int x2), (3, .int x3)] → W p l e ({ frames := 0, cells := 0, slots := 0, locals := 0 } : Room) s m args below meth c H locs 0 0 (MQ below (va_Qi post (fun σ' t => mm_ok base D ca Ls ad w σ' t.heap) (fun q => base ≤ q)) args s 0 0 (fun q => base ≤ q)) (F0 m 34 ls [])) :
    ∀ (n : Nat) (x1 : Int32) (x2 : Int32) (x3 : Int32) (s0 : mm_S) (H : Heap) (locs : List Loc) (ls : Array Slot), wp_X6_wire_2 post K n x1 x2 x3 s0 → mm_ok base D ca Ls ad w s0 H → va_S (fun q => base ≤ q) s.heap H locs → lv_has ls 4 [(0, .ref (ad (20, 0))), (1, .int x1), (2, .int x2), (3, .int x3)] → W p l e ({ frames := 0, cells := 0, slots := 0, locals := 0 } : Room) s m args below meth c H locs 0 0 (MQ below (va_Qi post (fun σ' t => mm_ok base D ca Ls ad w σ' t.heap) (fun q => base ≤ q)) args s 0 0 (fun q => base ≤ q)) (F0 m 2 ls []) := by
  intro n
  induction n with
  | zero =>
    intro x1 x2 x3 s0 H locs ls hk
    exact hk.elim
  | succ n ih =>
    intro x1 x2 x3 s0 H locs ls hk hH hS hl
    rw [wp_X6_wire_2] at hk
    refine lv_iload_n C.hx C.hb dX6_wire_2 rfl (lv_at hl 3 rfl) ?_
    refine lv_aload_n C.hx C.hb dX6_wire_3 rfl (lv_at hl 0 rfl) ?_
    refine mm_geta C hH 8 (by decide) q1249 dX6_wire_4 ?_
    refine lv_iload_n C.hx C.hb dX6_wire_7 rfl (lv_at hl 2 rfl) ?_
    obtain ⟨h1, hk⟩ := hk
    refine mm_ald C hH 8 (by decide) h1 dX6_wire_8 ?_
    refine lv_icmp_ge (tgt := 34) C.hx C.hb dX6_wire_9 (by decide) (fun c2 => ?_) (fun c2 => ?_)
    · have hk := hk.1 c2
      exact hK x1 x2 x3 s0 _ _ _ hk hH hS (lv_sub hl [0, 1, 2, 3] rfl)
    · have hk := hk.2 c2
      refine lv_aload_n C.hx C.hb dX6_wire_12 rfl (lv_at hl 0 rfl) ?_
      refine mm_geta C hH 6 (by decide) q1247 dX6_wire_13 ?_
      refine lv_iconst (v := 4) C.hx C.hb dX6_wire_16 (by decide) ?_
      refine lv_iload_n C.hx C.hb dX6_wire_17 rfl (lv_at hl 2 rfl) ?_
      refine lv_imul C.hx C.hb dX6_wire_18 ?_
      refine lv_iload_n C.hx C.hb dX6_wire_19 rfl (lv_at hl 3 rfl) ?_
      refine lv_iadd C.hx C.hb dX6_wire_20 ?_
      obtain ⟨h3, hk⟩ := hk
      refine mm_ald C hH 6 (by decide) h3 dX6_wire_21 ?_
      refine lv_iload_n C.hx C.hb dX6_wire_22 rfl (lv_at hl 1 rfl) ?_
      refine lv_icmp_ne (tgt := 28) C.hx C.hb dX6_wire_23 (by decide) (fun c4 => ?_) (fun c4 => ?_)
      · have hk := hk.1 c4
        obtain ⟨v5, ev5⟩ : ∃ y : Int32, y = x3 + 1 := ⟨_, rfl⟩
        have hk := hk v5 ev5
        refine lv_iinc (v := v5) (lv' := [(3, .int v5), (0, .ref (ad (20, 0))), (1, .int x1), (2, .int x2)]) C.hx C.hb dX6_wire_28 hl (k := 3) rfl (by rw [ev5]; rfl) (by decide) rfl (fun ls hl => ?_)
        refine lv_goto (tgt := 2) C.hx C.hb dX6_wire_31 (by decide) ?_
        exact ih x1 x2 v5 s0 _ _ _ hk hH hS (lv_sub hl [1, 2, 3, 0] rfl)
      · have hk := hk.2 c4
        refine lv_iload_n C.hx C.hb dX6_wire_26 rfl (lv_at hl 3 rfl) ?_
        exact mm_iret C hr hlk hH hS hk dX6_wire_27
def wp_X6_wire (post : Int32 → mm_S → Prop) (p1 : Int32) (p2 : Int32) (s0 : mm_S) : Prop := (∃ n2, wp_X6_wire_2 post (fun y6 y7 y8 s9 => post (-1) s9) n2 p1 p2 0 s0)
set_option maxHeartbeats 4000000 in
theorem t_X6_wire (l : Launch) {base : Nat} {D : va_G} {ca : Nat → ClassId} {Ls : List gb_L} {ad : gb_L → Nat} {w : gb_L → va_E} {post : Int32 → mm_S → Prop} {p1 : Int32} {p2 : Int32} {s0 : mm_S} (hk : wp_X6_wire post p1 p2 s0) : mm_Mi l yX6_wire (ws_ yX6_wire cX6_wire 4 (some .int)) ({ frames := 0, cells := 0, slots := 0, locals := 0 } : Room) base D ca Ls ad w [.int p1, .int p2] s0 post := by
  refine mm_start cX6_wire 4 (some .int) _ (by decide) rfl rfl (Nat.le_of_ble_eq_true rfl) ?_
  intro p e s m args below meth c ls C hr hlk hH hS hl
  have hl : lv_has ls 4 [(0, .ref (ad (20, 0))), (1, .int p1), (2, .int p2)] := hl
  unfold wp_X6_wire at hk
  refine lv_iconst (v := 0) C.hx C.hb dX6_wire_0 (by decide) ?_
  refine lv_istore_n (lv' := [(3, .int 0), (0, .ref (ad (20, 0))), (1, .int p1), (2, .int p2)]) C.hx C.hb dX6_wire_1 rfl hl (by decide) rfl (fun ls hl => ?_)
  obtain ⟨n2, hk⟩ := hk
  refine tw_X6_wire_2 C hr hlk (fun y6 y7 y8 s9 H locs ls hk hH hS hl => ?_) n2 p1 p2 0 s0 _ _ _ hk hH hS (lv_sub hl [1, 2, 3, 0] rfl)
  refine lv_iconst (v := (-1)) C.hx C.hb dX6_wire_34 (by decide) ?_
  exact mm_iret C hr hlk hH hS hk dX6_wire_35
/-! ToneGraphModel.leads(II)Z -/
def wp_X6_leads_2 (post : Int32 → mm_S → Prop) (K : Int32 → Int32 → Int32 → mm_S → Prop) : Nat → Int32 → Int32 → Int32 → mm_S → Prop
  | 0, _, _, _, _ => False
  | n2 + 1, x1, x2, x3, s0 => ((10 ≤ x3 → K x1 x2 x3 s0) ∧ (¬ 10 ≤ x3 → ((¬ x3 = x1 → (vp_in x3 10 ∧ (∀ s4 : mm_S, s4 = ms_a s0 11 x3.toNatClampNeg (vp_nar .boolean 0) → (∀ v5, v5 = x3 + 1 → wp_X6_leads_2 post K n2 x1 x2 v5 s4)))) ∧ (x3 = x1 → (vp_in x3 10 ∧ (((s0.2.1 2 x3.toNatClampNeg) = 2 → (vp_in x3 10 ∧ (∀ s9 : mm_S, s9 = ms_a s0 11 x3.toNatClampNeg (vp_nar .boolean 0) → (∀ v10, v10 = x3 + 1 → wp_X6_leads_2 post K n2 x1 x2 v10 s9)))) ∧ (¬ (s0.2.1 2 x3.toNatClampNeg) = 2 → (vp_in x3 10 ∧ (∀ s12 : mm_S, s12 = ms_a s0 11 x3.toNatClampNeg (vp_nar .boolean 1) → (∀ v13, v13 = x3 + 1 → wp_X6_leads_2 post K n2 x1 x2 v13 s12))))))))))
set_option maxHeartbeats 4000000 in
theorem tw_X6_leads_2 {p : Program} {l : Launch} {e : Env} {s : State} {m : MethodId} {args : Array Value} {below : List Frame} {meth : Method} {c : Code} {base : Nat} {D : va_G} {ca : Nat → ClassId} {Ls : List gb_L} {ad : gb_L → Nat} {w : gb_L → va_E} {post : Int32 → mm_S → Prop} {K : Int32 → Int32 → Int32 → mm_S → Prop} (C : gb_C p m c cX6_leads 6 s args RX6 base D ca) (hr : meth.sig.returnType = (some .boolean)) (hlk : meth.locks = false) (hK : ∀ (x1 : Int32) (x2 : Int32) (x3 : Int32) (σ' : mm_S) (H : Heap) (locs : List Loc) (ls : Array Slot), K x1 x2 x3 σ' → mm_ok base D ca Ls ad w σ' H → va_S (fun q => base ≤ q) s.heap H locs → lv_has ls 6 [(0, .ref (ad (20, 0))), (1, .int x1), (2, .int x2), (3, .int x3)] → W p l e ({ frames := 1, cells := 0, slots := 0, locals := 23 } : Room) s m args below meth c H locs 0 0 (MQ below (va_Qi post (fun σ' t => mm_ok base D ca Ls ad w σ' t.heap) (fun q => base ≤ q)) args s 0 0 (fun q => base ≤ q)) (F0 m 40 ls [])) :
    ∀ (n : Nat) (x1 : Int32) (x2 : Int32) (x3 : Int32) (s0 : mm_S) (H : Heap) (locs : List Loc) (ls : Array Slot), wp_X6_leads_2 post K n x1 x2 x3 s0 → mm_ok base D ca Ls ad w s0 H → va_S (fun q => base ≤ q) s.heap H locs → lv_has ls 6 [(0, .ref (ad (20, 0))), (1, .int x1), (2, .int x2), (3, .int x3)] → W p l e ({ frames := 1, cells := 0, slots := 0, locals := 23 } : Room) s m args below meth c H locs 0 0 (MQ below (va_Qi post (fun σ' t => mm_ok base D ca Ls ad w σ' t.heap) (fun q => base ≤ q)) args s 0 0 (fun q => base ≤ q)) (F0 m 2 ls []) := by
  intro n
  induction n with
  | zero =>
    intro x1 x2 x3 s0 H locs ls hk
    exact hk.elim
  | succ n ih =>
    intro x1 x2 x3 s0 H locs ls hk hH hS hl
    rw [wp_X6_leads_2] at hk
    refine lv_iload_n C.hx C.hb dX6_leads_2 rfl (lv_at hl 3 rfl) ?_
    refine lv_bipush (v := 10) C.hx C.hb dX6_leads_3 (by decide) ?_
    refine lv_icmp_ge (tgt := 40) C.hx C.hb dX6_leads_5 (by decide) (fun c1 => ?_) (fun c1 => ?_)
    · have hk := hk.1 c1
      exact hK x1 x2 x3 s0 _ _ _ hk hH hS (lv_sub hl [0, 1, 2, 3] rfl)
    · have hk := hk.2 c1
      refine lv_aload_n C.hx C.hb dX6_leads_8 rfl (lv_at hl 0 rfl) ?_
      refine mm_geta C hH 11 (by decide) q1252 dX6_leads_9 ?_
      refine lv_iload_n C.hx C.hb dX6_leads_12 rfl (lv_at hl 3 rfl) ?_
      refine lv_iload_n C.hx C.hb dX6_leads_13 rfl (lv_at hl 3 rfl) ?_
      refine lv_iload_n C.hx C.hb dX6_leads_14 rfl (lv_at hl 1 rfl) ?_
      refine lv_icmp_ne (tgt := 32) C.hx C.hb dX6_leads_15 (by decide) (fun c2 => ?_) (fun c2 => ?_)
      · have hk := hk.1 c2
        refine lv_iconst (v := 0) C.hx C.hb dX6_leads_32 (by decide) ?_
        obtain ⟨h3, hk⟩ := hk
        refine mm_astz C hH hS h3 dX6_leads_33 (fun s4 es4 H locs hH hS => ?_)
        have hk := hk s4 es4
        obtain ⟨v5, ev5⟩ : ∃ y : Int32, y = x3 + 1 := ⟨_, rfl⟩
        have hk := hk v5 ev5
        refine lv_iinc (v := v5) (lv' := [(3, .int v5), (0, .ref (ad (20, 0))), (1, .int x1), (2, .int x2)]) C.hx C.hb dX6_leads_34 hl (k := 3) rfl (by rw [ev5]; rfl) (by decide) rfl (fun ls hl => ?_)
        refine lv_goto (tgt := 2) C.hx C.hb dX6_leads_37 (by decide) ?_
        exact ih x1 x2 v5 s4 _ _ _ hk hH hS (lv_sub hl [1, 2, 3, 0] rfl)
      · have hk := hk.2 c2
        refine lv_aload_n C.hx C.hb dX6_leads_18 rfl (lv_at hl 0 rfl) ?_
        refine mm_geta C hH 2 (by decide) q1243 dX6_leads_19 ?_
        refine lv_iload_n C.hx C.hb dX6_leads_22 rfl (lv_at hl 3 rfl) ?_
        obtain ⟨h6, hk⟩ := hk
        refine mm_ald C hH 2 (by decide) h6 dX6_leads_23 ?_
        refine lv_iconst (v := 2) C.hx C.hb dX6_leads_24 (by decide) ?_
        refine lv_icmp_eq (tgt := 32) C.hx C.hb dX6_leads_25 (by decide) (fun c7 => ?_) (fun c7 => ?_)
        · have hk := hk.1 c7
          refine lv_iconst (v := 0) C.hx C.hb dX6_leads_32 (by decide) ?_
          obtain ⟨h8, hk⟩ := hk
          refine mm_astz C hH hS h8 dX6_leads_33 (fun s9 es9 H locs hH hS => ?_)
          have hk := hk s9 es9
          obtain ⟨v10, ev10⟩ : ∃ y : Int32, y = x3 + 1 := ⟨_, rfl⟩
          have hk := hk v10 ev10
          refine lv_iinc (v := v10) (lv' := [(3, .int v10), (0, .ref (ad (20, 0))), (1, .int x1), (2, .int x2)]) C.hx C.hb dX6_leads_34 hl (k := 3) rfl (by rw [ev10]; rfl) (by decide) rfl (fun ls hl => ?_)
          refine lv_goto (tgt := 2) C.hx C.hb dX6_leads_37 (by decide) ?_
          exact ih x1 x2 v10 s9 _ _ _ hk hH hS (lv_sub hl [1, 2, 3, 0] rfl)
        · have hk := hk.2 c7
          refine lv_iconst (v := 1) C.hx C.hb dX6_leads_28 (by decide) ?_
          refine lv_goto (tgt := 33) C.hx C.hb dX6_leads_29 (by decide) ?_
          obtain ⟨h11, hk⟩ := hk
          refine mm_astz C hH hS h11 dX6_leads_33 (fun s12 es12 H locs hH hS => ?_)
          have hk := hk s12 es12
          obtain ⟨v13, ev13⟩ : ∃ y : Int32, y = x3 + 1 := ⟨_, rfl⟩
          have hk := hk v13 ev13
          refine lv_iinc (v := v13) (lv' := [(3, .int v13), (0, .ref (ad (20, 0))), (1, .int x1), (2, .int x2)]) C.hx C.hb dX6_leads_34 hl (k := 3) rfl (by rw [ev13]; rfl) (by decide) rfl (fun ls hl => ?_)
          refine lv_goto (tgt := 2) C.hx C.hb dX6_leads_37 (by decide) ?_
          exact ih x1 x2 v13 s12 _ _ _ hk hH hS (lv_sub hl [1, 2, 3, 0] rfl)
def wp_X6_leads_65 (post : Int32 → mm_S → Prop) (K : Int32 → Int32 → Int32 → Int32 → Int32 → mm_S → Prop) : Nat → Int32 → Int32 → Int32 → Int32 → Int32 → mm_S → Prop
  | 0, _, _, _, _, _, _ => False
  | n65 + 1, x1, x2, x3, x4, x5, s0 => (((s0.1 1) ≤ x5 → K x1 x2 x3 x4 x5 s0) ∧ (¬ (s0.1 1) ≤ x5 → (vp_in x4 10 ∧ (((s0.2.1 11 x4.toNatClampNeg) = 0 → (∀ v23, v23 = x5 + 1 → wp_X6_leads_65 post K n65 x1 x2 x3 x4 v23 s0)) ∧ (¬ (s0.2.1 11 x4.toNatClampNeg) = 0 → (vp_in x5 10 ∧ (((s0.2.1 2 x5.toNatClampNeg) = 2 → (∀ v26, v26 = x5 + 1 → wp_X6_leads_65 post K n65 x1 x2 x3 x4 v26 s0)) ∧ (¬ (s0.2.1 2 x5.toNatClampNeg) = 2 → wp_X6_wire (fun r27 s28 => ((r27 < 0 → (∀ v30, v30 = x5 + 1 → wp_X6_leads_65 post K n65 x1 x2 x3 x4 v30 s28)) ∧ (¬ r27 < 0 → (vp_in x5 10 ∧ (∀ s32 : mm_S, s32 = ms_a s28 11 x5.toNatClampNeg (vp_nar .boolean 1) → (∀ v33, v33 = x5 + 1 → wp_X6_leads_65 post K n65 x1 x2 x3 x4 v33 s32)))))) x4 x5 s0))))))))
set_option maxHeartbeats 4000000 in
theorem tw_X6_leads_65 {p : Program} {l : Launch} {e : Env} {s : State} {m : MethodId} {args : Array Value} {below : List Frame} {meth : Method} {c : Code} {base : Nat} {D : va_G} {ca : Nat → ClassId} {Ls : List gb_L} {ad : gb_L → Nat} {w : gb_L → va_E} {post : Int32 → mm_S → Prop} {K : Int32 → Int32 → Int32 → Int32 → Int32 → mm_S → Prop} (C : gb_C p m c cX6_leads 6 s args RX6 base D ca) (hr : meth.sig.returnType = (some .boolean)) (hlk : meth.locks = false) (hK : ∀ (x1 : Int32) (x2 : Int32) (x3 : Int32) (x4 : Int32) (x5 : Int32) (σ' : mm_S) (H : Heap) (locs : List Loc) (ls : Array Slot), K x1 x2 x3 x4 x5 σ' → mm_ok base D ca Ls ad w σ' H → va_S (fun q => base ≤ q) s.heap H locs → lv_has ls 6 [(0, .ref (ad (20, 0))), (1, .int x1), (2, .int x2), (3, .int x3), (4, .int x4), (5, .int x5)] → W p l e ({ frames := 1, cells := 0, slots := 0, locals := 23 } : Room) s m args below meth c H locs 0 0 (MQ below (va_Qi post (fun σ' t => mm_ok base D ca Ls ad w σ' t.heap) (fun q => base ≤ q)) args s 0 0 (fun q => base ≤ q)) (F0 m 120 ls [])) :
    ∀ (n : Nat) (x1 : Int32) (x2 : Int32) (x3 : Int32) (x4 : Int32) (x5 : Int32) (s0 : mm_S) (H : Heap) (locs : List Loc) (ls : Array Slot), wp_X6_leads_65 post K n x1 x2 x3 x4 x5 s0 → mm_ok base D ca Ls ad w s0 H → va_S (fun q => base ≤ q) s.heap H locs → lv_has ls 6 [(0, .ref (ad (20, 0))), (1, .int x1), (2, .int x2), (3, .int x3), (4, .int x4), (5, .int x5)] → W p l e ({ frames := 1, cells := 0, slots := 0, locals := 23 } : Room) s m args below meth c H locs 0 0 (MQ below (va_Qi post (fun σ' t => mm_ok base D ca Ls ad w σ' t.heap) (fun q => base ≤ q)) args s 0 0 (fun q => base ≤ q)) (F0 m 65 ls []) := by
  intro n
  induction n with
  | zero =>
    intro x1 x2 x3 x4 x5 s0 H locs ls hk
    exact hk.elim
  | succ n ih =>
    intro x1 x2 x3 x4 x5 s0 H locs ls hk hH hS hl
    rw [wp_X6_leads_65] at hk
    refine lv_iload C.hx C.hb dX6_leads_65 (lv_at hl 5 rfl) ?_
    refine lv_aload_n C.hx C.hb dX6_leads_67 rfl (lv_at hl 0 rfl) ?_
    refine mm_geti C hH 13 1 (by decide) rfl q1254 dX6_leads_68 ?_
    refine lv_icmp_ge (tgt := 120) C.hx C.hb dX6_leads_71 (by decide) (fun c20 => ?_) (fun c20 => ?_)
    · have hk := hk.1 c20
      exact hK x1 x2 x3 x4 x5 s0 _ _ _ hk hH hS (lv_sub hl [0, 1, 2, 3, 4, 5] rfl)
    · have hk := hk.2 c20
      refine lv_aload_n C.hx C.hb dX6_leads_74 rfl (lv_at hl 0 rfl) ?_
      refine mm_geta C hH 11 (by decide) q1252 dX6_leads_75 ?_
      refine lv_iload C.hx C.hb dX6_leads_78 (lv_at hl 4 rfl) ?_
      obtain ⟨h21, hk⟩ := hk
      refine mm_aldz C hH h21 dX6_leads_80 ?_
      refine lv_if_eq (tgt := 114) C.hx C.hb dX6_leads_81 (by decide) (fun c22 => ?_) (fun c22 => ?_)
      · have hk := hk.1 c22
        obtain ⟨v23, ev23⟩ : ∃ y : Int32, y = x5 + 1 := ⟨_, rfl⟩
        have hk := hk v23 ev23
        refine lv_iinc (v := v23) (lv' := [(5, .int v23), (0, .ref (ad (20, 0))), (1, .int x1), (2, .int x2), (3, .int x3), (4, .int x4)]) C.hx C.hb dX6_leads_114 hl (k := 5) rfl (by rw [ev23]; rfl) (by decide) rfl (fun ls hl => ?_)
        refine lv_goto (tgt := 65) C.hx C.hb dX6_leads_117 (by decide) ?_
        exact ih x1 x2 x3 x4 v23 s0 _ _ _ hk hH hS (lv_sub hl [1, 2, 3, 4, 5, 0] rfl)
      · have hk := hk.2 c22
        refine lv_aload_n C.hx C.hb dX6_leads_84 rfl (lv_at hl 0 rfl) ?_
        refine mm_geta C hH 2 (by decide) q1243 dX6_leads_85 ?_
        refine lv_iload C.hx C.hb dX6_leads_88 (lv_at hl 5 rfl) ?_
        obtain ⟨h24, hk⟩ := hk
        refine mm_ald C hH 2 (by decide) h24 dX6_leads_90 ?_
        refine lv_iconst (v := 2) C.hx C.hb dX6_leads_91 (by decide) ?_
        refine lv_icmp_eq (tgt := 114) C.hx C.hb dX6_leads_92 (by decide) (fun c25 => ?_) (fun c25 => ?_)
        · have hk := hk.1 c25
          obtain ⟨v26, ev26⟩ : ∃ y : Int32, y = x5 + 1 := ⟨_, rfl⟩
          have hk := hk v26 ev26
          refine lv_iinc (v := v26) (lv' := [(5, .int v26), (0, .ref (ad (20, 0))), (1, .int x1), (2, .int x2), (3, .int x3), (4, .int x4)]) C.hx C.hb dX6_leads_114 hl (k := 5) rfl (by rw [ev26]; rfl) (by decide) rfl (fun ls hl => ?_)
          refine lv_goto (tgt := 65) C.hx C.hb dX6_leads_117 (by decide) ?_
          exact ih x1 x2 x3 x4 v26 s0 _ _ _ hk hH hS (lv_sub hl [1, 2, 3, 4, 5, 0] rfl)
        · have hk := hk.2 c25
          refine lv_aload_n C.hx C.hb dX6_leads_95 rfl (lv_at hl 0 rfl) ?_
          refine lv_iload C.hx C.hb dX6_leads_96 (lv_at hl 4 rfl) ?_
          refine lv_iload C.hx C.hb dX6_leads_98 (lv_at hl 5 rfl) ?_
          refine mm_calli (As := [.int x4, .int x5]) (rest := []) C (t_X6_wire l hk) (cwV 2 C.hts (lw_V q1360 q1362 qs29 q65 q1363) rfl rfl rfl (by decide +kernel) ⟨Nat.le_of_ble_eq_true rfl, Nat.le_of_ble_eq_true rfl⟩) hH hS rfl hl.1 rfl (lv_room (Nat.le_of_ble_eq_true rfl)) dX6_leads_100 ⟨Nat.le_of_ble_eq_true rfl, Nat.le_of_ble_eq_true rfl⟩ (fun r27 s28 H locs hk hH hS => ?_)
          refine lv_if_lt (tgt := 114) C.hx C.hb dX6_leads_103 (by decide) (fun c29 => ?_) (fun c29 => ?_)
          · have hk := hk.1 c29
            obtain ⟨v30, ev30⟩ : ∃ y : Int32, y = x5 + 1 := ⟨_, rfl⟩
            have hk := hk v30 ev30
            refine lv_iinc (v := v30) (lv' := [(5, .int v30), (0, .ref (ad (20, 0))), (1, .int x1), (2, .int x2), (3, .int x3), (4, .int x4)]) C.hx C.hb dX6_leads_114 hl (k := 5) rfl (by rw [ev30]; rfl) (by decide) rfl (fun ls hl => ?_)
            refine lv_goto (tgt := 65) C.hx C.hb dX6_leads_117 (by decide) ?_
            exact ih x1 x2 x3 x4 v30 s28 _ _ _ hk hH hS (lv_sub hl [1, 2, 3, 4, 5, 0] rfl)
          · have hk := hk.2 c29
            refine lv_aload_n C.hx C.hb dX6_leads_106 rfl (lv_at hl 0 rfl) ?_
            refine mm_geta C hH 11 (by decide) q1252 dX6_leads_107 ?_
            refine lv_iload C.hx C.hb dX6_leads_110 (lv_at hl 5 rfl) ?_
            refine lv_iconst (v := 1) C.hx C.hb dX6_leads_112 (by decide) ?_
            obtain ⟨h31, hk⟩ := hk
            refine mm_astz C hH hS h31 dX6_leads_113 (fun s32 es32 H locs hH hS => ?_)
            have hk := hk s32 es32
            obtain ⟨v33, ev33⟩ : ∃ y : Int32, y = x5 + 1 := ⟨_, rfl⟩
            have hk := hk v33 ev33
            refine lv_iinc (v := v33) (lv' := [(5, .int v33), (0, .ref (ad (20, 0))), (1, .int x1), (2, .int x2), (3, .int x3), (4, .int x4)]) C.hx C.hb dX6_leads_114 hl (k := 5) rfl (by rw [ev33]; rfl) (by decide) rfl (fun ls hl => ?_)
            refine lv_goto (tgt := 65) C.hx C.hb dX6_leads_117 (by decide) ?_
            exact ih x1 x2 x3 x4 v33 s32 _ _ _ hk hH hS (lv_sub hl [1, 2, 3, 4, 5, 0] rfl)
def wp_X6_leads_53 (post : Int32 → mm_S → Prop) (K : Int32 → Int32 → Int32 → Int32 → mm_S → Prop) : Nat → Int32 → Int32 → Int32 → Int32 → mm_S → Prop
  | 0, _, _, _, _, _ => False
  | n53 + 1, x1, x2, x3, x4, s0 => (((s0.1 1) ≤ x4 → K x1 x2 x3 x4 s0) ∧ (¬ (s0.1 1) ≤ x4 → (∃ n65, wp_X6_leads_65 post (fun y34 y35 y36 y37 y38 s39 => (∀ v40, v40 = y37 + 1 → wp_X6_leads_53 post K n53 y34 y35 y36 v40 s39)) n65 x1 x2 x3 x4 0 s0)))
set_option maxHeartbeats 4000000 in
theorem tw_X6_leads_53 {p : Program} {l : Launch} {e : Env} {s : State} {m : MethodId} {args : Array Value} {below : List Frame} {meth : Method} {c : Code} {base : Nat} {D : va_G} {ca : Nat → ClassId} {Ls : List gb_L} {ad : gb_L → Nat} {w : gb_L → va_E} {post : Int32 → mm_S → Prop} {K : Int32 → Int32 → Int32 → Int32 → mm_S → Prop} (C : gb_C p m c cX6_leads 6 s args RX6 base D ca) (hr : meth.sig.returnType = (some .boolean)) (hlk : meth.locks = false) (hK : ∀ (x1 : Int32) (x2 : Int32) (x3 : Int32) (x4 : Int32) (σ' : mm_S) (H : Heap) (locs : List Loc) (ls : Array Slot), K x1 x2 x3 x4 σ' → mm_ok base D ca Ls ad w σ' H → va_S (fun q => base ≤ q) s.heap H locs → lv_has ls 6 [(0, .ref (ad (20, 0))), (1, .int x1), (2, .int x2), (3, .int x3), (4, .int x4)] → W p l e ({ frames := 1, cells := 0, slots := 0, locals := 23 } : Room) s m args below meth c H locs 0 0 (MQ below (va_Qi post (fun σ' t => mm_ok base D ca Ls ad w σ' t.heap) (fun q => base ≤ q)) args s 0 0 (fun q => base ≤ q)) (F0 m 126 ls [])) :
    ∀ (n : Nat) (x1 : Int32) (x2 : Int32) (x3 : Int32) (x4 : Int32) (s0 : mm_S) (H : Heap) (locs : List Loc) (ls : Array Slot), wp_X6_leads_53 post K n x1 x2 x3 x4 s0 → mm_ok base D ca Ls ad w s0 H → va_S (fun q => base ≤ q) s.heap H locs → lv_has ls 6 [(0, .ref (ad (20, 0))), (1, .int x1), (2, .int x2), (3, .int x3), (4, .int x4)] → W p l e ({ frames := 1, cells := 0, slots := 0, locals := 23 } : Room) s m args below meth c H locs 0 0 (MQ below (va_Qi post (fun σ' t => mm_ok base D ca Ls ad w σ' t.heap) (fun q => base ≤ q)) args s 0 0 (fun q => base ≤ q)) (F0 m 53 ls []) := by
  intro n
  induction n with
  | zero =>
    intro x1 x2 x3 x4 s0 H locs ls hk
    exact hk.elim
  | succ n ih =>
    intro x1 x2 x3 x4 s0 H locs ls hk hH hS hl
    rw [wp_X6_leads_53] at hk
    refine lv_iload C.hx C.hb dX6_leads_53 (lv_at hl 4 rfl) ?_
    refine lv_aload_n C.hx C.hb dX6_leads_55 rfl (lv_at hl 0 rfl) ?_
    refine mm_geti C hH 13 1 (by decide) rfl q1254 dX6_leads_56 ?_
    refine lv_icmp_ge (tgt := 126) C.hx C.hb dX6_leads_59 (by decide) (fun c19 => ?_) (fun c19 => ?_)
    · have hk := hk.1 c19
      exact hK x1 x2 x3 x4 s0 _ _ _ hk hH hS (lv_sub hl [0, 1, 2, 3, 4] rfl)
    · have hk := hk.2 c19
      refine lv_iconst (v := 0) C.hx C.hb dX6_leads_62 (by decide) ?_
      refine lv_istore (lv' := [(5, .int 0), (0, .ref (ad (20, 0))), (1, .int x1), (2, .int x2), (3, .int x3), (4, .int x4)]) C.hx C.hb dX6_leads_63 hl (by decide) rfl (fun ls hl => ?_)
      obtain ⟨n65, hk⟩ := hk
      refine tw_X6_leads_65 C hr hlk (fun y34 y35 y36 y37 y38 s39 H locs ls hk hH hS hl => ?_) n65 x1 x2 x3 x4 0 s0 _ _ _ hk hH hS (lv_sub hl [1, 2, 3, 4, 5, 0] rfl)
      obtain ⟨v40, ev40⟩ : ∃ y : Int32, y = y37 + 1 := ⟨_, rfl⟩
      have hk := hk v40 ev40
      refine lv_iinc (v := v40) (lv' := [(4, .int v40), (0, .ref (ad (20, 0))), (1, .int y34), (2, .int y35), (3, .int y36), (5, .int y38)]) C.hx C.hb dX6_leads_120 hl (k := 4) rfl (by rw [ev40]; rfl) (by decide) rfl (fun ls hl => ?_)
      refine lv_goto (tgt := 53) C.hx C.hb dX6_leads_123 (by decide) ?_
      exact ih y34 y35 y36 v40 s39 _ _ _ hk hH hS (lv_sub hl [1, 2, 3, 4, 0] rfl)
def wp_X6_leads_42 (post : Int32 → mm_S → Prop) (K : Int32 → Int32 → Int32 → mm_S → Prop) : Nat → Int32 → Int32 → Int32 → mm_S → Prop
  | 0, _, _, _, _ => False
  | n42 + 1, x1, x2, x3, s0 => (((s0.1 1) ≤ x3 → K x1 x2 x3 s0) ∧ (¬ (s0.1 1) ≤ x3 → (∃ n53, wp_X6_leads_53 post (fun y41 y42 y43 y44 s45 => (∀ v46, v46 = y43 + 1 → wp_X6_leads_42 post K n42 y41 y42 v46 s45)) n53 x1 x2 x3 0 s0)))
set_option maxHeartbeats 4000000 in
theorem tw_X6_leads_42 {p : Program} {l : Launch} {e : Env} {s : State} {m : MethodId} {args : Array Value} {below : List Frame} {meth : Method} {c : Code} {base : Nat} {D : va_G} {ca : Nat → ClassId} {Ls : List gb_L} {ad : gb_L → Nat} {w : gb_L → va_E} {post : Int32 → mm_S → Prop} {K : Int32 → Int32 → Int32 → mm_S → Prop} (C : gb_C p m c cX6_leads 6 s args RX6 base D ca) (hr : meth.sig.returnType = (some .boolean)) (hlk : meth.locks = false) (hK : ∀ (x1 : Int32) (x2 : Int32) (x3 : Int32) (σ' : mm_S) (H : Heap) (locs : List Loc) (ls : Array Slot), K x1 x2 x3 σ' → mm_ok base D ca Ls ad w σ' H → va_S (fun q => base ≤ q) s.heap H locs → lv_has ls 6 [(0, .ref (ad (20, 0))), (1, .int x1), (2, .int x2), (3, .int x3)] → W p l e ({ frames := 1, cells := 0, slots := 0, locals := 23 } : Room) s m args below meth c H locs 0 0 (MQ below (va_Qi post (fun σ' t => mm_ok base D ca Ls ad w σ' t.heap) (fun q => base ≤ q)) args s 0 0 (fun q => base ≤ q)) (F0 m 132 ls [])) :
    ∀ (n : Nat) (x1 : Int32) (x2 : Int32) (x3 : Int32) (s0 : mm_S) (H : Heap) (locs : List Loc) (ls : Array Slot), wp_X6_leads_42 post K n x1 x2 x3 s0 → mm_ok base D ca Ls ad w s0 H → va_S (fun q => base ≤ q) s.heap H locs → lv_has ls 6 [(0, .ref (ad (20, 0))), (1, .int x1), (2, .int x2), (3, .int x3)] → W p l e ({ frames := 1, cells := 0, slots := 0, locals := 23 } : Room) s m args below meth c H locs 0 0 (MQ below (va_Qi post (fun σ' t => mm_ok base D ca Ls ad w σ' t.heap) (fun q => base ≤ q)) args s 0 0 (fun q => base ≤ q)) (F0 m 42 ls []) := by
  intro n
  induction n with
  | zero =>
    intro x1 x2 x3 s0 H locs ls hk
    exact hk.elim
  | succ n ih =>
    intro x1 x2 x3 s0 H locs ls hk hH hS hl
    rw [wp_X6_leads_42] at hk
    refine lv_iload_n C.hx C.hb dX6_leads_42 rfl (lv_at hl 3 rfl) ?_
    refine lv_aload_n C.hx C.hb dX6_leads_43 rfl (lv_at hl 0 rfl) ?_
    refine mm_geti C hH 13 1 (by decide) rfl q1254 dX6_leads_44 ?_
    refine lv_icmp_ge (tgt := 132) C.hx C.hb dX6_leads_47 (by decide) (fun c18 => ?_) (fun c18 => ?_)
    · have hk := hk.1 c18
      exact hK x1 x2 x3 s0 _ _ _ hk hH hS (lv_sub hl [0, 1, 2, 3] rfl)
    · have hk := hk.2 c18
      refine lv_iconst (v := 0) C.hx C.hb dX6_leads_50 (by decide) ?_
      refine lv_istore (lv' := [(4, .int 0), (0, .ref (ad (20, 0))), (1, .int x1), (2, .int x2), (3, .int x3)]) C.hx C.hb dX6_leads_51 hl (by decide) rfl (fun ls hl => ?_)
      obtain ⟨n53, hk⟩ := hk
      refine tw_X6_leads_53 C hr hlk (fun y41 y42 y43 y44 s45 H locs ls hk hH hS hl => ?_) n53 x1 x2 x3 0 s0 _ _ _ hk hH hS (lv_sub hl [1, 2, 3, 4, 0] rfl)
      obtain ⟨v46, ev46⟩ : ∃ y : Int32, y = y43 + 1 := ⟨_, rfl⟩
      have hk := hk v46 ev46
      refine lv_iinc (v := v46) (lv' := [(3, .int v46), (0, .ref (ad (20, 0))), (1, .int y41), (2, .int y42), (4, .int y44)]) C.hx C.hb dX6_leads_126 hl (k := 3) rfl (by rw [ev46]; rfl) (by decide) rfl (fun ls hl => ?_)
      refine lv_goto (tgt := 42) C.hx C.hb dX6_leads_129 (by decide) ?_
      exact ih y41 y42 v46 s45 _ _ _ hk hH hS (lv_sub hl [1, 2, 3, 0] rfl)
def wp_X6_leads (post : Int32 → mm_S → Prop) (p1 : Int32) (p2 : Int32) (s0 : mm_S) : Prop := (∃ n2, wp_X6_leads_2 post (fun y14 y15 y16 s17 => (∃ n42, wp_X6_leads_42 post (fun y47 y48 y49 s50 => (vp_in y48 10 ∧ (narrow .boolean (.int (s50.2.1 11 y48.toNatClampNeg)) = .int (s50.2.1 11 y48.toNatClampNeg) ∧ post (s50.2.1 11 y48.toNatClampNeg) s50))) n42 y14 y15 0 s17)) n2 p1 p2 0 s0)
set_option maxHeartbeats 4000000 in
theorem t_X6_leads (l : Launch) {base : Nat} {D : va_G} {ca : Nat → ClassId} {Ls : List gb_L} {ad : gb_L → Nat} {w : gb_L → va_E} {post : Int32 → mm_S → Prop} {p1 : Int32} {p2 : Int32} {s0 : mm_S} (hk : wp_X6_leads post p1 p2 s0) : mm_Mi l yX6_leads (ws_ yX6_leads cX6_leads 6 (some .boolean)) ({ frames := 1, cells := 0, slots := 0, locals := 23 } : Room) base D ca Ls ad w [.int p1, .int p2] s0 post := by
  refine mm_start cX6_leads 6 (some .boolean) _ (by decide) rfl rfl (Nat.le_of_ble_eq_true rfl) ?_
  intro p e s m args below meth c ls C hr hlk hH hS hl
  have hl : lv_has ls 6 [(0, .ref (ad (20, 0))), (1, .int p1), (2, .int p2)] := hl
  unfold wp_X6_leads at hk
  refine lv_iconst (v := 0) C.hx C.hb dX6_leads_0 (by decide) ?_
  refine lv_istore_n (lv' := [(3, .int 0), (0, .ref (ad (20, 0))), (1, .int p1), (2, .int p2)]) C.hx C.hb dX6_leads_1 rfl hl (by decide) rfl (fun ls hl => ?_)
  obtain ⟨n2, hk⟩ := hk
  refine tw_X6_leads_2 C hr hlk (fun y14 y15 y16 s17 H locs ls hk hH hS hl => ?_) n2 p1 p2 0 s0 _ _ _ hk hH hS (lv_sub hl [1, 2, 3, 0] rfl)
  refine lv_iconst (v := 0) C.hx C.hb dX6_leads_40 (by decide) ?_
  refine lv_istore_n (lv' := [(3, .int 0), (0, .ref (ad (20, 0))), (1, .int y14), (2, .int y15)]) C.hx C.hb dX6_leads_41 rfl hl (by decide) rfl (fun ls hl => ?_)
  obtain ⟨n42, hk⟩ := hk
  refine tw_X6_leads_42 C hr hlk (fun y47 y48 y49 s50 H locs ls hk hH hS hl => ?_) n42 y14 y15 0 s17 _ _ _ hk hH hS (lv_sub hl [1, 2, 3, 0] rfl)
  refine lv_aload_n C.hx C.hb dX6_leads_132 rfl (lv_at hl 0 rfl) ?_
  refine mm_geta C hH 11 (by decide) q1252 dX6_leads_133 ?_
  refine lv_iload_n C.hx C.hb dX6_leads_136 rfl (lv_at hl 2 rfl) ?_
  obtain ⟨h51, hk⟩ := hk
  refine mm_aldz C hH h51 dX6_leads_137 ?_
  obtain ⟨h52, hk⟩ := hk
  exact mm_zret (ty := .boolean) C hr hlk h52 hH hS hk dX6_leads_138
/-! ToneGraphModel.connect(III)I -/
def wp_X6_connect (post : Int32 → mm_S → Prop) (p1 : Int32) (p2 : Int32) (p3 : Int32) (s0 : mm_S) : Prop := wp_X6_isNode (fun r1 s2 => ((r1 = 0 → (∀ s4 : mm_S, s4 = ms_f s2 0 1 → (((s4.1 0) ≤ 0 → (vp_in p2 10 ∧ (vp_in ((4 * p2) + (s4.2.1 8 p2.toNatClampNeg)) 40 ∧ (∀ s8 : mm_S, s8 = ms_a s4 6 ((4 * p2) + (s4.2.1 8 p2.toNatClampNeg)).toNatClampNeg p1 → (vp_in p2 10 ∧ (vp_in ((4 * p2) + (s8.2.1 8 p2.toNatClampNeg)) 40 ∧ (∀ s11 : mm_S, s11 = ms_a s8 7 ((4 * p2) + (s8.2.1 8 p2.toNatClampNeg)).toNatClampNeg p3 → (vp_in p2 10 ∧ (vp_in p2 10 ∧ (∀ s14 : mm_S, s14 = ms_a s11 8 p2.toNatClampNeg ((s11.2.1 8 p2.toNatClampNeg) + 1) → wp_X6_lays (fun s16 => (vp_in p2 10 ∧ post (s16.2.1 8 p2.toNatClampNeg) s16))  s14)))))))))) ∧ (¬ (s4.1 0) ≤ 0 → post 0 s4)))) ∧ (¬ r1 = 0 → wp_X6_isNode (fun r18 s19 => ((¬ r18 = 0 → ((p3 = 0 → (∀ s22 : mm_S, s22 = ms_f s19 0 2 → (((s22.1 0) ≤ 0 → (vp_in p2 10 ∧ (vp_in ((4 * p2) + (s22.2.1 8 p2.toNatClampNeg)) 40 ∧ (∀ s26 : mm_S, s26 = ms_a s22 6 ((4 * p2) + (s22.2.1 8 p2.toNatClampNeg)).toNatClampNeg p1 → (vp_in p2 10 ∧ (vp_in ((4 * p2) + (s26.2.1 8 p2.toNatClampNeg)) 40 ∧ (∀ s29 : mm_S, s29 = ms_a s26 7 ((4 * p2) + (s26.2.1 8 p2.toNatClampNeg)).toNatClampNeg p3 → (vp_in p2 10 ∧ (vp_in p2 10 ∧ (∀ s32 : mm_S, s32 = ms_a s29 8 p2.toNatClampNeg ((s29.2.1 8 p2.toNatClampNeg) + 1) → wp_X6_lays (fun s34 => (vp_in p2 10 ∧ post (s34.2.1 8 p2.toNatClampNeg) s34))  s32)))))))))) ∧ (¬ (s22.1 0) ≤ 0 → post 0 s22)))) ∧ (¬ p3 = 0 → wp_X6_in (fun r36 => ((¬ r36 = 0 → wp_X6_wire (fun r38 s39 => ((0 ≤ r38 → (∀ s41 : mm_S, s41 = ms_f s39 0 3 → (((s41.1 0) ≤ 0 → (vp_in p2 10 ∧ (vp_in ((4 * p2) + (s41.2.1 8 p2.toNatClampNeg)) 40 ∧ (∀ s45 : mm_S, s45 = ms_a s41 6 ((4 * p2) + (s41.2.1 8 p2.toNatClampNeg)).toNatClampNeg p1 → (vp_in p2 10 ∧ (vp_in ((4 * p2) + (s45.2.1 8 p2.toNatClampNeg)) 40 ∧ (∀ s48 : mm_S, s48 = ms_a s45 7 ((4 * p2) + (s45.2.1 8 p2.toNatClampNeg)).toNatClampNeg p3 → (vp_in p2 10 ∧ (vp_in p2 10 ∧ (∀ s51 : mm_S, s51 = ms_a s48 8 p2.toNatClampNeg ((s48.2.1 8 p2.toNatClampNeg) + 1) → wp_X6_lays (fun s53 => (vp_in p2 10 ∧ post (s53.2.1 8 p2.toNatClampNeg) s53))  s51)))))))))) ∧ (¬ (s41.1 0) ≤ 0 → post 0 s41)))) ∧ (¬ 0 ≤ r38 → (vp_in p2 10 ∧ ((¬ (s39.2.1 8 p2.toNatClampNeg) = 4 → ((p2 = 0 → (∀ s58 : mm_S, s58 = ms_f s39 0 4 → (((s58.1 0) ≤ 0 → (vp_in p2 10 ∧ (vp_in ((4 * p2) + (s58.2.1 8 p2.toNatClampNeg)) 40 ∧ (∀ s62 : mm_S, s62 = ms_a s58 6 ((4 * p2) + (s58.2.1 8 p2.toNatClampNeg)).toNatClampNeg p1 → (vp_in p2 10 ∧ (vp_in ((4 * p2) + (s62.2.1 8 p2.toNatClampNeg)) 40 ∧ (∀ s65 : mm_S, s65 = ms_a s62 7 ((4 * p2) + (s62.2.1 8 p2.toNatClampNeg)).toNatClampNeg p3 → (vp_in p2 10 ∧ (vp_in p2 10 ∧ (∀ s68 : mm_S, s68 = ms_a s65 8 p2.toNatClampNeg ((s65.2.1 8 p2.toNatClampNeg) + 1) → wp_X6_lays (fun s70 => (vp_in p2 10 ∧ post (s70.2.1 8 p2.toNatClampNeg) s70))  s68)))))))))) ∧ (¬ (s58.1 0) ≤ 0 → post 0 s58)))) ∧ (¬ p2 = 0 → wp_X6_leads (fun r72 s73 => ((r72 = 0 → (∀ s75 : mm_S, s75 = ms_f s73 0 0 → (((s75.1 0) ≤ 0 → (vp_in p2 10 ∧ (vp_in ((4 * p2) + (s75.2.1 8 p2.toNatClampNeg)) 40 ∧ (∀ s79 : mm_S, s79 = ms_a s75 6 ((4 * p2) + (s75.2.1 8 p2.toNatClampNeg)).toNatClampNeg p1 → (vp_in p2 10 ∧ (vp_in ((4 * p2) + (s79.2.1 8 p2.toNatClampNeg)) 40 ∧ (∀ s82 : mm_S, s82 = ms_a s79 7 ((4 * p2) + (s79.2.1 8 p2.toNatClampNeg)).toNatClampNeg p3 → (vp_in p2 10 ∧ (vp_in p2 10 ∧ (∀ s85 : mm_S, s85 = ms_a s82 8 p2.toNatClampNeg ((s82.2.1 8 p2.toNatClampNeg) + 1) → wp_X6_lays (fun s87 => (vp_in p2 10 ∧ post (s87.2.1 8 p2.toNatClampNeg) s87))  s85)))))))))) ∧ (¬ (s75.1 0) ≤ 0 → post 0 s75)))) ∧ (¬ r72 = 0 → (∀ s89 : mm_S, s89 = ms_f s73 0 4 → (((s89.1 0) ≤ 0 → (vp_in p2 10 ∧ (vp_in ((4 * p2) + (s89.2.1 8 p2.toNatClampNeg)) 40 ∧ (∀ s93 : mm_S, s93 = ms_a s89 6 ((4 * p2) + (s89.2.1 8 p2.toNatClampNeg)).toNatClampNeg p1 → (vp_in p2 10 ∧ (vp_in ((4 * p2) + (s93.2.1 8 p2.toNatClampNeg)) 40 ∧ (∀ s96 : mm_S, s96 = ms_a s93 7 ((4 * p2) + (s93.2.1 8 p2.toNatClampNeg)).toNatClampNeg p3 → (vp_in p2 10 ∧ (vp_in p2 10 ∧ (∀ s99 : mm_S, s99 = ms_a s96 8 p2.toNatClampNeg ((s96.2.1 8 p2.toNatClampNeg) + 1) → wp_X6_lays (fun s101 => (vp_in p2 10 ∧ post (s101.2.1 8 p2.toNatClampNeg) s101))  s99)))))))))) ∧ (¬ (s89.1 0) ≤ 0 → post 0 s89)))))) p2 p1 s39))) ∧ ((s39.2.1 8 p2.toNatClampNeg) = 4 → (∀ s103 : mm_S, s103 = ms_f s39 0 3 → (((s103.1 0) ≤ 0 → (vp_in p2 10 ∧ (vp_in ((4 * p2) + (s103.2.1 8 p2.toNatClampNeg)) 40 ∧ (∀ s107 : mm_S, s107 = ms_a s103 6 ((4 * p2) + (s103.2.1 8 p2.toNatClampNeg)).toNatClampNeg p1 → (vp_in p2 10 ∧ (vp_in ((4 * p2) + (s107.2.1 8 p2.toNatClampNeg)) 40 ∧ (∀ s110 : mm_S, s110 = ms_a s107 7 ((4 * p2) + (s107.2.1 8 p2.toNatClampNeg)).toNatClampNeg p3 → (vp_in p2 10 ∧ (vp_in p2 10 ∧ (∀ s113 : mm_S, s113 = ms_a s110 8 p2.toNatClampNeg ((s110.2.1 8 p2.toNatClampNeg) + 1) → wp_X6_lays (fun s115 => (vp_in p2 10 ∧ post (s115.2.1 8 p2.toNatClampNeg) s115))  s113)))))))))) ∧ (¬ (s103.1 0) ≤ 0 → post 0 s103))))))))) p1 p2 s19) ∧ (r36 = 0 → (∀ s117 : mm_S, s117 = ms_f s19 0 2 → (((s117.1 0) ≤ 0 → (vp_in p2 10 ∧ (vp_in ((4 * p2) + (s117.2.1 8 p2.toNatClampNeg)) 40 ∧ (∀ s121 : mm_S, s121 = ms_a s117 6 ((4 * p2) + (s117.2.1 8 p2.toNatClampNeg)).toNatClampNeg p1 → (vp_in p2 10 ∧ (vp_in ((4 * p2) + (s121.2.1 8 p2.toNatClampNeg)) 40 ∧ (∀ s124 : mm_S, s124 = ms_a s121 7 ((4 * p2) + (s121.2.1 8 p2.toNatClampNeg)).toNatClampNeg p3 → (vp_in p2 10 ∧ (vp_in p2 10 ∧ (∀ s127 : mm_S, s127 = ms_a s124 8 p2.toNatClampNeg ((s124.2.1 8 p2.toNatClampNeg) + 1) → wp_X6_lays (fun s129 => (vp_in p2 10 ∧ post (s129.2.1 8 p2.toNatClampNeg) s129))  s127)))))))))) ∧ (¬ (s117.1 0) ≤ 0 → post 0 s117)))))) p3 (-100) 100))) ∧ (r18 = 0 → (∀ s131 : mm_S, s131 = ms_f s19 0 1 → (((s131.1 0) ≤ 0 → (vp_in p2 10 ∧ (vp_in ((4 * p2) + (s131.2.1 8 p2.toNatClampNeg)) 40 ∧ (∀ s135 : mm_S, s135 = ms_a s131 6 ((4 * p2) + (s131.2.1 8 p2.toNatClampNeg)).toNatClampNeg p1 → (vp_in p2 10 ∧ (vp_in ((4 * p2) + (s135.2.1 8 p2.toNatClampNeg)) 40 ∧ (∀ s138 : mm_S, s138 = ms_a s135 7 ((4 * p2) + (s135.2.1 8 p2.toNatClampNeg)).toNatClampNeg p3 → (vp_in p2 10 ∧ (vp_in p2 10 ∧ (∀ s141 : mm_S, s141 = ms_a s138 8 p2.toNatClampNeg ((s138.2.1 8 p2.toNatClampNeg) + 1) → wp_X6_lays (fun s143 => (vp_in p2 10 ∧ post (s143.2.1 8 p2.toNatClampNeg) s143))  s141)))))))))) ∧ (¬ (s131.1 0) ≤ 0 → post 0 s131)))))) p2 s2))) p1 s0
set_option maxHeartbeats 4000000 in
theorem t_X6_connect (l : Launch) {base : Nat} {D : va_G} {ca : Nat → ClassId} {Ls : List gb_L} {ad : gb_L → Nat} {w : gb_L → va_E} {post : Int32 → mm_S → Prop} {p1 : Int32} {p2 : Int32} {p3 : Int32} {s0 : mm_S} (hk : wp_X6_connect post p1 p2 p3 s0) : mm_Mi l yX6_connect (ws_ yX6_connect cX6_connect 4 (some .int)) ({ frames := 2, cells := 0, slots := 0, locals := 48 } : Room) base D ca Ls ad w [.int p1, .int p2, .int p3] s0 post := by
  refine mm_start cX6_connect 4 (some .int) _ (by decide) rfl rfl (Nat.le_of_ble_eq_true rfl) ?_
  intro p e s m args below meth c ls C hr hlk hH hS hl
  have hl : lv_has ls 4 [(0, .ref (ad (20, 0))), (1, .int p1), (2, .int p2), (3, .int p3)] := hl
  unfold wp_X6_connect at hk
  refine lv_aload_n C.hx C.hb dX6_connect_0 rfl (lv_at hl 0 rfl) ?_
  refine lv_aload_n C.hx C.hb dX6_connect_1 rfl (lv_at hl 0 rfl) ?_
  refine lv_iload_n C.hx C.hb dX6_connect_2 rfl (lv_at hl 1 rfl) ?_
  refine mm_calli (As := [.int p1]) (rest := [.ref (ad (20, 0))]) C (t_X6_isNode l hk) (cwV 1 C.hts (lw_V q1356 q1358 qs28 q65 q1359) rfl rfl rfl (by decide +kernel) ⟨Nat.le_of_ble_eq_true rfl, Nat.le_of_ble_eq_true rfl⟩) hH hS rfl hl.1 rfl (lv_room (Nat.le_of_ble_eq_true rfl)) dX6_connect_3 ⟨Nat.le_of_ble_eq_true rfl, Nat.le_of_ble_eq_true rfl⟩ (fun r1 s2 H locs hk hH hS => ?_)
  refine lv_if_eq (tgt := 17) C.hx C.hb dX6_connect_6 (by decide) (fun c3 => ?_) (fun c3 => ?_)
  · have hk := hk.1 c3
    refine lv_iconst (v := 1) C.hx C.hb dX6_connect_17 (by decide) ?_
    refine lv_goto (tgt := 81) C.hx C.hb dX6_connect_18 (by decide) ?_
    refine mm_puti C hH hS 12 0 (by decide) rfl q1253 dX6_connect_81 rfl rfl (fun s4 es4 H locs hH hS => ?_)
    have hk := hk s4 es4
    refine lv_aload_n C.hx C.hb dX6_connect_84 rfl (lv_at hl 0 rfl) ?_
    refine mm_geti C hH 12 0 (by decide) rfl q1253 dX6_connect_85 ?_
    refine lv_if_le (tgt := 93) C.hx C.hb dX6_connect_88 (by decide) (fun c5 => ?_) (fun c5 => ?_)
    · have hk := hk.1 c5
      refine lv_aload_n C.hx C.hb dX6_connect_93 rfl (lv_at hl 0 rfl) ?_
      refine mm_geta C hH 6 (by decide) q1247 dX6_connect_94 ?_
      refine lv_iconst (v := 4) C.hx C.hb dX6_connect_97 (by decide) ?_
      refine lv_iload_n C.hx C.hb dX6_connect_98 rfl (lv_at hl 2 rfl) ?_
      refine lv_imul C.hx C.hb dX6_connect_99 ?_
      refine lv_aload_n C.hx C.hb dX6_connect_100 rfl (lv_at hl 0 rfl) ?_
      refine mm_geta C hH 8 (by decide) q1249 dX6_connect_101 ?_
      refine lv_iload_n C.hx C.hb dX6_connect_104 rfl (lv_at hl 2 rfl) ?_
      obtain ⟨h6, hk⟩ := hk
      refine mm_ald C hH 8 (by decide) h6 dX6_connect_105 ?_
      refine lv_iadd C.hx C.hb dX6_connect_106 ?_
      refine lv_iload_n C.hx C.hb dX6_connect_107 rfl (lv_at hl 1 rfl) ?_
      obtain ⟨h7, hk⟩ := hk
      refine mm_ast C hH hS 6 (by decide) h7 dX6_connect_108 (fun s8 es8 H locs hH hS => ?_)
      have hk := hk s8 es8
      refine lv_aload_n C.hx C.hb dX6_connect_109 rfl (lv_at hl 0 rfl) ?_
      refine mm_geta C hH 7 (by decide) q1248 dX6_connect_110 ?_
      refine lv_iconst (v := 4) C.hx C.hb dX6_connect_113 (by decide) ?_
      refine lv_iload_n C.hx C.hb dX6_connect_114 rfl (lv_at hl 2 rfl) ?_
      refine lv_imul C.hx C.hb dX6_connect_115 ?_
      refine lv_aload_n C.hx C.hb dX6_connect_116 rfl (lv_at hl 0 rfl) ?_
      refine mm_geta C hH 8 (by decide) q1249 dX6_connect_117 ?_
      refine lv_iload_n C.hx C.hb dX6_connect_120 rfl (lv_at hl 2 rfl) ?_
      obtain ⟨h9, hk⟩ := hk
      refine mm_ald C hH 8 (by decide) h9 dX6_connect_121 ?_
      refine lv_iadd C.hx C.hb dX6_connect_122 ?_
      refine lv_iload_n C.hx C.hb dX6_connect_123 rfl (lv_at hl 3 rfl) ?_
      obtain ⟨h10, hk⟩ := hk
      refine mm_ast C hH hS 7 (by decide) h10 dX6_connect_124 (fun s11 es11 H locs hH hS => ?_)
      have hk := hk s11 es11
      refine lv_aload_n C.hx C.hb dX6_connect_125 rfl (lv_at hl 0 rfl) ?_
      refine mm_geta C hH 8 (by decide) q1249 dX6_connect_126 ?_
      refine lv_iload_n C.hx C.hb dX6_connect_129 rfl (lv_at hl 2 rfl) ?_
      refine lv_dup2_11 C.hx C.hb dX6_connect_130 rfl rfl ?_
      obtain ⟨h12, hk⟩ := hk
      refine mm_ald C hH 8 (by decide) h12 dX6_connect_131 ?_
      refine lv_iconst (v := 1) C.hx C.hb dX6_connect_132 (by decide) ?_
      refine lv_iadd C.hx C.hb dX6_connect_133 ?_
      obtain ⟨h13, hk⟩ := hk
      refine mm_ast C hH hS 8 (by decide) h13 dX6_connect_134 (fun s14 es14 H locs hH hS => ?_)
      have hk := hk s14 es14
      refine lv_aload_n C.hx C.hb dX6_connect_135 rfl (lv_at hl 0 rfl) ?_
      refine mm_callv (As := []) (rest := []) C (t_X6_lays l hk) (cwV 0 C.hts (lw_V q1233 q1235 qs24 q65 q1236) rfl rfl rfl (by decide +kernel) ⟨Nat.le_of_ble_eq_true rfl, Nat.le_of_ble_eq_true rfl⟩) hH hS rfl hl.1 rfl (lv_room (Nat.le_of_ble_eq_true rfl)) dX6_connect_136 ⟨Nat.le_of_ble_eq_true rfl, Nat.le_of_ble_eq_true rfl⟩ (fun s16 H locs hk hH hS => ?_)
      refine lv_aload_n C.hx C.hb dX6_connect_139 rfl (lv_at hl 0 rfl) ?_
      refine mm_geta C hH 8 (by decide) q1249 dX6_connect_140 ?_
      refine lv_iload_n C.hx C.hb dX6_connect_143 rfl (lv_at hl 2 rfl) ?_
      obtain ⟨h17, hk⟩ := hk
      refine mm_ald C hH 8 (by decide) h17 dX6_connect_144 ?_
      exact mm_iret C hr hlk hH hS hk dX6_connect_145
    · have hk := hk.2 c5
      refine lv_iconst (v := 0) C.hx C.hb dX6_connect_91 (by decide) ?_
      exact mm_iret C hr hlk hH hS hk dX6_connect_92
  · have hk := hk.2 c3
    refine lv_aload_n C.hx C.hb dX6_connect_9 rfl (lv_at hl 0 rfl) ?_
    refine lv_iload_n C.hx C.hb dX6_connect_10 rfl (lv_at hl 2 rfl) ?_
    refine mm_calli (As := [.int p2]) (rest := [.ref (ad (20, 0))]) C (t_X6_isNode l hk) (cwV 1 C.hts (lw_V q1356 q1358 qs28 q65 q1359) rfl rfl rfl (by decide +kernel) ⟨Nat.le_of_ble_eq_true rfl, Nat.le_of_ble_eq_true rfl⟩) hH hS rfl hl.1 rfl (lv_room (Nat.le_of_ble_eq_true rfl)) dX6_connect_11 ⟨Nat.le_of_ble_eq_true rfl, Nat.le_of_ble_eq_true rfl⟩ (fun r18 s19 H locs hk hH hS => ?_)
    refine lv_if_ne (tgt := 21) C.hx C.hb dX6_connect_14 (by decide) (fun c20 => ?_) (fun c20 => ?_)
    · have hk := hk.1 c20
      refine lv_iload_n C.hx C.hb dX6_connect_21 rfl (lv_at hl 3 rfl) ?_
      refine lv_if_eq (tgt := 36) C.hx C.hb dX6_connect_22 (by decide) (fun c21 => ?_) (fun c21 => ?_)
      · have hk := hk.1 c21
        refine lv_iconst (v := 2) C.hx C.hb dX6_connect_36 (by decide) ?_
        refine lv_goto (tgt := 81) C.hx C.hb dX6_connect_37 (by decide) ?_
        refine mm_puti C hH hS 12 0 (by decide) rfl q1253 dX6_connect_81 rfl rfl (fun s22 es22 H locs hH hS => ?_)
        have hk := hk s22 es22
        refine lv_aload_n C.hx C.hb dX6_connect_84 rfl (lv_at hl 0 rfl) ?_
        refine mm_geti C hH 12 0 (by decide) rfl q1253 dX6_connect_85 ?_
        refine lv_if_le (tgt := 93) C.hx C.hb dX6_connect_88 (by decide) (fun c23 => ?_) (fun c23 => ?_)
        · have hk := hk.1 c23
          refine lv_aload_n C.hx C.hb dX6_connect_93 rfl (lv_at hl 0 rfl) ?_
          refine mm_geta C hH 6 (by decide) q1247 dX6_connect_94 ?_
          refine lv_iconst (v := 4) C.hx C.hb dX6_connect_97 (by decide) ?_
          refine lv_iload_n C.hx C.hb dX6_connect_98 rfl (lv_at hl 2 rfl) ?_
          refine lv_imul C.hx C.hb dX6_connect_99 ?_
          refine lv_aload_n C.hx C.hb dX6_connect_100 rfl (lv_at hl 0 rfl) ?_
          refine mm_geta C hH 8 (by decide) q1249 dX6_connect_101 ?_
          refine lv_iload_n C.hx C.hb dX6_connect_104 rfl (lv_at hl 2 rfl) ?_
          obtain ⟨h24, hk⟩ := hk
          refine mm_ald C hH 8 (by decide) h24 dX6_connect_105 ?_
          refine lv_iadd C.hx C.hb dX6_connect_106 ?_
          refine lv_iload_n C.hx C.hb dX6_connect_107 rfl (lv_at hl 1 rfl) ?_
          obtain ⟨h25, hk⟩ := hk
          refine mm_ast C hH hS 6 (by decide) h25 dX6_connect_108 (fun s26 es26 H locs hH hS => ?_)
          have hk := hk s26 es26
          refine lv_aload_n C.hx C.hb dX6_connect_109 rfl (lv_at hl 0 rfl) ?_
          refine mm_geta C hH 7 (by decide) q1248 dX6_connect_110 ?_
          refine lv_iconst (v := 4) C.hx C.hb dX6_connect_113 (by decide) ?_
          refine lv_iload_n C.hx C.hb dX6_connect_114 rfl (lv_at hl 2 rfl) ?_
          refine lv_imul C.hx C.hb dX6_connect_115 ?_
          refine lv_aload_n C.hx C.hb dX6_connect_116 rfl (lv_at hl 0 rfl) ?_
          refine mm_geta C hH 8 (by decide) q1249 dX6_connect_117 ?_
          refine lv_iload_n C.hx C.hb dX6_connect_120 rfl (lv_at hl 2 rfl) ?_
          obtain ⟨h27, hk⟩ := hk
          refine mm_ald C hH 8 (by decide) h27 dX6_connect_121 ?_
          refine lv_iadd C.hx C.hb dX6_connect_122 ?_
          refine lv_iload_n C.hx C.hb dX6_connect_123 rfl (lv_at hl 3 rfl) ?_
          obtain ⟨h28, hk⟩ := hk
          refine mm_ast C hH hS 7 (by decide) h28 dX6_connect_124 (fun s29 es29 H locs hH hS => ?_)
          have hk := hk s29 es29
          refine lv_aload_n C.hx C.hb dX6_connect_125 rfl (lv_at hl 0 rfl) ?_
          refine mm_geta C hH 8 (by decide) q1249 dX6_connect_126 ?_
          refine lv_iload_n C.hx C.hb dX6_connect_129 rfl (lv_at hl 2 rfl) ?_
          refine lv_dup2_11 C.hx C.hb dX6_connect_130 rfl rfl ?_
          obtain ⟨h30, hk⟩ := hk
          refine mm_ald C hH 8 (by decide) h30 dX6_connect_131 ?_
          refine lv_iconst (v := 1) C.hx C.hb dX6_connect_132 (by decide) ?_
          refine lv_iadd C.hx C.hb dX6_connect_133 ?_
          obtain ⟨h31, hk⟩ := hk
          refine mm_ast C hH hS 8 (by decide) h31 dX6_connect_134 (fun s32 es32 H locs hH hS => ?_)
          have hk := hk s32 es32
          refine lv_aload_n C.hx C.hb dX6_connect_135 rfl (lv_at hl 0 rfl) ?_
          refine mm_callv (As := []) (rest := []) C (t_X6_lays l hk) (cwV 0 C.hts (lw_V q1233 q1235 qs24 q65 q1236) rfl rfl rfl (by decide +kernel) ⟨Nat.le_of_ble_eq_true rfl, Nat.le_of_ble_eq_true rfl⟩) hH hS rfl hl.1 rfl (lv_room (Nat.le_of_ble_eq_true rfl)) dX6_connect_136 ⟨Nat.le_of_ble_eq_true rfl, Nat.le_of_ble_eq_true rfl⟩ (fun s34 H locs hk hH hS => ?_)
          refine lv_aload_n C.hx C.hb dX6_connect_139 rfl (lv_at hl 0 rfl) ?_
          refine mm_geta C hH 8 (by decide) q1249 dX6_connect_140 ?_
          refine lv_iload_n C.hx C.hb dX6_connect_143 rfl (lv_at hl 2 rfl) ?_
          obtain ⟨h35, hk⟩ := hk
          refine mm_ald C hH 8 (by decide) h35 dX6_connect_144 ?_
          exact mm_iret C hr hlk hH hS hk dX6_connect_145
        · have hk := hk.2 c23
          refine lv_iconst (v := 0) C.hx C.hb dX6_connect_91 (by decide) ?_
          exact mm_iret C hr hlk hH hS hk dX6_connect_92
      · have hk := hk.2 c21
        refine lv_iload_n C.hx C.hb dX6_connect_25 rfl (lv_at hl 3 rfl) ?_
        refine lv_bipush (v := (-100)) C.hx C.hb dX6_connect_26 (by decide) ?_
        refine lv_bipush (v := 100) C.hx C.hb dX6_connect_28 (by decide) ?_
        refine gb_call (As := [.int p3, .int (-100), .int 100]) (rest := [.ref (ad (20, 0))]) C.1 (t_X6_in l hk) (va_cwS 3 C.hts (lw_S q1329 q1330 q65 q1331) rfl rfl rfl (by decide +kernel) ⟨Nat.le_of_ble_eq_true rfl, Nat.le_of_ble_eq_true rfl⟩) rfl hl.1 rfl (lv_room (Nat.le_of_ble_eq_true rfl)) dX6_connect_30 ⟨Nat.le_of_ble_eq_true rfl, Nat.le_of_ble_eq_true rfl⟩ (fun r36 hk => ?_)
        refine lv_if_ne (tgt := 40) C.hx C.hb dX6_connect_33 (by decide) (fun c37 => ?_) (fun c37 => ?_)
        · have hk := hk.1 c37
          refine lv_aload_n C.hx C.hb dX6_connect_40 rfl (lv_at hl 0 rfl) ?_
          refine lv_iload_n C.hx C.hb dX6_connect_41 rfl (lv_at hl 1 rfl) ?_
          refine lv_iload_n C.hx C.hb dX6_connect_42 rfl (lv_at hl 2 rfl) ?_
          refine mm_calli (As := [.int p1, .int p2]) (rest := [.ref (ad (20, 0))]) C (t_X6_wire l hk) (cwV 2 C.hts (lw_V q1360 q1362 qs29 q65 q1363) rfl rfl rfl (by decide +kernel) ⟨Nat.le_of_ble_eq_true rfl, Nat.le_of_ble_eq_true rfl⟩) hH hS rfl hl.1 rfl (lv_room (Nat.le_of_ble_eq_true rfl)) dX6_connect_43 ⟨Nat.le_of_ble_eq_true rfl, Nat.le_of_ble_eq_true rfl⟩ (fun r38 s39 H locs hk hH hS => ?_)
          refine lv_if_ge (tgt := 59) C.hx C.hb dX6_connect_46 (by decide) (fun c40 => ?_) (fun c40 => ?_)
          · have hk := hk.1 c40
            refine lv_iconst (v := 3) C.hx C.hb dX6_connect_59 (by decide) ?_
            refine lv_goto (tgt := 81) C.hx C.hb dX6_connect_60 (by decide) ?_
            refine mm_puti C hH hS 12 0 (by decide) rfl q1253 dX6_connect_81 rfl rfl (fun s41 es41 H locs hH hS => ?_)
            have hk := hk s41 es41
            refine lv_aload_n C.hx C.hb dX6_connect_84 rfl (lv_at hl 0 rfl) ?_
            refine mm_geti C hH 12 0 (by decide) rfl q1253 dX6_connect_85 ?_
            refine lv_if_le (tgt := 93) C.hx C.hb dX6_connect_88 (by decide) (fun c42 => ?_) (fun c42 => ?_)
            · have hk := hk.1 c42
              refine lv_aload_n C.hx C.hb dX6_connect_93 rfl (lv_at hl 0 rfl) ?_
              refine mm_geta C hH 6 (by decide) q1247 dX6_connect_94 ?_
              refine lv_iconst (v := 4) C.hx C.hb dX6_connect_97 (by decide) ?_
              refine lv_iload_n C.hx C.hb dX6_connect_98 rfl (lv_at hl 2 rfl) ?_
              refine lv_imul C.hx C.hb dX6_connect_99 ?_
              refine lv_aload_n C.hx C.hb dX6_connect_100 rfl (lv_at hl 0 rfl) ?_
              refine mm_geta C hH 8 (by decide) q1249 dX6_connect_101 ?_
              refine lv_iload_n C.hx C.hb dX6_connect_104 rfl (lv_at hl 2 rfl) ?_
              obtain ⟨h43, hk⟩ := hk
              refine mm_ald C hH 8 (by decide) h43 dX6_connect_105 ?_
              refine lv_iadd C.hx C.hb dX6_connect_106 ?_
              refine lv_iload_n C.hx C.hb dX6_connect_107 rfl (lv_at hl 1 rfl) ?_
              obtain ⟨h44, hk⟩ := hk
              refine mm_ast C hH hS 6 (by decide) h44 dX6_connect_108 (fun s45 es45 H locs hH hS => ?_)
              have hk := hk s45 es45
              refine lv_aload_n C.hx C.hb dX6_connect_109 rfl (lv_at hl 0 rfl) ?_
              refine mm_geta C hH 7 (by decide) q1248 dX6_connect_110 ?_
              refine lv_iconst (v := 4) C.hx C.hb dX6_connect_113 (by decide) ?_
              refine lv_iload_n C.hx C.hb dX6_connect_114 rfl (lv_at hl 2 rfl) ?_
              refine lv_imul C.hx C.hb dX6_connect_115 ?_
              refine lv_aload_n C.hx C.hb dX6_connect_116 rfl (lv_at hl 0 rfl) ?_
              refine mm_geta C hH 8 (by decide) q1249 dX6_connect_117 ?_
              refine lv_iload_n C.hx C.hb dX6_connect_120 rfl (lv_at hl 2 rfl) ?_
              obtain ⟨h46, hk⟩ := hk
              refine mm_ald C hH 8 (by decide) h46 dX6_connect_121 ?_
              refine lv_iadd C.hx C.hb dX6_connect_122 ?_
              refine lv_iload_n C.hx C.hb dX6_connect_123 rfl (lv_at hl 3 rfl) ?_
              obtain ⟨h47, hk⟩ := hk
              refine mm_ast C hH hS 7 (by decide) h47 dX6_connect_124 (fun s48 es48 H locs hH hS => ?_)
              have hk := hk s48 es48
              refine lv_aload_n C.hx C.hb dX6_connect_125 rfl (lv_at hl 0 rfl) ?_
              refine mm_geta C hH 8 (by decide) q1249 dX6_connect_126 ?_
              refine lv_iload_n C.hx C.hb dX6_connect_129 rfl (lv_at hl 2 rfl) ?_
              refine lv_dup2_11 C.hx C.hb dX6_connect_130 rfl rfl ?_
              obtain ⟨h49, hk⟩ := hk
              refine mm_ald C hH 8 (by decide) h49 dX6_connect_131 ?_
              refine lv_iconst (v := 1) C.hx C.hb dX6_connect_132 (by decide) ?_
              refine lv_iadd C.hx C.hb dX6_connect_133 ?_
              obtain ⟨h50, hk⟩ := hk
              refine mm_ast C hH hS 8 (by decide) h50 dX6_connect_134 (fun s51 es51 H locs hH hS => ?_)
              have hk := hk s51 es51
              refine lv_aload_n C.hx C.hb dX6_connect_135 rfl (lv_at hl 0 rfl) ?_
              refine mm_callv (As := []) (rest := []) C (t_X6_lays l hk) (cwV 0 C.hts (lw_V q1233 q1235 qs24 q65 q1236) rfl rfl rfl (by decide +kernel) ⟨Nat.le_of_ble_eq_true rfl, Nat.le_of_ble_eq_true rfl⟩) hH hS rfl hl.1 rfl (lv_room (Nat.le_of_ble_eq_true rfl)) dX6_connect_136 ⟨Nat.le_of_ble_eq_true rfl, Nat.le_of_ble_eq_true rfl⟩ (fun s53 H locs hk hH hS => ?_)
              refine lv_aload_n C.hx C.hb dX6_connect_139 rfl (lv_at hl 0 rfl) ?_
              refine mm_geta C hH 8 (by decide) q1249 dX6_connect_140 ?_
              refine lv_iload_n C.hx C.hb dX6_connect_143 rfl (lv_at hl 2 rfl) ?_
              obtain ⟨h54, hk⟩ := hk
              refine mm_ald C hH 8 (by decide) h54 dX6_connect_144 ?_
              exact mm_iret C hr hlk hH hS hk dX6_connect_145
            · have hk := hk.2 c42
              refine lv_iconst (v := 0) C.hx C.hb dX6_connect_91 (by decide) ?_
              exact mm_iret C hr hlk hH hS hk dX6_connect_92
          · have hk := hk.2 c40
            refine lv_aload_n C.hx C.hb dX6_connect_49 rfl (lv_at hl 0 rfl) ?_
            refine mm_geta C hH 8 (by decide) q1249 dX6_connect_50 ?_
            refine lv_iload_n C.hx C.hb dX6_connect_53 rfl (lv_at hl 2 rfl) ?_
            obtain ⟨h55, hk⟩ := hk
            refine mm_ald C hH 8 (by decide) h55 dX6_connect_54 ?_
            refine lv_iconst (v := 4) C.hx C.hb dX6_connect_55 (by decide) ?_
            refine lv_icmp_ne (tgt := 63) C.hx C.hb dX6_connect_56 (by decide) (fun c56 => ?_) (fun c56 => ?_)
            · have hk := hk.1 c56
              refine lv_iload_n C.hx C.hb dX6_connect_63 rfl (lv_at hl 2 rfl) ?_
              refine lv_if_eq (tgt := 76) C.hx C.hb dX6_connect_64 (by decide) (fun c57 => ?_) (fun c57 => ?_)
              · have hk := hk.1 c57
                refine lv_iconst (v := 4) C.hx C.hb dX6_connect_76 (by decide) ?_
                refine lv_goto (tgt := 81) C.hx C.hb dX6_connect_77 (by decide) ?_
                refine mm_puti C hH hS 12 0 (by decide) rfl q1253 dX6_connect_81 rfl rfl (fun s58 es58 H locs hH hS => ?_)
                have hk := hk s58 es58
                refine lv_aload_n C.hx C.hb dX6_connect_84 rfl (lv_at hl 0 rfl) ?_
                refine mm_geti C hH 12 0 (by decide) rfl q1253 dX6_connect_85 ?_
                refine lv_if_le (tgt := 93) C.hx C.hb dX6_connect_88 (by decide) (fun c59 => ?_) (fun c59 => ?_)
                · have hk := hk.1 c59
                  refine lv_aload_n C.hx C.hb dX6_connect_93 rfl (lv_at hl 0 rfl) ?_
                  refine mm_geta C hH 6 (by decide) q1247 dX6_connect_94 ?_
                  refine lv_iconst (v := 4) C.hx C.hb dX6_connect_97 (by decide) ?_
                  refine lv_iload_n C.hx C.hb dX6_connect_98 rfl (lv_at hl 2 rfl) ?_
                  refine lv_imul C.hx C.hb dX6_connect_99 ?_
                  refine lv_aload_n C.hx C.hb dX6_connect_100 rfl (lv_at hl 0 rfl) ?_
                  refine mm_geta C hH 8 (by decide) q1249 dX6_connect_101 ?_
                  refine lv_iload_n C.hx C.hb dX6_connect_104 rfl (lv_at hl 2 rfl) ?_
                  obtain ⟨h60, hk⟩ := hk
                  refine mm_ald C hH 8 (by decide) h60 dX6_connect_105 ?_
                  refine lv_iadd C.hx C.hb dX6_connect_106 ?_
                  refine lv_iload_n C.hx C.hb dX6_connect_107 rfl (lv_at hl 1 rfl) ?_
                  obtain ⟨h61, hk⟩ := hk
                  refine mm_ast C hH hS 6 (by decide) h61 dX6_connect_108 (fun s62 es62 H locs hH hS => ?_)
                  have hk := hk s62 es62
                  refine lv_aload_n C.hx C.hb dX6_connect_109 rfl (lv_at hl 0 rfl) ?_
                  refine mm_geta C hH 7 (by decide) q1248 dX6_connect_110 ?_
                  refine lv_iconst (v := 4) C.hx C.hb dX6_connect_113 (by decide) ?_
                  refine lv_iload_n C.hx C.hb dX6_connect_114 rfl (lv_at hl 2 rfl) ?_
                  refine lv_imul C.hx C.hb dX6_connect_115 ?_
                  refine lv_aload_n C.hx C.hb dX6_connect_116 rfl (lv_at hl 0 rfl) ?_
                  refine mm_geta C hH 8 (by decide) q1249 dX6_connect_117 ?_
                  refine lv_iload_n C.hx C.hb dX6_connect_120 rfl (lv_at hl 2 rfl) ?_
                  obtain ⟨h63, hk⟩ := hk
                  refine mm_ald C hH 8 (by decide) h63 dX6_connect_121 ?_
                  refine lv_iadd C.hx C.hb dX6_connect_122 ?_
                  refine lv_iload_n C.hx C.hb dX6_connect_123 rfl (lv_at hl 3 rfl) ?_
                  obtain ⟨h64, hk⟩ := hk
                  refine mm_ast C hH hS 7 (by decide) h64 dX6_connect_124 (fun s65 es65 H locs hH hS => ?_)
                  have hk := hk s65 es65
                  refine lv_aload_n C.hx C.hb dX6_connect_125 rfl (lv_at hl 0 rfl) ?_
                  refine mm_geta C hH 8 (by decide) q1249 dX6_connect_126 ?_
                  refine lv_iload_n C.hx C.hb dX6_connect_129 rfl (lv_at hl 2 rfl) ?_
                  refine lv_dup2_11 C.hx C.hb dX6_connect_130 rfl rfl ?_
                  obtain ⟨h66, hk⟩ := hk
                  refine mm_ald C hH 8 (by decide) h66 dX6_connect_131 ?_
                  refine lv_iconst (v := 1) C.hx C.hb dX6_connect_132 (by decide) ?_
                  refine lv_iadd C.hx C.hb dX6_connect_133 ?_
                  obtain ⟨h67, hk⟩ := hk
                  refine mm_ast C hH hS 8 (by decide) h67 dX6_connect_134 (fun s68 es68 H locs hH hS => ?_)
                  have hk := hk s68 es68
                  refine lv_aload_n C.hx C.hb dX6_connect_135 rfl (lv_at hl 0 rfl) ?_
                  refine mm_callv (As := []) (rest := []) C (t_X6_lays l hk) (cwV 0 C.hts (lw_V q1233 q1235 qs24 q65 q1236) rfl rfl rfl (by decide +kernel) ⟨Nat.le_of_ble_eq_true rfl, Nat.le_of_ble_eq_true rfl⟩) hH hS rfl hl.1 rfl (lv_room (Nat.le_of_ble_eq_true rfl)) dX6_connect_136 ⟨Nat.le_of_ble_eq_true rfl, Nat.le_of_ble_eq_true rfl⟩ (fun s70 H locs hk hH hS => ?_)
                  refine lv_aload_n C.hx C.hb dX6_connect_139 rfl (lv_at hl 0 rfl) ?_
                  refine mm_geta C hH 8 (by decide) q1249 dX6_connect_140 ?_
                  refine lv_iload_n C.hx C.hb dX6_connect_143 rfl (lv_at hl 2 rfl) ?_
                  obtain ⟨h71, hk⟩ := hk
                  refine mm_ald C hH 8 (by decide) h71 dX6_connect_144 ?_
                  exact mm_iret C hr hlk hH hS hk dX6_connect_145
                · have hk := hk.2 c59
                  refine lv_iconst (v := 0) C.hx C.hb dX6_connect_91 (by decide) ?_
                  exact mm_iret C hr hlk hH hS hk dX6_connect_92
              · have hk := hk.2 c57
                refine lv_aload_n C.hx C.hb dX6_connect_67 rfl (lv_at hl 0 rfl) ?_
                refine lv_iload_n C.hx C.hb dX6_connect_68 rfl (lv_at hl 2 rfl) ?_
                refine lv_iload_n C.hx C.hb dX6_connect_69 rfl (lv_at hl 1 rfl) ?_
                refine mm_calli (As := [.int p2, .int p1]) (rest := [.ref (ad (20, 0))]) C (t_X6_leads l hk) (cwV 2 C.hts (lw_V q1364 q1366 qs30 q65 q1367) rfl rfl rfl (by decide +kernel) ⟨Nat.le_of_ble_eq_true rfl, Nat.le_of_ble_eq_true rfl⟩) hH hS rfl hl.1 rfl (lv_room (Nat.le_of_ble_eq_true rfl)) dX6_connect_70 ⟨Nat.le_of_ble_eq_true rfl, Nat.le_of_ble_eq_true rfl⟩ (fun r72 s73 H locs hk hH hS => ?_)
                refine lv_if_eq (tgt := 80) C.hx C.hb dX6_connect_73 (by decide) (fun c74 => ?_) (fun c74 => ?_)
                · have hk := hk.1 c74
                  refine lv_iconst (v := 0) C.hx C.hb dX6_connect_80 (by decide) ?_
                  refine mm_puti C hH hS 12 0 (by decide) rfl q1253 dX6_connect_81 rfl rfl (fun s75 es75 H locs hH hS => ?_)
                  have hk := hk s75 es75
                  refine lv_aload_n C.hx C.hb dX6_connect_84 rfl (lv_at hl 0 rfl) ?_
                  refine mm_geti C hH 12 0 (by decide) rfl q1253 dX6_connect_85 ?_
                  refine lv_if_le (tgt := 93) C.hx C.hb dX6_connect_88 (by decide) (fun c76 => ?_) (fun c76 => ?_)
                  · have hk := hk.1 c76
                    refine lv_aload_n C.hx C.hb dX6_connect_93 rfl (lv_at hl 0 rfl) ?_
                    refine mm_geta C hH 6 (by decide) q1247 dX6_connect_94 ?_
                    refine lv_iconst (v := 4) C.hx C.hb dX6_connect_97 (by decide) ?_
                    refine lv_iload_n C.hx C.hb dX6_connect_98 rfl (lv_at hl 2 rfl) ?_
                    refine lv_imul C.hx C.hb dX6_connect_99 ?_
                    refine lv_aload_n C.hx C.hb dX6_connect_100 rfl (lv_at hl 0 rfl) ?_
                    refine mm_geta C hH 8 (by decide) q1249 dX6_connect_101 ?_
                    refine lv_iload_n C.hx C.hb dX6_connect_104 rfl (lv_at hl 2 rfl) ?_
                    obtain ⟨h77, hk⟩ := hk
                    refine mm_ald C hH 8 (by decide) h77 dX6_connect_105 ?_
                    refine lv_iadd C.hx C.hb dX6_connect_106 ?_
                    refine lv_iload_n C.hx C.hb dX6_connect_107 rfl (lv_at hl 1 rfl) ?_
                    obtain ⟨h78, hk⟩ := hk
                    refine mm_ast C hH hS 6 (by decide) h78 dX6_connect_108 (fun s79 es79 H locs hH hS => ?_)
                    have hk := hk s79 es79
                    refine lv_aload_n C.hx C.hb dX6_connect_109 rfl (lv_at hl 0 rfl) ?_
                    refine mm_geta C hH 7 (by decide) q1248 dX6_connect_110 ?_
                    refine lv_iconst (v := 4) C.hx C.hb dX6_connect_113 (by decide) ?_
                    refine lv_iload_n C.hx C.hb dX6_connect_114 rfl (lv_at hl 2 rfl) ?_
                    refine lv_imul C.hx C.hb dX6_connect_115 ?_
                    refine lv_aload_n C.hx C.hb dX6_connect_116 rfl (lv_at hl 0 rfl) ?_
                    refine mm_geta C hH 8 (by decide) q1249 dX6_connect_117 ?_
                    refine lv_iload_n C.hx C.hb dX6_connect_120 rfl (lv_at hl 2 rfl) ?_
                    obtain ⟨h80, hk⟩ := hk
                    refine mm_ald C hH 8 (by decide) h80 dX6_connect_121 ?_
                    refine lv_iadd C.hx C.hb dX6_connect_122 ?_
                    refine lv_iload_n C.hx C.hb dX6_connect_123 rfl (lv_at hl 3 rfl) ?_
                    obtain ⟨h81, hk⟩ := hk
                    refine mm_ast C hH hS 7 (by decide) h81 dX6_connect_124 (fun s82 es82 H locs hH hS => ?_)
                    have hk := hk s82 es82
                    refine lv_aload_n C.hx C.hb dX6_connect_125 rfl (lv_at hl 0 rfl) ?_
                    refine mm_geta C hH 8 (by decide) q1249 dX6_connect_126 ?_
                    refine lv_iload_n C.hx C.hb dX6_connect_129 rfl (lv_at hl 2 rfl) ?_
                    refine lv_dup2_11 C.hx C.hb dX6_connect_130 rfl rfl ?_
                    obtain ⟨h83, hk⟩ := hk
                    refine mm_ald C hH 8 (by decide) h83 dX6_connect_131 ?_
                    refine lv_iconst (v := 1) C.hx C.hb dX6_connect_132 (by decide) ?_
                    refine lv_iadd C.hx C.hb dX6_connect_133 ?_
                    obtain ⟨h84, hk⟩ := hk
                    refine mm_ast C hH hS 8 (by decide) h84 dX6_connect_134 (fun s85 es85 H locs hH hS => ?_)
                    have hk := hk s85 es85
                    refine lv_aload_n C.hx C.hb dX6_connect_135 rfl (lv_at hl 0 rfl) ?_
                    refine mm_callv (As := []) (rest := []) C (t_X6_lays l hk) (cwV 0 C.hts (lw_V q1233 q1235 qs24 q65 q1236) rfl rfl rfl (by decide +kernel) ⟨Nat.le_of_ble_eq_true rfl, Nat.le_of_ble_eq_true rfl⟩) hH hS rfl hl.1 rfl (lv_room (Nat.le_of_ble_eq_true rfl)) dX6_connect_136 ⟨Nat.le_of_ble_eq_true rfl, Nat.le_of_ble_eq_true rfl⟩ (fun s87 H locs hk hH hS => ?_)
                    refine lv_aload_n C.hx C.hb dX6_connect_139 rfl (lv_at hl 0 rfl) ?_
                    refine mm_geta C hH 8 (by decide) q1249 dX6_connect_140 ?_
                    refine lv_iload_n C.hx C.hb dX6_connect_143 rfl (lv_at hl 2 rfl) ?_
                    obtain ⟨h88, hk⟩ := hk
                    refine mm_ald C hH 8 (by decide) h88 dX6_connect_144 ?_
                    exact mm_iret C hr hlk hH hS hk dX6_connect_145
                  · have hk := hk.2 c76
                    refine lv_iconst (v := 0) C.hx C.hb dX6_connect_91 (by decide) ?_
                    exact mm_iret C hr hlk hH hS hk dX6_connect_92
                · have hk := hk.2 c74
                  refine lv_iconst (v := 4) C.hx C.hb dX6_connect_76 (by decide) ?_
                  refine lv_goto (tgt := 81) C.hx C.hb dX6_connect_77 (by decide) ?_
                  refine mm_puti C hH hS 12 0 (by decide) rfl q1253 dX6_connect_81 rfl rfl (fun s89 es89 H locs hH hS => ?_)
                  have hk := hk s89 es89
                  refine lv_aload_n C.hx C.hb dX6_connect_84 rfl (lv_at hl 0 rfl) ?_
                  refine mm_geti C hH 12 0 (by decide) rfl q1253 dX6_connect_85 ?_
                  refine lv_if_le (tgt := 93) C.hx C.hb dX6_connect_88 (by decide) (fun c90 => ?_) (fun c90 => ?_)
                  · have hk := hk.1 c90
                    refine lv_aload_n C.hx C.hb dX6_connect_93 rfl (lv_at hl 0 rfl) ?_
                    refine mm_geta C hH 6 (by decide) q1247 dX6_connect_94 ?_
                    refine lv_iconst (v := 4) C.hx C.hb dX6_connect_97 (by decide) ?_
                    refine lv_iload_n C.hx C.hb dX6_connect_98 rfl (lv_at hl 2 rfl) ?_
                    refine lv_imul C.hx C.hb dX6_connect_99 ?_
                    refine lv_aload_n C.hx C.hb dX6_connect_100 rfl (lv_at hl 0 rfl) ?_
                    refine mm_geta C hH 8 (by decide) q1249 dX6_connect_101 ?_
                    refine lv_iload_n C.hx C.hb dX6_connect_104 rfl (lv_at hl 2 rfl) ?_
                    obtain ⟨h91, hk⟩ := hk
                    refine mm_ald C hH 8 (by decide) h91 dX6_connect_105 ?_
                    refine lv_iadd C.hx C.hb dX6_connect_106 ?_
                    refine lv_iload_n C.hx C.hb dX6_connect_107 rfl (lv_at hl 1 rfl) ?_
                    obtain ⟨h92, hk⟩ := hk
                    refine mm_ast C hH hS 6 (by decide) h92 dX6_connect_108 (fun s93 es93 H locs hH hS => ?_)
                    have hk := hk s93 es93
                    refine lv_aload_n C.hx C.hb dX6_connect_109 rfl (lv_at hl 0 rfl) ?_
                    refine mm_geta C hH 7 (by decide) q1248 dX6_connect_110 ?_
                    refine lv_iconst (v := 4) C.hx C.hb dX6_connect_113 (by decide) ?_
                    refine lv_iload_n C.hx C.hb dX6_connect_114 rfl (lv_at hl 2 rfl) ?_
                    refine lv_imul C.hx C.hb dX6_connect_115 ?_
                    refine lv_aload_n C.hx C.hb dX6_connect_116 rfl (lv_at hl 0 rfl) ?_
                    refine mm_geta C hH 8 (by decide) q1249 dX6_connect_117 ?_
                    refine lv_iload_n C.hx C.hb dX6_connect_120 rfl (lv_at hl 2 rfl) ?_
                    obtain ⟨h94, hk⟩ := hk
                    refine mm_ald C hH 8 (by decide) h94 dX6_connect_121 ?_
                    refine lv_iadd C.hx C.hb dX6_connect_122 ?_
                    refine lv_iload_n C.hx C.hb dX6_connect_123 rfl (lv_at hl 3 rfl) ?_
                    obtain ⟨h95, hk⟩ := hk
                    refine mm_ast C hH hS 7 (by decide) h95 dX6_connect_124 (fun s96 es96 H locs hH hS => ?_)
                    have hk := hk s96 es96
                    refine lv_aload_n C.hx C.hb dX6_connect_125 rfl (lv_at hl 0 rfl) ?_
                    refine mm_geta C hH 8 (by decide) q1249 dX6_connect_126 ?_
                    refine lv_iload_n C.hx C.hb dX6_connect_129 rfl (lv_at hl 2 rfl) ?_
                    refine lv_dup2_11 C.hx C.hb dX6_connect_130 rfl rfl ?_
                    obtain ⟨h97, hk⟩ := hk
                    refine mm_ald C hH 8 (by decide) h97 dX6_connect_131 ?_
                    refine lv_iconst (v := 1) C.hx C.hb dX6_connect_132 (by decide) ?_
                    refine lv_iadd C.hx C.hb dX6_connect_133 ?_
                    obtain ⟨h98, hk⟩ := hk
                    refine mm_ast C hH hS 8 (by decide) h98 dX6_connect_134 (fun s99 es99 H locs hH hS => ?_)
                    have hk := hk s99 es99
                    refine lv_aload_n C.hx C.hb dX6_connect_135 rfl (lv_at hl 0 rfl) ?_
                    refine mm_callv (As := []) (rest := []) C (t_X6_lays l hk) (cwV 0 C.hts (lw_V q1233 q1235 qs24 q65 q1236) rfl rfl rfl (by decide +kernel) ⟨Nat.le_of_ble_eq_true rfl, Nat.le_of_ble_eq_true rfl⟩) hH hS rfl hl.1 rfl (lv_room (Nat.le_of_ble_eq_true rfl)) dX6_connect_136 ⟨Nat.le_of_ble_eq_true rfl, Nat.le_of_ble_eq_true rfl⟩ (fun s101 H locs hk hH hS => ?_)
                    refine lv_aload_n C.hx C.hb dX6_connect_139 rfl (lv_at hl 0 rfl) ?_
                    refine mm_geta C hH 8 (by decide) q1249 dX6_connect_140 ?_
                    refine lv_iload_n C.hx C.hb dX6_connect_143 rfl (lv_at hl 2 rfl) ?_
                    obtain ⟨h102, hk⟩ := hk
                    refine mm_ald C hH 8 (by decide) h102 dX6_connect_144 ?_
                    exact mm_iret C hr hlk hH hS hk dX6_connect_145
                  · have hk := hk.2 c90
                    refine lv_iconst (v := 0) C.hx C.hb dX6_connect_91 (by decide) ?_
                    exact mm_iret C hr hlk hH hS hk dX6_connect_92
            · have hk := hk.2 c56
              refine lv_iconst (v := 3) C.hx C.hb dX6_connect_59 (by decide) ?_
              refine lv_goto (tgt := 81) C.hx C.hb dX6_connect_60 (by decide) ?_
              refine mm_puti C hH hS 12 0 (by decide) rfl q1253 dX6_connect_81 rfl rfl (fun s103 es103 H locs hH hS => ?_)
              have hk := hk s103 es103
              refine lv_aload_n C.hx C.hb dX6_connect_84 rfl (lv_at hl 0 rfl) ?_
              refine mm_geti C hH 12 0 (by decide) rfl q1253 dX6_connect_85 ?_
              refine lv_if_le (tgt := 93) C.hx C.hb dX6_connect_88 (by decide) (fun c104 => ?_) (fun c104 => ?_)
              · have hk := hk.1 c104
                refine lv_aload_n C.hx C.hb dX6_connect_93 rfl (lv_at hl 0 rfl) ?_
                refine mm_geta C hH 6 (by decide) q1247 dX6_connect_94 ?_
                refine lv_iconst (v := 4) C.hx C.hb dX6_connect_97 (by decide) ?_
                refine lv_iload_n C.hx C.hb dX6_connect_98 rfl (lv_at hl 2 rfl) ?_
                refine lv_imul C.hx C.hb dX6_connect_99 ?_
                refine lv_aload_n C.hx C.hb dX6_connect_100 rfl (lv_at hl 0 rfl) ?_
                refine mm_geta C hH 8 (by decide) q1249 dX6_connect_101 ?_
                refine lv_iload_n C.hx C.hb dX6_connect_104 rfl (lv_at hl 2 rfl) ?_
                obtain ⟨h105, hk⟩ := hk
                refine mm_ald C hH 8 (by decide) h105 dX6_connect_105 ?_
                refine lv_iadd C.hx C.hb dX6_connect_106 ?_
                refine lv_iload_n C.hx C.hb dX6_connect_107 rfl (lv_at hl 1 rfl) ?_
                obtain ⟨h106, hk⟩ := hk
                refine mm_ast C hH hS 6 (by decide) h106 dX6_connect_108 (fun s107 es107 H locs hH hS => ?_)
                have hk := hk s107 es107
                refine lv_aload_n C.hx C.hb dX6_connect_109 rfl (lv_at hl 0 rfl) ?_
                refine mm_geta C hH 7 (by decide) q1248 dX6_connect_110 ?_
                refine lv_iconst (v := 4) C.hx C.hb dX6_connect_113 (by decide) ?_
                refine lv_iload_n C.hx C.hb dX6_connect_114 rfl (lv_at hl 2 rfl) ?_
                refine lv_imul C.hx C.hb dX6_connect_115 ?_
                refine lv_aload_n C.hx C.hb dX6_connect_116 rfl (lv_at hl 0 rfl) ?_
                refine mm_geta C hH 8 (by decide) q1249 dX6_connect_117 ?_
                refine lv_iload_n C.hx C.hb dX6_connect_120 rfl (lv_at hl 2 rfl) ?_
                obtain ⟨h108, hk⟩ := hk
                refine mm_ald C hH 8 (by decide) h108 dX6_connect_121 ?_
                refine lv_iadd C.hx C.hb dX6_connect_122 ?_
                refine lv_iload_n C.hx C.hb dX6_connect_123 rfl (lv_at hl 3 rfl) ?_
                obtain ⟨h109, hk⟩ := hk
                refine mm_ast C hH hS 7 (by decide) h109 dX6_connect_124 (fun s110 es110 H locs hH hS => ?_)
                have hk := hk s110 es110
                refine lv_aload_n C.hx C.hb dX6_connect_125 rfl (lv_at hl 0 rfl) ?_
                refine mm_geta C hH 8 (by decide) q1249 dX6_connect_126 ?_
                refine lv_iload_n C.hx C.hb dX6_connect_129 rfl (lv_at hl 2 rfl) ?_
                refine lv_dup2_11 C.hx C.hb dX6_connect_130 rfl rfl ?_
                obtain ⟨h111, hk⟩ := hk
                refine mm_ald C hH 8 (by decide) h111 dX6_connect_131 ?_
                refine lv_iconst (v := 1) C.hx C.hb dX6_connect_132 (by decide) ?_
                refine lv_iadd C.hx C.hb dX6_connect_133 ?_
                obtain ⟨h112, hk⟩ := hk
                refine mm_ast C hH hS 8 (by decide) h112 dX6_connect_134 (fun s113 es113 H locs hH hS => ?_)
                have hk := hk s113 es113
                refine lv_aload_n C.hx C.hb dX6_connect_135 rfl (lv_at hl 0 rfl) ?_
                refine mm_callv (As := []) (rest := []) C (t_X6_lays l hk) (cwV 0 C.hts (lw_V q1233 q1235 qs24 q65 q1236) rfl rfl rfl (by decide +kernel) ⟨Nat.le_of_ble_eq_true rfl, Nat.le_of_ble_eq_true rfl⟩) hH hS rfl hl.1 rfl (lv_room (Nat.le_of_ble_eq_true rfl)) dX6_connect_136 ⟨Nat.le_of_ble_eq_true rfl, Nat.le_of_ble_eq_true rfl⟩ (fun s115 H locs hk hH hS => ?_)
                refine lv_aload_n C.hx C.hb dX6_connect_139 rfl (lv_at hl 0 rfl) ?_
                refine mm_geta C hH 8 (by decide) q1249 dX6_connect_140 ?_
                refine lv_iload_n C.hx C.hb dX6_connect_143 rfl (lv_at hl 2 rfl) ?_
                obtain ⟨h116, hk⟩ := hk
                refine mm_ald C hH 8 (by decide) h116 dX6_connect_144 ?_
                exact mm_iret C hr hlk hH hS hk dX6_connect_145
              · have hk := hk.2 c104
                refine lv_iconst (v := 0) C.hx C.hb dX6_connect_91 (by decide) ?_
                exact mm_iret C hr hlk hH hS hk dX6_connect_92
        · have hk := hk.2 c37
          refine lv_iconst (v := 2) C.hx C.hb dX6_connect_36 (by decide) ?_
          refine lv_goto (tgt := 81) C.hx C.hb dX6_connect_37 (by decide) ?_
          refine mm_puti C hH hS 12 0 (by decide) rfl q1253 dX6_connect_81 rfl rfl (fun s117 es117 H locs hH hS => ?_)
          have hk := hk s117 es117
          refine lv_aload_n C.hx C.hb dX6_connect_84 rfl (lv_at hl 0 rfl) ?_
          refine mm_geti C hH 12 0 (by decide) rfl q1253 dX6_connect_85 ?_
          refine lv_if_le (tgt := 93) C.hx C.hb dX6_connect_88 (by decide) (fun c118 => ?_) (fun c118 => ?_)
          · have hk := hk.1 c118
            refine lv_aload_n C.hx C.hb dX6_connect_93 rfl (lv_at hl 0 rfl) ?_
            refine mm_geta C hH 6 (by decide) q1247 dX6_connect_94 ?_
            refine lv_iconst (v := 4) C.hx C.hb dX6_connect_97 (by decide) ?_
            refine lv_iload_n C.hx C.hb dX6_connect_98 rfl (lv_at hl 2 rfl) ?_
            refine lv_imul C.hx C.hb dX6_connect_99 ?_
            refine lv_aload_n C.hx C.hb dX6_connect_100 rfl (lv_at hl 0 rfl) ?_
            refine mm_geta C hH 8 (by decide) q1249 dX6_connect_101 ?_
            refine lv_iload_n C.hx C.hb dX6_connect_104 rfl (lv_at hl 2 rfl) ?_
            obtain ⟨h119, hk⟩ := hk
            refine mm_ald C hH 8 (by decide) h119 dX6_connect_105 ?_
            refine lv_iadd C.hx C.hb dX6_connect_106 ?_
            refine lv_iload_n C.hx C.hb dX6_connect_107 rfl (lv_at hl 1 rfl) ?_
            obtain ⟨h120, hk⟩ := hk
            refine mm_ast C hH hS 6 (by decide) h120 dX6_connect_108 (fun s121 es121 H locs hH hS => ?_)
            have hk := hk s121 es121
            refine lv_aload_n C.hx C.hb dX6_connect_109 rfl (lv_at hl 0 rfl) ?_
            refine mm_geta C hH 7 (by decide) q1248 dX6_connect_110 ?_
            refine lv_iconst (v := 4) C.hx C.hb dX6_connect_113 (by decide) ?_
            refine lv_iload_n C.hx C.hb dX6_connect_114 rfl (lv_at hl 2 rfl) ?_
            refine lv_imul C.hx C.hb dX6_connect_115 ?_
            refine lv_aload_n C.hx C.hb dX6_connect_116 rfl (lv_at hl 0 rfl) ?_
            refine mm_geta C hH 8 (by decide) q1249 dX6_connect_117 ?_
            refine lv_iload_n C.hx C.hb dX6_connect_120 rfl (lv_at hl 2 rfl) ?_
            obtain ⟨h122, hk⟩ := hk
            refine mm_ald C hH 8 (by decide) h122 dX6_connect_121 ?_
            refine lv_iadd C.hx C.hb dX6_connect_122 ?_
            refine lv_iload_n C.hx C.hb dX6_connect_123 rfl (lv_at hl 3 rfl) ?_
            obtain ⟨h123, hk⟩ := hk
            refine mm_ast C hH hS 7 (by decide) h123 dX6_connect_124 (fun s124 es124 H locs hH hS => ?_)
            have hk := hk s124 es124
            refine lv_aload_n C.hx C.hb dX6_connect_125 rfl (lv_at hl 0 rfl) ?_
            refine mm_geta C hH 8 (by decide) q1249 dX6_connect_126 ?_
            refine lv_iload_n C.hx C.hb dX6_connect_129 rfl (lv_at hl 2 rfl) ?_
            refine lv_dup2_11 C.hx C.hb dX6_connect_130 rfl rfl ?_
            obtain ⟨h125, hk⟩ := hk
            refine mm_ald C hH 8 (by decide) h125 dX6_connect_131 ?_
            refine lv_iconst (v := 1) C.hx C.hb dX6_connect_132 (by decide) ?_
            refine lv_iadd C.hx C.hb dX6_connect_133 ?_
            obtain ⟨h126, hk⟩ := hk
            refine mm_ast C hH hS 8 (by decide) h126 dX6_connect_134 (fun s127 es127 H locs hH hS => ?_)
            have hk := hk s127 es127
            refine lv_aload_n C.hx C.hb dX6_connect_135 rfl (lv_at hl 0 rfl) ?_
            refine mm_callv (As := []) (rest := []) C (t_X6_lays l hk) (cwV 0 C.hts (lw_V q1233 q1235 qs24 q65 q1236) rfl rfl rfl (by decide +kernel) ⟨Nat.le_of_ble_eq_true rfl, Nat.le_of_ble_eq_true rfl⟩) hH hS rfl hl.1 rfl (lv_room (Nat.le_of_ble_eq_true rfl)) dX6_connect_136 ⟨Nat.le_of_ble_eq_true rfl, Nat.le_of_ble_eq_true rfl⟩ (fun s129 H locs hk hH hS => ?_)
            refine lv_aload_n C.hx C.hb dX6_connect_139 rfl (lv_at hl 0 rfl) ?_
            refine mm_geta C hH 8 (by decide) q1249 dX6_connect_140 ?_
            refine lv_iload_n C.hx C.hb dX6_connect_143 rfl (lv_at hl 2 rfl) ?_
            obtain ⟨h130, hk⟩ := hk
            refine mm_ald C hH 8 (by decide) h130 dX6_connect_144 ?_
            exact mm_iret C hr hlk hH hS hk dX6_connect_145
          · have hk := hk.2 c118
            refine lv_iconst (v := 0) C.hx C.hb dX6_connect_91 (by decide) ?_
            exact mm_iret C hr hlk hH hS hk dX6_connect_92
    · have hk := hk.2 c20
      refine lv_iconst (v := 1) C.hx C.hb dX6_connect_17 (by decide) ?_
      refine lv_goto (tgt := 81) C.hx C.hb dX6_connect_18 (by decide) ?_
      refine mm_puti C hH hS 12 0 (by decide) rfl q1253 dX6_connect_81 rfl rfl (fun s131 es131 H locs hH hS => ?_)
      have hk := hk s131 es131
      refine lv_aload_n C.hx C.hb dX6_connect_84 rfl (lv_at hl 0 rfl) ?_
      refine mm_geti C hH 12 0 (by decide) rfl q1253 dX6_connect_85 ?_
      refine lv_if_le (tgt := 93) C.hx C.hb dX6_connect_88 (by decide) (fun c132 => ?_) (fun c132 => ?_)
      · have hk := hk.1 c132
        refine lv_aload_n C.hx C.hb dX6_connect_93 rfl (lv_at hl 0 rfl) ?_
        refine mm_geta C hH 6 (by decide) q1247 dX6_connect_94 ?_
        refine lv_iconst (v := 4) C.hx C.hb dX6_connect_97 (by decide) ?_
        refine lv_iload_n C.hx C.hb dX6_connect_98 rfl (lv_at hl 2 rfl) ?_
        refine lv_imul C.hx C.hb dX6_connect_99 ?_
        refine lv_aload_n C.hx C.hb dX6_connect_100 rfl (lv_at hl 0 rfl) ?_
        refine mm_geta C hH 8 (by decide) q1249 dX6_connect_101 ?_
        refine lv_iload_n C.hx C.hb dX6_connect_104 rfl (lv_at hl 2 rfl) ?_
        obtain ⟨h133, hk⟩ := hk
        refine mm_ald C hH 8 (by decide) h133 dX6_connect_105 ?_
        refine lv_iadd C.hx C.hb dX6_connect_106 ?_
        refine lv_iload_n C.hx C.hb dX6_connect_107 rfl (lv_at hl 1 rfl) ?_
        obtain ⟨h134, hk⟩ := hk
        refine mm_ast C hH hS 6 (by decide) h134 dX6_connect_108 (fun s135 es135 H locs hH hS => ?_)
        have hk := hk s135 es135
        refine lv_aload_n C.hx C.hb dX6_connect_109 rfl (lv_at hl 0 rfl) ?_
        refine mm_geta C hH 7 (by decide) q1248 dX6_connect_110 ?_
        refine lv_iconst (v := 4) C.hx C.hb dX6_connect_113 (by decide) ?_
        refine lv_iload_n C.hx C.hb dX6_connect_114 rfl (lv_at hl 2 rfl) ?_
        refine lv_imul C.hx C.hb dX6_connect_115 ?_
        refine lv_aload_n C.hx C.hb dX6_connect_116 rfl (lv_at hl 0 rfl) ?_
        refine mm_geta C hH 8 (by decide) q1249 dX6_connect_117 ?_
        refine lv_iload_n C.hx C.hb dX6_connect_120 rfl (lv_at hl 2 rfl) ?_
        obtain ⟨h136, hk⟩ := hk
        refine mm_ald C hH 8 (by decide) h136 dX6_connect_121 ?_
        refine lv_iadd C.hx C.hb dX6_connect_122 ?_
        refine lv_iload_n C.hx C.hb dX6_connect_123 rfl (lv_at hl 3 rfl) ?_
        obtain ⟨h137, hk⟩ := hk
        refine mm_ast C hH hS 7 (by decide) h137 dX6_connect_124 (fun s138 es138 H locs hH hS => ?_)
        have hk := hk s138 es138
        refine lv_aload_n C.hx C.hb dX6_connect_125 rfl (lv_at hl 0 rfl) ?_
        refine mm_geta C hH 8 (by decide) q1249 dX6_connect_126 ?_
        refine lv_iload_n C.hx C.hb dX6_connect_129 rfl (lv_at hl 2 rfl) ?_
        refine lv_dup2_11 C.hx C.hb dX6_connect_130 rfl rfl ?_
        obtain ⟨h139, hk⟩ := hk
        refine mm_ald C hH 8 (by decide) h139 dX6_connect_131 ?_
        refine lv_iconst (v := 1) C.hx C.hb dX6_connect_132 (by decide) ?_
        refine lv_iadd C.hx C.hb dX6_connect_133 ?_
        obtain ⟨h140, hk⟩ := hk
        refine mm_ast C hH hS 8 (by decide) h140 dX6_connect_134 (fun s141 es141 H locs hH hS => ?_)
        have hk := hk s141 es141
        refine lv_aload_n C.hx C.hb dX6_connect_135 rfl (lv_at hl 0 rfl) ?_
        refine mm_callv (As := []) (rest := []) C (t_X6_lays l hk) (cwV 0 C.hts (lw_V q1233 q1235 qs24 q65 q1236) rfl rfl rfl (by decide +kernel) ⟨Nat.le_of_ble_eq_true rfl, Nat.le_of_ble_eq_true rfl⟩) hH hS rfl hl.1 rfl (lv_room (Nat.le_of_ble_eq_true rfl)) dX6_connect_136 ⟨Nat.le_of_ble_eq_true rfl, Nat.le_of_ble_eq_true rfl⟩ (fun s143 H locs hk hH hS => ?_)
        refine lv_aload_n C.hx C.hb dX6_connect_139 rfl (lv_at hl 0 rfl) ?_
        refine mm_geta C hH 8 (by decide) q1249 dX6_connect_140 ?_
        refine lv_iload_n C.hx C.hb dX6_connect_143 rfl (lv_at hl 2 rfl) ?_
        obtain ⟨h144, hk⟩ := hk
        refine mm_ald C hH 8 (by decide) h144 dX6_connect_144 ?_
        exact mm_iret C hr hlk hH hS hk dX6_connect_145
      · have hk := hk.2 c132
        refine lv_iconst (v := 0) C.hx C.hb dX6_connect_91 (by decide) ?_
        exact mm_iret C hr hlk hH hS hk dX6_connect_92
/-! ToneGraphModel.disconnect(II)I -/
def wp_X6_disconnect_83 (post : Int32 → mm_S → Prop) (K : Int32 → Int32 → Int32 → Int32 → Int32 → mm_S → Prop) : Nat → Int32 → Int32 → Int32 → Int32 → Int32 → mm_S → Prop
  | 0, _, _, _, _, _, _ => False
  | n83 + 1, x1, x2, x3, x4, x5, s0 => (vp_in x2 10 ∧ ((((4 * x2) + (s0.2.1 8 x2.toNatClampNeg)) ≤ x5 → K x1 x2 x3 x4 x5 s0) ∧ (¬ ((4 * x2) + (s0.2.1 8 x2.toNatClampNeg)) ≤ x5 → (vp_in (x5 + 1) 40 ∧ (vp_in x5 40 ∧ (∀ s18 : mm_S, s18 = ms_a s0 6 x5.toNatClampNeg (s0.2.1 6 (x5 + 1).toNatClampNeg) → (vp_in (x5 + 1) 40 ∧ (vp_in x5 40 ∧ (∀ s21 : mm_S, s21 = ms_a s18 7 x5.toNatClampNeg (s18.2.1 7 (x5 + 1).toNatClampNeg) → (∀ v22, v22 = x5 + 1 → wp_X6_disconnect_83 post K n83 x1 x2 x3 x4 v22 s21))))))))))
set_option maxHeartbeats 4000000 in
theorem tw_X6_disconnect_83 {p : Program} {l : Launch} {e : Env} {s : State} {m : MethodId} {args : Array Value} {below : List Frame} {meth : Method} {c : Code} {base : Nat} {D : va_G} {ca : Nat → ClassId} {Ls : List gb_L} {ad : gb_L → Nat} {w : gb_L → va_E} {post : Int32 → mm_S → Prop} {K : Int32 → Int32 → Int32 → Int32 → Int32 → mm_S → Prop} (C : gb_C p m c cX6_disconnect 6 s args RX6 base D ca) (hr : meth.sig.returnType = (some .int)) (hlk : meth.locks = false) (hK : ∀ (x1 : Int32) (x2 : Int32) (x3 : Int32) (x4 : Int32) (x5 : Int32) (σ' : mm_S) (H : Heap) (locs : List Loc) (ls : Array Slot), K x1 x2 x3 x4 x5 σ' → mm_ok base D ca Ls ad w σ' H → va_S (fun q => base ≤ q) s.heap H locs → lv_has ls 6 [(0, .ref (ad (20, 0))), (1, .int x1), (2, .int x2), (3, .int x3), (4, .int x4), (5, .int x5)] → W p l e ({ frames := 2, cells := 0, slots := 0, locals := 44 } : Room) s m args below meth c H locs 0 0 (MQ below (va_Qi post (fun σ' t => mm_ok base D ca Ls ad w σ' t.heap) (fun q => base ≤ q)) args s 0 0 (fun q => base ≤ q)) (F0 m 136 ls [])) :
    ∀ (n : Nat) (x1 : Int32) (x2 : Int32) (x3 : Int32) (x4 : Int32) (x5 : Int32) (s0 : mm_S) (H : Heap) (locs : List Loc) (ls : Array Slot), wp_X6_disconnect_83 post K n x1 x2 x3 x4 x5 s0 → mm_ok base D ca Ls ad w s0 H → va_S (fun q => base ≤ q) s.heap H locs → lv_has ls 6 [(0, .ref (ad (20, 0))), (1, .int x1), (2, .int x2), (3, .int x3), (4, .int x4), (5, .int x5)] → W p l e ({ frames := 2, cells := 0, slots := 0, locals := 44 } : Room) s m args below meth c H locs 0 0 (MQ below (va_Qi post (fun σ' t => mm_ok base D ca Ls ad w σ' t.heap) (fun q => base ≤ q)) args s 0 0 (fun q => base ≤ q)) (F0 m 83 ls []) := by
  intro n
  induction n with
  | zero =>
    intro x1 x2 x3 x4 x5 s0 H locs ls hk
    exact hk.elim
  | succ n ih =>
    intro x1 x2 x3 x4 x5 s0 H locs ls hk hH hS hl
    rw [wp_X6_disconnect_83] at hk
    refine lv_iload C.hx C.hb dX6_disconnect_83 (lv_at hl 5 rfl) ?_
    refine lv_iconst (v := 4) C.hx C.hb dX6_disconnect_85 (by decide) ?_
    refine lv_iload_n C.hx C.hb dX6_disconnect_86 rfl (lv_at hl 2 rfl) ?_
    refine lv_imul C.hx C.hb dX6_disconnect_87 ?_
    refine lv_aload_n C.hx C.hb dX6_disconnect_88 rfl (lv_at hl 0 rfl) ?_
    refine mm_geta C hH 8 (by decide) q1249 dX6_disconnect_89 ?_
    refine lv_iload_n C.hx C.hb dX6_disconnect_92 rfl (lv_at hl 2 rfl) ?_
    obtain ⟨h14, hk⟩ := hk
    refine mm_ald C hH 8 (by decide) h14 dX6_disconnect_93 ?_
    refine lv_iadd C.hx C.hb dX6_disconnect_94 ?_
    refine lv_icmp_ge (tgt := 136) C.hx C.hb dX6_disconnect_95 (by decide) (fun c15 => ?_) (fun c15 => ?_)
    · have hk := hk.1 c15
      exact hK x1 x2 x3 x4 x5 s0 _ _ _ hk hH hS (lv_sub hl [0, 1, 2, 3, 4, 5] rfl)
    · have hk := hk.2 c15
      refine lv_aload_n C.hx C.hb dX6_disconnect_98 rfl (lv_at hl 0 rfl) ?_
      refine mm_geta C hH 6 (by decide) q1247 dX6_disconnect_99 ?_
      refine lv_iload C.hx C.hb dX6_disconnect_102 (lv_at hl 5 rfl) ?_
      refine lv_aload_n C.hx C.hb dX6_disconnect_104 rfl (lv_at hl 0 rfl) ?_
      refine mm_geta C hH 6 (by decide) q1247 dX6_disconnect_105 ?_
      refine lv_iload C.hx C.hb dX6_disconnect_108 (lv_at hl 5 rfl) ?_
      refine lv_iconst (v := 1) C.hx C.hb dX6_disconnect_110 (by decide) ?_
      refine lv_iadd C.hx C.hb dX6_disconnect_111 ?_
      obtain ⟨h16, hk⟩ := hk
      refine mm_ald C hH 6 (by decide) h16 dX6_disconnect_112 ?_
      obtain ⟨h17, hk⟩ := hk
      refine mm_ast C hH hS 6 (by decide) h17 dX6_disconnect_113 (fun s18 es18 H locs hH hS => ?_)
      have hk := hk s18 es18
      refine lv_aload_n C.hx C.hb dX6_disconnect_114 rfl (lv_at hl 0 rfl) ?_
      refine mm_geta C hH 7 (by decide) q1248 dX6_disconnect_115 ?_
      refine lv_iload C.hx C.hb dX6_disconnect_118 (lv_at hl 5 rfl) ?_
      refine lv_aload_n C.hx C.hb dX6_disconnect_120 rfl (lv_at hl 0 rfl) ?_
      refine mm_geta C hH 7 (by decide) q1248 dX6_disconnect_121 ?_
      refine lv_iload C.hx C.hb dX6_disconnect_124 (lv_at hl 5 rfl) ?_
      refine lv_iconst (v := 1) C.hx C.hb dX6_disconnect_126 (by decide) ?_
      refine lv_iadd C.hx C.hb dX6_disconnect_127 ?_
      obtain ⟨h19, hk⟩ := hk
      refine mm_ald C hH 7 (by decide) h19 dX6_disconnect_128 ?_
      obtain ⟨h20, hk⟩ := hk
      refine mm_ast C hH hS 7 (by decide) h20 dX6_disconnect_129 (fun s21 es21 H locs hH hS => ?_)
      have hk := hk s21 es21
      obtain ⟨v22, ev22⟩ : ∃ y : Int32, y = x5 + 1 := ⟨_, rfl⟩
      have hk := hk v22 ev22
      refine lv_iinc (v := v22) (lv' := [(5, .int v22), (0, .ref (ad (20, 0))), (1, .int x1), (2, .int x2), (3, .int x3), (4, .int x4)]) C.hx C.hb dX6_disconnect_130 hl (k := 5) rfl (by rw [ev22]; rfl) (by decide) rfl (fun ls hl => ?_)
      refine lv_goto (tgt := 83) C.hx C.hb dX6_disconnect_133 (by decide) ?_
      exact ih x1 x2 x3 x4 v22 s21 _ _ _ hk hH hS (lv_sub hl [1, 2, 3, 4, 5, 0] rfl)
def wp_X6_disconnect (post : Int32 → mm_S → Prop) (p1 : Int32) (p2 : Int32) (s0 : mm_S) : Prop := wp_X6_isNode (fun r1 s2 => ((r1 = 0 → (∀ s4 : mm_S, s4 = ms_f s2 0 1 → (((s4.1 0) ≤ 0 → wp_X6_wire (fun r6 s7 => (vp_in ((4 * p2) + r6) 40 ∧ (∀ v9, v9 = (s7.2.1 7 ((4 * p2) + r6).toNatClampNeg) → (vp_in p2 10 ∧ (vp_in p2 10 ∧ (∀ s12 : mm_S, s12 = ms_a s7 8 p2.toNatClampNeg ((s7.2.1 8 p2.toNatClampNeg) - 1) → (∀ v13, v13 = ((4 * p2) + r6) → (∃ n83, wp_X6_disconnect_83 post (fun y23 y24 y25 y26 y27 s28 => wp_X6_lays (fun s30 => post y26 s30)  s28) n83 p1 p2 r6 v9 v13 s12)))))))) p1 p2 s4) ∧ (¬ (s4.1 0) ≤ 0 → post 0 s4)))) ∧ (¬ r1 = 0 → wp_X6_isNode (fun r31 s32 => ((¬ r31 = 0 → wp_X6_wire (fun r34 s35 => ((0 ≤ r34 → (∀ s37 : mm_S, s37 = ms_f s35 0 0 → (((s37.1 0) ≤ 0 → wp_X6_wire (fun r39 s40 => (vp_in ((4 * p2) + r39) 40 ∧ (∀ v42, v42 = (s40.2.1 7 ((4 * p2) + r39).toNatClampNeg) → (vp_in p2 10 ∧ (vp_in p2 10 ∧ (∀ s45 : mm_S, s45 = ms_a s40 8 p2.toNatClampNeg ((s40.2.1 8 p2.toNatClampNeg) - 1) → (∀ v46, v46 = ((4 * p2) + r39) → (∃ n83, wp_X6_disconnect_83 post (fun y47 y48 y49 y50 y51 s52 => wp_X6_lays (fun s54 => post y50 s54)  s52) n83 p1 p2 r39 v42 v46 s45)))))))) p1 p2 s37) ∧ (¬ (s37.1 0) ≤ 0 → post 0 s37)))) ∧ (¬ 0 ≤ r34 → (∀ s55 : mm_S, s55 = ms_f s35 0 2 → (((s55.1 0) ≤ 0 → wp_X6_wire (fun r57 s58 => (vp_in ((4 * p2) + r57) 40 ∧ (∀ v60, v60 = (s58.2.1 7 ((4 * p2) + r57).toNatClampNeg) → (vp_in p2 10 ∧ (vp_in p2 10 ∧ (∀ s63 : mm_S, s63 = ms_a s58 8 p2.toNatClampNeg ((s58.2.1 8 p2.toNatClampNeg) - 1) → (∀ v64, v64 = ((4 * p2) + r57) → (∃ n83, wp_X6_disconnect_83 post (fun y65 y66 y67 y68 y69 s70 => wp_X6_lays (fun s72 => post y68 s72)  s70) n83 p1 p2 r57 v60 v64 s63)))))))) p1 p2 s55) ∧ (¬ (s55.1 0) ≤ 0 → post 0 s55)))))) p1 p2 s32) ∧ (r31 = 0 → (∀ s73 : mm_S, s73 = ms_f s32 0 1 → (((s73.1 0) ≤ 0 → wp_X6_wire (fun r75 s76 => (vp_in ((4 * p2) + r75) 40 ∧ (∀ v78, v78 = (s76.2.1 7 ((4 * p2) + r75).toNatClampNeg) → (vp_in p2 10 ∧ (vp_in p2 10 ∧ (∀ s81 : mm_S, s81 = ms_a s76 8 p2.toNatClampNeg ((s76.2.1 8 p2.toNatClampNeg) - 1) → (∀ v82, v82 = ((4 * p2) + r75) → (∃ n83, wp_X6_disconnect_83 post (fun y83 y84 y85 y86 y87 s88 => wp_X6_lays (fun s90 => post y86 s90)  s88) n83 p1 p2 r75 v78 v82 s81)))))))) p1 p2 s73) ∧ (¬ (s73.1 0) ≤ 0 → post 0 s73)))))) p2 s2))) p1 s0
set_option maxHeartbeats 4000000 in
theorem t_X6_disconnect (l : Launch) {base : Nat} {D : va_G} {ca : Nat → ClassId} {Ls : List gb_L} {ad : gb_L → Nat} {w : gb_L → va_E} {post : Int32 → mm_S → Prop} {p1 : Int32} {p2 : Int32} {s0 : mm_S} (hk : wp_X6_disconnect post p1 p2 s0) : mm_Mi l yX6_disconnect (ws_ yX6_disconnect cX6_disconnect 6 (some .int)) ({ frames := 2, cells := 0, slots := 0, locals := 44 } : Room) base D ca Ls ad w [.int p1, .int p2] s0 post := by
  refine mm_start cX6_disconnect 6 (some .int) _ (by decide) rfl rfl (Nat.le_of_ble_eq_true rfl) ?_
  intro p e s m args below meth c ls C hr hlk hH hS hl
  have hl : lv_has ls 6 [(0, .ref (ad (20, 0))), (1, .int p1), (2, .int p2)] := hl
  unfold wp_X6_disconnect at hk
  refine lv_aload_n C.hx C.hb dX6_disconnect_0 rfl (lv_at hl 0 rfl) ?_
  refine lv_aload_n C.hx C.hb dX6_disconnect_1 rfl (lv_at hl 0 rfl) ?_
  refine lv_iload_n C.hx C.hb dX6_disconnect_2 rfl (lv_at hl 1 rfl) ?_
  refine mm_calli (As := [.int p1]) (rest := [.ref (ad (20, 0))]) C (t_X6_isNode l hk) (cwV 1 C.hts (lw_V q1356 q1358 qs28 q65 q1359) rfl rfl rfl (by decide +kernel) ⟨Nat.le_of_ble_eq_true rfl, Nat.le_of_ble_eq_true rfl⟩) hH hS rfl hl.1 rfl (lv_room (Nat.le_of_ble_eq_true rfl)) dX6_disconnect_3 ⟨Nat.le_of_ble_eq_true rfl, Nat.le_of_ble_eq_true rfl⟩ (fun r1 s2 H locs hk hH hS => ?_)
  refine lv_if_eq (tgt := 17) C.hx C.hb dX6_disconnect_6 (by decide) (fun c3 => ?_) (fun c3 => ?_)
  · have hk := hk.1 c3
    refine lv_iconst (v := 1) C.hx C.hb dX6_disconnect_17 (by decide) ?_
    refine lv_goto (tgt := 35) C.hx C.hb dX6_disconnect_18 (by decide) ?_
    refine mm_puti C hH hS 12 0 (by decide) rfl q1253 dX6_disconnect_35 rfl rfl (fun s4 es4 H locs hH hS => ?_)
    have hk := hk s4 es4
    refine lv_aload_n C.hx C.hb dX6_disconnect_38 rfl (lv_at hl 0 rfl) ?_
    refine mm_geti C hH 12 0 (by decide) rfl q1253 dX6_disconnect_39 ?_
    refine lv_if_le (tgt := 47) C.hx C.hb dX6_disconnect_42 (by decide) (fun c5 => ?_) (fun c5 => ?_)
    · have hk := hk.1 c5
      refine lv_aload_n C.hx C.hb dX6_disconnect_47 rfl (lv_at hl 0 rfl) ?_
      refine lv_iload_n C.hx C.hb dX6_disconnect_48 rfl (lv_at hl 1 rfl) ?_
      refine lv_iload_n C.hx C.hb dX6_disconnect_49 rfl (lv_at hl 2 rfl) ?_
      refine mm_calli (As := [.int p1, .int p2]) (rest := []) C (t_X6_wire l hk) (cwV 2 C.hts (lw_V q1360 q1362 qs29 q65 q1363) rfl rfl rfl (by decide +kernel) ⟨Nat.le_of_ble_eq_true rfl, Nat.le_of_ble_eq_true rfl⟩) hH hS rfl hl.1 rfl (lv_room (Nat.le_of_ble_eq_true rfl)) dX6_disconnect_50 ⟨Nat.le_of_ble_eq_true rfl, Nat.le_of_ble_eq_true rfl⟩ (fun r6 s7 H locs hk hH hS => ?_)
      refine lv_istore_n (lv' := [(3, .int r6), (0, .ref (ad (20, 0))), (1, .int p1), (2, .int p2)]) C.hx C.hb dX6_disconnect_53 rfl hl (by decide) rfl (fun ls hl => ?_)
      refine lv_aload_n C.hx C.hb dX6_disconnect_54 rfl (lv_at hl 1 rfl) ?_
      refine mm_geta C hH 7 (by decide) q1248 dX6_disconnect_55 ?_
      refine lv_iconst (v := 4) C.hx C.hb dX6_disconnect_58 (by decide) ?_
      refine lv_iload_n C.hx C.hb dX6_disconnect_59 rfl (lv_at hl 3 rfl) ?_
      refine lv_imul C.hx C.hb dX6_disconnect_60 ?_
      refine lv_iload_n C.hx C.hb dX6_disconnect_61 rfl (lv_at hl 0 rfl) ?_
      refine lv_iadd C.hx C.hb dX6_disconnect_62 ?_
      obtain ⟨h8, hk⟩ := hk
      refine mm_ald C hH 7 (by decide) h8 dX6_disconnect_63 ?_
      refine lv_topi (fun v9 ev9 => ?_)
      have hk := hk v9 ev9
      refine lv_istore (lv' := [(4, .int v9), (3, .int r6), (0, .ref (ad (20, 0))), (1, .int p1), (2, .int p2)]) C.hx C.hb dX6_disconnect_64 hl (by decide) rfl (fun ls hl => ?_)
      refine lv_aload_n C.hx C.hb dX6_disconnect_66 rfl (lv_at hl 2 rfl) ?_
      refine mm_geta C hH 8 (by decide) q1249 dX6_disconnect_67 ?_
      refine lv_iload_n C.hx C.hb dX6_disconnect_70 rfl (lv_at hl 4 rfl) ?_
      refine lv_dup2_11 C.hx C.hb dX6_disconnect_71 rfl rfl ?_
      obtain ⟨h10, hk⟩ := hk
      refine mm_ald C hH 8 (by decide) h10 dX6_disconnect_72 ?_
      refine lv_iconst (v := 1) C.hx C.hb dX6_disconnect_73 (by decide) ?_
      refine lv_isub C.hx C.hb dX6_disconnect_74 ?_
      obtain ⟨h11, hk⟩ := hk
      refine mm_ast C hH hS 8 (by decide) h11 dX6_disconnect_75 (fun s12 es12 H locs hH hS => ?_)
      have hk := hk s12 es12
      refine lv_iconst (v := 4) C.hx C.hb dX6_disconnect_76 (by decide) ?_
      refine lv_iload_n C.hx C.hb dX6_disconnect_77 rfl (lv_at hl 4 rfl) ?_
      refine lv_imul C.hx C.hb dX6_disconnect_78 ?_
      refine lv_iload_n C.hx C.hb dX6_disconnect_79 rfl (lv_at hl 1 rfl) ?_
      refine lv_iadd C.hx C.hb dX6_disconnect_80 ?_
      refine lv_topi (fun v13 ev13 => ?_)
      have hk := hk v13 ev13
      refine lv_istore (lv' := [(5, .int v13), (4, .int v9), (3, .int r6), (0, .ref (ad (20, 0))), (1, .int p1), (2, .int p2)]) C.hx C.hb dX6_disconnect_81 hl (by decide) rfl (fun ls hl => ?_)
      obtain ⟨n83, hk⟩ := hk
      refine tw_X6_disconnect_83 C hr hlk (fun y23 y24 y25 y26 y27 s28 H locs ls hk hH hS hl => ?_) n83 p1 p2 r6 v9 v13 s12 _ _ _ hk hH hS (lv_sub hl [3, 4, 5, 2, 1, 0] rfl)
      refine lv_aload_n C.hx C.hb dX6_disconnect_136 rfl (lv_at hl 0 rfl) ?_
      refine mm_callv (As := []) (rest := []) C (t_X6_lays l hk) (cwV 0 C.hts (lw_V q1233 q1235 qs24 q65 q1236) rfl rfl rfl (by decide +kernel) ⟨Nat.le_of_ble_eq_true rfl, Nat.le_of_ble_eq_true rfl⟩) hH hS rfl hl.1 rfl (lv_room (Nat.le_of_ble_eq_true rfl)) dX6_disconnect_137 ⟨Nat.le_of_ble_eq_true rfl, Nat.le_of_ble_eq_true rfl⟩ (fun s30 H locs hk hH hS => ?_)
      refine lv_iload C.hx C.hb dX6_disconnect_140 (lv_at hl 4 rfl) ?_
      exact mm_iret C hr hlk hH hS hk dX6_disconnect_142
    · have hk := hk.2 c5
      refine lv_iconst (v := 0) C.hx C.hb dX6_disconnect_45 (by decide) ?_
      exact mm_iret C hr hlk hH hS hk dX6_disconnect_46
  · have hk := hk.2 c3
    refine lv_aload_n C.hx C.hb dX6_disconnect_9 rfl (lv_at hl 0 rfl) ?_
    refine lv_iload_n C.hx C.hb dX6_disconnect_10 rfl (lv_at hl 2 rfl) ?_
    refine mm_calli (As := [.int p2]) (rest := [.ref (ad (20, 0))]) C (t_X6_isNode l hk) (cwV 1 C.hts (lw_V q1356 q1358 qs28 q65 q1359) rfl rfl rfl (by decide +kernel) ⟨Nat.le_of_ble_eq_true rfl, Nat.le_of_ble_eq_true rfl⟩) hH hS rfl hl.1 rfl (lv_room (Nat.le_of_ble_eq_true rfl)) dX6_disconnect_11 ⟨Nat.le_of_ble_eq_true rfl, Nat.le_of_ble_eq_true rfl⟩ (fun r31 s32 H locs hk hH hS => ?_)
    refine lv_if_ne (tgt := 21) C.hx C.hb dX6_disconnect_14 (by decide) (fun c33 => ?_) (fun c33 => ?_)
    · have hk := hk.1 c33
      refine lv_aload_n C.hx C.hb dX6_disconnect_21 rfl (lv_at hl 0 rfl) ?_
      refine lv_iload_n C.hx C.hb dX6_disconnect_22 rfl (lv_at hl 1 rfl) ?_
      refine lv_iload_n C.hx C.hb dX6_disconnect_23 rfl (lv_at hl 2 rfl) ?_
      refine mm_calli (As := [.int p1, .int p2]) (rest := [.ref (ad (20, 0))]) C (t_X6_wire l hk) (cwV 2 C.hts (lw_V q1360 q1362 qs29 q65 q1363) rfl rfl rfl (by decide +kernel) ⟨Nat.le_of_ble_eq_true rfl, Nat.le_of_ble_eq_true rfl⟩) hH hS rfl hl.1 rfl (lv_room (Nat.le_of_ble_eq_true rfl)) dX6_disconnect_24 ⟨Nat.le_of_ble_eq_true rfl, Nat.le_of_ble_eq_true rfl⟩ (fun r34 s35 H locs hk hH hS => ?_)
      refine lv_if_ge (tgt := 34) C.hx C.hb dX6_disconnect_27 (by decide) (fun c36 => ?_) (fun c36 => ?_)
      · have hk := hk.1 c36
        refine lv_iconst (v := 0) C.hx C.hb dX6_disconnect_34 (by decide) ?_
        refine mm_puti C hH hS 12 0 (by decide) rfl q1253 dX6_disconnect_35 rfl rfl (fun s37 es37 H locs hH hS => ?_)
        have hk := hk s37 es37
        refine lv_aload_n C.hx C.hb dX6_disconnect_38 rfl (lv_at hl 0 rfl) ?_
        refine mm_geti C hH 12 0 (by decide) rfl q1253 dX6_disconnect_39 ?_
        refine lv_if_le (tgt := 47) C.hx C.hb dX6_disconnect_42 (by decide) (fun c38 => ?_) (fun c38 => ?_)
        · have hk := hk.1 c38
          refine lv_aload_n C.hx C.hb dX6_disconnect_47 rfl (lv_at hl 0 rfl) ?_
          refine lv_iload_n C.hx C.hb dX6_disconnect_48 rfl (lv_at hl 1 rfl) ?_
          refine lv_iload_n C.hx C.hb dX6_disconnect_49 rfl (lv_at hl 2 rfl) ?_
          refine mm_calli (As := [.int p1, .int p2]) (rest := []) C (t_X6_wire l hk) (cwV 2 C.hts (lw_V q1360 q1362 qs29 q65 q1363) rfl rfl rfl (by decide +kernel) ⟨Nat.le_of_ble_eq_true rfl, Nat.le_of_ble_eq_true rfl⟩) hH hS rfl hl.1 rfl (lv_room (Nat.le_of_ble_eq_true rfl)) dX6_disconnect_50 ⟨Nat.le_of_ble_eq_true rfl, Nat.le_of_ble_eq_true rfl⟩ (fun r39 s40 H locs hk hH hS => ?_)
          refine lv_istore_n (lv' := [(3, .int r39), (0, .ref (ad (20, 0))), (1, .int p1), (2, .int p2)]) C.hx C.hb dX6_disconnect_53 rfl hl (by decide) rfl (fun ls hl => ?_)
          refine lv_aload_n C.hx C.hb dX6_disconnect_54 rfl (lv_at hl 1 rfl) ?_
          refine mm_geta C hH 7 (by decide) q1248 dX6_disconnect_55 ?_
          refine lv_iconst (v := 4) C.hx C.hb dX6_disconnect_58 (by decide) ?_
          refine lv_iload_n C.hx C.hb dX6_disconnect_59 rfl (lv_at hl 3 rfl) ?_
          refine lv_imul C.hx C.hb dX6_disconnect_60 ?_
          refine lv_iload_n C.hx C.hb dX6_disconnect_61 rfl (lv_at hl 0 rfl) ?_
          refine lv_iadd C.hx C.hb dX6_disconnect_62 ?_
          obtain ⟨h41, hk⟩ := hk
          refine mm_ald C hH 7 (by decide) h41 dX6_disconnect_63 ?_
          refine lv_topi (fun v42 ev42 => ?_)
          have hk := hk v42 ev42
          refine lv_istore (lv' := [(4, .int v42), (3, .int r39), (0, .ref (ad (20, 0))), (1, .int p1), (2, .int p2)]) C.hx C.hb dX6_disconnect_64 hl (by decide) rfl (fun ls hl => ?_)
          refine lv_aload_n C.hx C.hb dX6_disconnect_66 rfl (lv_at hl 2 rfl) ?_
          refine mm_geta C hH 8 (by decide) q1249 dX6_disconnect_67 ?_
          refine lv_iload_n C.hx C.hb dX6_disconnect_70 rfl (lv_at hl 4 rfl) ?_
          refine lv_dup2_11 C.hx C.hb dX6_disconnect_71 rfl rfl ?_
          obtain ⟨h43, hk⟩ := hk
          refine mm_ald C hH 8 (by decide) h43 dX6_disconnect_72 ?_
          refine lv_iconst (v := 1) C.hx C.hb dX6_disconnect_73 (by decide) ?_
          refine lv_isub C.hx C.hb dX6_disconnect_74 ?_
          obtain ⟨h44, hk⟩ := hk
          refine mm_ast C hH hS 8 (by decide) h44 dX6_disconnect_75 (fun s45 es45 H locs hH hS => ?_)
          have hk := hk s45 es45
          refine lv_iconst (v := 4) C.hx C.hb dX6_disconnect_76 (by decide) ?_
          refine lv_iload_n C.hx C.hb dX6_disconnect_77 rfl (lv_at hl 4 rfl) ?_
          refine lv_imul C.hx C.hb dX6_disconnect_78 ?_
          refine lv_iload_n C.hx C.hb dX6_disconnect_79 rfl (lv_at hl 1 rfl) ?_
          refine lv_iadd C.hx C.hb dX6_disconnect_80 ?_
          refine lv_topi (fun v46 ev46 => ?_)
          have hk := hk v46 ev46
          refine lv_istore (lv' := [(5, .int v46), (4, .int v42), (3, .int r39), (0, .ref (ad (20, 0))), (1, .int p1), (2, .int p2)]) C.hx C.hb dX6_disconnect_81 hl (by decide) rfl (fun ls hl => ?_)
          obtain ⟨n83, hk⟩ := hk
          refine tw_X6_disconnect_83 C hr hlk (fun y47 y48 y49 y50 y51 s52 H locs ls hk hH hS hl => ?_) n83 p1 p2 r39 v42 v46 s45 _ _ _ hk hH hS (lv_sub hl [3, 4, 5, 2, 1, 0] rfl)
          refine lv_aload_n C.hx C.hb dX6_disconnect_136 rfl (lv_at hl 0 rfl) ?_
          refine mm_callv (As := []) (rest := []) C (t_X6_lays l hk) (cwV 0 C.hts (lw_V q1233 q1235 qs24 q65 q1236) rfl rfl rfl (by decide +kernel) ⟨Nat.le_of_ble_eq_true rfl, Nat.le_of_ble_eq_true rfl⟩) hH hS rfl hl.1 rfl (lv_room (Nat.le_of_ble_eq_true rfl)) dX6_disconnect_137 ⟨Nat.le_of_ble_eq_true rfl, Nat.le_of_ble_eq_true rfl⟩ (fun s54 H locs hk hH hS => ?_)
          refine lv_iload C.hx C.hb dX6_disconnect_140 (lv_at hl 4 rfl) ?_
          exact mm_iret C hr hlk hH hS hk dX6_disconnect_142
        · have hk := hk.2 c38
          refine lv_iconst (v := 0) C.hx C.hb dX6_disconnect_45 (by decide) ?_
          exact mm_iret C hr hlk hH hS hk dX6_disconnect_46
      · have hk := hk.2 c36
        refine lv_iconst (v := 2) C.hx C.hb dX6_disconnect_30 (by decide) ?_
        refine lv_goto (tgt := 35) C.hx C.hb dX6_disconnect_31 (by decide) ?_
        refine mm_puti C hH hS 12 0 (by decide) rfl q1253 dX6_disconnect_35 rfl rfl (fun s55 es55 H locs hH hS => ?_)
        have hk := hk s55 es55
        refine lv_aload_n C.hx C.hb dX6_disconnect_38 rfl (lv_at hl 0 rfl) ?_
        refine mm_geti C hH 12 0 (by decide) rfl q1253 dX6_disconnect_39 ?_
        refine lv_if_le (tgt := 47) C.hx C.hb dX6_disconnect_42 (by decide) (fun c56 => ?_) (fun c56 => ?_)
        · have hk := hk.1 c56
          refine lv_aload_n C.hx C.hb dX6_disconnect_47 rfl (lv_at hl 0 rfl) ?_
          refine lv_iload_n C.hx C.hb dX6_disconnect_48 rfl (lv_at hl 1 rfl) ?_
          refine lv_iload_n C.hx C.hb dX6_disconnect_49 rfl (lv_at hl 2 rfl) ?_
          refine mm_calli (As := [.int p1, .int p2]) (rest := []) C (t_X6_wire l hk) (cwV 2 C.hts (lw_V q1360 q1362 qs29 q65 q1363) rfl rfl rfl (by decide +kernel) ⟨Nat.le_of_ble_eq_true rfl, Nat.le_of_ble_eq_true rfl⟩) hH hS rfl hl.1 rfl (lv_room (Nat.le_of_ble_eq_true rfl)) dX6_disconnect_50 ⟨Nat.le_of_ble_eq_true rfl, Nat.le_of_ble_eq_true rfl⟩ (fun r57 s58 H locs hk hH hS => ?_)
          refine lv_istore_n (lv' := [(3, .int r57), (0, .ref (ad (20, 0))), (1, .int p1), (2, .int p2)]) C.hx C.hb dX6_disconnect_53 rfl hl (by decide) rfl (fun ls hl => ?_)
          refine lv_aload_n C.hx C.hb dX6_disconnect_54 rfl (lv_at hl 1 rfl) ?_
          refine mm_geta C hH 7 (by decide) q1248 dX6_disconnect_55 ?_
          refine lv_iconst (v := 4) C.hx C.hb dX6_disconnect_58 (by decide) ?_
          refine lv_iload_n C.hx C.hb dX6_disconnect_59 rfl (lv_at hl 3 rfl) ?_
          refine lv_imul C.hx C.hb dX6_disconnect_60 ?_
          refine lv_iload_n C.hx C.hb dX6_disconnect_61 rfl (lv_at hl 0 rfl) ?_
          refine lv_iadd C.hx C.hb dX6_disconnect_62 ?_
          obtain ⟨h59, hk⟩ := hk
          refine mm_ald C hH 7 (by decide) h59 dX6_disconnect_63 ?_
          refine lv_topi (fun v60 ev60 => ?_)
          have hk := hk v60 ev60
          refine lv_istore (lv' := [(4, .int v60), (3, .int r57), (0, .ref (ad (20, 0))), (1, .int p1), (2, .int p2)]) C.hx C.hb dX6_disconnect_64 hl (by decide) rfl (fun ls hl => ?_)
          refine lv_aload_n C.hx C.hb dX6_disconnect_66 rfl (lv_at hl 2 rfl) ?_
          refine mm_geta C hH 8 (by decide) q1249 dX6_disconnect_67 ?_
          refine lv_iload_n C.hx C.hb dX6_disconnect_70 rfl (lv_at hl 4 rfl) ?_
          refine lv_dup2_11 C.hx C.hb dX6_disconnect_71 rfl rfl ?_
          obtain ⟨h61, hk⟩ := hk
          refine mm_ald C hH 8 (by decide) h61 dX6_disconnect_72 ?_
          refine lv_iconst (v := 1) C.hx C.hb dX6_disconnect_73 (by decide) ?_
          refine lv_isub C.hx C.hb dX6_disconnect_74 ?_
          obtain ⟨h62, hk⟩ := hk
          refine mm_ast C hH hS 8 (by decide) h62 dX6_disconnect_75 (fun s63 es63 H locs hH hS => ?_)
          have hk := hk s63 es63
          refine lv_iconst (v := 4) C.hx C.hb dX6_disconnect_76 (by decide) ?_
          refine lv_iload_n C.hx C.hb dX6_disconnect_77 rfl (lv_at hl 4 rfl) ?_
          refine lv_imul C.hx C.hb dX6_disconnect_78 ?_
          refine lv_iload_n C.hx C.hb dX6_disconnect_79 rfl (lv_at hl 1 rfl) ?_
          refine lv_iadd C.hx C.hb dX6_disconnect_80 ?_
          refine lv_topi (fun v64 ev64 => ?_)
          have hk := hk v64 ev64
          refine lv_istore (lv' := [(5, .int v64), (4, .int v60), (3, .int r57), (0, .ref (ad (20, 0))), (1, .int p1), (2, .int p2)]) C.hx C.hb dX6_disconnect_81 hl (by decide) rfl (fun ls hl => ?_)
          obtain ⟨n83, hk⟩ := hk
          refine tw_X6_disconnect_83 C hr hlk (fun y65 y66 y67 y68 y69 s70 H locs ls hk hH hS hl => ?_) n83 p1 p2 r57 v60 v64 s63 _ _ _ hk hH hS (lv_sub hl [3, 4, 5, 2, 1, 0] rfl)
          refine lv_aload_n C.hx C.hb dX6_disconnect_136 rfl (lv_at hl 0 rfl) ?_
          refine mm_callv (As := []) (rest := []) C (t_X6_lays l hk) (cwV 0 C.hts (lw_V q1233 q1235 qs24 q65 q1236) rfl rfl rfl (by decide +kernel) ⟨Nat.le_of_ble_eq_true rfl, Nat.le_of_ble_eq_true rfl⟩) hH hS rfl hl.1 rfl (lv_room (Nat.le_of_ble_eq_true rfl)) dX6_disconnect_137 ⟨Nat.le_of_ble_eq_true rfl, Nat.le_of_ble_eq_true rfl⟩ (fun s72 H locs hk hH hS => ?_)
          refine lv_iload C.hx C.hb dX6_disconnect_140 (lv_at hl 4 rfl) ?_
          exact mm_iret C hr hlk hH hS hk dX6_disconnect_142
        · have hk := hk.2 c56
          refine lv_iconst (v := 0) C.hx C.hb dX6_disconnect_45 (by decide) ?_
          exact mm_iret C hr hlk hH hS hk dX6_disconnect_46
    · have hk := hk.2 c33
      refine lv_iconst (v := 1) C.hx C.hb dX6_disconnect_17 (by decide) ?_
      refine lv_goto (tgt := 35) C.hx C.hb dX6_disconnect_18 (by decide) ?_
      refine mm_puti C hH hS 12 0 (by decide) rfl q1253 dX6_disconnect_35 rfl rfl (fun s73 es73 H locs hH hS => ?_)
      have hk := hk s73 es73
      refine lv_aload_n C.hx C.hb dX6_disconnect_38 rfl (lv_at hl 0 rfl) ?_
      refine mm_geti C hH 12 0 (by decide) rfl q1253 dX6_disconnect_39 ?_
      refine lv_if_le (tgt := 47) C.hx C.hb dX6_disconnect_42 (by decide) (fun c74 => ?_) (fun c74 => ?_)
      · have hk := hk.1 c74
        refine lv_aload_n C.hx C.hb dX6_disconnect_47 rfl (lv_at hl 0 rfl) ?_
        refine lv_iload_n C.hx C.hb dX6_disconnect_48 rfl (lv_at hl 1 rfl) ?_
        refine lv_iload_n C.hx C.hb dX6_disconnect_49 rfl (lv_at hl 2 rfl) ?_
        refine mm_calli (As := [.int p1, .int p2]) (rest := []) C (t_X6_wire l hk) (cwV 2 C.hts (lw_V q1360 q1362 qs29 q65 q1363) rfl rfl rfl (by decide +kernel) ⟨Nat.le_of_ble_eq_true rfl, Nat.le_of_ble_eq_true rfl⟩) hH hS rfl hl.1 rfl (lv_room (Nat.le_of_ble_eq_true rfl)) dX6_disconnect_50 ⟨Nat.le_of_ble_eq_true rfl, Nat.le_of_ble_eq_true rfl⟩ (fun r75 s76 H locs hk hH hS => ?_)
        refine lv_istore_n (lv' := [(3, .int r75), (0, .ref (ad (20, 0))), (1, .int p1), (2, .int p2)]) C.hx C.hb dX6_disconnect_53 rfl hl (by decide) rfl (fun ls hl => ?_)
        refine lv_aload_n C.hx C.hb dX6_disconnect_54 rfl (lv_at hl 1 rfl) ?_
        refine mm_geta C hH 7 (by decide) q1248 dX6_disconnect_55 ?_
        refine lv_iconst (v := 4) C.hx C.hb dX6_disconnect_58 (by decide) ?_
        refine lv_iload_n C.hx C.hb dX6_disconnect_59 rfl (lv_at hl 3 rfl) ?_
        refine lv_imul C.hx C.hb dX6_disconnect_60 ?_
        refine lv_iload_n C.hx C.hb dX6_disconnect_61 rfl (lv_at hl 0 rfl) ?_
        refine lv_iadd C.hx C.hb dX6_disconnect_62 ?_
        obtain ⟨h77, hk⟩ := hk
        refine mm_ald C hH 7 (by decide) h77 dX6_disconnect_63 ?_
        refine lv_topi (fun v78 ev78 => ?_)
        have hk := hk v78 ev78
        refine lv_istore (lv' := [(4, .int v78), (3, .int r75), (0, .ref (ad (20, 0))), (1, .int p1), (2, .int p2)]) C.hx C.hb dX6_disconnect_64 hl (by decide) rfl (fun ls hl => ?_)
        refine lv_aload_n C.hx C.hb dX6_disconnect_66 rfl (lv_at hl 2 rfl) ?_
        refine mm_geta C hH 8 (by decide) q1249 dX6_disconnect_67 ?_
        refine lv_iload_n C.hx C.hb dX6_disconnect_70 rfl (lv_at hl 4 rfl) ?_
        refine lv_dup2_11 C.hx C.hb dX6_disconnect_71 rfl rfl ?_
        obtain ⟨h79, hk⟩ := hk
        refine mm_ald C hH 8 (by decide) h79 dX6_disconnect_72 ?_
        refine lv_iconst (v := 1) C.hx C.hb dX6_disconnect_73 (by decide) ?_
        refine lv_isub C.hx C.hb dX6_disconnect_74 ?_
        obtain ⟨h80, hk⟩ := hk
        refine mm_ast C hH hS 8 (by decide) h80 dX6_disconnect_75 (fun s81 es81 H locs hH hS => ?_)
        have hk := hk s81 es81
        refine lv_iconst (v := 4) C.hx C.hb dX6_disconnect_76 (by decide) ?_
        refine lv_iload_n C.hx C.hb dX6_disconnect_77 rfl (lv_at hl 4 rfl) ?_
        refine lv_imul C.hx C.hb dX6_disconnect_78 ?_
        refine lv_iload_n C.hx C.hb dX6_disconnect_79 rfl (lv_at hl 1 rfl) ?_
        refine lv_iadd C.hx C.hb dX6_disconnect_80 ?_
        refine lv_topi (fun v82 ev82 => ?_)
        have hk := hk v82 ev82
        refine lv_istore (lv' := [(5, .int v82), (4, .int v78), (3, .int r75), (0, .ref (ad (20, 0))), (1, .int p1), (2, .int p2)]) C.hx C.hb dX6_disconnect_81 hl (by decide) rfl (fun ls hl => ?_)
        obtain ⟨n83, hk⟩ := hk
        refine tw_X6_disconnect_83 C hr hlk (fun y83 y84 y85 y86 y87 s88 H locs ls hk hH hS hl => ?_) n83 p1 p2 r75 v78 v82 s81 _ _ _ hk hH hS (lv_sub hl [3, 4, 5, 2, 1, 0] rfl)
        refine lv_aload_n C.hx C.hb dX6_disconnect_136 rfl (lv_at hl 0 rfl) ?_
        refine mm_callv (As := []) (rest := []) C (t_X6_lays l hk) (cwV 0 C.hts (lw_V q1233 q1235 qs24 q65 q1236) rfl rfl rfl (by decide +kernel) ⟨Nat.le_of_ble_eq_true rfl, Nat.le_of_ble_eq_true rfl⟩) hH hS rfl hl.1 rfl (lv_room (Nat.le_of_ble_eq_true rfl)) dX6_disconnect_137 ⟨Nat.le_of_ble_eq_true rfl, Nat.le_of_ble_eq_true rfl⟩ (fun s90 H locs hk hH hS => ?_)
        refine lv_iload C.hx C.hb dX6_disconnect_140 (lv_at hl 4 rfl) ?_
        exact mm_iret C hr hlk hH hS hk dX6_disconnect_142
      · have hk := hk.2 c74
        refine lv_iconst (v := 0) C.hx C.hb dX6_disconnect_45 (by decide) ?_
        exact mm_iret C hr hlk hH hS hk dX6_disconnect_46
/-! ToneGraphModel.setGain(II)I -/
def wp_X6_setGain (post : Int32 → mm_S → Prop) (p1 : Int32) (p2 : Int32) (s0 : mm_S) : Prop := wp_X6_isNode (fun r1 s2 => ((¬ r1 = 0 → (vp_in p1 10 ∧ (((s2.2.1 2 p1.toNatClampNeg) = 1 → wp_X6_in (fun r6 => ((¬ r6 = 0 → (∀ s8 : mm_S, s8 = ms_f s2 0 0 → (((s8.1 0) ≤ 0 → (vp_in p1 10 ∧ (∀ v11, v11 = (s8.2.1 3 p1.toNatClampNeg) → (vp_in p1 10 ∧ (∀ s13 : mm_S, s13 = ms_a s8 3 p1.toNatClampNeg p2 → post v11 s13))))) ∧ (¬ (s8.1 0) ≤ 0 → post 0 s8)))) ∧ (r6 = 0 → (∀ s14 : mm_S, s14 = ms_f s2 0 3 → (((s14.1 0) ≤ 0 → (vp_in p1 10 ∧ (∀ v17, v17 = (s14.2.1 3 p1.toNatClampNeg) → (vp_in p1 10 ∧ (∀ s19 : mm_S, s19 = ms_a s14 3 p1.toNatClampNeg p2 → post v17 s19))))) ∧ (¬ (s14.1 0) ≤ 0 → post 0 s14)))))) p2 (-200) 200) ∧ (¬ (s2.2.1 2 p1.toNatClampNeg) = 1 → (∀ s20 : mm_S, s20 = ms_f s2 0 2 → (((s20.1 0) ≤ 0 → (vp_in p1 10 ∧ (∀ v23, v23 = (s20.2.1 3 p1.toNatClampNeg) → (vp_in p1 10 ∧ (∀ s25 : mm_S, s25 = ms_a s20 3 p1.toNatClampNeg p2 → post v23 s25))))) ∧ (¬ (s20.1 0) ≤ 0 → post 0 s20))))))) ∧ (r1 = 0 → (∀ s26 : mm_S, s26 = ms_f s2 0 1 → (((s26.1 0) ≤ 0 → (vp_in p1 10 ∧ (∀ v29, v29 = (s26.2.1 3 p1.toNatClampNeg) → (vp_in p1 10 ∧ (∀ s31 : mm_S, s31 = ms_a s26 3 p1.toNatClampNeg p2 → post v29 s31))))) ∧ (¬ (s26.1 0) ≤ 0 → post 0 s26)))))) p1 s0
set_option maxHeartbeats 4000000 in
theorem t_X6_setGain (l : Launch) {base : Nat} {D : va_G} {ca : Nat → ClassId} {Ls : List gb_L} {ad : gb_L → Nat} {w : gb_L → va_E} {post : Int32 → mm_S → Prop} {p1 : Int32} {p2 : Int32} {s0 : mm_S} (hk : wp_X6_setGain post p1 p2 s0) : mm_Mi l yX6_setGain (ws_ yX6_setGain cX6_setGain 4 (some .int)) ({ frames := 2, cells := 0, slots := 0, locals := 43 } : Room) base D ca Ls ad w [.int p1, .int p2] s0 post := by
  refine mm_start cX6_setGain 4 (some .int) _ (by decide) rfl rfl (Nat.le_of_ble_eq_true rfl) ?_
  intro p e s m args below meth c ls C hr hlk hH hS hl
  have hl : lv_has ls 4 [(0, .ref (ad (20, 0))), (1, .int p1), (2, .int p2)] := hl
  unfold wp_X6_setGain at hk
  refine lv_aload_n C.hx C.hb dX6_setGain_0 rfl (lv_at hl 0 rfl) ?_
  refine lv_aload_n C.hx C.hb dX6_setGain_1 rfl (lv_at hl 0 rfl) ?_
  refine lv_iload_n C.hx C.hb dX6_setGain_2 rfl (lv_at hl 1 rfl) ?_
  refine mm_calli (As := [.int p1]) (rest := [.ref (ad (20, 0))]) C (t_X6_isNode l hk) (cwV 1 C.hts (lw_V q1356 q1358 qs28 q65 q1359) rfl rfl rfl (by decide +kernel) ⟨Nat.le_of_ble_eq_true rfl, Nat.le_of_ble_eq_true rfl⟩) hH hS rfl hl.1 rfl (lv_room (Nat.le_of_ble_eq_true rfl)) dX6_setGain_3 ⟨Nat.le_of_ble_eq_true rfl, Nat.le_of_ble_eq_true rfl⟩ (fun r1 s2 H locs hk hH hS => ?_)
  refine lv_if_ne (tgt := 13) C.hx C.hb dX6_setGain_6 (by decide) (fun c3 => ?_) (fun c3 => ?_)
  · have hk := hk.1 c3
    refine lv_aload_n C.hx C.hb dX6_setGain_13 rfl (lv_at hl 0 rfl) ?_
    refine mm_geta C hH 2 (by decide) q1243 dX6_setGain_14 ?_
    refine lv_iload_n C.hx C.hb dX6_setGain_17 rfl (lv_at hl 1 rfl) ?_
    obtain ⟨h4, hk⟩ := hk
    refine mm_ald C hH 2 (by decide) h4 dX6_setGain_18 ?_
    refine lv_iconst (v := 1) C.hx C.hb dX6_setGain_19 (by decide) ?_
    refine lv_icmp_eq (tgt := 27) C.hx C.hb dX6_setGain_20 (by decide) (fun c5 => ?_) (fun c5 => ?_)
    · have hk := hk.1 c5
      refine lv_iload_n C.hx C.hb dX6_setGain_27 rfl (lv_at hl 2 rfl) ?_
      refine lv_sipush (v := (-200)) C.hx C.hb dX6_setGain_28 (by decide) ?_
      refine lv_sipush (v := 200) C.hx C.hb dX6_setGain_31 (by decide) ?_
      refine gb_call (As := [.int p2, .int (-200), .int 200]) (rest := [.ref (ad (20, 0))]) C.1 (t_X6_in l hk) (va_cwS 3 C.hts (lw_S q1329 q1330 q65 q1331) rfl rfl rfl (by decide +kernel) ⟨Nat.le_of_ble_eq_true rfl, Nat.le_of_ble_eq_true rfl⟩) rfl hl.1 rfl (lv_room (Nat.le_of_ble_eq_true rfl)) dX6_setGain_34 ⟨Nat.le_of_ble_eq_true rfl, Nat.le_of_ble_eq_true rfl⟩ (fun r6 hk => ?_)
      refine lv_if_ne (tgt := 44) C.hx C.hb dX6_setGain_37 (by decide) (fun c7 => ?_) (fun c7 => ?_)
      · have hk := hk.1 c7
        refine lv_iconst (v := 0) C.hx C.hb dX6_setGain_44 (by decide) ?_
        refine mm_puti C hH hS 12 0 (by decide) rfl q1253 dX6_setGain_45 rfl rfl (fun s8 es8 H locs hH hS => ?_)
        have hk := hk s8 es8
        refine lv_aload_n C.hx C.hb dX6_setGain_48 rfl (lv_at hl 0 rfl) ?_
        refine mm_geti C hH 12 0 (by decide) rfl q1253 dX6_setGain_49 ?_
        refine lv_if_le (tgt := 57) C.hx C.hb dX6_setGain_52 (by decide) (fun c9 => ?_) (fun c9 => ?_)
        · have hk := hk.1 c9
          refine lv_aload_n C.hx C.hb dX6_setGain_57 rfl (lv_at hl 0 rfl) ?_
          refine mm_geta C hH 3 (by decide) q1244 dX6_setGain_58 ?_
          refine lv_iload_n C.hx C.hb dX6_setGain_61 rfl (lv_at hl 1 rfl) ?_
          obtain ⟨h10, hk⟩ := hk
          refine mm_ald C hH 3 (by decide) h10 dX6_setGain_62 ?_
          refine lv_topi (fun v11 ev11 => ?_)
          have hk := hk v11 ev11
          refine lv_istore_n (lv' := [(3, .int v11), (0, .ref (ad (20, 0))), (1, .int p1), (2, .int p2)]) C.hx C.hb dX6_setGain_63 rfl hl (by decide) rfl (fun ls hl => ?_)
          refine lv_aload_n C.hx C.hb dX6_setGain_64 rfl (lv_at hl 1 rfl) ?_
          refine mm_geta C hH 3 (by decide) q1244 dX6_setGain_65 ?_
          refine lv_iload_n C.hx C.hb dX6_setGain_68 rfl (lv_at hl 2 rfl) ?_
          refine lv_iload_n C.hx C.hb dX6_setGain_69 rfl (lv_at hl 3 rfl) ?_
          obtain ⟨h12, hk⟩ := hk
          refine mm_ast C hH hS 3 (by decide) h12 dX6_setGain_70 (fun s13 es13 H locs hH hS => ?_)
          have hk := hk s13 es13
          refine lv_iload_n C.hx C.hb dX6_setGain_71 rfl (lv_at hl 0 rfl) ?_
          exact mm_iret C hr hlk hH hS hk dX6_setGain_72
        · have hk := hk.2 c9
          refine lv_iconst (v := 0) C.hx C.hb dX6_setGain_55 (by decide) ?_
          exact mm_iret C hr hlk hH hS hk dX6_setGain_56
      · have hk := hk.2 c7
        refine lv_iconst (v := 3) C.hx C.hb dX6_setGain_40 (by decide) ?_
        refine lv_goto (tgt := 45) C.hx C.hb dX6_setGain_41 (by decide) ?_
        refine mm_puti C hH hS 12 0 (by decide) rfl q1253 dX6_setGain_45 rfl rfl (fun s14 es14 H locs hH hS => ?_)
        have hk := hk s14 es14
        refine lv_aload_n C.hx C.hb dX6_setGain_48 rfl (lv_at hl 0 rfl) ?_
        refine mm_geti C hH 12 0 (by decide) rfl q1253 dX6_setGain_49 ?_
        refine lv_if_le (tgt := 57) C.hx C.hb dX6_setGain_52 (by decide) (fun c15 => ?_) (fun c15 => ?_)
        · have hk := hk.1 c15
          refine lv_aload_n C.hx C.hb dX6_setGain_57 rfl (lv_at hl 0 rfl) ?_
          refine mm_geta C hH 3 (by decide) q1244 dX6_setGain_58 ?_
          refine lv_iload_n C.hx C.hb dX6_setGain_61 rfl (lv_at hl 1 rfl) ?_
          obtain ⟨h16, hk⟩ := hk
          refine mm_ald C hH 3 (by decide) h16 dX6_setGain_62 ?_
          refine lv_topi (fun v17 ev17 => ?_)
          have hk := hk v17 ev17
          refine lv_istore_n (lv' := [(3, .int v17), (0, .ref (ad (20, 0))), (1, .int p1), (2, .int p2)]) C.hx C.hb dX6_setGain_63 rfl hl (by decide) rfl (fun ls hl => ?_)
          refine lv_aload_n C.hx C.hb dX6_setGain_64 rfl (lv_at hl 1 rfl) ?_
          refine mm_geta C hH 3 (by decide) q1244 dX6_setGain_65 ?_
          refine lv_iload_n C.hx C.hb dX6_setGain_68 rfl (lv_at hl 2 rfl) ?_
          refine lv_iload_n C.hx C.hb dX6_setGain_69 rfl (lv_at hl 3 rfl) ?_
          obtain ⟨h18, hk⟩ := hk
          refine mm_ast C hH hS 3 (by decide) h18 dX6_setGain_70 (fun s19 es19 H locs hH hS => ?_)
          have hk := hk s19 es19
          refine lv_iload_n C.hx C.hb dX6_setGain_71 rfl (lv_at hl 0 rfl) ?_
          exact mm_iret C hr hlk hH hS hk dX6_setGain_72
        · have hk := hk.2 c15
          refine lv_iconst (v := 0) C.hx C.hb dX6_setGain_55 (by decide) ?_
          exact mm_iret C hr hlk hH hS hk dX6_setGain_56
    · have hk := hk.2 c5
      refine lv_iconst (v := 2) C.hx C.hb dX6_setGain_23 (by decide) ?_
      refine lv_goto (tgt := 45) C.hx C.hb dX6_setGain_24 (by decide) ?_
      refine mm_puti C hH hS 12 0 (by decide) rfl q1253 dX6_setGain_45 rfl rfl (fun s20 es20 H locs hH hS => ?_)
      have hk := hk s20 es20
      refine lv_aload_n C.hx C.hb dX6_setGain_48 rfl (lv_at hl 0 rfl) ?_
      refine mm_geti C hH 12 0 (by decide) rfl q1253 dX6_setGain_49 ?_
      refine lv_if_le (tgt := 57) C.hx C.hb dX6_setGain_52 (by decide) (fun c21 => ?_) (fun c21 => ?_)
      · have hk := hk.1 c21
        refine lv_aload_n C.hx C.hb dX6_setGain_57 rfl (lv_at hl 0 rfl) ?_
        refine mm_geta C hH 3 (by decide) q1244 dX6_setGain_58 ?_
        refine lv_iload_n C.hx C.hb dX6_setGain_61 rfl (lv_at hl 1 rfl) ?_
        obtain ⟨h22, hk⟩ := hk
        refine mm_ald C hH 3 (by decide) h22 dX6_setGain_62 ?_
        refine lv_topi (fun v23 ev23 => ?_)
        have hk := hk v23 ev23
        refine lv_istore_n (lv' := [(3, .int v23), (0, .ref (ad (20, 0))), (1, .int p1), (2, .int p2)]) C.hx C.hb dX6_setGain_63 rfl hl (by decide) rfl (fun ls hl => ?_)
        refine lv_aload_n C.hx C.hb dX6_setGain_64 rfl (lv_at hl 1 rfl) ?_
        refine mm_geta C hH 3 (by decide) q1244 dX6_setGain_65 ?_
        refine lv_iload_n C.hx C.hb dX6_setGain_68 rfl (lv_at hl 2 rfl) ?_
        refine lv_iload_n C.hx C.hb dX6_setGain_69 rfl (lv_at hl 3 rfl) ?_
        obtain ⟨h24, hk⟩ := hk
        refine mm_ast C hH hS 3 (by decide) h24 dX6_setGain_70 (fun s25 es25 H locs hH hS => ?_)
        have hk := hk s25 es25
        refine lv_iload_n C.hx C.hb dX6_setGain_71 rfl (lv_at hl 0 rfl) ?_
        exact mm_iret C hr hlk hH hS hk dX6_setGain_72
      · have hk := hk.2 c21
        refine lv_iconst (v := 0) C.hx C.hb dX6_setGain_55 (by decide) ?_
        exact mm_iret C hr hlk hH hS hk dX6_setGain_56
  · have hk := hk.2 c3
    refine lv_iconst (v := 1) C.hx C.hb dX6_setGain_9 (by decide) ?_
    refine lv_goto (tgt := 45) C.hx C.hb dX6_setGain_10 (by decide) ?_
    refine mm_puti C hH hS 12 0 (by decide) rfl q1253 dX6_setGain_45 rfl rfl (fun s26 es26 H locs hH hS => ?_)
    have hk := hk s26 es26
    refine lv_aload_n C.hx C.hb dX6_setGain_48 rfl (lv_at hl 0 rfl) ?_
    refine mm_geti C hH 12 0 (by decide) rfl q1253 dX6_setGain_49 ?_
    refine lv_if_le (tgt := 57) C.hx C.hb dX6_setGain_52 (by decide) (fun c27 => ?_) (fun c27 => ?_)
    · have hk := hk.1 c27
      refine lv_aload_n C.hx C.hb dX6_setGain_57 rfl (lv_at hl 0 rfl) ?_
      refine mm_geta C hH 3 (by decide) q1244 dX6_setGain_58 ?_
      refine lv_iload_n C.hx C.hb dX6_setGain_61 rfl (lv_at hl 1 rfl) ?_
      obtain ⟨h28, hk⟩ := hk
      refine mm_ald C hH 3 (by decide) h28 dX6_setGain_62 ?_
      refine lv_topi (fun v29 ev29 => ?_)
      have hk := hk v29 ev29
      refine lv_istore_n (lv' := [(3, .int v29), (0, .ref (ad (20, 0))), (1, .int p1), (2, .int p2)]) C.hx C.hb dX6_setGain_63 rfl hl (by decide) rfl (fun ls hl => ?_)
      refine lv_aload_n C.hx C.hb dX6_setGain_64 rfl (lv_at hl 1 rfl) ?_
      refine mm_geta C hH 3 (by decide) q1244 dX6_setGain_65 ?_
      refine lv_iload_n C.hx C.hb dX6_setGain_68 rfl (lv_at hl 2 rfl) ?_
      refine lv_iload_n C.hx C.hb dX6_setGain_69 rfl (lv_at hl 3 rfl) ?_
      obtain ⟨h30, hk⟩ := hk
      refine mm_ast C hH hS 3 (by decide) h30 dX6_setGain_70 (fun s31 es31 H locs hH hS => ?_)
      have hk := hk s31 es31
      refine lv_iload_n C.hx C.hb dX6_setGain_71 rfl (lv_at hl 0 rfl) ?_
      exact mm_iret C hr hlk hH hS hk dX6_setGain_72
    · have hk := hk.2 c27
      refine lv_iconst (v := 0) C.hx C.hb dX6_setGain_55 (by decide) ?_
      exact mm_iret C hr hlk hH hS hk dX6_setGain_56
/-! ToneGraphModel.checked(Z)I -/
def wp_X6_checked (post : Int32 → mm_S → Prop) (p1 : Int32) (s0 : mm_S) : Prop := ((p1 = 0 → (∀ s2 : mm_S, s2 = ms_f s0 0 1 → post (s2.1 0) s2)) ∧ (¬ p1 = 0 → (∀ s3 : mm_S, s3 = ms_f s0 0 0 → post (s3.1 0) s3)))
set_option maxHeartbeats 4000000 in
theorem t_X6_checked (l : Launch) {base : Nat} {D : va_G} {ca : Nat → ClassId} {Ls : List gb_L} {ad : gb_L → Nat} {w : gb_L → va_E} {post : Int32 → mm_S → Prop} {p1 : Int32} {s0 : mm_S} (hk : wp_X6_checked post p1 s0) : mm_Mi l yX6_checked (ws_ yX6_checked cX6_checked 2 (some .int)) ({ frames := 0, cells := 0, slots := 0, locals := 0 } : Room) base D ca Ls ad w [.int p1] s0 post := by
  refine mm_start cX6_checked 2 (some .int) _ (by decide) rfl rfl (Nat.le_of_ble_eq_true rfl) ?_
  intro p e s m args below meth c ls C hr hlk hH hS hl
  have hl : lv_has ls 2 [(0, .ref (ad (20, 0))), (1, .int p1)] := hl
  unfold wp_X6_checked at hk
  refine lv_aload_n C.hx C.hb dX6_checked_0 rfl (lv_at hl 0 rfl) ?_
  refine lv_iload_n C.hx C.hb dX6_checked_1 rfl (lv_at hl 1 rfl) ?_
  refine lv_if_eq (tgt := 9) C.hx C.hb dX6_checked_2 (by decide) (fun c1 => ?_) (fun c1 => ?_)
  · have hk := hk.1 c1
    refine lv_iconst (v := 1) C.hx C.hb dX6_checked_9 (by decide) ?_
    refine mm_puti C hH hS 12 0 (by decide) rfl q1253 dX6_checked_10 rfl rfl (fun s2 es2 H locs hH hS => ?_)
    have hk := hk s2 es2
    refine lv_aload_n C.hx C.hb dX6_checked_13 rfl (lv_at hl 0 rfl) ?_
    refine mm_geti C hH 12 0 (by decide) rfl q1253 dX6_checked_14 ?_
    exact mm_iret C hr hlk hH hS hk dX6_checked_17
  · have hk := hk.2 c1
    refine lv_iconst (v := 0) C.hx C.hb dX6_checked_5 (by decide) ?_
    refine lv_goto (tgt := 10) C.hx C.hb dX6_checked_6 (by decide) ?_
    refine mm_puti C hH hS 12 0 (by decide) rfl q1253 dX6_checked_10 rfl rfl (fun s3 es3 H locs hH hS => ?_)
    have hk := hk s3 es3
    refine lv_aload_n C.hx C.hb dX6_checked_13 rfl (lv_at hl 0 rfl) ?_
    refine mm_geti C hH 12 0 (by decide) rfl q1253 dX6_checked_14 ?_
    exact mm_iret C hr hlk hH hS hk dX6_checked_17
/-! ToneGraphModel.setOutput(I)I -/
def wp_X6_setOutput (post : Int32 → mm_S → Prop) (p1 : Int32) (s0 : mm_S) : Prop := wp_X6_isNode (fun r1 s2 => wp_X6_checked (fun r3 s4 => ((r3 ≤ 0 → (∀ v6, v6 = (s4.1 2) → (∀ s7 : mm_S, s7 = ms_f s4 2 p1 → post v6 s7))) ∧ (¬ r3 ≤ 0 → post 0 s4))) r1 s2) p1 s0
set_option maxHeartbeats 4000000 in
theorem t_X6_setOutput (l : Launch) {base : Nat} {D : va_G} {ca : Nat → ClassId} {Ls : List gb_L} {ad : gb_L → Nat} {w : gb_L → va_E} {post : Int32 → mm_S → Prop} {p1 : Int32} {s0 : mm_S} (hk : wp_X6_setOutput post p1 s0) : mm_Mi l yX6_setOutput (ws_ yX6_setOutput cX6_setOutput 3 (some .int)) ({ frames := 2, cells := 0, slots := 0, locals := 43 } : Room) base D ca Ls ad w [.int p1] s0 post := by
  refine mm_start cX6_setOutput 3 (some .int) _ (by decide) rfl rfl (Nat.le_of_ble_eq_true rfl) ?_
  intro p e s m args below meth c ls C hr hlk hH hS hl
  have hl : lv_has ls 3 [(0, .ref (ad (20, 0))), (1, .int p1)] := hl
  unfold wp_X6_setOutput at hk
  refine lv_aload_n C.hx C.hb dX6_setOutput_0 rfl (lv_at hl 0 rfl) ?_
  refine lv_aload_n C.hx C.hb dX6_setOutput_1 rfl (lv_at hl 0 rfl) ?_
  refine lv_iload_n C.hx C.hb dX6_setOutput_2 rfl (lv_at hl 1 rfl) ?_
  refine mm_calli (As := [.int p1]) (rest := [.ref (ad (20, 0))]) C (t_X6_isNode l hk) (cwV 1 C.hts (lw_V q1356 q1358 qs28 q65 q1359) rfl rfl rfl (by decide +kernel) ⟨Nat.le_of_ble_eq_true rfl, Nat.le_of_ble_eq_true rfl⟩) hH hS rfl hl.1 rfl (lv_room (Nat.le_of_ble_eq_true rfl)) dX6_setOutput_3 ⟨Nat.le_of_ble_eq_true rfl, Nat.le_of_ble_eq_true rfl⟩ (fun r1 s2 H locs hk hH hS => ?_)
  refine mm_calli (As := [.int r1]) (rest := []) C (t_X6_checked l hk) (cwV 1 C.hts (lw_V q1380 q1382 qs31 q65 q1383) rfl rfl rfl (by decide +kernel) ⟨Nat.le_of_ble_eq_true rfl, Nat.le_of_ble_eq_true rfl⟩) hH hS rfl hl.1 rfl (lv_room (Nat.le_of_ble_eq_true rfl)) dX6_setOutput_6 ⟨Nat.le_of_ble_eq_true rfl, Nat.le_of_ble_eq_true rfl⟩ (fun r3 s4 H locs hk hH hS => ?_)
  refine lv_if_le (tgt := 14) C.hx C.hb dX6_setOutput_9 (by decide) (fun c5 => ?_) (fun c5 => ?_)
  · have hk := hk.1 c5
    refine lv_aload_n C.hx C.hb dX6_setOutput_14 rfl (lv_at hl 0 rfl) ?_
    refine mm_geti C hH 14 2 (by decide) rfl q1255 dX6_setOutput_15 ?_
    refine lv_topi (fun v6 ev6 => ?_)
    have hk := hk v6 ev6
    refine lv_istore_n (lv' := [(2, .int v6), (0, .ref (ad (20, 0))), (1, .int p1)]) C.hx C.hb dX6_setOutput_18 rfl hl (by decide) rfl (fun ls hl => ?_)
    refine lv_aload_n C.hx C.hb dX6_setOutput_19 rfl (lv_at hl 1 rfl) ?_
    refine lv_iload_n C.hx C.hb dX6_setOutput_20 rfl (lv_at hl 2 rfl) ?_
    refine mm_puti C hH hS 14 2 (by decide) rfl q1255 dX6_setOutput_21 rfl rfl (fun s7 es7 H locs hH hS => ?_)
    have hk := hk s7 es7
    refine lv_iload_n C.hx C.hb dX6_setOutput_24 rfl (lv_at hl 0 rfl) ?_
    exact mm_iret C hr hlk hH hS hk dX6_setOutput_25
  · have hk := hk.2 c5
    refine lv_iconst (v := 0) C.hx C.hb dX6_setOutput_12 (by decide) ?_
    exact mm_iret C hr hlk hH hS hk dX6_setOutput_13
/-! ToneGraphModel.plain(I)I -/
def wp_X6_plain (post : Int32 → mm_S → Prop) (p1 : Int32) (s0 : mm_S) : Prop := (∀ s1 : mm_S, s1 = ms_f s0 0 0 → post p1 s1)
set_option maxHeartbeats 4000000 in
theorem t_X6_plain (l : Launch) {base : Nat} {D : va_G} {ca : Nat → ClassId} {Ls : List gb_L} {ad : gb_L → Nat} {w : gb_L → va_E} {post : Int32 → mm_S → Prop} {p1 : Int32} {s0 : mm_S} (hk : wp_X6_plain post p1 s0) : mm_Mi l yX6_plain (ws_ yX6_plain cX6_plain 2 (some .int)) ({ frames := 0, cells := 0, slots := 0, locals := 0 } : Room) base D ca Ls ad w [.int p1] s0 post := by
  refine mm_start cX6_plain 2 (some .int) _ (by decide) rfl rfl (Nat.le_of_ble_eq_true rfl) ?_
  intro p e s m args below meth c ls C hr hlk hH hS hl
  have hl : lv_has ls 2 [(0, .ref (ad (20, 0))), (1, .int p1)] := hl
  unfold wp_X6_plain at hk
  refine lv_aload_n C.hx C.hb dX6_plain_0 rfl (lv_at hl 0 rfl) ?_
  refine lv_iconst (v := 0) C.hx C.hb dX6_plain_1 (by decide) ?_
  refine mm_puti C hH hS 12 0 (by decide) rfl q1253 dX6_plain_2 rfl rfl (fun s1 es1 H locs hH hS => ?_)
  have hk := hk s1 es1
  refine lv_iload_n C.hx C.hb dX6_plain_5 rfl (lv_at hl 1 rfl) ?_
  exact mm_iret C hr hlk hH hS hk dX6_plain_6
/-! ToneGraphModel.nodes()I -/
def wp_X6_nodes (post : Int32 → mm_S → Prop) (s0 : mm_S) : Prop := wp_X6_plain (fun r1 s2 => post r1 s2) (s0.1 1) s0
set_option maxHeartbeats 4000000 in
theorem t_X6_nodes (l : Launch) {base : Nat} {D : va_G} {ca : Nat → ClassId} {Ls : List gb_L} {ad : gb_L → Nat} {w : gb_L → va_E} {post : Int32 → mm_S → Prop} {s0 : mm_S} (hk : wp_X6_nodes post s0) : mm_Mi l yX6_nodes (ws_ yX6_nodes cX6_nodes 1 (some .int)) ({ frames := 1, cells := 0, slots := 0, locals := 21 } : Room) base D ca Ls ad w [] s0 post := by
  refine mm_start cX6_nodes 1 (some .int) _ (by decide) rfl rfl (Nat.le_of_ble_eq_true rfl) ?_
  intro p e s m args below meth c ls C hr hlk hH hS hl
  have hl : lv_has ls 1 [(0, .ref (ad (20, 0)))] := hl
  unfold wp_X6_nodes at hk
  refine lv_aload_n C.hx C.hb dX6_nodes_0 rfl (lv_at hl 0 rfl) ?_
  refine lv_aload_n C.hx C.hb dX6_nodes_1 rfl (lv_at hl 0 rfl) ?_
  refine mm_geti C hH 13 1 (by decide) rfl q1254 dX6_nodes_2 ?_
  refine mm_calli (As := [.int (s0.1 1)]) (rest := []) C (t_X6_plain l hk) (cwV 1 C.hts (lw_V q1388 q1390 qs32 q65 q1391) rfl rfl rfl (by decide +kernel) ⟨Nat.le_of_ble_eq_true rfl, Nat.le_of_ble_eq_true rfl⟩) hH hS rfl hl.1 rfl (lv_room (Nat.le_of_ble_eq_true rfl)) dX6_nodes_5 ⟨Nat.le_of_ble_eq_true rfl, Nat.le_of_ble_eq_true rfl⟩ (fun r1 s2 H locs hk hH hS => ?_)
  exact mm_iret C hr hlk hH hS hk dX6_nodes_8
/-! ToneGraphModel.kindOf(I)C -/
def wp_X6_kindOf (post : Int32 → mm_S → Prop) (p1 : Int32) (s0 : mm_S) : Prop := wp_X6_isNode (fun r1 s2 => wp_X6_checked (fun r3 s4 => ((r3 ≤ 0 → (vp_in p1 10 ∧ (∀ v7, v7 = (s4.2.1 2 p1.toNatClampNeg) → ((¬ v7 = 0 → ((¬ v7 = 1 → ((¬ v7 = 2 → ((¬ v7 = 3 → post 98 s4) ∧ (v7 = 3 → post 102 s4))) ∧ (v7 = 2 → post 100 s4))) ∧ (v7 = 1 → post 103 s4))) ∧ (v7 = 0 → post 118 s4))))) ∧ (¬ r3 ≤ 0 → post 97 s4))) r1 s2) p1 s0
set_option maxHeartbeats 4000000 in
theorem t_X6_kindOf (l : Launch) {base : Nat} {D : va_G} {ca : Nat → ClassId} {Ls : List gb_L} {ad : gb_L → Nat} {w : gb_L → va_E} {post : Int32 → mm_S → Prop} {p1 : Int32} {s0 : mm_S} (hk : wp_X6_kindOf post p1 s0) : mm_Mi l yX6_kindOf (ws_ yX6_kindOf cX6_kindOf 3 (some .char)) ({ frames := 2, cells := 0, slots := 0, locals := 43 } : Room) base D ca Ls ad w [.int p1] s0 post := by
  refine mm_start cX6_kindOf 3 (some .char) _ (by decide) rfl rfl (Nat.le_of_ble_eq_true rfl) ?_
  intro p e s m args below meth c ls C hr hlk hH hS hl
  have hl : lv_has ls 3 [(0, .ref (ad (20, 0))), (1, .int p1)] := hl
  unfold wp_X6_kindOf at hk
  refine lv_aload_n C.hx C.hb dX6_kindOf_0 rfl (lv_at hl 0 rfl) ?_
  refine lv_aload_n C.hx C.hb dX6_kindOf_1 rfl (lv_at hl 0 rfl) ?_
  refine lv_iload_n C.hx C.hb dX6_kindOf_2 rfl (lv_at hl 1 rfl) ?_
  refine mm_calli (As := [.int p1]) (rest := [.ref (ad (20, 0))]) C (t_X6_isNode l hk) (cwV 1 C.hts (lw_V q1356 q1358 qs28 q65 q1359) rfl rfl rfl (by decide +kernel) ⟨Nat.le_of_ble_eq_true rfl, Nat.le_of_ble_eq_true rfl⟩) hH hS rfl hl.1 rfl (lv_room (Nat.le_of_ble_eq_true rfl)) dX6_kindOf_3 ⟨Nat.le_of_ble_eq_true rfl, Nat.le_of_ble_eq_true rfl⟩ (fun r1 s2 H locs hk hH hS => ?_)
  refine mm_calli (As := [.int r1]) (rest := []) C (t_X6_checked l hk) (cwV 1 C.hts (lw_V q1380 q1382 qs31 q65 q1383) rfl rfl rfl (by decide +kernel) ⟨Nat.le_of_ble_eq_true rfl, Nat.le_of_ble_eq_true rfl⟩) hH hS rfl hl.1 rfl (lv_room (Nat.le_of_ble_eq_true rfl)) dX6_kindOf_6 ⟨Nat.le_of_ble_eq_true rfl, Nat.le_of_ble_eq_true rfl⟩ (fun r3 s4 H locs hk hH hS => ?_)
  refine lv_if_le (tgt := 15) C.hx C.hb dX6_kindOf_9 (by decide) (fun c5 => ?_) (fun c5 => ?_)
  · have hk := hk.1 c5
    refine lv_aload_n C.hx C.hb dX6_kindOf_15 rfl (lv_at hl 0 rfl) ?_
    refine mm_geta C hH 2 (by decide) q1243 dX6_kindOf_16 ?_
    refine lv_iload_n C.hx C.hb dX6_kindOf_19 rfl (lv_at hl 1 rfl) ?_
    obtain ⟨h6, hk⟩ := hk
    refine mm_ald C hH 2 (by decide) h6 dX6_kindOf_20 ?_
    refine lv_topi (fun v7 ev7 => ?_)
    have hk := hk v7 ev7
    refine lv_istore_n (lv' := [(2, .int v7), (0, .ref (ad (20, 0))), (1, .int p1)]) C.hx C.hb dX6_kindOf_21 rfl hl (by decide) rfl (fun ls hl => ?_)
    refine lv_iload_n C.hx C.hb dX6_kindOf_22 rfl (lv_at hl 0 rfl) ?_
    refine lv_if_ne (tgt := 31) C.hx C.hb dX6_kindOf_23 (by decide) (fun c8 => ?_) (fun c8 => ?_)
    · have hk := hk.1 c8
      refine lv_iload_n C.hx C.hb dX6_kindOf_31 rfl (lv_at hl 0 rfl) ?_
      refine lv_iconst (v := 1) C.hx C.hb dX6_kindOf_32 (by decide) ?_
      refine lv_icmp_ne (tgt := 41) C.hx C.hb dX6_kindOf_33 (by decide) (fun c9 => ?_) (fun c9 => ?_)
      · have hk := hk.1 c9
        refine lv_iload_n C.hx C.hb dX6_kindOf_41 rfl (lv_at hl 0 rfl) ?_
        refine lv_iconst (v := 2) C.hx C.hb dX6_kindOf_42 (by decide) ?_
        refine lv_icmp_ne (tgt := 51) C.hx C.hb dX6_kindOf_43 (by decide) (fun c10 => ?_) (fun c10 => ?_)
        · have hk := hk.1 c10
          refine lv_iload_n C.hx C.hb dX6_kindOf_51 rfl (lv_at hl 0 rfl) ?_
          refine lv_iconst (v := 3) C.hx C.hb dX6_kindOf_52 (by decide) ?_
          refine lv_icmp_ne (tgt := 61) C.hx C.hb dX6_kindOf_53 (by decide) (fun c11 => ?_) (fun c11 => ?_)
          · have hk := hk.1 c11
            refine lv_bipush (v := 98) C.hx C.hb dX6_kindOf_61 (by decide) ?_
            exact mm_zret (ty := .char) C hr hlk (by decide) hH hS hk dX6_kindOf_63
          · have hk := hk.2 c11
            refine lv_bipush (v := 102) C.hx C.hb dX6_kindOf_56 (by decide) ?_
            refine lv_goto (tgt := 63) C.hx C.hb dX6_kindOf_58 (by decide) ?_
            exact mm_zret (ty := .char) C hr hlk (by decide) hH hS hk dX6_kindOf_63
        · have hk := hk.2 c10
          refine lv_bipush (v := 100) C.hx C.hb dX6_kindOf_46 (by decide) ?_
          refine lv_goto (tgt := 63) C.hx C.hb dX6_kindOf_48 (by decide) ?_
          exact mm_zret (ty := .char) C hr hlk (by decide) hH hS hk dX6_kindOf_63
      · have hk := hk.2 c9
        refine lv_bipush (v := 103) C.hx C.hb dX6_kindOf_36 (by decide) ?_
        refine lv_goto (tgt := 63) C.hx C.hb dX6_kindOf_38 (by decide) ?_
        exact mm_zret (ty := .char) C hr hlk (by decide) hH hS hk dX6_kindOf_63
    · have hk := hk.2 c8
      refine lv_bipush (v := 118) C.hx C.hb dX6_kindOf_26 (by decide) ?_
      refine lv_goto (tgt := 63) C.hx C.hb dX6_kindOf_28 (by decide) ?_
      exact mm_zret (ty := .char) C hr hlk (by decide) hH hS hk dX6_kindOf_63
  · have hk := hk.2 c5
    refine lv_bipush (v := 97) C.hx C.hb dX6_kindOf_12 (by decide) ?_
    exact mm_zret (ty := .char) C hr hlk (by decide) hH hS hk dX6_kindOf_14
/-! ToneGraphModel.wires(I)I -/
def wp_X6_wires (post : Int32 → mm_S → Prop) (p1 : Int32) (s0 : mm_S) : Prop := wp_X6_isNode (fun r1 s2 => wp_X6_checked (fun r3 s4 => ((r3 ≤ 0 → (vp_in p1 10 ∧ post (s4.2.1 8 p1.toNatClampNeg) s4)) ∧ (¬ r3 ≤ 0 → post 0 s4))) r1 s2) p1 s0
set_option maxHeartbeats 4000000 in
theorem t_X6_wires (l : Launch) {base : Nat} {D : va_G} {ca : Nat → ClassId} {Ls : List gb_L} {ad : gb_L → Nat} {w : gb_L → va_E} {post : Int32 → mm_S → Prop} {p1 : Int32} {s0 : mm_S} (hk : wp_X6_wires post p1 s0) : mm_Mi l yX6_wires (ws_ yX6_wires cX6_wires 2 (some .int)) ({ frames := 2, cells := 0, slots := 0, locals := 43 } : Room) base D ca Ls ad w [.int p1] s0 post := by
  refine mm_start cX6_wires 2 (some .int) _ (by decide) rfl rfl (Nat.le_of_ble_eq_true rfl) ?_
  intro p e s m args below meth c ls C hr hlk hH hS hl
  have hl : lv_has ls 2 [(0, .ref (ad (20, 0))), (1, .int p1)] := hl
  unfold wp_X6_wires at hk
  refine lv_aload_n C.hx C.hb dX6_wires_0 rfl (lv_at hl 0 rfl) ?_
  refine lv_aload_n C.hx C.hb dX6_wires_1 rfl (lv_at hl 0 rfl) ?_
  refine lv_iload_n C.hx C.hb dX6_wires_2 rfl (lv_at hl 1 rfl) ?_
  refine mm_calli (As := [.int p1]) (rest := [.ref (ad (20, 0))]) C (t_X6_isNode l hk) (cwV 1 C.hts (lw_V q1356 q1358 qs28 q65 q1359) rfl rfl rfl (by decide +kernel) ⟨Nat.le_of_ble_eq_true rfl, Nat.le_of_ble_eq_true rfl⟩) hH hS rfl hl.1 rfl (lv_room (Nat.le_of_ble_eq_true rfl)) dX6_wires_3 ⟨Nat.le_of_ble_eq_true rfl, Nat.le_of_ble_eq_true rfl⟩ (fun r1 s2 H locs hk hH hS => ?_)
  refine mm_calli (As := [.int r1]) (rest := []) C (t_X6_checked l hk) (cwV 1 C.hts (lw_V q1380 q1382 qs31 q65 q1383) rfl rfl rfl (by decide +kernel) ⟨Nat.le_of_ble_eq_true rfl, Nat.le_of_ble_eq_true rfl⟩) hH hS rfl hl.1 rfl (lv_room (Nat.le_of_ble_eq_true rfl)) dX6_wires_6 ⟨Nat.le_of_ble_eq_true rfl, Nat.le_of_ble_eq_true rfl⟩ (fun r3 s4 H locs hk hH hS => ?_)
  refine lv_if_le (tgt := 16) C.hx C.hb dX6_wires_9 (by decide) (fun c5 => ?_) (fun c5 => ?_)
  · have hk := hk.1 c5
    refine lv_aload_n C.hx C.hb dX6_wires_16 rfl (lv_at hl 0 rfl) ?_
    refine mm_geta C hH 8 (by decide) q1249 dX6_wires_17 ?_
    refine lv_iload_n C.hx C.hb dX6_wires_20 rfl (lv_at hl 1 rfl) ?_
    obtain ⟨h6, hk⟩ := hk
    refine mm_ald C hH 8 (by decide) h6 dX6_wires_21 ?_
    exact mm_iret C hr hlk hH hS hk dX6_wires_22
  · have hk := hk.2 c5
    refine lv_iconst (v := 0) C.hx C.hb dX6_wires_12 (by decide) ?_
    refine lv_goto (tgt := 22) C.hx C.hb dX6_wires_13 (by decide) ?_
    exact mm_iret C hr hlk hH hS hk dX6_wires_22
/-! ToneGraphModel.hasNoWire(II)Z -/
def wp_X6_hasNoWire (post : Int32 → mm_S → Prop) (p1 : Int32) (p2 : Int32) (s0 : mm_S) : Prop := wp_X6_isNode (fun r1 s2 => ((¬ r1 = 0 → (vp_in p1 10 ∧ wp_X6_in (fun r5 => ((¬ r5 = 0 → (∀ s7 : mm_S, s7 = ms_f s2 0 0 → (((s7.1 0) ≤ 0 → post 0 s7) ∧ (¬ (s7.1 0) ≤ 0 → post 1 s7)))) ∧ (r5 = 0 → (∀ s9 : mm_S, s9 = ms_f s2 0 2 → (((s9.1 0) ≤ 0 → post 0 s9) ∧ (¬ (s9.1 0) ≤ 0 → post 1 s9)))))) p2 0 ((s2.2.1 8 p1.toNatClampNeg) - 1))) ∧ (r1 = 0 → (∀ s11 : mm_S, s11 = ms_f s2 0 1 → (((s11.1 0) ≤ 0 → post 0 s11) ∧ (¬ (s11.1 0) ≤ 0 → post 1 s11)))))) p1 s0
set_option maxHeartbeats 4000000 in
theorem t_X6_hasNoWire (l : Launch) {base : Nat} {D : va_G} {ca : Nat → ClassId} {Ls : List gb_L} {ad : gb_L → Nat} {w : gb_L → va_E} {post : Int32 → mm_S → Prop} {p1 : Int32} {p2 : Int32} {s0 : mm_S} (hk : wp_X6_hasNoWire post p1 p2 s0) : mm_Mi l yX6_hasNoWire (ws_ yX6_hasNoWire cX6_hasNoWire 3 (some .boolean)) ({ frames := 2, cells := 0, slots := 0, locals := 43 } : Room) base D ca Ls ad w [.int p1, .int p2] s0 post := by
  refine mm_start cX6_hasNoWire 3 (some .boolean) _ (by decide) rfl rfl (Nat.le_of_ble_eq_true rfl) ?_
  intro p e s m args below meth c ls C hr hlk hH hS hl
  have hl : lv_has ls 3 [(0, .ref (ad (20, 0))), (1, .int p1), (2, .int p2)] := hl
  unfold wp_X6_hasNoWire at hk
  refine lv_aload_n C.hx C.hb dX6_hasNoWire_0 rfl (lv_at hl 0 rfl) ?_
  refine lv_aload_n C.hx C.hb dX6_hasNoWire_1 rfl (lv_at hl 0 rfl) ?_
  refine lv_iload_n C.hx C.hb dX6_hasNoWire_2 rfl (lv_at hl 1 rfl) ?_
  refine mm_calli (As := [.int p1]) (rest := [.ref (ad (20, 0))]) C (t_X6_isNode l hk) (cwV 1 C.hts (lw_V q1356 q1358 qs28 q65 q1359) rfl rfl rfl (by decide +kernel) ⟨Nat.le_of_ble_eq_true rfl, Nat.le_of_ble_eq_true rfl⟩) hH hS rfl hl.1 rfl (lv_room (Nat.le_of_ble_eq_true rfl)) dX6_hasNoWire_3 ⟨Nat.le_of_ble_eq_true rfl, Nat.le_of_ble_eq_true rfl⟩ (fun r1 s2 H locs hk hH hS => ?_)
  refine lv_if_ne (tgt := 13) C.hx C.hb dX6_hasNoWire_6 (by decide) (fun c3 => ?_) (fun c3 => ?_)
  · have hk := hk.1 c3
    refine lv_iload_n C.hx C.hb dX6_hasNoWire_13 rfl (lv_at hl 2 rfl) ?_
    refine lv_iconst (v := 0) C.hx C.hb dX6_hasNoWire_14 (by decide) ?_
    refine lv_aload_n C.hx C.hb dX6_hasNoWire_15 rfl (lv_at hl 0 rfl) ?_
    refine mm_geta C hH 8 (by decide) q1249 dX6_hasNoWire_16 ?_
    refine lv_iload_n C.hx C.hb dX6_hasNoWire_19 rfl (lv_at hl 1 rfl) ?_
    obtain ⟨h4, hk⟩ := hk
    refine mm_ald C hH 8 (by decide) h4 dX6_hasNoWire_20 ?_
    refine lv_iconst (v := 1) C.hx C.hb dX6_hasNoWire_21 (by decide) ?_
    refine lv_isub C.hx C.hb dX6_hasNoWire_22 ?_
    refine gb_call (As := [.int p2, .int 0, .int ((s2.2.1 8 p1.toNatClampNeg) - 1)]) (rest := [.ref (ad (20, 0))]) C.1 (t_X6_in l hk) (va_cwS 3 C.hts (lw_S q1329 q1330 q65 q1331) rfl rfl rfl (by decide +kernel) ⟨Nat.le_of_ble_eq_true rfl, Nat.le_of_ble_eq_true rfl⟩) rfl hl.1 rfl (lv_room (Nat.le_of_ble_eq_true rfl)) dX6_hasNoWire_23 ⟨Nat.le_of_ble_eq_true rfl, Nat.le_of_ble_eq_true rfl⟩ (fun r5 hk => ?_)
    refine lv_if_ne (tgt := 33) C.hx C.hb dX6_hasNoWire_26 (by decide) (fun c6 => ?_) (fun c6 => ?_)
    · have hk := hk.1 c6
      refine lv_iconst (v := 0) C.hx C.hb dX6_hasNoWire_33 (by decide) ?_
      refine mm_puti C hH hS 12 0 (by decide) rfl q1253 dX6_hasNoWire_34 rfl rfl (fun s7 es7 H locs hH hS => ?_)
      have hk := hk s7 es7
      refine lv_aload_n C.hx C.hb dX6_hasNoWire_37 rfl (lv_at hl 0 rfl) ?_
      refine mm_geti C hH 12 0 (by decide) rfl q1253 dX6_hasNoWire_38 ?_
      refine lv_if_le (tgt := 48) C.hx C.hb dX6_hasNoWire_41 (by decide) (fun c8 => ?_) (fun c8 => ?_)
      · have hk := hk.1 c8
        refine lv_iconst (v := 0) C.hx C.hb dX6_hasNoWire_48 (by decide) ?_
        exact mm_zret (ty := .boolean) C hr hlk (by decide) hH hS hk dX6_hasNoWire_49
      · have hk := hk.2 c8
        refine lv_iconst (v := 1) C.hx C.hb dX6_hasNoWire_44 (by decide) ?_
        refine lv_goto (tgt := 49) C.hx C.hb dX6_hasNoWire_45 (by decide) ?_
        exact mm_zret (ty := .boolean) C hr hlk (by decide) hH hS hk dX6_hasNoWire_49
    · have hk := hk.2 c6
      refine lv_iconst (v := 2) C.hx C.hb dX6_hasNoWire_29 (by decide) ?_
      refine lv_goto (tgt := 34) C.hx C.hb dX6_hasNoWire_30 (by decide) ?_
      refine mm_puti C hH hS 12 0 (by decide) rfl q1253 dX6_hasNoWire_34 rfl rfl (fun s9 es9 H locs hH hS => ?_)
      have hk := hk s9 es9
      refine lv_aload_n C.hx C.hb dX6_hasNoWire_37 rfl (lv_at hl 0 rfl) ?_
      refine mm_geti C hH 12 0 (by decide) rfl q1253 dX6_hasNoWire_38 ?_
      refine lv_if_le (tgt := 48) C.hx C.hb dX6_hasNoWire_41 (by decide) (fun c10 => ?_) (fun c10 => ?_)
      · have hk := hk.1 c10
        refine lv_iconst (v := 0) C.hx C.hb dX6_hasNoWire_48 (by decide) ?_
        exact mm_zret (ty := .boolean) C hr hlk (by decide) hH hS hk dX6_hasNoWire_49
      · have hk := hk.2 c10
        refine lv_iconst (v := 1) C.hx C.hb dX6_hasNoWire_44 (by decide) ?_
        refine lv_goto (tgt := 49) C.hx C.hb dX6_hasNoWire_45 (by decide) ?_
        exact mm_zret (ty := .boolean) C hr hlk (by decide) hH hS hk dX6_hasNoWire_49
  · have hk := hk.2 c3
    refine lv_iconst (v := 1) C.hx C.hb dX6_hasNoWire_9 (by decide) ?_
    refine lv_goto (tgt := 34) C.hx C.hb dX6_hasNoWire_10 (by decide) ?_
    refine mm_puti C hH hS 12 0 (by decide) rfl q1253 dX6_hasNoWire_34 rfl rfl (fun s11 es11 H locs hH hS => ?_)
    have hk := hk s11 es11
    refine lv_aload_n C.hx C.hb dX6_hasNoWire_37 rfl (lv_at hl 0 rfl) ?_
    refine mm_geti C hH 12 0 (by decide) rfl q1253 dX6_hasNoWire_38 ?_
    refine lv_if_le (tgt := 48) C.hx C.hb dX6_hasNoWire_41 (by decide) (fun c12 => ?_) (fun c12 => ?_)
    · have hk := hk.1 c12
      refine lv_iconst (v := 0) C.hx C.hb dX6_hasNoWire_48 (by decide) ?_
      exact mm_zret (ty := .boolean) C hr hlk (by decide) hH hS hk dX6_hasNoWire_49
    · have hk := hk.2 c12
      refine lv_iconst (v := 1) C.hx C.hb dX6_hasNoWire_44 (by decide) ?_
      refine lv_goto (tgt := 49) C.hx C.hb dX6_hasNoWire_45 (by decide) ?_
      exact mm_zret (ty := .boolean) C hr hlk (by decide) hH hS hk dX6_hasNoWire_49
/-! ToneGraphModel.wireFrom(II)I -/
def wp_X6_wireFrom (post : Int32 → mm_S → Prop) (p1 : Int32) (p2 : Int32) (s0 : mm_S) : Prop := wp_X6_hasNoWire (fun r1 s2 => ((r1 = 0 → (vp_in ((4 * p1) + p2) 40 ∧ post (s2.2.1 6 ((4 * p1) + p2).toNatClampNeg) s2)) ∧ (¬ r1 = 0 → post 0 s2))) p1 p2 s0
set_option maxHeartbeats 4000000 in
theorem t_X6_wireFrom (l : Launch) {base : Nat} {D : va_G} {ca : Nat → ClassId} {Ls : List gb_L} {ad : gb_L → Nat} {w : gb_L → va_E} {post : Int32 → mm_S → Prop} {p1 : Int32} {p2 : Int32} {s0 : mm_S} (hk : wp_X6_wireFrom post p1 p2 s0) : mm_Mi l yX6_wireFrom (ws_ yX6_wireFrom cX6_wireFrom 3 (some .int)) ({ frames := 3, cells := 0, slots := 0, locals := 65 } : Room) base D ca Ls ad w [.int p1, .int p2] s0 post := by
  refine mm_start cX6_wireFrom 3 (some .int) _ (by decide) rfl rfl (Nat.le_of_ble_eq_true rfl) ?_
  intro p e s m args below meth c ls C hr hlk hH hS hl
  have hl : lv_has ls 3 [(0, .ref (ad (20, 0))), (1, .int p1), (2, .int p2)] := hl
  unfold wp_X6_wireFrom at hk
  refine lv_aload_n C.hx C.hb dX6_wireFrom_0 rfl (lv_at hl 0 rfl) ?_
  refine lv_iload_n C.hx C.hb dX6_wireFrom_1 rfl (lv_at hl 1 rfl) ?_
  refine lv_iload_n C.hx C.hb dX6_wireFrom_2 rfl (lv_at hl 2 rfl) ?_
  refine mm_calli (As := [.int p1, .int p2]) (rest := []) C (t_X6_hasNoWire l hk) (cwV 2 C.hts (lw_V q1404 q1406 qs33 q65 q1407) rfl rfl rfl (by decide +kernel) ⟨Nat.le_of_ble_eq_true rfl, Nat.le_of_ble_eq_true rfl⟩) hH hS rfl hl.1 rfl (lv_room (Nat.le_of_ble_eq_true rfl)) dX6_wireFrom_3 ⟨Nat.le_of_ble_eq_true rfl, Nat.le_of_ble_eq_true rfl⟩ (fun r1 s2 H locs hk hH hS => ?_)
  refine lv_if_eq (tgt := 13) C.hx C.hb dX6_wireFrom_6 (by decide) (fun c3 => ?_) (fun c3 => ?_)
  · have hk := hk.1 c3
    refine lv_aload_n C.hx C.hb dX6_wireFrom_13 rfl (lv_at hl 0 rfl) ?_
    refine mm_geta C hH 6 (by decide) q1247 dX6_wireFrom_14 ?_
    refine lv_iconst (v := 4) C.hx C.hb dX6_wireFrom_17 (by decide) ?_
    refine lv_iload_n C.hx C.hb dX6_wireFrom_18 rfl (lv_at hl 1 rfl) ?_
    refine lv_imul C.hx C.hb dX6_wireFrom_19 ?_
    refine lv_iload_n C.hx C.hb dX6_wireFrom_20 rfl (lv_at hl 2 rfl) ?_
    refine lv_iadd C.hx C.hb dX6_wireFrom_21 ?_
    obtain ⟨h4, hk⟩ := hk
    refine mm_ald C hH 6 (by decide) h4 dX6_wireFrom_22 ?_
    exact mm_iret C hr hlk hH hS hk dX6_wireFrom_23
  · have hk := hk.2 c3
    refine lv_iconst (v := 0) C.hx C.hb dX6_wireFrom_9 (by decide) ?_
    refine lv_goto (tgt := 23) C.hx C.hb dX6_wireFrom_10 (by decide) ?_
    exact mm_iret C hr hlk hH hS hk dX6_wireFrom_23
/-! ToneGraphModel.wirePercent(II)I -/
def wp_X6_wirePercent (post : Int32 → mm_S → Prop) (p1 : Int32) (p2 : Int32) (s0 : mm_S) : Prop := wp_X6_hasNoWire (fun r1 s2 => ((r1 = 0 → (vp_in ((4 * p1) + p2) 40 ∧ post (s2.2.1 7 ((4 * p1) + p2).toNatClampNeg) s2)) ∧ (¬ r1 = 0 → post 0 s2))) p1 p2 s0
set_option maxHeartbeats 4000000 in
theorem t_X6_wirePercent (l : Launch) {base : Nat} {D : va_G} {ca : Nat → ClassId} {Ls : List gb_L} {ad : gb_L → Nat} {w : gb_L → va_E} {post : Int32 → mm_S → Prop} {p1 : Int32} {p2 : Int32} {s0 : mm_S} (hk : wp_X6_wirePercent post p1 p2 s0) : mm_Mi l yX6_wirePercent (ws_ yX6_wirePercent cX6_wirePercent 3 (some .int)) ({ frames := 3, cells := 0, slots := 0, locals := 65 } : Room) base D ca Ls ad w [.int p1, .int p2] s0 post := by
  refine mm_start cX6_wirePercent 3 (some .int) _ (by decide) rfl rfl (Nat.le_of_ble_eq_true rfl) ?_
  intro p e s m args below meth c ls C hr hlk hH hS hl
  have hl : lv_has ls 3 [(0, .ref (ad (20, 0))), (1, .int p1), (2, .int p2)] := hl
  unfold wp_X6_wirePercent at hk
  refine lv_aload_n C.hx C.hb dX6_wirePercent_0 rfl (lv_at hl 0 rfl) ?_
  refine lv_iload_n C.hx C.hb dX6_wirePercent_1 rfl (lv_at hl 1 rfl) ?_
  refine lv_iload_n C.hx C.hb dX6_wirePercent_2 rfl (lv_at hl 2 rfl) ?_
  refine mm_calli (As := [.int p1, .int p2]) (rest := []) C (t_X6_hasNoWire l hk) (cwV 2 C.hts (lw_V q1404 q1406 qs33 q65 q1407) rfl rfl rfl (by decide +kernel) ⟨Nat.le_of_ble_eq_true rfl, Nat.le_of_ble_eq_true rfl⟩) hH hS rfl hl.1 rfl (lv_room (Nat.le_of_ble_eq_true rfl)) dX6_wirePercent_3 ⟨Nat.le_of_ble_eq_true rfl, Nat.le_of_ble_eq_true rfl⟩ (fun r1 s2 H locs hk hH hS => ?_)
  refine lv_if_eq (tgt := 13) C.hx C.hb dX6_wirePercent_6 (by decide) (fun c3 => ?_) (fun c3 => ?_)
  · have hk := hk.1 c3
    refine lv_aload_n C.hx C.hb dX6_wirePercent_13 rfl (lv_at hl 0 rfl) ?_
    refine mm_geta C hH 7 (by decide) q1248 dX6_wirePercent_14 ?_
    refine lv_iconst (v := 4) C.hx C.hb dX6_wirePercent_17 (by decide) ?_
    refine lv_iload_n C.hx C.hb dX6_wirePercent_18 rfl (lv_at hl 1 rfl) ?_
    refine lv_imul C.hx C.hb dX6_wirePercent_19 ?_
    refine lv_iload_n C.hx C.hb dX6_wirePercent_20 rfl (lv_at hl 2 rfl) ?_
    refine lv_iadd C.hx C.hb dX6_wirePercent_21 ?_
    obtain ⟨h4, hk⟩ := hk
    refine mm_ald C hH 7 (by decide) h4 dX6_wirePercent_22 ?_
    exact mm_iret C hr hlk hH hS hk dX6_wirePercent_23
  · have hk := hk.2 c3
    refine lv_iconst (v := 0) C.hx C.hb dX6_wirePercent_9 (by decide) ?_
    refine lv_goto (tgt := 23) C.hx C.hb dX6_wirePercent_10 (by decide) ?_
    exact mm_iret C hr hlk hH hS hk dX6_wirePercent_23
/-! ToneGraphModel.nodeAt(I)I -/
def wp_X6_nodeAt (post : Int32 → mm_S → Prop) (p1 : Int32) (s0 : mm_S) : Prop := wp_X6_isNode (fun r1 s2 => wp_X6_checked (fun r3 s4 => ((r3 ≤ 0 → (vp_in p1 10 ∧ post (s4.2.1 9 p1.toNatClampNeg) s4)) ∧ (¬ r3 ≤ 0 → post 0 s4))) r1 s2) p1 s0
set_option maxHeartbeats 4000000 in
theorem t_X6_nodeAt (l : Launch) {base : Nat} {D : va_G} {ca : Nat → ClassId} {Ls : List gb_L} {ad : gb_L → Nat} {w : gb_L → va_E} {post : Int32 → mm_S → Prop} {p1 : Int32} {s0 : mm_S} (hk : wp_X6_nodeAt post p1 s0) : mm_Mi l yX6_nodeAt (ws_ yX6_nodeAt cX6_nodeAt 2 (some .int)) ({ frames := 2, cells := 0, slots := 0, locals := 43 } : Room) base D ca Ls ad w [.int p1] s0 post := by
  refine mm_start cX6_nodeAt 2 (some .int) _ (by decide) rfl rfl (Nat.le_of_ble_eq_true rfl) ?_
  intro p e s m args below meth c ls C hr hlk hH hS hl
  have hl : lv_has ls 2 [(0, .ref (ad (20, 0))), (1, .int p1)] := hl
  unfold wp_X6_nodeAt at hk
  refine lv_aload_n C.hx C.hb dX6_nodeAt_0 rfl (lv_at hl 0 rfl) ?_
  refine lv_aload_n C.hx C.hb dX6_nodeAt_1 rfl (lv_at hl 0 rfl) ?_
  refine lv_iload_n C.hx C.hb dX6_nodeAt_2 rfl (lv_at hl 1 rfl) ?_
  refine mm_calli (As := [.int p1]) (rest := [.ref (ad (20, 0))]) C (t_X6_isNode l hk) (cwV 1 C.hts (lw_V q1356 q1358 qs28 q65 q1359) rfl rfl rfl (by decide +kernel) ⟨Nat.le_of_ble_eq_true rfl, Nat.le_of_ble_eq_true rfl⟩) hH hS rfl hl.1 rfl (lv_room (Nat.le_of_ble_eq_true rfl)) dX6_nodeAt_3 ⟨Nat.le_of_ble_eq_true rfl, Nat.le_of_ble_eq_true rfl⟩ (fun r1 s2 H locs hk hH hS => ?_)
  refine mm_calli (As := [.int r1]) (rest := []) C (t_X6_checked l hk) (cwV 1 C.hts (lw_V q1380 q1382 qs31 q65 q1383) rfl rfl rfl (by decide +kernel) ⟨Nat.le_of_ble_eq_true rfl, Nat.le_of_ble_eq_true rfl⟩) hH hS rfl hl.1 rfl (lv_room (Nat.le_of_ble_eq_true rfl)) dX6_nodeAt_6 ⟨Nat.le_of_ble_eq_true rfl, Nat.le_of_ble_eq_true rfl⟩ (fun r3 s4 H locs hk hH hS => ?_)
  refine lv_if_le (tgt := 16) C.hx C.hb dX6_nodeAt_9 (by decide) (fun c5 => ?_) (fun c5 => ?_)
  · have hk := hk.1 c5
    refine lv_aload_n C.hx C.hb dX6_nodeAt_16 rfl (lv_at hl 0 rfl) ?_
    refine mm_geta C hH 9 (by decide) q1250 dX6_nodeAt_17 ?_
    refine lv_iload_n C.hx C.hb dX6_nodeAt_20 rfl (lv_at hl 1 rfl) ?_
    obtain ⟨h6, hk⟩ := hk
    refine mm_ald C hH 9 (by decide) h6 dX6_nodeAt_21 ?_
    exact mm_iret C hr hlk hH hS hk dX6_nodeAt_22
  · have hk := hk.2 c5
    refine lv_iconst (v := 0) C.hx C.hb dX6_nodeAt_12 (by decide) ?_
    refine lv_goto (tgt := 22) C.hx C.hb dX6_nodeAt_13 (by decide) ?_
    exact mm_iret C hr hlk hH hS hk dX6_nodeAt_22
/-! ToneGraphModel.longestBlock()I -/
def wp_X6_longestBlock_5 (post : Int32 → mm_S → Prop) (K : Int32 → Int32 → mm_S → Prop) : Nat → Int32 → Int32 → mm_S → Prop
  | 0, _, _, _ => False
  | n5 + 1, x1, x2, s0 => (((s0.1 1) ≤ x2 → K x1 x2 s0) ∧ (¬ (s0.1 1) ≤ x2 → (vp_in x2 10 ∧ ((¬ (s0.2.1 2 x2.toNatClampNeg) = 2 → (∀ v4, v4 = x2 + 1 → wp_X6_longestBlock_5 post K n5 x1 v4 s0)) ∧ ((s0.2.1 2 x2.toNatClampNeg) = 2 → (vp_in x2 10 ∧ ((x1 ≤ (s0.2.1 3 x2.toNatClampNeg) → (∀ v7, v7 = x2 + 1 → wp_X6_longestBlock_5 post K n5 x1 v7 s0)) ∧ (¬ x1 ≤ (s0.2.1 3 x2.toNatClampNeg) → (vp_in x2 10 ∧ (∀ v9, v9 = (s0.2.1 3 x2.toNatClampNeg) → (∀ v10, v10 = x2 + 1 → wp_X6_longestBlock_5 post K n5 v9 v10 s0)))))))))))
set_option maxHeartbeats 4000000 in
theorem tw_X6_longestBlock_5 {p : Program} {l : Launch} {e : Env} {s : State} {m : MethodId} {args : Array Value} {below : List Frame} {meth : Method} {c : Code} {base : Nat} {D : va_G} {ca : Nat → ClassId} {Ls : List gb_L} {ad : gb_L → Nat} {w : gb_L → va_E} {post : Int32 → mm_S → Prop} {K : Int32 → Int32 → mm_S → Prop} (C : gb_C p m c cX6_longestBlock 3 s args RX6 base D ca) (hr : meth.sig.returnType = (some .int)) (hlk : meth.locks = false) (hK : ∀ (x1 : Int32) (x2 : Int32) (σ' : mm_S) (H : Heap) (locs : List Loc) (ls : Array Slot), K x1 x2 σ' → mm_ok base D ca Ls ad w σ' H → va_S (fun q => base ≤ q) s.heap H locs → lv_has ls 3 [(0, .ref (ad (20, 0))), (1, .int x1), (2, .int x2)] → W p l e ({ frames := 1, cells := 0, slots := 0, locals := 21 } : Room) s m args below meth c H locs 0 0 (MQ below (va_Qi post (fun σ' t => mm_ok base D ca Ls ad w σ' t.heap) (fun q => base ≤ q)) args s 0 0 (fun q => base ≤ q)) (F0 m 50 ls [])) :
    ∀ (n : Nat) (x1 : Int32) (x2 : Int32) (s0 : mm_S) (H : Heap) (locs : List Loc) (ls : Array Slot), wp_X6_longestBlock_5 post K n x1 x2 s0 → mm_ok base D ca Ls ad w s0 H → va_S (fun q => base ≤ q) s.heap H locs → lv_has ls 3 [(0, .ref (ad (20, 0))), (1, .int x1), (2, .int x2)] → W p l e ({ frames := 1, cells := 0, slots := 0, locals := 21 } : Room) s m args below meth c H locs 0 0 (MQ below (va_Qi post (fun σ' t => mm_ok base D ca Ls ad w σ' t.heap) (fun q => base ≤ q)) args s 0 0 (fun q => base ≤ q)) (F0 m 5 ls []) := by
  intro n
  induction n with
  | zero =>
    intro x1 x2 s0 H locs ls hk
    exact hk.elim
  | succ n ih =>
    intro x1 x2 s0 H locs ls hk hH hS hl
    rw [wp_X6_longestBlock_5] at hk
    refine lv_iload_n C.hx C.hb dX6_longestBlock_5 rfl (lv_at hl 2 rfl) ?_
    refine lv_aload_n C.hx C.hb dX6_longestBlock_6 rfl (lv_at hl 0 rfl) ?_
    refine mm_geti C hH 13 1 (by decide) rfl q1254 dX6_longestBlock_7 ?_
    refine lv_icmp_ge (tgt := 50) C.hx C.hb dX6_longestBlock_10 (by decide) (fun c1 => ?_) (fun c1 => ?_)
    · have hk := hk.1 c1
      exact hK x1 x2 s0 _ _ _ hk hH hS (lv_sub hl [0, 1, 2] rfl)
    · have hk := hk.2 c1
      refine lv_aload_n C.hx C.hb dX6_longestBlock_13 rfl (lv_at hl 0 rfl) ?_
      refine mm_geta C hH 2 (by decide) q1243 dX6_longestBlock_14 ?_
      refine lv_iload_n C.hx C.hb dX6_longestBlock_17 rfl (lv_at hl 2 rfl) ?_
      obtain ⟨h2, hk⟩ := hk
      refine mm_ald C hH 2 (by decide) h2 dX6_longestBlock_18 ?_
      refine lv_iconst (v := 2) C.hx C.hb dX6_longestBlock_19 (by decide) ?_
      refine lv_icmp_ne (tgt := 42) C.hx C.hb dX6_longestBlock_20 (by decide) (fun c3 => ?_) (fun c3 => ?_)
      · have hk := hk.1 c3
        refine lv_iload_n C.hx C.hb dX6_longestBlock_42 rfl (lv_at hl 1 rfl) ?_
        refine lv_istore_n (lv' := [(1, .int x1), (0, .ref (ad (20, 0))), (2, .int x2)]) C.hx C.hb dX6_longestBlock_43 rfl hl (by decide) rfl (fun ls hl => ?_)
        obtain ⟨v4, ev4⟩ : ∃ y : Int32, y = x2 + 1 := ⟨_, rfl⟩
        have hk := hk v4 ev4
        refine lv_iinc (v := v4) (lv' := [(2, .int v4), (1, .int x1), (0, .ref (ad (20, 0)))]) C.hx C.hb dX6_longestBlock_44 hl (k := 2) rfl (by rw [ev4]; rfl) (by decide) rfl (fun ls hl => ?_)
        refine lv_goto (tgt := 5) C.hx C.hb dX6_longestBlock_47 (by decide) ?_
        exact ih x1 v4 s0 _ _ _ hk hH hS (lv_sub hl [2, 1, 0] rfl)
      · have hk := hk.2 c3
        refine lv_aload_n C.hx C.hb dX6_longestBlock_23 rfl (lv_at hl 0 rfl) ?_
        refine mm_geta C hH 3 (by decide) q1244 dX6_longestBlock_24 ?_
        refine lv_iload_n C.hx C.hb dX6_longestBlock_27 rfl (lv_at hl 2 rfl) ?_
        obtain ⟨h5, hk⟩ := hk
        refine mm_ald C hH 3 (by decide) h5 dX6_longestBlock_28 ?_
        refine lv_iload_n C.hx C.hb dX6_longestBlock_29 rfl (lv_at hl 1 rfl) ?_
        refine lv_icmp_ge (tgt := 42) C.hx C.hb dX6_longestBlock_30 (by decide) (fun c6 => ?_) (fun c6 => ?_)
        · have hk := hk.1 c6
          refine lv_iload_n C.hx C.hb dX6_longestBlock_42 rfl (lv_at hl 1 rfl) ?_
          refine lv_istore_n (lv' := [(1, .int x1), (0, .ref (ad (20, 0))), (2, .int x2)]) C.hx C.hb dX6_longestBlock_43 rfl hl (by decide) rfl (fun ls hl => ?_)
          obtain ⟨v7, ev7⟩ : ∃ y : Int32, y = x2 + 1 := ⟨_, rfl⟩
          have hk := hk v7 ev7
          refine lv_iinc (v := v7) (lv' := [(2, .int v7), (1, .int x1), (0, .ref (ad (20, 0)))]) C.hx C.hb dX6_longestBlock_44 hl (k := 2) rfl (by rw [ev7]; rfl) (by decide) rfl (fun ls hl => ?_)
          refine lv_goto (tgt := 5) C.hx C.hb dX6_longestBlock_47 (by decide) ?_
          exact ih x1 v7 s0 _ _ _ hk hH hS (lv_sub hl [2, 1, 0] rfl)
        · have hk := hk.2 c6
          refine lv_aload_n C.hx C.hb dX6_longestBlock_33 rfl (lv_at hl 0 rfl) ?_
          refine mm_geta C hH 3 (by decide) q1244 dX6_longestBlock_34 ?_
          refine lv_iload_n C.hx C.hb dX6_longestBlock_37 rfl (lv_at hl 2 rfl) ?_
          obtain ⟨h8, hk⟩ := hk
          refine mm_ald C hH 3 (by decide) h8 dX6_longestBlock_38 ?_
          refine lv_goto (tgt := 43) C.hx C.hb dX6_longestBlock_39 (by decide) ?_
          refine lv_topi (fun v9 ev9 => ?_)
          have hk := hk v9 ev9
          refine lv_istore_n (lv' := [(1, .int v9), (0, .ref (ad (20, 0))), (2, .int x2)]) C.hx C.hb dX6_longestBlock_43 rfl hl (by decide) rfl (fun ls hl => ?_)
          obtain ⟨v10, ev10⟩ : ∃ y : Int32, y = x2 + 1 := ⟨_, rfl⟩
          have hk := hk v10 ev10
          refine lv_iinc (v := v10) (lv' := [(2, .int v10), (1, .int v9), (0, .ref (ad (20, 0)))]) C.hx C.hb dX6_longestBlock_44 hl (k := 2) rfl (by rw [ev10]; rfl) (by decide) rfl (fun ls hl => ?_)
          refine lv_goto (tgt := 5) C.hx C.hb dX6_longestBlock_47 (by decide) ?_
          exact ih v9 v10 s0 _ _ _ hk hH hS (lv_sub hl [2, 1, 0] rfl)
def wp_X6_longestBlock (post : Int32 → mm_S → Prop) (s0 : mm_S) : Prop := (∃ n5, wp_X6_longestBlock_5 post (fun y11 y12 s13 => wp_X6_plain (fun r14 s15 => post r14 s15) y11 s13) n5 64 0 s0)
set_option maxHeartbeats 4000000 in
theorem t_X6_longestBlock (l : Launch) {base : Nat} {D : va_G} {ca : Nat → ClassId} {Ls : List gb_L} {ad : gb_L → Nat} {w : gb_L → va_E} {post : Int32 → mm_S → Prop} {s0 : mm_S} (hk : wp_X6_longestBlock post s0) : mm_Mi l yX6_longestBlock (ws_ yX6_longestBlock cX6_longestBlock 3 (some .int)) ({ frames := 1, cells := 0, slots := 0, locals := 21 } : Room) base D ca Ls ad w [] s0 post := by
  refine mm_start cX6_longestBlock 3 (some .int) _ (by decide) rfl rfl (Nat.le_of_ble_eq_true rfl) ?_
  intro p e s m args below meth c ls C hr hlk hH hS hl
  have hl : lv_has ls 3 [(0, .ref (ad (20, 0)))] := hl
  unfold wp_X6_longestBlock at hk
  refine lv_bipush (v := 64) C.hx C.hb dX6_longestBlock_0 (by decide) ?_
  refine lv_istore_n (lv' := [(1, .int 64), (0, .ref (ad (20, 0)))]) C.hx C.hb dX6_longestBlock_2 rfl hl (by decide) rfl (fun ls hl => ?_)
  refine lv_iconst (v := 0) C.hx C.hb dX6_longestBlock_3 (by decide) ?_
  refine lv_istore_n (lv' := [(2, .int 0), (1, .int 64), (0, .ref (ad (20, 0)))]) C.hx C.hb dX6_longestBlock_4 rfl hl (by decide) rfl (fun ls hl => ?_)
  obtain ⟨n5, hk⟩ := hk
  refine tw_X6_longestBlock_5 C hr hlk (fun y11 y12 s13 H locs ls hk hH hS hl => ?_) n5 64 0 s0 _ _ _ hk hH hS (lv_sub hl [2, 1, 0] rfl)
  refine lv_aload_n C.hx C.hb dX6_longestBlock_50 rfl (lv_at hl 0 rfl) ?_
  refine lv_iload_n C.hx C.hb dX6_longestBlock_51 rfl (lv_at hl 1 rfl) ?_
  refine mm_calli (As := [.int y11]) (rest := []) C (t_X6_plain l hk) (cwV 1 C.hts (lw_V q1388 q1390 qs32 q65 q1391) rfl rfl rfl (by decide +kernel) ⟨Nat.le_of_ble_eq_true rfl, Nat.le_of_ble_eq_true rfl⟩) hH hS rfl hl.1 rfl (lv_room (Nat.le_of_ble_eq_true rfl)) dX6_longestBlock_52 ⟨Nat.le_of_ble_eq_true rfl, Nat.le_of_ble_eq_true rfl⟩ (fun r14 s15 H locs hk hH hS => ?_)
  exact mm_iret C hr hlk hH hS hk dX6_longestBlock_55
/-! ToneGraphModel.setWave(C)C -/
def wp_X6_setWave (post : Int32 → mm_S → Prop) (p1 : Int32) (s0 : mm_S) : Prop := ((p1 = 115 → wp_X6_checked (fun r2 s3 => ((r2 ≤ 0 → (∀ v5, v5 = (s3.1 3) → (∀ s6 : mm_S, s6 = ms_f s3 3 p1 → (narrow .char (.int ((v5.toUInt32 % 65536).toInt32)) = .int ((v5.toUInt32 % 65536).toInt32) ∧ post ((v5.toUInt32 % 65536).toInt32) s6)))) ∧ (¬ r2 ≤ 0 → post 97 s3))) 1 s0) ∧ (¬ p1 = 115 → ((p1 = 113 → wp_X6_checked (fun r9 s10 => ((r9 ≤ 0 → (∀ v12, v12 = (s10.1 3) → (∀ s13 : mm_S, s13 = ms_f s10 3 p1 → (narrow .char (.int ((v12.toUInt32 % 65536).toInt32)) = .int ((v12.toUInt32 % 65536).toInt32) ∧ post ((v12.toUInt32 % 65536).toInt32) s13)))) ∧ (¬ r9 ≤ 0 → post 97 s10))) 1 s0) ∧ (¬ p1 = 113 → ((¬ p1 = 116 → wp_X6_checked (fun r16 s17 => ((r16 ≤ 0 → (∀ v19, v19 = (s17.1 3) → (∀ s20 : mm_S, s20 = ms_f s17 3 p1 → (narrow .char (.int ((v19.toUInt32 % 65536).toInt32)) = .int ((v19.toUInt32 % 65536).toInt32) ∧ post ((v19.toUInt32 % 65536).toInt32) s20)))) ∧ (¬ r16 ≤ 0 → post 97 s17))) 0 s0) ∧ (p1 = 116 → wp_X6_checked (fun r22 s23 => ((r22 ≤ 0 → (∀ v25, v25 = (s23.1 3) → (∀ s26 : mm_S, s26 = ms_f s23 3 p1 → (narrow .char (.int ((v25.toUInt32 % 65536).toInt32)) = .int ((v25.toUInt32 % 65536).toInt32) ∧ post ((v25.toUInt32 % 65536).toInt32) s26)))) ∧ (¬ r22 ≤ 0 → post 97 s23))) 1 s0))))))
set_option maxHeartbeats 4000000 in
theorem t_X6_setWave (l : Launch) {base : Nat} {D : va_G} {ca : Nat → ClassId} {Ls : List gb_L} {ad : gb_L → Nat} {w : gb_L → va_E} {post : Int32 → mm_S → Prop} {p1 : Int32} {s0 : mm_S} (hk : wp_X6_setWave post p1 s0) : mm_Mi l yX6_setWave (ws_ yX6_setWave cX6_setWave 3 (some .char)) ({ frames := 1, cells := 0, slots := 0, locals := 21 } : Room) base D ca Ls ad w [.int p1] s0 post := by
  refine mm_start cX6_setWave 3 (some .char) _ (by decide) rfl rfl (Nat.le_of_ble_eq_true rfl) ?_
  intro p e s m args below meth c ls C hr hlk hH hS hl
  have hl : lv_has ls 3 [(0, .ref (ad (20, 0))), (1, .int p1)] := hl
  unfold wp_X6_setWave at hk
  refine lv_aload_n C.hx C.hb dX6_setWave_0 rfl (lv_at hl 0 rfl) ?_
  refine lv_iload_n C.hx C.hb dX6_setWave_1 rfl (lv_at hl 1 rfl) ?_
  refine lv_bipush (v := 115) C.hx C.hb dX6_setWave_2 (by decide) ?_
  refine lv_icmp_eq (tgt := 19) C.hx C.hb dX6_setWave_4 (by decide) (fun c1 => ?_) (fun c1 => ?_)
  · have hk := hk.1 c1
    refine lv_iconst (v := 1) C.hx C.hb dX6_setWave_19 (by decide) ?_
    refine lv_goto (tgt := 24) C.hx C.hb dX6_setWave_20 (by decide) ?_
    refine mm_calli (As := [.int 1]) (rest := []) C (t_X6_checked l hk) (cwV 1 C.hts (lw_V q1380 q1382 qs31 q65 q1383) rfl rfl rfl (by decide +kernel) ⟨Nat.le_of_ble_eq_true rfl, Nat.le_of_ble_eq_true rfl⟩) hH hS rfl hl.1 rfl (lv_room (Nat.le_of_ble_eq_true rfl)) dX6_setWave_24 ⟨Nat.le_of_ble_eq_true rfl, Nat.le_of_ble_eq_true rfl⟩ (fun r2 s3 H locs hk hH hS => ?_)
    refine lv_if_le (tgt := 33) C.hx C.hb dX6_setWave_27 (by decide) (fun c4 => ?_) (fun c4 => ?_)
    · have hk := hk.1 c4
      refine lv_aload_n C.hx C.hb dX6_setWave_33 rfl (lv_at hl 0 rfl) ?_
      refine mm_geti C hH 15 3 (by decide) rfl q1256 dX6_setWave_34 ?_
      refine lv_topi (fun v5 ev5 => ?_)
      have hk := hk v5 ev5
      refine lv_istore_n (lv' := [(2, .int v5), (0, .ref (ad (20, 0))), (1, .int p1)]) C.hx C.hb dX6_setWave_37 rfl hl (by decide) rfl (fun ls hl => ?_)
      refine lv_aload_n C.hx C.hb dX6_setWave_38 rfl (lv_at hl 1 rfl) ?_
      refine lv_iload_n C.hx C.hb dX6_setWave_39 rfl (lv_at hl 2 rfl) ?_
      refine mm_puti C hH hS 15 3 (by decide) rfl q1256 dX6_setWave_40 rfl rfl (fun s6 es6 H locs hH hS => ?_)
      have hk := hk s6 es6
      refine lv_iload_n C.hx C.hb dX6_setWave_43 rfl (lv_at hl 0 rfl) ?_
      refine lv_i2c C.hx C.hb dX6_setWave_44 rfl ?_
      obtain ⟨h7, hk⟩ := hk
      exact mm_zret (ty := .char) C hr hlk h7 hH hS hk dX6_setWave_45
    · have hk := hk.2 c4
      refine lv_bipush (v := 97) C.hx C.hb dX6_setWave_30 (by decide) ?_
      exact mm_zret (ty := .char) C hr hlk (by decide) hH hS hk dX6_setWave_32
  · have hk := hk.2 c1
    refine lv_iload_n C.hx C.hb dX6_setWave_7 rfl (lv_at hl 1 rfl) ?_
    refine lv_bipush (v := 113) C.hx C.hb dX6_setWave_8 (by decide) ?_
    refine lv_icmp_eq (tgt := 19) C.hx C.hb dX6_setWave_10 (by decide) (fun c8 => ?_) (fun c8 => ?_)
    · have hk := hk.1 c8
      refine lv_iconst (v := 1) C.hx C.hb dX6_setWave_19 (by decide) ?_
      refine lv_goto (tgt := 24) C.hx C.hb dX6_setWave_20 (by decide) ?_
      refine mm_calli (As := [.int 1]) (rest := []) C (t_X6_checked l hk) (cwV 1 C.hts (lw_V q1380 q1382 qs31 q65 q1383) rfl rfl rfl (by decide +kernel) ⟨Nat.le_of_ble_eq_true rfl, Nat.le_of_ble_eq_true rfl⟩) hH hS rfl hl.1 rfl (lv_room (Nat.le_of_ble_eq_true rfl)) dX6_setWave_24 ⟨Nat.le_of_ble_eq_true rfl, Nat.le_of_ble_eq_true rfl⟩ (fun r9 s10 H locs hk hH hS => ?_)
      refine lv_if_le (tgt := 33) C.hx C.hb dX6_setWave_27 (by decide) (fun c11 => ?_) (fun c11 => ?_)
      · have hk := hk.1 c11
        refine lv_aload_n C.hx C.hb dX6_setWave_33 rfl (lv_at hl 0 rfl) ?_
        refine mm_geti C hH 15 3 (by decide) rfl q1256 dX6_setWave_34 ?_
        refine lv_topi (fun v12 ev12 => ?_)
        have hk := hk v12 ev12
        refine lv_istore_n (lv' := [(2, .int v12), (0, .ref (ad (20, 0))), (1, .int p1)]) C.hx C.hb dX6_setWave_37 rfl hl (by decide) rfl (fun ls hl => ?_)
        refine lv_aload_n C.hx C.hb dX6_setWave_38 rfl (lv_at hl 1 rfl) ?_
        refine lv_iload_n C.hx C.hb dX6_setWave_39 rfl (lv_at hl 2 rfl) ?_
        refine mm_puti C hH hS 15 3 (by decide) rfl q1256 dX6_setWave_40 rfl rfl (fun s13 es13 H locs hH hS => ?_)
        have hk := hk s13 es13
        refine lv_iload_n C.hx C.hb dX6_setWave_43 rfl (lv_at hl 0 rfl) ?_
        refine lv_i2c C.hx C.hb dX6_setWave_44 rfl ?_
        obtain ⟨h14, hk⟩ := hk
        exact mm_zret (ty := .char) C hr hlk h14 hH hS hk dX6_setWave_45
      · have hk := hk.2 c11
        refine lv_bipush (v := 97) C.hx C.hb dX6_setWave_30 (by decide) ?_
        exact mm_zret (ty := .char) C hr hlk (by decide) hH hS hk dX6_setWave_32
    · have hk := hk.2 c8
      refine lv_iload_n C.hx C.hb dX6_setWave_13 rfl (lv_at hl 1 rfl) ?_
      refine lv_bipush (v := 116) C.hx C.hb dX6_setWave_14 (by decide) ?_
      refine lv_icmp_ne (tgt := 23) C.hx C.hb dX6_setWave_16 (by decide) (fun c15 => ?_) (fun c15 => ?_)
      · have hk := hk.1 c15
        refine lv_iconst (v := 0) C.hx C.hb dX6_setWave_23 (by decide) ?_
        refine mm_calli (As := [.int 0]) (rest := []) C (t_X6_checked l hk) (cwV 1 C.hts (lw_V q1380 q1382 qs31 q65 q1383) rfl rfl rfl (by decide +kernel) ⟨Nat.le_of_ble_eq_true rfl, Nat.le_of_ble_eq_true rfl⟩) hH hS rfl hl.1 rfl (lv_room (Nat.le_of_ble_eq_true rfl)) dX6_setWave_24 ⟨Nat.le_of_ble_eq_true rfl, Nat.le_of_ble_eq_true rfl⟩ (fun r16 s17 H locs hk hH hS => ?_)
        refine lv_if_le (tgt := 33) C.hx C.hb dX6_setWave_27 (by decide) (fun c18 => ?_) (fun c18 => ?_)
        · have hk := hk.1 c18
          refine lv_aload_n C.hx C.hb dX6_setWave_33 rfl (lv_at hl 0 rfl) ?_
          refine mm_geti C hH 15 3 (by decide) rfl q1256 dX6_setWave_34 ?_
          refine lv_topi (fun v19 ev19 => ?_)
          have hk := hk v19 ev19
          refine lv_istore_n (lv' := [(2, .int v19), (0, .ref (ad (20, 0))), (1, .int p1)]) C.hx C.hb dX6_setWave_37 rfl hl (by decide) rfl (fun ls hl => ?_)
          refine lv_aload_n C.hx C.hb dX6_setWave_38 rfl (lv_at hl 1 rfl) ?_
          refine lv_iload_n C.hx C.hb dX6_setWave_39 rfl (lv_at hl 2 rfl) ?_
          refine mm_puti C hH hS 15 3 (by decide) rfl q1256 dX6_setWave_40 rfl rfl (fun s20 es20 H locs hH hS => ?_)
          have hk := hk s20 es20
          refine lv_iload_n C.hx C.hb dX6_setWave_43 rfl (lv_at hl 0 rfl) ?_
          refine lv_i2c C.hx C.hb dX6_setWave_44 rfl ?_
          obtain ⟨h21, hk⟩ := hk
          exact mm_zret (ty := .char) C hr hlk h21 hH hS hk dX6_setWave_45
        · have hk := hk.2 c18
          refine lv_bipush (v := 97) C.hx C.hb dX6_setWave_30 (by decide) ?_
          exact mm_zret (ty := .char) C hr hlk (by decide) hH hS hk dX6_setWave_32
      · have hk := hk.2 c15
        refine lv_iconst (v := 1) C.hx C.hb dX6_setWave_19 (by decide) ?_
        refine lv_goto (tgt := 24) C.hx C.hb dX6_setWave_20 (by decide) ?_
        refine mm_calli (As := [.int 1]) (rest := []) C (t_X6_checked l hk) (cwV 1 C.hts (lw_V q1380 q1382 qs31 q65 q1383) rfl rfl rfl (by decide +kernel) ⟨Nat.le_of_ble_eq_true rfl, Nat.le_of_ble_eq_true rfl⟩) hH hS rfl hl.1 rfl (lv_room (Nat.le_of_ble_eq_true rfl)) dX6_setWave_24 ⟨Nat.le_of_ble_eq_true rfl, Nat.le_of_ble_eq_true rfl⟩ (fun r22 s23 H locs hk hH hS => ?_)
        refine lv_if_le (tgt := 33) C.hx C.hb dX6_setWave_27 (by decide) (fun c24 => ?_) (fun c24 => ?_)
        · have hk := hk.1 c24
          refine lv_aload_n C.hx C.hb dX6_setWave_33 rfl (lv_at hl 0 rfl) ?_
          refine mm_geti C hH 15 3 (by decide) rfl q1256 dX6_setWave_34 ?_
          refine lv_topi (fun v25 ev25 => ?_)
          have hk := hk v25 ev25
          refine lv_istore_n (lv' := [(2, .int v25), (0, .ref (ad (20, 0))), (1, .int p1)]) C.hx C.hb dX6_setWave_37 rfl hl (by decide) rfl (fun ls hl => ?_)
          refine lv_aload_n C.hx C.hb dX6_setWave_38 rfl (lv_at hl 1 rfl) ?_
          refine lv_iload_n C.hx C.hb dX6_setWave_39 rfl (lv_at hl 2 rfl) ?_
          refine mm_puti C hH hS 15 3 (by decide) rfl q1256 dX6_setWave_40 rfl rfl (fun s26 es26 H locs hH hS => ?_)
          have hk := hk s26 es26
          refine lv_iload_n C.hx C.hb dX6_setWave_43 rfl (lv_at hl 0 rfl) ?_
          refine lv_i2c C.hx C.hb dX6_setWave_44 rfl ?_
          obtain ⟨h27, hk⟩ := hk
          exact mm_zret (ty := .char) C hr hlk h27 hH hS hk dX6_setWave_45
        · have hk := hk.2 c24
          refine lv_bipush (v := 97) C.hx C.hb dX6_setWave_30 (by decide) ?_
          exact mm_zret (ty := .char) C hr hlk (by decide) hH hS hk dX6_setWave_32
/-! ToneGraphModel.setEnvelope(IIII)I -/
def wp_X6_setEnvelope (post : Int32 → mm_S → Prop) (p1 : Int32) (p2 : Int32) (p3 : Int32) (p4 : Int32) (s0 : mm_S) : Prop := wp_X6_in (fun r1 => ((r1 = 0 → wp_X6_checked (fun r3 s4 => ((r3 ≤ 0 → (∀ v6, v6 = (s4.1 6) → (∀ s7 : mm_S, s7 = ms_f s4 4 p1 → (∀ s8 : mm_S, s8 = ms_f s7 5 p2 → (∀ s9 : mm_S, s9 = ms_f s8 6 p3 → (∀ s10 : mm_S, s10 = ms_f s9 7 p4 → post v6 s10)))))) ∧ (¬ r3 ≤ 0 → post 0 s4))) 0 s0) ∧ (¬ r1 = 0 → wp_X6_in (fun r11 => ((r11 = 0 → wp_X6_checked (fun r13 s14 => ((r13 ≤ 0 → (∀ v16, v16 = (s14.1 6) → (∀ s17 : mm_S, s17 = ms_f s14 4 p1 → (∀ s18 : mm_S, s18 = ms_f s17 5 p2 → (∀ s19 : mm_S, s19 = ms_f s18 6 p3 → (∀ s20 : mm_S, s20 = ms_f s19 7 p4 → post v16 s20)))))) ∧ (¬ r13 ≤ 0 → post 0 s14))) 0 s0) ∧ (¬ r11 = 0 → wp_X6_in (fun r21 => ((r21 = 0 → wp_X6_checked (fun r23 s24 => ((r23 ≤ 0 → (∀ v26, v26 = (s24.1 6) → (∀ s27 : mm_S, s27 = ms_f s24 4 p1 → (∀ s28 : mm_S, s28 = ms_f s27 5 p2 → (∀ s29 : mm_S, s29 = ms_f s28 6 p3 → (∀ s30 : mm_S, s30 = ms_f s29 7 p4 → post v26 s30)))))) ∧ (¬ r23 ≤ 0 → post 0 s24))) 0 s0) ∧ (¬ r21 = 0 → wp_X6_in (fun r31 => ((r31 = 0 → wp_X6_checked (fun r33 s34 => ((r33 ≤ 0 → (∀ v36, v36 = (s34.1 6) → (∀ s37 : mm_S, s37 = ms_f s34 4 p1 → (∀ s38 : mm_S, s38 = ms_f s37 5 p2 → (∀ s39 : mm_S, s39 = ms_f s38 6 p3 → (∀ s40 : mm_S, s40 = ms_f s39 7 p4 → post v36 s40)))))) ∧ (¬ r33 ≤ 0 → post 0 s34))) 0 s0) ∧ (¬ r31 = 0 → wp_X6_checked (fun r41 s42 => ((r41 ≤ 0 → (∀ v44, v44 = (s42.1 6) → (∀ s45 : mm_S, s45 = ms_f s42 4 p1 → (∀ s46 : mm_S, s46 = ms_f s45 5 p2 → (∀ s47 : mm_S, s47 = ms_f s46 6 p3 → (∀ s48 : mm_S, s48 = ms_f s47 7 p4 → post v44 s48)))))) ∧ (¬ r41 ≤ 0 → post 0 s42))) 1 s0))) p4 0 200))) p3 0 1000))) p2 0 200))) p1 0 200
set_option maxHeartbeats 4000000 in
theorem t_X6_setEnvelope (l : Launch) {base : Nat} {D : va_G} {ca : Nat → ClassId} {Ls : List gb_L} {ad : gb_L → Nat} {w : gb_L → va_E} {post : Int32 → mm_S → Prop} {p1 : Int32} {p2 : Int32} {p3 : Int32} {p4 : Int32} {s0 : mm_S} (hk : wp_X6_setEnvelope post p1 p2 p3 p4 s0) : mm_Mi l yX6_setEnvelope (ws_ yX6_setEnvelope cX6_setEnvelope 6 (some .int)) ({ frames := 1, cells := 0, slots := 0, locals := 22 } : Room) base D ca Ls ad w [.int p1, .int p2, .int p3, .int p4] s0 post := by
  refine mm_start cX6_setEnvelope 6 (some .int) _ (by decide) rfl rfl (Nat.le_of_ble_eq_true rfl) ?_
  intro p e s m args below meth c ls C hr hlk hH hS hl
  have hl : lv_has ls 6 [(0, .ref (ad (20, 0))), (1, .int p1), (2, .int p2), (3, .int p3), (4, .int p4)] := hl
  unfold wp_X6_setEnvelope at hk
  refine lv_aload_n C.hx C.hb dX6_setEnvelope_0 rfl (lv_at hl 0 rfl) ?_
  refine lv_iload_n C.hx C.hb dX6_setEnvelope_1 rfl (lv_at hl 1 rfl) ?_
  refine lv_iconst (v := 0) C.hx C.hb dX6_setEnvelope_2 (by decide) ?_
  refine lv_sipush (v := 200) C.hx C.hb dX6_setEnvelope_3 (by decide) ?_
  refine gb_call (As := [.int p1, .int 0, .int 200]) (rest := [.ref (ad (20, 0))]) C.1 (t_X6_in l hk) (va_cwS 3 C.hts (lw_S q1329 q1330 q65 q1331) rfl rfl rfl (by decide +kernel) ⟨Nat.le_of_ble_eq_true rfl, Nat.le_of_ble_eq_true rfl⟩) rfl hl.1 rfl (lv_room (Nat.le_of_ble_eq_true rfl)) dX6_setEnvelope_6 ⟨Nat.le_of_ble_eq_true rfl, Nat.le_of_ble_eq_true rfl⟩ (fun r1 hk => ?_)
  refine lv_if_eq (tgt := 50) C.hx C.hb dX6_setEnvelope_9 (by decide) (fun c2 => ?_) (fun c2 => ?_)
  · have hk := hk.1 c2
    refine lv_iconst (v := 0) C.hx C.hb dX6_setEnvelope_50 (by decide) ?_
    refine mm_calli (As := [.int 0]) (rest := []) C (t_X6_checked l hk) (cwV 1 C.hts (lw_V q1380 q1382 qs31 q65 q1383) rfl rfl rfl (by decide +kernel) ⟨Nat.le_of_ble_eq_true rfl, Nat.le_of_ble_eq_true rfl⟩) hH hS rfl hl.1 rfl (lv_room (Nat.le_of_ble_eq_true rfl)) dX6_setEnvelope_51 ⟨Nat.le_of_ble_eq_true rfl, Nat.le_of_ble_eq_true rfl⟩ (fun r3 s4 H locs hk hH hS => ?_)
    refine lv_if_le (tgt := 59) C.hx C.hb dX6_setEnvelope_54 (by decide) (fun c5 => ?_) (fun c5 => ?_)
    · have hk := hk.1 c5
      refine lv_aload_n C.hx C.hb dX6_setEnvelope_59 rfl (lv_at hl 0 rfl) ?_
      refine mm_geti C hH 18 6 (by decide) rfl q1259 dX6_setEnvelope_60 ?_
      refine lv_topi (fun v6 ev6 => ?_)
      have hk := hk v6 ev6
      refine lv_istore (lv' := [(5, .int v6), (0, .ref (ad (20, 0))), (1, .int p1), (2, .int p2), (3, .int p3), (4, .int p4)]) C.hx C.hb dX6_setEnvelope_63 hl (by decide) rfl (fun ls hl => ?_)
      refine lv_aload_n C.hx C.hb dX6_setEnvelope_65 rfl (lv_at hl 1 rfl) ?_
      refine lv_iload_n C.hx C.hb dX6_setEnvelope_66 rfl (lv_at hl 2 rfl) ?_
      refine mm_puti C hH hS 16 4 (by decide) rfl q1257 dX6_setEnvelope_67 rfl rfl (fun s7 es7 H locs hH hS => ?_)
      have hk := hk s7 es7
      refine lv_aload_n C.hx C.hb dX6_setEnvelope_70 rfl (lv_at hl 1 rfl) ?_
      refine lv_iload_n C.hx C.hb dX6_setEnvelope_71 rfl (lv_at hl 3 rfl) ?_
      refine mm_puti C hH hS 17 5 (by decide) rfl q1258 dX6_setEnvelope_72 rfl rfl (fun s8 es8 H locs hH hS => ?_)
      have hk := hk s8 es8
      refine lv_aload_n C.hx C.hb dX6_setEnvelope_75 rfl (lv_at hl 1 rfl) ?_
      refine lv_iload_n C.hx C.hb dX6_setEnvelope_76 rfl (lv_at hl 4 rfl) ?_
      refine mm_puti C hH hS 18 6 (by decide) rfl q1259 dX6_setEnvelope_77 rfl rfl (fun s9 es9 H locs hH hS => ?_)
      have hk := hk s9 es9
      refine lv_aload_n C.hx C.hb dX6_setEnvelope_80 rfl (lv_at hl 1 rfl) ?_
      refine lv_iload C.hx C.hb dX6_setEnvelope_81 (lv_at hl 5 rfl) ?_
      refine mm_puti C hH hS 19 7 (by decide) rfl q1260 dX6_setEnvelope_83 rfl rfl (fun s10 es10 H locs hH hS => ?_)
      have hk := hk s10 es10
      refine lv_iload C.hx C.hb dX6_setEnvelope_86 (lv_at hl 0 rfl) ?_
      exact mm_iret C hr hlk hH hS hk dX6_setEnvelope_88
    · have hk := hk.2 c5
      refine lv_iconst (v := 0) C.hx C.hb dX6_setEnvelope_57 (by decide) ?_
      exact mm_iret C hr hlk hH hS hk dX6_setEnvelope_58
  · have hk := hk.2 c2
    refine lv_iload_n C.hx C.hb dX6_setEnvelope_12 rfl (lv_at hl 2 rfl) ?_
    refine lv_iconst (v := 0) C.hx C.hb dX6_setEnvelope_13 (by decide) ?_
    refine lv_sipush (v := 200) C.hx C.hb dX6_setEnvelope_14 (by decide) ?_
    refine gb_call (As := [.int p2, .int 0, .int 200]) (rest := [.ref (ad (20, 0))]) C.1 (t_X6_in l hk) (va_cwS 3 C.hts (lw_S q1329 q1330 q65 q1331) rfl rfl rfl (by decide +kernel) ⟨Nat.le_of_ble_eq_true rfl, Nat.le_of_ble_eq_true rfl⟩) rfl hl.1 rfl (lv_room (Nat.le_of_ble_eq_true rfl)) dX6_setEnvelope_17 ⟨Nat.le_of_ble_eq_true rfl, Nat.le_of_ble_eq_true rfl⟩ (fun r11 hk => ?_)
    refine lv_if_eq (tgt := 50) C.hx C.hb dX6_setEnvelope_20 (by decide) (fun c12 => ?_) (fun c12 => ?_)
    · have hk := hk.1 c12
      refine lv_iconst (v := 0) C.hx C.hb dX6_setEnvelope_50 (by decide) ?_
      refine mm_calli (As := [.int 0]) (rest := []) C (t_X6_checked l hk) (cwV 1 C.hts (lw_V q1380 q1382 qs31 q65 q1383) rfl rfl rfl (by decide +kernel) ⟨Nat.le_of_ble_eq_true rfl, Nat.le_of_ble_eq_true rfl⟩) hH hS rfl hl.1 rfl (lv_room (Nat.le_of_ble_eq_true rfl)) dX6_setEnvelope_51 ⟨Nat.le_of_ble_eq_true rfl, Nat.le_of_ble_eq_true rfl⟩ (fun r13 s14 H locs hk hH hS => ?_)
      refine lv_if_le (tgt := 59) C.hx C.hb dX6_setEnvelope_54 (by decide) (fun c15 => ?_) (fun c15 => ?_)
      · have hk := hk.1 c15
        refine lv_aload_n C.hx C.hb dX6_setEnvelope_59 rfl (lv_at hl 0 rfl) ?_
        refine mm_geti C hH 18 6 (by decide) rfl q1259 dX6_setEnvelope_60 ?_
        refine lv_topi (fun v16 ev16 => ?_)
        have hk := hk v16 ev16
        refine lv_istore (lv' := [(5, .int v16), (0, .ref (ad (20, 0))), (1, .int p1), (2, .int p2), (3, .int p3), (4, .int p4)]) C.hx C.hb dX6_setEnvelope_63 hl (by decide) rfl (fun ls hl => ?_)
        refine lv_aload_n C.hx C.hb dX6_setEnvelope_65 rfl (lv_at hl 1 rfl) ?_
        refine lv_iload_n C.hx C.hb dX6_setEnvelope_66 rfl (lv_at hl 2 rfl) ?_
        refine mm_puti C hH hS 16 4 (by decide) rfl q1257 dX6_setEnvelope_67 rfl rfl (fun s17 es17 H locs hH hS => ?_)
        have hk := hk s17 es17
        refine lv_aload_n C.hx C.hb dX6_setEnvelope_70 rfl (lv_at hl 1 rfl) ?_
        refine lv_iload_n C.hx C.hb dX6_setEnvelope_71 rfl (lv_at hl 3 rfl) ?_
        refine mm_puti C hH hS 17 5 (by decide) rfl q1258 dX6_setEnvelope_72 rfl rfl (fun s18 es18 H locs hH hS => ?_)
        have hk := hk s18 es18
        refine lv_aload_n C.hx C.hb dX6_setEnvelope_75 rfl (lv_at hl 1 rfl) ?_
        refine lv_iload_n C.hx C.hb dX6_setEnvelope_76 rfl (lv_at hl 4 rfl) ?_
        refine mm_puti C hH hS 18 6 (by decide) rfl q1259 dX6_setEnvelope_77 rfl rfl (fun s19 es19 H locs hH hS => ?_)
        have hk := hk s19 es19
        refine lv_aload_n C.hx C.hb dX6_setEnvelope_80 rfl (lv_at hl 1 rfl) ?_
        refine lv_iload C.hx C.hb dX6_setEnvelope_81 (lv_at hl 5 rfl) ?_
        refine mm_puti C hH hS 19 7 (by decide) rfl q1260 dX6_setEnvelope_83 rfl rfl (fun s20 es20 H locs hH hS => ?_)
        have hk := hk s20 es20
        refine lv_iload C.hx C.hb dX6_setEnvelope_86 (lv_at hl 0 rfl) ?_
        exact mm_iret C hr hlk hH hS hk dX6_setEnvelope_88
      · have hk := hk.2 c15
        refine lv_iconst (v := 0) C.hx C.hb dX6_setEnvelope_57 (by decide) ?_
        exact mm_iret C hr hlk hH hS hk dX6_setEnvelope_58
    · have hk := hk.2 c12
      refine lv_iload_n C.hx C.hb dX6_setEnvelope_23 rfl (lv_at hl 3 rfl) ?_
      refine lv_iconst (v := 0) C.hx C.hb dX6_setEnvelope_24 (by decide) ?_
      refine lv_sipush (v := 1000) C.hx C.hb dX6_setEnvelope_25 (by decide) ?_
      refine gb_call (As := [.int p3, .int 0, .int 1000]) (rest := [.ref (ad (20, 0))]) C.1 (t_X6_in l hk) (va_cwS 3 C.hts (lw_S q1329 q1330 q65 q1331) rfl rfl rfl (by decide +kernel) ⟨Nat.le_of_ble_eq_true rfl, Nat.le_of_ble_eq_true rfl⟩) rfl hl.1 rfl (lv_room (Nat.le_of_ble_eq_true rfl)) dX6_setEnvelope_28 ⟨Nat.le_of_ble_eq_true rfl, Nat.le_of_ble_eq_true rfl⟩ (fun r21 hk => ?_)
      refine lv_if_eq (tgt := 50) C.hx C.hb dX6_setEnvelope_31 (by decide) (fun c22 => ?_) (fun c22 => ?_)
      · have hk := hk.1 c22
        refine lv_iconst (v := 0) C.hx C.hb dX6_setEnvelope_50 (by decide) ?_
        refine mm_calli (As := [.int 0]) (rest := []) C (t_X6_checked l hk) (cwV 1 C.hts (lw_V q1380 q1382 qs31 q65 q1383) rfl rfl rfl (by decide +kernel) ⟨Nat.le_of_ble_eq_true rfl, Nat.le_of_ble_eq_true rfl⟩) hH hS rfl hl.1 rfl (lv_room (Nat.le_of_ble_eq_true rfl)) dX6_setEnvelope_51 ⟨Nat.le_of_ble_eq_true rfl, Nat.le_of_ble_eq_true rfl⟩ (fun r23 s24 H locs hk hH hS => ?_)
        refine lv_if_le (tgt := 59) C.hx C.hb dX6_setEnvelope_54 (by decide) (fun c25 => ?_) (fun c25 => ?_)
        · have hk := hk.1 c25
          refine lv_aload_n C.hx C.hb dX6_setEnvelope_59 rfl (lv_at hl 0 rfl) ?_
          refine mm_geti C hH 18 6 (by decide) rfl q1259 dX6_setEnvelope_60 ?_
          refine lv_topi (fun v26 ev26 => ?_)
          have hk := hk v26 ev26
          refine lv_istore (lv' := [(5, .int v26), (0, .ref (ad (20, 0))), (1, .int p1), (2, .int p2), (3, .int p3), (4, .int p4)]) C.hx C.hb dX6_setEnvelope_63 hl (by decide) rfl (fun ls hl => ?_)
          refine lv_aload_n C.hx C.hb dX6_setEnvelope_65 rfl (lv_at hl 1 rfl) ?_
          refine lv_iload_n C.hx C.hb dX6_setEnvelope_66 rfl (lv_at hl 2 rfl) ?_
          refine mm_puti C hH hS 16 4 (by decide) rfl q1257 dX6_setEnvelope_67 rfl rfl (fun s27 es27 H locs hH hS => ?_)
          have hk := hk s27 es27
          refine lv_aload_n C.hx C.hb dX6_setEnvelope_70 rfl (lv_at hl 1 rfl) ?_
          refine lv_iload_n C.hx C.hb dX6_setEnvelope_71 rfl (lv_at hl 3 rfl) ?_
          refine mm_puti C hH hS 17 5 (by decide) rfl q1258 dX6_setEnvelope_72 rfl rfl (fun s28 es28 H locs hH hS => ?_)
          have hk := hk s28 es28
          refine lv_aload_n C.hx C.hb dX6_setEnvelope_75 rfl (lv_at hl 1 rfl) ?_
          refine lv_iload_n C.hx C.hb dX6_setEnvelope_76 rfl (lv_at hl 4 rfl) ?_
          refine mm_puti C hH hS 18 6 (by decide) rfl q1259 dX6_setEnvelope_77 rfl rfl (fun s29 es29 H locs hH hS => ?_)
          have hk := hk s29 es29
          refine lv_aload_n C.hx C.hb dX6_setEnvelope_80 rfl (lv_at hl 1 rfl) ?_
          refine lv_iload C.hx C.hb dX6_setEnvelope_81 (lv_at hl 5 rfl) ?_
          refine mm_puti C hH hS 19 7 (by decide) rfl q1260 dX6_setEnvelope_83 rfl rfl (fun s30 es30 H locs hH hS => ?_)
          have hk := hk s30 es30
          refine lv_iload C.hx C.hb dX6_setEnvelope_86 (lv_at hl 0 rfl) ?_
          exact mm_iret C hr hlk hH hS hk dX6_setEnvelope_88
        · have hk := hk.2 c25
          refine lv_iconst (v := 0) C.hx C.hb dX6_setEnvelope_57 (by decide) ?_
          exact mm_iret C hr hlk hH hS hk dX6_setEnvelope_58
      · have hk := hk.2 c22
        refine lv_iload C.hx C.hb dX6_setEnvelope_34 (lv_at hl 4 rfl) ?_
        refine lv_iconst (v := 0) C.hx C.hb dX6_setEnvelope_36 (by decide) ?_
        refine lv_sipush (v := 200) C.hx C.hb dX6_setEnvelope_37 (by decide) ?_
        refine gb_call (As := [.int p4, .int 0, .int 200]) (rest := [.ref (ad (20, 0))]) C.1 (t_X6_in l hk) (va_cwS 3 C.hts (lw_S q1329 q1330 q65 q1331) rfl rfl rfl (by decide +kernel) ⟨Nat.le_of_ble_eq_true rfl, Nat.le_of_ble_eq_true rfl⟩) rfl hl.1 rfl (lv_room (Nat.le_of_ble_eq_true rfl)) dX6_setEnvelope_40 ⟨Nat.le_of_ble_eq_true rfl, Nat.le_of_ble_eq_true rfl⟩ (fun r31 hk => ?_)
        refine lv_if_eq (tgt := 50) C.hx C.hb dX6_setEnvelope_43 (by decide) (fun c32 => ?_) (fun c32 => ?_)
        · have hk := hk.1 c32
          refine lv_iconst (v := 0) C.hx C.hb dX6_setEnvelope_50 (by decide) ?_
          refine mm_calli (As := [.int 0]) (rest := []) C (t_X6_checked l hk) (cwV 1 C.hts (lw_V q1380 q1382 qs31 q65 q1383) rfl rfl rfl (by decide +kernel) ⟨Nat.le_of_ble_eq_true rfl, Nat.le_of_ble_eq_true rfl⟩) hH hS rfl hl.1 rfl (lv_room (Nat.le_of_ble_eq_true rfl)) dX6_setEnvelope_51 ⟨Nat.le_of_ble_eq_true rfl, Nat.le_of_ble_eq_true rfl⟩ (fun r33 s34 H locs hk hH hS => ?_)
          refine lv_if_le (tgt := 59) C.hx C.hb dX6_setEnvelope_54 (by decide) (fun c35 => ?_) (fun c35 => ?_)
          · have hk := hk.1 c35
            refine lv_aload_n C.hx C.hb dX6_setEnvelope_59 rfl (lv_at hl 0 rfl) ?_
            refine mm_geti C hH 18 6 (by decide) rfl q1259 dX6_setEnvelope_60 ?_
            refine lv_topi (fun v36 ev36 => ?_)
            have hk := hk v36 ev36
            refine lv_istore (lv' := [(5, .int v36), (0, .ref (ad (20, 0))), (1, .int p1), (2, .int p2), (3, .int p3), (4, .int p4)]) C.hx C.hb dX6_setEnvelope_63 hl (by decide) rfl (fun ls hl => ?_)
            refine lv_aload_n C.hx C.hb dX6_setEnvelope_65 rfl (lv_at hl 1 rfl) ?_
            refine lv_iload_n C.hx C.hb dX6_setEnvelope_66 rfl (lv_at hl 2 rfl) ?_
            refine mm_puti C hH hS 16 4 (by decide) rfl q1257 dX6_setEnvelope_67 rfl rfl (fun s37 es37 H locs hH hS => ?_)
            have hk := hk s37 es37
            refine lv_aload_n C.hx C.hb dX6_setEnvelope_70 rfl (lv_at hl 1 rfl) ?_
            refine lv_iload_n C.hx C.hb dX6_setEnvelope_71 rfl (lv_at hl 3 rfl) ?_
            refine mm_puti C hH hS 17 5 (by decide) rfl q1258 dX6_setEnvelope_72 rfl rfl (fun s38 es38 H locs hH hS => ?_)
            have hk := hk s38 es38
            refine lv_aload_n C.hx C.hb dX6_setEnvelope_75 rfl (lv_at hl 1 rfl) ?_
            refine lv_iload_n C.hx C.hb dX6_setEnvelope_76 rfl (lv_at hl 4 rfl) ?_
            refine mm_puti C hH hS 18 6 (by decide) rfl q1259 dX6_setEnvelope_77 rfl rfl (fun s39 es39 H locs hH hS => ?_)
            have hk := hk s39 es39
            refine lv_aload_n C.hx C.hb dX6_setEnvelope_80 rfl (lv_at hl 1 rfl) ?_
            refine lv_iload C.hx C.hb dX6_setEnvelope_81 (lv_at hl 5 rfl) ?_
            refine mm_puti C hH hS 19 7 (by decide) rfl q1260 dX6_setEnvelope_83 rfl rfl (fun s40 es40 H locs hH hS => ?_)
            have hk := hk s40 es40
            refine lv_iload C.hx C.hb dX6_setEnvelope_86 (lv_at hl 0 rfl) ?_
            exact mm_iret C hr hlk hH hS hk dX6_setEnvelope_88
          · have hk := hk.2 c35
            refine lv_iconst (v := 0) C.hx C.hb dX6_setEnvelope_57 (by decide) ?_
            exact mm_iret C hr hlk hH hS hk dX6_setEnvelope_58
        · have hk := hk.2 c32
          refine lv_iconst (v := 1) C.hx C.hb dX6_setEnvelope_46 (by decide) ?_
          refine lv_goto (tgt := 51) C.hx C.hb dX6_setEnvelope_47 (by decide) ?_
          refine mm_calli (As := [.int 1]) (rest := []) C (t_X6_checked l hk) (cwV 1 C.hts (lw_V q1380 q1382 qs31 q65 q1383) rfl rfl rfl (by decide +kernel) ⟨Nat.le_of_ble_eq_true rfl, Nat.le_of_ble_eq_true rfl⟩) hH hS rfl hl.1 rfl (lv_room (Nat.le_of_ble_eq_true rfl)) dX6_setEnvelope_51 ⟨Nat.le_of_ble_eq_true rfl, Nat.le_of_ble_eq_true rfl⟩ (fun r41 s42 H locs hk hH hS => ?_)
          refine lv_if_le (tgt := 59) C.hx C.hb dX6_setEnvelope_54 (by decide) (fun c43 => ?_) (fun c43 => ?_)
          · have hk := hk.1 c43
            refine lv_aload_n C.hx C.hb dX6_setEnvelope_59 rfl (lv_at hl 0 rfl) ?_
            refine mm_geti C hH 18 6 (by decide) rfl q1259 dX6_setEnvelope_60 ?_
            refine lv_topi (fun v44 ev44 => ?_)
            have hk := hk v44 ev44
            refine lv_istore (lv' := [(5, .int v44), (0, .ref (ad (20, 0))), (1, .int p1), (2, .int p2), (3, .int p3), (4, .int p4)]) C.hx C.hb dX6_setEnvelope_63 hl (by decide) rfl (fun ls hl => ?_)
            refine lv_aload_n C.hx C.hb dX6_setEnvelope_65 rfl (lv_at hl 1 rfl) ?_
            refine lv_iload_n C.hx C.hb dX6_setEnvelope_66 rfl (lv_at hl 2 rfl) ?_
            refine mm_puti C hH hS 16 4 (by decide) rfl q1257 dX6_setEnvelope_67 rfl rfl (fun s45 es45 H locs hH hS => ?_)
            have hk := hk s45 es45
            refine lv_aload_n C.hx C.hb dX6_setEnvelope_70 rfl (lv_at hl 1 rfl) ?_
            refine lv_iload_n C.hx C.hb dX6_setEnvelope_71 rfl (lv_at hl 3 rfl) ?_
            refine mm_puti C hH hS 17 5 (by decide) rfl q1258 dX6_setEnvelope_72 rfl rfl (fun s46 es46 H locs hH hS => ?_)
            have hk := hk s46 es46
            refine lv_aload_n C.hx C.hb dX6_setEnvelope_75 rfl (lv_at hl 1 rfl) ?_
            refine lv_iload_n C.hx C.hb dX6_setEnvelope_76 rfl (lv_at hl 4 rfl) ?_
            refine mm_puti C hH hS 18 6 (by decide) rfl q1259 dX6_setEnvelope_77 rfl rfl (fun s47 es47 H locs hH hS => ?_)
            have hk := hk s47 es47
            refine lv_aload_n C.hx C.hb dX6_setEnvelope_80 rfl (lv_at hl 1 rfl) ?_
            refine lv_iload C.hx C.hb dX6_setEnvelope_81 (lv_at hl 5 rfl) ?_
            refine mm_puti C hH hS 19 7 (by decide) rfl q1260 dX6_setEnvelope_83 rfl rfl (fun s48 es48 H locs hH hS => ?_)
            have hk := hk s48 es48
            refine lv_iload C.hx C.hb dX6_setEnvelope_86 (lv_at hl 0 rfl) ?_
            exact mm_iret C hr hlk hH hS hk dX6_setEnvelope_88
          · have hk := hk.2 c43
            refine lv_iconst (v := 0) C.hx C.hb dX6_setEnvelope_57 (by decide) ?_
            exact mm_iret C hr hlk hH hS hk dX6_setEnvelope_58
/-! ToneGraphModel.at(II)I -/
def wp_X6_at (post : Int32 → mm_S → Prop) (p1 : Int32) (p2 : Int32) (s0 : mm_S) : Prop := (vp_in ((640 + (16 * p1)) + p2) 704 ∧ post (s0.2.1 0 ((640 + (16 * p1)) + p2).toNatClampNeg) s0)
set_option maxHeartbeats 4000000 in
theorem t_X6_at (l : Launch) {base : Nat} {D : va_G} {ca : Nat → ClassId} {Ls : List gb_L} {ad : gb_L → Nat} {w : gb_L → va_E} {post : Int32 → mm_S → Prop} {p1 : Int32} {p2 : Int32} {s0 : mm_S} (hk : wp_X6_at post p1 p2 s0) : mm_Mi l yX6_at (ws_ yX6_at cX6_at 3 (some .int)) ({ frames := 0, cells := 0, slots := 0, locals := 0 } : Room) base D ca Ls ad w [.int p1, .int p2] s0 post := by
  refine mm_start cX6_at 3 (some .int) _ (by decide) rfl rfl (Nat.le_of_ble_eq_true rfl) ?_
  intro p e s m args below meth c ls C hr hlk hH hS hl
  have hl : lv_has ls 3 [(0, .ref (ad (20, 0))), (1, .int p1), (2, .int p2)] := hl
  unfold wp_X6_at at hk
  refine lv_aload_n C.hx C.hb dX6_at_0 rfl (lv_at hl 0 rfl) ?_
  refine mm_geta C hH 0 (by decide) q1241 dX6_at_1 ?_
  refine lv_sipush (v := 640) C.hx C.hb dX6_at_4 (by decide) ?_
  refine lv_bipush (v := 16) C.hx C.hb dX6_at_7 (by decide) ?_
  refine lv_iload_n C.hx C.hb dX6_at_9 rfl (lv_at hl 1 rfl) ?_
  refine lv_imul C.hx C.hb dX6_at_10 ?_
  refine lv_iadd C.hx C.hb dX6_at_11 ?_
  refine lv_iload_n C.hx C.hb dX6_at_12 rfl (lv_at hl 2 rfl) ?_
  refine lv_iadd C.hx C.hb dX6_at_13 ?_
  obtain ⟨h1, hk⟩ := hk
  refine mm_ald C hH 0 (by decide) h1 dX6_at_14 ?_
  exact mm_iret C hr hlk hH hS hk dX6_at_15

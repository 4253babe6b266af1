/-! the component's methods: wp and walk, by program (gen/decc.py) -/
set_option maxRecDepth 100000
/-! jdk/internal/util/Preconditions.checkIndex(IILjava/util/function/BiFunction;)I -/
def wp_J12_checkIndex (post : Int32 → Prop) (p1 : Int32) (p2 : Int32) : Prop := ((p1 < 0 → False) ∧ (¬ p1 < 0 → ((p1 < p2 → post p1) ∧ (¬ p1 < p2 → False))))
set_option maxHeartbeats 4000000 in
theorem t_J12_checkIndex (l : Launch) {post : Int32 → Prop} {p1 : Int32} {p2 : Int32} (hk : wp_J12_checkIndex post p1 p2) : gb_Ps l yJ12_checkIndex (ws_ yJ12_checkIndex cJ12_checkIndex 3 (some .int)) ({ frames := 0, cells := 0, slots := 0, locals := 0 } : Room) [.int p1, .int p2, .null] post := by
  refine gb_start cJ12_checkIndex 3 (some .int) (by decide) rfl (Nat.le_of_ble_eq_true rfl) ?_
  intro p e s m args below meth c ls C hr hlk hl
  have hl : lv_has ls 3 [(0, .int p1), (1, .int p2), (2, .null)] := hl
  unfold wp_J12_checkIndex at hk
  refine lv_iload_n C.1 C.2.1 dJ12_checkIndex_0 rfl (lv_at hl 0 rfl) ?_
  refine lv_if_lt (tgt := 9) C.1 C.2.1 dJ12_checkIndex_1 (by decide) (fun c1 => ?_) (fun c1 => ?_)
  · have hk := hk.1 c1
    refine lv_aload_nN C.1 C.2.1 dJ12_checkIndex_9 rfl (lv_at hl 2 rfl) ?_
    refine lv_iload_n C.1 C.2.1 dJ12_checkIndex_10 rfl (lv_at hl 0 rfl) ?_
    refine lv_iload_n C.1 C.2.1 dJ12_checkIndex_11 rfl (lv_at hl 1 rfl) ?_
    exact hk.elim
  · have hk := hk.2 c1
    refine lv_iload_n C.1 C.2.1 dJ12_checkIndex_4 rfl (lv_at hl 0 rfl) ?_
    refine lv_iload_n C.1 C.2.1 dJ12_checkIndex_5 rfl (lv_at hl 1 rfl) ?_
    refine lv_icmp_lt (tgt := 16) C.1 C.2.1 dJ12_checkIndex_6 (by decide) (fun c2 => ?_) (fun c2 => ?_)
    · have hk := hk.1 c2
      refine lv_iload_n C.1 C.2.1 dJ12_checkIndex_16 rfl (lv_at hl 0 rfl) ?_
      exact gb_iret C hr hlk hk dJ12_checkIndex_17
    · have hk := hk.2 c2
      refine lv_aload_nN C.1 C.2.1 dJ12_checkIndex_9 rfl (lv_at hl 2 rfl) ?_
      refine lv_iload_n C.1 C.2.1 dJ12_checkIndex_10 rfl (lv_at hl 0 rfl) ?_
      refine lv_iload_n C.1 C.2.1 dJ12_checkIndex_11 rfl (lv_at hl 1 rfl) ?_
      exact hk.elim
/-! java/util/Objects.checkIndex(II)I -/
def wp_J11_checkIndex (post : Int32 → Prop) (p1 : Int32) (p2 : Int32) : Prop := wp_J12_checkIndex (fun r1 => post r1) p1 p2
set_option maxHeartbeats 4000000 in
theorem t_J11_checkIndex (l : Launch) {post : Int32 → Prop} {p1 : Int32} {p2 : Int32} (hk : wp_J11_checkIndex post p1 p2) : gb_Ps l yJ11_checkIndex (ws_ yJ11_checkIndex cJ11_checkIndex 2 (some .int)) ({ frames := 1, cells := 0, slots := 0, locals := 22 } : Room) [.int p1, .int p2] post := by
  refine gb_start cJ11_checkIndex 2 (some .int) (by decide) rfl (Nat.le_of_ble_eq_true rfl) ?_
  intro p e s m args below meth c ls C hr hlk hl
  have hl : lv_has ls 2 [(0, .int p1), (1, .int p2)] := hl
  unfold wp_J11_checkIndex at hk
  refine lv_iload_n C.1 C.2.1 dJ11_checkIndex_0 rfl (lv_at hl 0 rfl) ?_
  refine lv_iload_n C.1 C.2.1 dJ11_checkIndex_1 rfl (lv_at hl 1 rfl) ?_
  refine lv_null C.1 C.2.1 dJ11_checkIndex_2 ?_
  refine gb_call (As := [.int p1, .int p2, .null]) (rest := []) C (t_J12_checkIndex l hk) (va_cwS 3 C.2.2.2.2 (lw_S q375 q376 q73 q377) rfl rfl rfl (by decide +kernel) ⟨Nat.le_of_ble_eq_true rfl, Nat.le_of_ble_eq_true rfl⟩) rfl hl.1 rfl (lv_room (Nat.le_of_ble_eq_true rfl)) dJ11_checkIndex_3 ⟨Nat.le_of_ble_eq_true rfl, Nat.le_of_ble_eq_true rfl⟩ (fun r1 hk => ?_)
  exact gb_iret C hr hlk hk dJ11_checkIndex_6
/-! ToneGraph.inRange(III)Z -/
def wp_X1_inRange (post : Int32 → Prop) (p1 : Int32) (p2 : Int32) (p3 : Int32) : Prop := ((p1 < p2 → post 0) ∧ (¬ p1 < p2 → ((p3 < p1 → post 0) ∧ (¬ p3 < p1 → post 1))))
set_option maxHeartbeats 4000000 in
theorem t_X1_inRange (l : Launch) {post : Int32 → Prop} {p1 : Int32} {p2 : Int32} {p3 : Int32} (hk : wp_X1_inRange post p1 p2 p3) : gb_Ps l yX1_inRange (ws_ yX1_inRange cX1_inRange 3 (some .boolean)) ({ frames := 0, cells := 0, slots := 0, locals := 0 } : Room) [.int p1, .int p2, .int p3] post := by
  refine gb_start cX1_inRange 3 (some .boolean) (by decide) rfl (Nat.le_of_ble_eq_true rfl) ?_
  intro p e s m args below meth c ls C hr hlk hl
  have hl : lv_has ls 3 [(0, .int p1), (1, .int p2), (2, .int p3)] := hl
  unfold wp_X1_inRange at hk
  refine lv_iload_n C.1 C.2.1 dX1_inRange_0 rfl (lv_at hl 0 rfl) ?_
  refine lv_iload_n C.1 C.2.1 dX1_inRange_1 rfl (lv_at hl 1 rfl) ?_
  refine lv_icmp_lt (tgt := 14) C.1 C.2.1 dX1_inRange_2 (by decide) (fun c1 => ?_) (fun c1 => ?_)
  · have hk := hk.1 c1
    refine lv_iconst (v := 0) C.1 C.2.1 dX1_inRange_14 (by decide) ?_
    exact gb_zret (ty := .boolean) C hr hlk (by decide) hk dX1_inRange_15
  · have hk := hk.2 c1
    refine lv_iload_n C.1 C.2.1 dX1_inRange_5 rfl (lv_at hl 0 rfl) ?_
    refine lv_iload_n C.1 C.2.1 dX1_inRange_6 rfl (lv_at hl 2 rfl) ?_
    refine lv_icmp_gt (tgt := 14) C.1 C.2.1 dX1_inRange_7 (by decide) (fun c2 => ?_) (fun c2 => ?_)
    · have hk := hk.1 c2
      refine lv_iconst (v := 0) C.1 C.2.1 dX1_inRange_14 (by decide) ?_
      exact gb_zret (ty := .boolean) C hr hlk (by decide) hk dX1_inRange_15
    · have hk := hk.2 c2
      refine lv_iconst (v := 1) C.1 C.2.1 dX1_inRange_10 (by decide) ?_
      refine lv_goto (tgt := 15) C.1 C.2.1 dX1_inRange_11 (by decide) ?_
      exact gb_zret (ty := .boolean) C hr hlk (by decide) hk dX1_inRange_15
/-! ToneGraph.cut(I)I -/
def wp_X1_cut (post : Int32 → Prop) (p1 : Int32) : Prop := (∀ r1, r1 = (if p1 < 32767 then p1 else 32767) → (∀ r2, r2 = (if (-32767) < r1 then r1 else (-32767)) → post r2))
set_option maxHeartbeats 4000000 in
theorem t_X1_cut (l : Launch) {post : Int32 → Prop} {p1 : Int32} (hk : wp_X1_cut post p1) : gb_Ps l yX1_cut (ws_ yX1_cut cX1_cut 1 (some .int)) ({ frames := 1, cells := 0, slots := 0, locals := 21 } : Room) [.int p1] post := by
  refine gb_start cX1_cut 1 (some .int) (by decide) rfl (Nat.le_of_ble_eq_true rfl) ?_
  intro p e s m args below meth c ls C hr hlk hl
  have hl : lv_has ls 1 [(0, .int p1)] := hl
  unfold wp_X1_cut at hk
  refine lv_sipush (v := (-32767)) C.1 C.2.1 dX1_cut_0 (by decide) ?_
  refine lv_sipush (v := 32767) C.1 C.2.1 dX1_cut_3 (by decide) ?_
  refine lv_iload_n C.1 C.2.1 dX1_cut_6 rfl (lv_at hl 0 rfl) ?_
  refine va_mmin C.1 C.2.1 (C.2.2.1.trans hl.1.symm) C.2.2.2.1 (C.2.2.2.2 _ q395) (C.2.2.2.2 _ q309) (C.2.2.2.2 _ q62) (C.2.2.2.2 _ q310) (Nat.le_of_ble_eq_true rfl) (Nat.le_of_ble_eq_true rfl) (Nat.le_of_ble_eq_true rfl) (Nat.le_of_ble_eq_true rfl) dX1_cut_7 ?_
  refine lv_topi (fun r1 er1 => ?_)
  have hk := hk r1 er1
  refine va_mmax C.1 C.2.1 (C.2.2.1.trans hl.1.symm) C.2.2.2.1 (C.2.2.2.2 _ q489) (C.2.2.2.2 _ q271) (C.2.2.2.2 _ q62) (C.2.2.2.2 _ q272) (Nat.le_of_ble_eq_true rfl) (Nat.le_of_ble_eq_true rfl) (Nat.le_of_ble_eq_true rfl) (Nat.le_of_ble_eq_true rfl) dX1_cut_10 ?_
  refine lv_topi (fun r2 er2 => ?_)
  have hk := hk r2 er2
  exact gb_iret C hr hlk hk dX1_cut_13
/-! ToneGraph.lambda$waveOf$0(I)I -/
def wp_X1_lambda_waveOf_0 (post : Int32 → Prop) (p1 : Int32) : Prop := ((32768 ≤ p1 → post (-1000)) ∧ (¬ 32768 ≤ p1 → post 1000))
set_option maxHeartbeats 4000000 in
theorem t_X1_lambda_waveOf_0 (l : Launch) {post : Int32 → Prop} {p1 : Int32} (hk : wp_X1_lambda_waveOf_0 post p1) : gb_Ps l yX1_lambda_waveOf_0 (ws_ yX1_lambda_waveOf_0 cX1_lambda_waveOf_0 1 (some .int)) ({ frames := 0, cells := 0, slots := 0, locals := 0 } : Room) [.int p1] post := by
  refine gb_start cX1_lambda_waveOf_0 1 (some .int) (by decide) rfl (Nat.le_of_ble_eq_true rfl) ?_
  intro p e s m args below meth c ls C hr hlk hl
  have hl : lv_has ls 1 [(0, .int p1)] := hl
  unfold wp_X1_lambda_waveOf_0 at hk
  refine lv_iload_n C.1 C.2.1 dX1_lambda_waveOf_0_0 rfl (lv_at hl 0 rfl) ?_
  refine lv_ldcw C.1 C.2.1 C.2.2.2.1 (C.2.2.2.2 _ q1105) dX1_lambda_waveOf_0_1 ?_
  refine lv_icmp_ge (tgt := 13) C.1 C.2.1 dX1_lambda_waveOf_0_4 (by decide) (fun c1 => ?_) (fun c1 => ?_)
  · have hk := hk.1 c1
    refine lv_sipush (v := (-1000)) C.1 C.2.1 dX1_lambda_waveOf_0_13 (by decide) ?_
    exact gb_iret C hr hlk hk dX1_lambda_waveOf_0_16
  · have hk := hk.2 c1
    refine lv_sipush (v := 1000) C.1 C.2.1 dX1_lambda_waveOf_0_7 (by decide) ?_
    refine lv_goto (tgt := 16) C.1 C.2.1 dX1_lambda_waveOf_0_10 (by decide) ?_
    exact gb_iret C hr hlk hk dX1_lambda_waveOf_0_16
/-! ToneGraph.lambda$waveOf$1(I)I -/
def wp_X1_lambda_waveOf_1 (post : Int32 → Prop) (p1 : Int32) : Prop := ((32768 ≤ p1 → post (((65535 - p1) / 16) - 1024)) ∧ (¬ 32768 ≤ p1 → post ((p1 / 16) - 1024)))
set_option maxHeartbeats 4000000 in
theorem t_X1_lambda_waveOf_1 (l : Launch) {post : Int32 → Prop} {p1 : Int32} (hk : wp_X1_lambda_waveOf_1 post p1) : gb_Ps l yX1_lambda_waveOf_1 (ws_ yX1_lambda_waveOf_1 cX1_lambda_waveOf_1 1 (some .int)) ({ frames := 0, cells := 0, slots := 0, locals := 0 } : Room) [.int p1] post := by
  refine gb_start cX1_lambda_waveOf_1 1 (some .int) (by decide) rfl (Nat.le_of_ble_eq_true rfl) ?_
  intro p e s m args below meth c ls C hr hlk hl
  have hl : lv_has ls 1 [(0, .int p1)] := hl
  unfold wp_X1_lambda_waveOf_1 at hk
  refine lv_iload_n C.1 C.2.1 dX1_lambda_waveOf_1_0 rfl (lv_at hl 0 rfl) ?_
  refine lv_ldcw C.1 C.2.1 C.2.2.2.1 (C.2.2.2.2 _ q1105) dX1_lambda_waveOf_1_1 ?_
  refine lv_icmp_ge (tgt := 11) C.1 C.2.1 dX1_lambda_waveOf_1_4 (by decide) (fun c1 => ?_) (fun c1 => ?_)
  · have hk := hk.1 c1
    refine lv_ldcw C.1 C.2.1 C.2.2.2.1 (C.2.2.2.2 _ q1108) dX1_lambda_waveOf_1_11 ?_
    refine lv_iload_n C.1 C.2.1 dX1_lambda_waveOf_1_14 rfl (lv_at hl 0 rfl) ?_
    refine lv_isub C.1 C.2.1 dX1_lambda_waveOf_1_15 ?_
    refine lv_bipush (v := 16) C.1 C.2.1 dX1_lambda_waveOf_1_16 (by decide) ?_
    refine lv_idiv C.1 C.2.1 dX1_lambda_waveOf_1_18 (by decide) ?_
    refine lv_sipush (v := 1024) C.1 C.2.1 dX1_lambda_waveOf_1_19 (by decide) ?_
    refine lv_isub C.1 C.2.1 dX1_lambda_waveOf_1_22 ?_
    exact gb_iret C hr hlk hk dX1_lambda_waveOf_1_23
  · have hk := hk.2 c1
    refine lv_iload_n C.1 C.2.1 dX1_lambda_waveOf_1_7 rfl (lv_at hl 0 rfl) ?_
    refine lv_goto (tgt := 16) C.1 C.2.1 dX1_lambda_waveOf_1_8 (by decide) ?_
    refine lv_bipush (v := 16) C.1 C.2.1 dX1_lambda_waveOf_1_16 (by decide) ?_
    refine lv_idiv C.1 C.2.1 dX1_lambda_waveOf_1_18 (by decide) ?_
    refine lv_sipush (v := 1024) C.1 C.2.1 dX1_lambda_waveOf_1_19 (by decide) ?_
    refine lv_isub C.1 C.2.1 dX1_lambda_waveOf_1_22 ?_
    exact gb_iret C hr hlk hk dX1_lambda_waveOf_1_23
/-! ToneGraph.lambda$waveOf$2(I)I -/
def wp_X1_lambda_waveOf_2 (post : Int32 → Prop) (p1 : Int32) : Prop := post ((p1 / 32) - 1024)
set_option maxHeartbeats 4000000 in
theorem t_X1_lambda_waveOf_2 (l : Launch) {post : Int32 → Prop} {p1 : Int32} (hk : wp_X1_lambda_waveOf_2 post p1) : gb_Ps l yX1_lambda_waveOf_2 (ws_ yX1_lambda_waveOf_2 cX1_lambda_waveOf_2 1 (some .int)) ({ frames := 0, cells := 0, slots := 0, locals := 0 } : Room) [.int p1] post := by
  refine gb_start cX1_lambda_waveOf_2 1 (some .int) (by decide) rfl (Nat.le_of_ble_eq_true rfl) ?_
  intro p e s m args below meth c ls C hr hlk hl
  have hl : lv_has ls 1 [(0, .int p1)] := hl
  unfold wp_X1_lambda_waveOf_2 at hk
  refine lv_iload_n C.1 C.2.1 dX1_lambda_waveOf_2_0 rfl (lv_at hl 0 rfl) ?_
  refine lv_bipush (v := 32) C.1 C.2.1 dX1_lambda_waveOf_2_1 (by decide) ?_
  refine lv_idiv C.1 C.2.1 dX1_lambda_waveOf_2_3 (by decide) ?_
  refine lv_sipush (v := 1024) C.1 C.2.1 dX1_lambda_waveOf_2_4 (by decide) ?_
  refine lv_isub C.1 C.2.1 dX1_lambda_waveOf_2_7 ?_
  exact gb_iret C hr hlk hk dX1_lambda_waveOf_2_8
/-! ToneGraph$Envelope.level(I)I -/
def wp_X2_level (E : tc_E) (post : Int32 → tc_S → Prop) (k : Nat) (p1 : Int32) (s0 : tc_S) : Prop := (((yev E k 0) ≤ p1 → (∀ v2, v2 = (p1 - (yev E k 0)) → (((yev E k 1) ≤ v2 → post (yev E k 2) s0) ∧ (¬ (yev E k 1) ≤ v2 → (¬ (yev E k 1) = 0 ∧ post (1000 - (((1000 - (yev E k 2)) * v2) / (yev E k 1))) s0))))) ∧ (¬ (yev E k 0) ≤ p1 → (¬ (yev E k 0) = 0 ∧ post ((1000 * p1) / (yev E k 0)) s0)))
set_option maxHeartbeats 4000000 in
theorem t_X2_level (l : Launch) {E : tc_E} {k : Nat} (hk0 : k < yne E) {post : Int32 → tc_S → Prop} {p1 : Int32} {s0 : tc_S} (hk : wp_X2_level E post k p1 s0) : tc_M l yX2_level (ws_ yX2_level cX2_level 3 (some .int)) ({ frames := 0, cells := 0, slots := 0, locals := 0 } : Room) E [.ref (ea E (12, k)), .int p1] s0 (fun r : Int32 => some (.int r)) post := by
  refine tc_start cX2_level 3 (some .int) RX2 (by decide) rfl rfl (Nat.le_of_ble_eq_true rfl) ?_
  intro p e s m args below meth c ls C hnm hr hlk hH hS hl
  have hl : lv_has ls 3 [(0, .ref (ea E (12, k))), (1, .int p1)] := hl
  unfold wp_X2_level at hk
  refine lv_iload_n C.hx C.hb dX2_level_0 rfl (lv_at hl 1 rfl) ?_
  refine lv_aload_n C.hx C.hb dX2_level_1 rfl (lv_at hl 0 rfl) ?_
  refine tc_get C hH (hH.e _ hk0) (Cn := RX2) (T := TX2) (N := 4) (ci := 1) (fs := [.int (yev E k 0), .int (yev E k 1), .int (yev E k 2), .int (yev E k 3)]) in_X2 rfl rfl 0 (by decide) (C.L q130) (fun _ h => h) (v := .int (yev E k 0)) rfl dX2_level_2 ?_
  refine lv_icmp_ge (tgt := 19) C.hx C.hb dX2_level_5 (by decide) (fun c1 => ?_) (fun c1 => ?_)
  · have hk := hk.1 c1
    refine lv_iload_n C.hx C.hb dX2_level_19 rfl (lv_at hl 1 rfl) ?_
    refine lv_aload_n C.hx C.hb dX2_level_20 rfl (lv_at hl 0 rfl) ?_
    refine tc_get C hH (hH.e _ hk0) (Cn := RX2) (T := TX2) (N := 4) (ci := 1) (fs := [.int (yev E k 0), .int (yev E k 1), .int (yev E k 2), .int (yev E k 3)]) in_X2 rfl rfl 0 (by decide) (C.L q130) (fun _ h => h) (v := .int (yev E k 0)) rfl dX2_level_21 ?_
    refine lv_isub C.hx C.hb dX2_level_24 ?_
    refine lv_topi (fun v2 ev2 => ?_)
    have hk := hk v2 ev2
    refine lv_istore_n (lv' := [(2, .int v2), (0, .ref (ea E (12, k))), (1, .int p1)]) C.hx C.hb dX2_level_25 rfl hl (by decide) rfl (fun ls hl => ?_)
    refine lv_iload_n C.hx C.hb dX2_level_26 rfl (lv_at hl 0 rfl) ?_
    refine lv_aload_n C.hx C.hb dX2_level_27 rfl (lv_at hl 1 rfl) ?_
    refine tc_get C hH (hH.e _ hk0) (Cn := RX2) (T := TX2) (N := 4) (ci := 1) (fs := [.int (yev E k 0), .int (yev E k 1), .int (yev E k 2), .int (yev E k 3)]) in_X2 rfl rfl 1 (by decide) (C.L q131) (fun _ h => h) (v := .int (yev E k 1)) rfl dX2_level_28 ?_
    refine lv_icmp_ge (tgt := 56) C.hx C.hb dX2_level_31 (by decide) (fun c3 => ?_) (fun c3 => ?_)
    · have hk := hk.1 c3
      refine lv_aload_n C.hx C.hb dX2_level_56 rfl (lv_at hl 1 rfl) ?_
      refine tc_get C hH (hH.e _ hk0) (Cn := RX2) (T := TX2) (N := 4) (ci := 1) (fs := [.int (yev E k 0), .int (yev E k 1), .int (yev E k 2), .int (yev E k 3)]) in_X2 rfl rfl 2 (by decide) (C.L q132) (fun _ h => h) (v := .int (yev E k 2)) rfl dX2_level_57 ?_
      exact tc_iret (yev E k 2) rfl C hr hlk hH hS hk dX2_level_60
    · have hk := hk.2 c3
      refine lv_sipush (v := 1000) C.hx C.hb dX2_level_34 (by decide) ?_
      refine lv_sipush (v := 1000) C.hx C.hb dX2_level_37 (by decide) ?_
      refine lv_aload_n C.hx C.hb dX2_level_40 rfl (lv_at hl 1 rfl) ?_
      refine tc_get C hH (hH.e _ hk0) (Cn := RX2) (T := TX2) (N := 4) (ci := 1) (fs := [.int (yev E k 0), .int (yev E k 1), .int (yev E k 2), .int (yev E k 3)]) in_X2 rfl rfl 2 (by decide) (C.L q132) (fun _ h => h) (v := .int (yev E k 2)) rfl dX2_level_41 ?_
      refine lv_isub C.hx C.hb dX2_level_44 ?_
      refine lv_iload_n C.hx C.hb dX2_level_45 rfl (lv_at hl 0 rfl) ?_
      refine lv_imul C.hx C.hb dX2_level_46 ?_
      refine lv_aload_n C.hx C.hb dX2_level_47 rfl (lv_at hl 1 rfl) ?_
      refine tc_get C hH (hH.e _ hk0) (Cn := RX2) (T := TX2) (N := 4) (ci := 1) (fs := [.int (yev E k 0), .int (yev E k 1), .int (yev E k 2), .int (yev E k 3)]) in_X2 rfl rfl 1 (by decide) (C.L q131) (fun _ h => h) (v := .int (yev E k 1)) rfl dX2_level_48 ?_
      obtain ⟨h4, hk⟩ := hk
      refine lv_idiv C.hx C.hb dX2_level_51 h4 ?_
      refine lv_isub C.hx C.hb dX2_level_52 ?_
      refine lv_goto (tgt := 60) C.hx C.hb dX2_level_53 (by decide) ?_
      exact tc_iret (1000 - (((1000 - (yev E k 2)) * v2) / (yev E k 1))) rfl C hr hlk hH hS hk dX2_level_60
  · have hk := hk.2 c1
    refine lv_sipush (v := 1000) C.hx C.hb dX2_level_8 (by decide) ?_
    refine lv_iload_n C.hx C.hb dX2_level_11 rfl (lv_at hl 1 rfl) ?_
    refine lv_imul C.hx C.hb dX2_level_12 ?_
    refine lv_aload_n C.hx C.hb dX2_level_13 rfl (lv_at hl 0 rfl) ?_
    refine tc_get C hH (hH.e _ hk0) (Cn := RX2) (T := TX2) (N := 4) (ci := 1) (fs := [.int (yev E k 0), .int (yev E k 1), .int (yev E k 2), .int (yev E k 3)]) in_X2 rfl rfl 0 (by decide) (C.L q130) (fun _ h => h) (v := .int (yev E k 0)) rfl dX2_level_14 ?_
    obtain ⟨h5, hk⟩ := hk
    refine lv_idiv C.hx C.hb dX2_level_17 h5 ?_
    exact tc_iret ((1000 * p1) / (yev E k 0)) rfl C hr hlk hH hS hk dX2_level_18
/-! ToneGraph$Envelope.state(I)C -/
def wp_X2_state (E : tc_E) (post : Int32 → tc_S → Prop) (k : Nat) (p1 : Int32) (s0 : tc_S) : Prop := (((yev E k 0) ≤ p1 → (((yev E k 1) ≤ (p1 - (yev E k 0)) → post 115 s0) ∧ (¬ (yev E k 1) ≤ (p1 - (yev E k 0)) → post 100 s0))) ∧ (¬ (yev E k 0) ≤ p1 → post 97 s0))
set_option maxHeartbeats 4000000 in
theorem t_X2_state (l : Launch) {E : tc_E} {k : Nat} (hk0 : k < yne E) {post : Int32 → tc_S → Prop} {p1 : Int32} {s0 : tc_S} (hk : wp_X2_state E post k p1 s0) : tc_M l yX2_state (ws_ yX2_state cX2_state 2 (some .char)) ({ frames := 0, cells := 0, slots := 0, locals := 0 } : Room) E [.ref (ea E (12, k)), .int p1] s0 (fun r : Int32 => some (.int r)) post := by
  refine tc_start cX2_state 2 (some .char) RX2 (by decide) rfl rfl (Nat.le_of_ble_eq_true rfl) ?_
  intro p e s m args below meth c ls C hnm hr hlk hH hS hl
  have hl : lv_has ls 2 [(0, .ref (ea E (12, k))), (1, .int p1)] := hl
  unfold wp_X2_state at hk
  refine lv_iload_n C.hx C.hb dX2_state_0 rfl (lv_at hl 1 rfl) ?_
  refine lv_aload_n C.hx C.hb dX2_state_1 rfl (lv_at hl 0 rfl) ?_
  refine tc_get C hH (hH.e _ hk0) (Cn := RX2) (T := TX2) (N := 4) (ci := 1) (fs := [.int (yev E k 0), .int (yev E k 1), .int (yev E k 2), .int (yev E k 3)]) in_X2 rfl rfl 0 (by decide) (C.L q130) (fun _ h => h) (v := .int (yev E k 0)) rfl dX2_state_2 ?_
  refine lv_icmp_ge (tgt := 13) C.hx C.hb dX2_state_5 (by decide) (fun c1 => ?_) (fun c1 => ?_)
  · have hk := hk.1 c1
    refine lv_iload_n C.hx C.hb dX2_state_13 rfl (lv_at hl 1 rfl) ?_
    refine lv_aload_n C.hx C.hb dX2_state_14 rfl (lv_at hl 0 rfl) ?_
    refine tc_get C hH (hH.e _ hk0) (Cn := RX2) (T := TX2) (N := 4) (ci := 1) (fs := [.int (yev E k 0), .int (yev E k 1), .int (yev E k 2), .int (yev E k 3)]) in_X2 rfl rfl 0 (by decide) (C.L q130) (fun _ h => h) (v := .int (yev E k 0)) rfl dX2_state_15 ?_
    refine lv_isub C.hx C.hb dX2_state_18 ?_
    refine lv_aload_n C.hx C.hb dX2_state_19 rfl (lv_at hl 0 rfl) ?_
    refine tc_get C hH (hH.e _ hk0) (Cn := RX2) (T := TX2) (N := 4) (ci := 1) (fs := [.int (yev E k 0), .int (yev E k 1), .int (yev E k 2), .int (yev E k 3)]) in_X2 rfl rfl 1 (by decide) (C.L q131) (fun _ h => h) (v := .int (yev E k 1)) rfl dX2_state_20 ?_
    refine lv_icmp_ge (tgt := 31) C.hx C.hb dX2_state_23 (by decide) (fun c2 => ?_) (fun c2 => ?_)
    · have hk := hk.1 c2
      refine lv_bipush (v := 115) C.hx C.hb dX2_state_31 (by decide) ?_
      exact tc_zret (ty := .char) 115 rfl C hr hlk (by decide) hH hS hk dX2_state_33
    · have hk := hk.2 c2
      refine lv_bipush (v := 100) C.hx C.hb dX2_state_26 (by decide) ?_
      refine lv_goto (tgt := 33) C.hx C.hb dX2_state_28 (by decide) ?_
      exact tc_zret (ty := .char) 100 rfl C hr hlk (by decide) hH hS hk dX2_state_33
  · have hk := hk.2 c1
    refine lv_bipush (v := 97) C.hx C.hb dX2_state_8 (by decide) ?_
    refine lv_goto (tgt := 33) C.hx C.hb dX2_state_10 (by decide) ?_
    exact tc_zret (ty := .char) 97 rfl C hr hlk (by decide) hH hS hk dX2_state_33
/-! ToneGraph$Voice.release(J)V -/
def wp_X5_release (E : tc_E) (post : Unit → tc_S → Prop) (v : Nat) (p1 : Int64) (s0 : tc_S) : Prop := (∃ q1 : Nat, s0.2.1 3 v 0 = q1 + 1 ∧ q1 < yne E ∧ wp_X2_level E (fun r2 s3 => (∀ s4 : tc_S, s4 = tI s3 6 v 7 r2 → (∀ s5 : tc_S, s5 = tI s4 6 v 2 1 → (∀ s6 : tc_S, s6 = tI s5 6 v 6 0 → (∀ s7 : tc_S, s7 = tL s6 (3 + v) p1 → (∃ q8 : Nat, s7.2.1 3 v 0 = q8 + 1 ∧ q8 < yne E ∧ (((yev E q8 3) ≤ 0 → (∀ s10 : tc_S, s10 = tI s7 6 v 1 0 → post () s10)) ∧ (¬ (yev E q8 3) ≤ 0 → (∀ s11 : tc_S, s11 = tI s7 6 v 1 1 → post () s11))))))))) q1 (s0.1 6 v 6) s0)
set_option maxHeartbeats 4000000 in
theorem t_X5_release (l : Launch) {E : tc_E} {v : Nat} (hv : v < 4) {post : Unit → tc_S → Prop} {p1 : Int64} {s0 : tc_S} (hk : wp_X5_release E post v p1 s0) : tc_M l yX5_release (ws_ yX5_release cX5_release 3 none) ({ frames := 1, cells := 0, slots := 0, locals := 22 } : Room) E [.ref (ea E (10, v)), .long p1] s0 (fun _ : Unit => none) post := by
  refine tc_start cX5_release 3 none RX5 (by decide) rfl rfl (Nat.le_of_ble_eq_true rfl) ?_
  intro p e s m args below meth c ls C hnm hr hlk hH hS hl
  have hl : lv_has ls 3 [(0, .ref (ea E (10, v))), (1, .long p1)] := hl
  unfold wp_X5_release at hk
  refine lv_aload_n C.hx C.hb dX5_release_0 rfl (lv_at hl 0 rfl) ?_
  refine lv_aload_n C.hx C.hb dX5_release_1 rfl (lv_at hl 0 rfl) ?_
  obtain ⟨q1, hq1, kq1, hk⟩ := hk
  refine tc_get C hH (hH.v _ hv) (Cn := RX5) (T := TX5) (N := 12) (ci := 3) (fs := tc_vfs E s0 v) in_X5 rfl rfl 4 (by decide) (C.L q171) (fun _ h => h) (v := .ref (ea E (12, q1))) (by simp [tc_vfs, hq1, tc_on, va_rf]) dX5_release_2 ?_
  refine lv_aload_n C.hx C.hb dX5_release_5 rfl (lv_at hl 0 rfl) ?_
  refine tc_get C hH (hH.v _ hv) (Cn := RX5) (T := TX5) (N := 12) (ci := 3) (fs := tc_vfs E s0 v) in_X5 rfl rfl 8 (by decide) (C.L q177) (fun _ h => h) (v := .int (s0.1 6 v 6)) rfl dX5_release_6 ?_
  refine tc_run (tc_rV (As := [.int (s0.1 6 v 6)]) (rest := [.ref (ea E (10, v))]) (L := (12, q1)) (ci := 1) (fs := [.int (yev E q1 0), .int (yev E q1 1), .int (yev E q1 2), .int (yev E q1 3)]) (q := (RX2, TX2, 4)) C (hH.e _ kq1) rfl rfl (t_X2_level l kq1 hk) (cwV 1 C.hts (lw_V q404 q405 q406 q57 q407) rfl rfl rfl (by decide +kernel) ⟨Nat.le_of_ble_eq_true rfl, Nat.le_of_ble_eq_true rfl⟩) hH hS rfl hl.1 rfl (lv_room (Nat.le_of_ble_eq_true rfl)) dX5_release_9 ⟨Nat.le_of_ble_eq_true rfl, Nat.le_of_ble_eq_true rfl⟩) hS (fun r2 s3 H locs hk hH hS => ?_)
  refine W.eq (g2 := F0 m 12 ls [.int r2, .ref (ea E (10, v))]) rfl ?_
  refine tc_put C hH hS (hH.v _ hv) (Cn := RX5) (T := TX5) (N := 12) (ci := 3) (fs := tc_vfs E s3 v) in_X5 tyX5 tyX5_ok nmX5 rfl rfl 9 (by decide) (C.L q178) (fun _ h => h) rfl (v := .int r2) rfl rfl (Nat.le_of_ble_eq_true rfl) (tc_uv_top E s3 v r2) dX5_release_12 (fun s4 es4 H locs hH hS => ?_)
  have hk := hk s4 es4
  refine lv_aload_n C.hx C.hb dX5_release_15 rfl (lv_at hl 0 rfl) ?_
  refine lv_iconst (v := 1) C.hx C.hb dX5_release_16 (by decide) ?_
  refine tc_put C hH hS (hH.v _ hv) (Cn := RX5) (T := TX5) (N := 12) (ci := 3) (fs := tc_vfs E s4 v) in_X5 tyX5 tyX5_ok nmX5 rfl rfl 2 (by decide) (C.L q168) (fun _ h => h) rfl (v := .int 1) (by decide) (by decide) (Nat.le_of_ble_eq_true rfl) (tc_uv_released E s4 v 1) dX5_release_17 (fun s5 es5 H locs hH hS => ?_)
  have hk := hk s5 es5
  refine lv_aload_n C.hx C.hb dX5_release_20 rfl (lv_at hl 0 rfl) ?_
  refine lv_iconst (v := 0) C.hx C.hb dX5_release_21 (by decide) ?_
  refine tc_put C hH hS (hH.v _ hv) (Cn := RX5) (T := TX5) (N := 12) (ci := 3) (fs := tc_vfs E s5 v) in_X5 tyX5 tyX5_ok nmX5 rfl rfl 8 (by decide) (C.L q177) (fun _ h => h) rfl (v := .int 0) rfl rfl (Nat.le_of_ble_eq_true rfl) (tc_uv_sample E s5 v 0) dX5_release_22 (fun s6 es6 H locs hH hS => ?_)
  have hk := hk s6 es6
  refine lv_aload_n C.hx C.hb dX5_release_25 rfl (lv_at hl 0 rfl) ?_
  refine lv_lload_n C.hx C.hb dX5_release_26 rfl (lv_at hl 1 rfl) ?_
  refine tc_put C hH hS (hH.v _ hv) (Cn := RX5) (T := TX5) (N := 12) (ci := 3) (fs := tc_vfs E s6 v) in_X5 tyX5 tyX5_ok nmX5 rfl rfl 10 (by decide) (C.L q179) (fun _ h => h) rfl (v := .long p1) rfl rfl (Nat.le_of_ble_eq_true rfl) (tc_uv_turn E s6 v p1) dX5_release_27 (fun s7 es7 H locs hH hS => ?_)
  have hk := hk s7 es7
  refine lv_aload_n C.hx C.hb dX5_release_30 rfl (lv_at hl 0 rfl) ?_
  refine lv_aload_n C.hx C.hb dX5_release_31 rfl (lv_at hl 0 rfl) ?_
  obtain ⟨q8, hq8, kq8, hk⟩ := hk
  refine tc_get C hH (hH.v _ hv) (Cn := RX5) (T := TX5) (N := 12) (ci := 3) (fs := tc_vfs E s7 v) in_X5 rfl rfl 4 (by decide) (C.L q171) (fun _ h => h) (v := .ref (ea E (12, q8))) (by simp [tc_vfs, hq8, tc_on, va_rf]) dX5_release_32 ?_
  refine tc_get C hH (hH.e _ kq8) (Cn := RX2) (T := TX2) (N := 4) (ci := 1) (fs := [.int (yev E q8 0), .int (yev E q8 1), .int (yev E q8 2), .int (yev E q8 3)]) in_X2 rfl rfl 3 (by decide) (C.N 26 rfl) (fun _ h => h) (v := .int (yev E q8 3)) rfl dX5_release_35 ?_
  refine lv_if_le (tgt := 45) C.hx C.hb dX5_release_38 (by decide) (fun c9 => ?_) (fun c9 => ?_)
  · have hk := hk.1 c9
    refine lv_iconst (v := 0) C.hx C.hb dX5_release_45 (by decide) ?_
    refine tc_put C hH hS (hH.v _ hv) (Cn := RX5) (T := TX5) (N := 12) (ci := 3) (fs := tc_vfs E s7 v) in_X5 tyX5 tyX5_ok nmX5 rfl rfl 1 (by decide) (C.L q166) (fun _ h => h) rfl (v := .int 0) (by decide) (by decide) (Nat.le_of_ble_eq_true rfl) (tc_uv_playing E s7 v 0) dX5_release_46 (fun s10 es10 H locs hH hS => ?_)
    have hk := hk s10 es10
    exact tc_vret () rfl C hr hlk hH hS hk dX5_release_49
  · have hk := hk.2 c9
    refine lv_iconst (v := 1) C.hx C.hb dX5_release_41 (by decide) ?_
    refine lv_goto (tgt := 46) C.hx C.hb dX5_release_42 (by decide) ?_
    refine tc_put C hH hS (hH.v _ hv) (Cn := RX5) (T := TX5) (N := 12) (ci := 3) (fs := tc_vfs E s7 v) in_X5 tyX5 tyX5_ok nmX5 rfl rfl 1 (by decide) (C.L q166) (fun _ h => h) rfl (v := .int 1) (by decide) (by decide) (Nat.le_of_ble_eq_true rfl) (tc_uv_playing E s7 v 1) dX5_release_46 (fun s11 es11 H locs hH hS => ?_)
    have hk := hk s11 es11
    exact tc_vret () rfl C hr hlk hH hS hk dX5_release_49
/-! ToneGraph$Voice.level()I -/
def wp_X5_level (E : tc_E) (post : Int32 → tc_S → Prop) (v : Nat) (s0 : tc_S) : Prop := ((¬ (s0.1 6 v 1) = 0 → (((s0.1 6 v 2) = 0 → (∃ q3 : Nat, s0.2.1 3 v 0 = q3 + 1 ∧ q3 < yne E ∧ wp_X2_level E (fun r4 s5 => post r4 s5) q3 (s0.1 6 v 6) s0)) ∧ (¬ (s0.1 6 v 2) = 0 → (∃ q6 : Nat, s0.2.1 3 v 0 = q6 + 1 ∧ q6 < yne E ∧ (¬ (yev E q6 3) = 0 ∧ post ((s0.1 6 v 7) - (((s0.1 6 v 7) * (s0.1 6 v 6)) / (yev E q6 3))) s0))))) ∧ ((s0.1 6 v 1) = 0 → post 0 s0))
set_option maxHeartbeats 4000000 in
theorem t_X5_level (l : Launch) {E : tc_E} {v : Nat} (hv : v < 4) {post : Int32 → tc_S → Prop} {s0 : tc_S} (hk : wp_X5_level E post v s0) : tc_M l yX5_level (ws_ yX5_level cX5_level 1 (some .int)) ({ frames := 1, cells := 0, slots := 0, locals := 22 } : Room) E [.ref (ea E (10, v))] s0 (fun r : Int32 => some (.int r)) post := by
  refine tc_start cX5_level 1 (some .int) RX5 (by decide) rfl rfl (Nat.le_of_ble_eq_true rfl) ?_
  intro p e s m args below meth c ls C hnm hr hlk hH hS hl
  have hl : lv_has ls 1 [(0, .ref (ea E (10, v)))] := hl
  unfold wp_X5_level at hk
  refine lv_aload_n C.hx C.hb dX5_level_0 rfl (lv_at hl 0 rfl) ?_
  refine tc_get C hH (hH.v _ hv) (Cn := RX5) (T := TX5) (N := 12) (ci := 3) (fs := tc_vfs E s0 v) in_X5 rfl rfl 1 (by decide) (C.L q166) (fun _ h => h) (v := .int (s0.1 6 v 1)) rfl dX5_level_1 ?_
  refine lv_if_ne (tgt := 9) C.hx C.hb dX5_level_4 (by decide) (fun c1 => ?_) (fun c1 => ?_)
  · have hk := hk.1 c1
    refine lv_aload_n C.hx C.hb dX5_level_9 rfl (lv_at hl 0 rfl) ?_
    refine tc_get C hH (hH.v _ hv) (Cn := RX5) (T := TX5) (N := 12) (ci := 3) (fs := tc_vfs E s0 v) in_X5 rfl rfl 2 (by decide) (C.L q168) (fun _ h => h) (v := .int (s0.1 6 v 2)) rfl dX5_level_10 ?_
    refine lv_if_eq (tgt := 41) C.hx C.hb dX5_level_13 (by decide) (fun c2 => ?_) (fun c2 => ?_)
    · have hk := hk.1 c2
      refine lv_aload_n C.hx C.hb dX5_level_41 rfl (lv_at hl 0 rfl) ?_
      obtain ⟨q3, hq3, kq3, hk⟩ := hk
      refine tc_get C hH (hH.v _ hv) (Cn := RX5) (T := TX5) (N := 12) (ci := 3) (fs := tc_vfs E s0 v) in_X5 rfl rfl 4 (by decide) (C.L q171) (fun _ h => h) (v := .ref (ea E (12, q3))) (by simp [tc_vfs, hq3, tc_on, va_rf]) dX5_level_42 ?_
      refine lv_aload_n C.hx C.hb dX5_level_45 rfl (lv_at hl 0 rfl) ?_
      refine tc_get C hH (hH.v _ hv) (Cn := RX5) (T := TX5) (N := 12) (ci := 3) (fs := tc_vfs E s0 v) in_X5 rfl rfl 8 (by decide) (C.L q177) (fun _ h => h) (v := .int (s0.1 6 v 6)) rfl dX5_level_46 ?_
      refine tc_run (tc_rV (As := [.int (s0.1 6 v 6)]) (rest := []) (L := (12, q3)) (ci := 1) (fs := [.int (yev E q3 0), .int (yev E q3 1), .int (yev E q3 2), .int (yev E q3 3)]) (q := (RX2, TX2, 4)) C (hH.e _ kq3) rfl rfl (t_X2_level l kq3 hk) (cwV 1 C.hts (lw_V q404 q405 q406 q57 q407) rfl rfl rfl (by decide +kernel) ⟨Nat.le_of_ble_eq_true rfl, Nat.le_of_ble_eq_true rfl⟩) hH hS rfl hl.1 rfl (lv_room (Nat.le_of_ble_eq_true rfl)) dX5_level_49 ⟨Nat.le_of_ble_eq_true rfl, Nat.le_of_ble_eq_true rfl⟩) hS (fun r4 s5 H locs hk hH hS => ?_)
      refine W.eq (g2 := F0 m 52 ls [.int r4]) rfl ?_
      exact tc_iret r4 rfl C hr hlk hH hS hk dX5_level_52
    · have hk := hk.2 c2
      refine lv_aload_n C.hx C.hb dX5_level_16 rfl (lv_at hl 0 rfl) ?_
      refine tc_get C hH (hH.v _ hv) (Cn := RX5) (T := TX5) (N := 12) (ci := 3) (fs := tc_vfs E s0 v) in_X5 rfl rfl 9 (by decide) (C.L q178) (fun _ h => h) (v := .int (s0.1 6 v 7)) rfl dX5_level_17 ?_
      refine lv_aload_n C.hx C.hb dX5_level_20 rfl (lv_at hl 0 rfl) ?_
      refine tc_get C hH (hH.v _ hv) (Cn := RX5) (T := TX5) (N := 12) (ci := 3) (fs := tc_vfs E s0 v) in_X5 rfl rfl 9 (by decide) (C.L q178) (fun _ h => h) (v := .int (s0.1 6 v 7)) rfl dX5_level_21 ?_
      refine lv_aload_n C.hx C.hb dX5_level_24 rfl (lv_at hl 0 rfl) ?_
      refine tc_get C hH (hH.v _ hv) (Cn := RX5) (T := TX5) (N := 12) (ci := 3) (fs := tc_vfs E s0 v) in_X5 rfl rfl 8 (by decide) (C.L q177) (fun _ h => h) (v := .int (s0.1 6 v 6)) rfl dX5_level_25 ?_
      refine lv_imul C.hx C.hb dX5_level_28 ?_
      refine lv_aload_n C.hx C.hb dX5_level_29 rfl (lv_at hl 0 rfl) ?_
      obtain ⟨q6, hq6, kq6, hk⟩ := hk
      refine tc_get C hH (hH.v _ hv) (Cn := RX5) (T := TX5) (N := 12) (ci := 3) (fs := tc_vfs E s0 v) in_X5 rfl rfl 4 (by decide) (C.L q171) (fun _ h => h) (v := .ref (ea E (12, q6))) (by simp [tc_vfs, hq6, tc_on, va_rf]) dX5_level_30 ?_
      refine tc_get C hH (hH.e _ kq6) (Cn := RX2) (T := TX2) (N := 4) (ci := 1) (fs := [.int (yev E q6 0), .int (yev E q6 1), .int (yev E q6 2), .int (yev E q6 3)]) in_X2 rfl rfl 3 (by decide) (C.N 26 rfl) (fun _ h => h) (v := .int (yev E q6 3)) rfl dX5_level_33 ?_
      obtain ⟨h7, hk⟩ := hk
      refine lv_idiv C.hx C.hb dX5_level_36 h7 ?_
      refine lv_isub C.hx C.hb dX5_level_37 ?_
      refine lv_goto (tgt := 52) C.hx C.hb dX5_level_38 (by decide) ?_
      exact tc_iret ((s0.1 6 v 7) - (((s0.1 6 v 7) * (s0.1 6 v 6)) / (yev E q6 3))) rfl C hr hlk hH hS hk dX5_level_52
  · have hk := hk.2 c1
    refine lv_iconst (v := 0) C.hx C.hb dX5_level_7 (by decide) ?_
    exact tc_iret 0 rfl C hr hlk hH hS hk dX5_level_8
/-! ToneGraph$Voice.state()C -/
def wp_X5_state (E : tc_E) (post : Int32 → tc_S → Prop) (v : Nat) (s0 : tc_S) : Prop := ((¬ (s0.1 6 v 1) = 0 → (((s0.1 6 v 2) = 0 → (∃ q3 : Nat, s0.2.1 3 v 0 = q3 + 1 ∧ q3 < yne E ∧ wp_X2_state E (fun r4 s5 => (narrow .char (.int r4) = .int r4 ∧ post r4 s5)) q3 (s0.1 6 v 6) s0)) ∧ (¬ (s0.1 6 v 2) = 0 → post 114 s0))) ∧ ((s0.1 6 v 1) = 0 → post 102 s0))
set_option maxHeartbeats 4000000 in
theorem t_X5_state (l : Launch) {E : tc_E} {v : Nat} (hv : v < 4) {post : Int32 → tc_S → Prop} {s0 : tc_S} (hk : wp_X5_state E post v s0) : tc_M l yX5_state (ws_ yX5_state cX5_state 1 (some .char)) ({ frames := 1, cells := 0, slots := 0, locals := 21 } : Room) E [.ref (ea E (10, v))] s0 (fun r : Int32 => some (.int r)) post := by
  refine tc_start cX5_state 1 (some .char) RX5 (by decide) rfl rfl (Nat.le_of_ble_eq_true rfl) ?_
  intro p e s m args below meth c ls C hnm hr hlk hH hS hl
  have hl : lv_has ls 1 [(0, .ref (ea E (10, v)))] := hl
  unfold wp_X5_state at hk
  refine lv_aload_n C.hx C.hb dX5_state_0 rfl (lv_at hl 0 rfl) ?_
  refine tc_get C hH (hH.v _ hv) (Cn := RX5) (T := TX5) (N := 12) (ci := 3) (fs := tc_vfs E s0 v) in_X5 rfl rfl 1 (by decide) (C.L q166) (fun _ h => h) (v := .int (s0.1 6 v 1)) rfl dX5_state_1 ?_
  refine lv_if_ne (tgt := 12) C.hx C.hb dX5_state_4 (by decide) (fun c1 => ?_) (fun c1 => ?_)
  · have hk := hk.1 c1
    refine lv_aload_n C.hx C.hb dX5_state_12 rfl (lv_at hl 0 rfl) ?_
    refine tc_get C hH (hH.v _ hv) (Cn := RX5) (T := TX5) (N := 12) (ci := 3) (fs := tc_vfs E s0 v) in_X5 rfl rfl 2 (by decide) (C.L q168) (fun _ h => h) (v := .int (s0.1 6 v 2)) rfl dX5_state_13 ?_
    refine lv_if_eq (tgt := 24) C.hx C.hb dX5_state_16 (by decide) (fun c2 => ?_) (fun c2 => ?_)
    · have hk := hk.1 c2
      refine lv_aload_n C.hx C.hb dX5_state_24 rfl (lv_at hl 0 rfl) ?_
      obtain ⟨q3, hq3, kq3, hk⟩ := hk
      refine tc_get C hH (hH.v _ hv) (Cn := RX5) (T := TX5) (N := 12) (ci := 3) (fs := tc_vfs E s0 v) in_X5 rfl rfl 4 (by decide) (C.L q171) (fun _ h => h) (v := .ref (ea E (12, q3))) (by simp [tc_vfs, hq3, tc_on, va_rf]) dX5_state_25 ?_
      refine lv_aload_n C.hx C.hb dX5_state_28 rfl (lv_at hl 0 rfl) ?_
      refine tc_get C hH (hH.v _ hv) (Cn := RX5) (T := TX5) (N := 12) (ci := 3) (fs := tc_vfs E s0 v) in_X5 rfl rfl 8 (by decide) (C.L q177) (fun _ h => h) (v := .int (s0.1 6 v 6)) rfl dX5_state_29 ?_
      refine tc_run (tc_rV (As := [.int (s0.1 6 v 6)]) (rest := []) (L := (12, q3)) (ci := 1) (fs := [.int (yev E q3 0), .int (yev E q3 1), .int (yev E q3 2), .int (yev E q3 3)]) (q := (RX2, TX2, 4)) C (hH.e _ kq3) rfl rfl (t_X2_state l kq3 hk) (cwV 1 C.hts (lw_V q685 q686 q687 q57 q688) rfl rfl rfl (by decide +kernel) ⟨Nat.le_of_ble_eq_true rfl, Nat.le_of_ble_eq_true rfl⟩) hH hS rfl hl.1 rfl (lv_room (Nat.le_of_ble_eq_true rfl)) dX5_state_32 ⟨Nat.le_of_ble_eq_true rfl, Nat.le_of_ble_eq_true rfl⟩) hS (fun r4 s5 H locs hk hH hS => ?_)
      refine W.eq (g2 := F0 m 35 ls [.int r4]) rfl ?_
      obtain ⟨h6, hk⟩ := hk
      exact tc_zret (ty := .char) r4 rfl C hr hlk h6 hH hS hk dX5_state_35
    · have hk := hk.2 c2
      refine lv_bipush (v := 114) C.hx C.hb dX5_state_19 (by decide) ?_
      refine lv_goto (tgt := 35) C.hx C.hb dX5_state_21 (by decide) ?_
      exact tc_zret (ty := .char) 114 rfl C hr hlk (by decide) hH hS hk dX5_state_35
  · have hk := hk.2 c1
    refine lv_bipush (v := 102) C.hx C.hb dX5_state_7 (by decide) ?_
    refine lv_goto (tgt := 35) C.hx C.hb dX5_state_9 (by decide) ?_
    exact tc_zret (ty := .char) 102 rfl C hr hlk (by decide) hH hS hk dX5_state_35
/-! ToneGraph$Voice.goOn()V -/
def wp_X5_goOn (E : tc_E) (post : Unit → tc_S → Prop) (v : Nat) (s0 : tc_S) : Prop := (∀ s1 : tc_S, s1 = tI s0 6 v 6 ((s0.1 6 v 6) + 1) → (vp_in (s1.1 6 v 3) 60 ∧ (∀ s3 : tc_S, s3 = tI s1 6 v 5 (((s1.1 6 v 5) + (tc_step (s1.1 6 v 3).toNatClampNeg)) - ((s1.1 6 v 5) + (tc_step (s1.1 6 v 3).toNatClampNeg)) / 65536 * 65536) → (((s3.1 6 v 2) = 0 → (∀ s5 : tc_S, s5 = tI s3 6 v 1 1 → post () s5)) ∧ (¬ (s3.1 6 v 2) = 0 → (∃ q6 : Nat, s3.2.1 3 v 0 = q6 + 1 ∧ q6 < yne E ∧ (((yev E q6 3) ≤ (s3.1 6 v 6) → (∀ s8 : tc_S, s8 = tI s3 6 v 1 0 → post () s8)) ∧ (¬ (yev E q6 3) ≤ (s3.1 6 v 6) → (∀ s9 : tc_S, s9 = tI s3 6 v 1 1 → post () s9)))))))))
set_option maxHeartbeats 4000000 in
theorem t_X5_goOn (l : Launch) {E : tc_E} {v : Nat} (hv : v < 4) {post : Unit → tc_S → Prop} {s0 : tc_S} (hk : wp_X5_goOn E post v s0) : tc_M l yX5_goOn (ws_ yX5_goOn cX5_goOn 1 none) ({ frames := 0, cells := 0, slots := 0, locals := 0 } : Room) E [.ref (ea E (10, v))] s0 (fun _ : Unit => none) post := by
  refine tc_start cX5_goOn 1 none RX5 (by decide) rfl rfl (Nat.le_of_ble_eq_true rfl) ?_
  intro p e s m args below meth c ls C hnm hr hlk hH hS hl
  have hl : lv_has ls 1 [(0, .ref (ea E (10, v)))] := hl
  unfold wp_X5_goOn at hk
  refine lv_aload_n C.hx C.hb dX5_goOn_0 rfl (lv_at hl 0 rfl) ?_
  refine lv_dup C.hx C.hb dX5_goOn_1 rfl ?_
  refine tc_get C hH (hH.v _ hv) (Cn := RX5) (T := TX5) (N := 12) (ci := 3) (fs := tc_vfs E s0 v) in_X5 rfl rfl 8 (by decide) (C.L q177) (fun _ h => h) (v := .int (s0.1 6 v 6)) rfl dX5_goOn_2 ?_
  refine lv_iconst (v := 1) C.hx C.hb dX5_goOn_5 (by decide) ?_
  refine lv_iadd C.hx C.hb dX5_goOn_6 ?_
  refine tc_put C hH hS (hH.v _ hv) (Cn := RX5) (T := TX5) (N := 12) (ci := 3) (fs := tc_vfs E s0 v) in_X5 tyX5 tyX5_ok nmX5 rfl rfl 8 (by decide) (C.L q177) (fun _ h => h) rfl (v := .int ((s0.1 6 v 6) + 1)) rfl rfl (Nat.le_of_ble_eq_true rfl) (tc_uv_sample E s0 v ((s0.1 6 v 6) + 1)) dX5_goOn_7 (fun s1 es1 H locs hH hS => ?_)
  have hk := hk s1 es1
  refine lv_aload_n C.hx C.hb dX5_goOn_10 rfl (lv_at hl 0 rfl) ?_
  refine lv_aload_n C.hx C.hb dX5_goOn_11 rfl (lv_at hl 0 rfl) ?_
  refine tc_get C hH (hH.v _ hv) (Cn := RX5) (T := TX5) (N := 12) (ci := 3) (fs := tc_vfs E s1 v) in_X5 rfl rfl 7 (by decide) (C.L q175) (fun _ h => h) (v := .int (s1.1 6 v 5)) rfl dX5_goOn_12 ?_
  refine tc_steps C hS 27 rfl dX5_goOn_15 ?_
  refine lv_aload_n C.hx C.hb dX5_goOn_18 rfl (lv_at hl 0 rfl) ?_
  refine tc_get C hH (hH.v _ hv) (Cn := RX5) (T := TX5) (N := 12) (ci := 3) (fs := tc_vfs E s1 v) in_X5 rfl rfl 5 (by decide) (C.L q172) (fun _ h => h) (v := .int (s1.1 6 v 3)) rfl dX5_goOn_19 ?_
  obtain ⟨h2, hk⟩ := hk
  refine tc_stepsAt C hS h2 dX5_goOn_22 ?_
  refine lv_iadd C.hx C.hb dX5_goOn_23 ?_
  refine lv_ldc C.hx C.hb C.hown (C.hts _ q479) dX5_goOn_24 ?_
  refine lv_irem C.hx C.hb dX5_goOn_26 (by decide) ?_
  refine tc_put C hH hS (hH.v _ hv) (Cn := RX5) (T := TX5) (N := 12) (ci := 3) (fs := tc_vfs E s1 v) in_X5 tyX5 tyX5_ok nmX5 rfl rfl 7 (by decide) (C.L q175) (fun _ h => h) rfl (v := .int (((s1.1 6 v 5) + (tc_step (s1.1 6 v 3).toNatClampNeg)) - ((s1.1 6 v 5) + (tc_step (s1.1 6 v 3).toNatClampNeg)) / 65536 * 65536)) rfl rfl (Nat.le_of_ble_eq_true rfl) (tc_uv_phase E s1 v (((s1.1 6 v 5) + (tc_step (s1.1 6 v 3).toNatClampNeg)) - ((s1.1 6 v 5) + (tc_step (s1.1 6 v 3).toNatClampNeg)) / 65536 * 65536)) dX5_goOn_27 (fun s3 es3 H locs hH hS => ?_)
  have hk := hk s3 es3
  refine lv_aload_n C.hx C.hb dX5_goOn_30 rfl (lv_at hl 0 rfl) ?_
  refine lv_aload_n C.hx C.hb dX5_goOn_31 rfl (lv_at hl 0 rfl) ?_
  refine tc_get C hH (hH.v _ hv) (Cn := RX5) (T := TX5) (N := 12) (ci := 3) (fs := tc_vfs E s3 v) in_X5 rfl rfl 2 (by decide) (C.L q168) (fun _ h => h) (v := .int (s3.1 6 v 2)) rfl dX5_goOn_32 ?_
  refine lv_if_eq (tgt := 52) C.hx C.hb dX5_goOn_35 (by decide) (fun c4 => ?_) (fun c4 => ?_)
  · have hk := hk.1 c4
    refine lv_iconst (v := 1) C.hx C.hb dX5_goOn_52 (by decide) ?_
    refine lv_goto (tgt := 57) C.hx C.hb dX5_goOn_53 (by decide) ?_
    refine tc_put C hH hS (hH.v _ hv) (Cn := RX5) (T := TX5) (N := 12) (ci := 3) (fs := tc_vfs E s3 v) in_X5 tyX5 tyX5_ok nmX5 rfl rfl 1 (by decide) (C.L q166) (fun _ h => h) rfl (v := .int 1) (by decide) (by decide) (Nat.le_of_ble_eq_true rfl) (tc_uv_playing E s3 v 1) dX5_goOn_57 (fun s5 es5 H locs hH hS => ?_)
    have hk := hk s5 es5
    exact tc_vret () rfl C hr hlk hH hS hk dX5_goOn_60
  · have hk := hk.2 c4
    refine lv_aload_n C.hx C.hb dX5_goOn_38 rfl (lv_at hl 0 rfl) ?_
    refine tc_get C hH (hH.v _ hv) (Cn := RX5) (T := TX5) (N := 12) (ci := 3) (fs := tc_vfs E s3 v) in_X5 rfl rfl 8 (by decide) (C.L q177) (fun _ h => h) (v := .int (s3.1 6 v 6)) rfl dX5_goOn_39 ?_
    refine lv_aload_n C.hx C.hb dX5_goOn_42 rfl (lv_at hl 0 rfl) ?_
    obtain ⟨q6, hq6, kq6, hk⟩ := hk
    refine tc_get C hH (hH.v _ hv) (Cn := RX5) (T := TX5) (N := 12) (ci := 3) (fs := tc_vfs E s3 v) in_X5 rfl rfl 4 (by decide) (C.L q171) (fun _ h => h) (v := .ref (ea E (12, q6))) (by simp [tc_vfs, hq6, tc_on, va_rf]) dX5_goOn_43 ?_
    refine tc_get C hH (hH.e _ kq6) (Cn := RX2) (T := TX2) (N := 4) (ci := 1) (fs := [.int (yev E q6 0), .int (yev E q6 1), .int (yev E q6 2), .int (yev E q6 3)]) in_X2 rfl rfl 3 (by decide) (C.N 26 rfl) (fun _ h => h) (v := .int (yev E q6 3)) rfl dX5_goOn_46 ?_
    refine lv_icmp_ge (tgt := 56) C.hx C.hb dX5_goOn_49 (by decide) (fun c7 => ?_) (fun c7 => ?_)
    · have hk := hk.1 c7
      refine lv_iconst (v := 0) C.hx C.hb dX5_goOn_56 (by decide) ?_
      refine tc_put C hH hS (hH.v _ hv) (Cn := RX5) (T := TX5) (N := 12) (ci := 3) (fs := tc_vfs E s3 v) in_X5 tyX5 tyX5_ok nmX5 rfl rfl 1 (by decide) (C.L q166) (fun _ h => h) rfl (v := .int 0) (by decide) (by decide) (Nat.le_of_ble_eq_true rfl) (tc_uv_playing E s3 v 0) dX5_goOn_57 (fun s8 es8 H locs hH hS => ?_)
      have hk := hk s8 es8
      exact tc_vret () rfl C hr hlk hH hS hk dX5_goOn_60
    · have hk := hk.2 c7
      refine lv_iconst (v := 1) C.hx C.hb dX5_goOn_52 (by decide) ?_
      refine lv_goto (tgt := 57) C.hx C.hb dX5_goOn_53 (by decide) ?_
      refine tc_put C hH hS (hH.v _ hv) (Cn := RX5) (T := TX5) (N := 12) (ci := 3) (fs := tc_vfs E s3 v) in_X5 tyX5 tyX5_ok nmX5 rfl rfl 1 (by decide) (C.L q166) (fun _ h => h) rfl (v := .int 1) (by decide) (by decide) (Nat.le_of_ble_eq_true rfl) (tc_uv_playing E s3 v 1) dX5_goOn_57 (fun s9 es9 H locs hH hS => ?_)
      have hk := hk s9 es9
      exact tc_vret () rfl C hr hlk hH hS hk dX5_goOn_60
/-! ToneGraph$Voice.keep()V -/
def wp_X5_keep (E : tc_E) (post : Unit → tc_S → Prop) (v : Nat) (s0 : tc_S) : Prop := (((s0.1 6 v 1) = 0 → (vp_in 0 3 ∧ (∀ s3 : tc_S, s3 = tI s0 7 v (0 : Int32).toNatClampNeg 0 → (vp_in 1 3 ∧ (∀ s5 : tc_S, s5 = tI s3 7 v (1 : Int32).toNatClampNeg (s3.1 6 v 5) → (vp_in 2 3 ∧ (∀ s7 : tc_S, s7 = tI s5 7 v (2 : Int32).toNatClampNeg (s5.1 6 v 6) → post () s7))))))) ∧ (¬ (s0.1 6 v 1) = 0 → (vp_in 0 3 ∧ (∀ s9 : tc_S, s9 = tI s0 7 v (0 : Int32).toNatClampNeg 1 → (vp_in 1 3 ∧ (∀ s11 : tc_S, s11 = tI s9 7 v (1 : Int32).toNatClampNeg (s9.1 6 v 5) → (vp_in 2 3 ∧ (∀ s13 : tc_S, s13 = tI s11 7 v (2 : Int32).toNatClampNeg (s11.1 6 v 6) → post () s13))))))))
set_option maxHeartbeats 4000000 in
theorem t_X5_keep (l : Launch) {E : tc_E} {v : Nat} (hv : v < 4) {post : Unit → tc_S → Prop} {s0 : tc_S} (hk : wp_X5_keep E post v s0) : tc_M l yX5_keep (ws_ yX5_keep cX5_keep 1 none) ({ frames := 0, cells := 0, slots := 0, locals := 0 } : Room) E [.ref (ea E (10, v))] s0 (fun _ : Unit => none) post := by
  refine tc_start cX5_keep 1 none RX5 (by decide) rfl rfl (Nat.le_of_ble_eq_true rfl) ?_
  intro p e s m args below meth c ls C hnm hr hlk hH hS hl
  have hl : lv_has ls 1 [(0, .ref (ea E (10, v)))] := hl
  unfold wp_X5_keep at hk
  refine lv_aload_n C.hx C.hb dX5_keep_0 rfl (lv_at hl 0 rfl) ?_
  refine tc_get C hH (hH.v _ hv) (Cn := RX5) (T := TX5) (N := 12) (ci := 3) (fs := tc_vfs E s0 v) in_X5 rfl rfl 11 (by decide) (C.L q181) (fun _ h => h) (v := .ref (ea E (11, v))) rfl dX5_keep_1 ?_
  refine lv_iconst (v := 0) C.hx C.hb dX5_keep_4 (by decide) ?_
  refine lv_aload_n C.hx C.hb dX5_keep_5 rfl (lv_at hl 0 rfl) ?_
  refine tc_get C hH (hH.v _ hv) (Cn := RX5) (T := TX5) (N := 12) (ci := 3) (fs := tc_vfs E s0 v) in_X5 rfl rfl 1 (by decide) (C.L q166) (fun _ h => h) (v := .int (s0.1 6 v 1)) rfl dX5_keep_6 ?_
  refine lv_if_eq (tgt := 16) C.hx C.hb dX5_keep_9 (by decide) (fun c1 => ?_) (fun c1 => ?_)
  · have hk := hk.1 c1
    refine lv_iconst (v := 0) C.hx C.hb dX5_keep_16 (by decide) ?_
    obtain ⟨h2, hk⟩ := hk
    refine tc_ast C hH hS (hH.kp _ hv) (N := 3) (f := (s0.1 7 v)) rfl h2 (tc_ua_kept E s0 v (0 : Int32).toNatClampNeg 0) dX5_keep_17 (fun s3 es3 H locs hH hS => ?_)
    have hk := hk s3 es3
    refine lv_aload_n C.hx C.hb dX5_keep_18 rfl (lv_at hl 0 rfl) ?_
    refine tc_get C hH (hH.v _ hv) (Cn := RX5) (T := TX5) (N := 12) (ci := 3) (fs := tc_vfs E s3 v) in_X5 rfl rfl 11 (by decide) (C.L q181) (fun _ h => h) (v := .ref (ea E (11, v))) rfl dX5_keep_19 ?_
    refine lv_iconst (v := 1) C.hx C.hb dX5_keep_22 (by decide) ?_
    refine lv_aload_n C.hx C.hb dX5_keep_23 rfl (lv_at hl 0 rfl) ?_
    refine tc_get C hH (hH.v _ hv) (Cn := RX5) (T := TX5) (N := 12) (ci := 3) (fs := tc_vfs E s3 v) in_X5 rfl rfl 7 (by decide) (C.L q175) (fun _ h => h) (v := .int (s3.1 6 v 5)) rfl dX5_keep_24 ?_
    obtain ⟨h4, hk⟩ := hk
    refine tc_ast C hH hS (hH.kp _ hv) (N := 3) (f := (s3.1 7 v)) rfl h4 (tc_ua_kept E s3 v (1 : Int32).toNatClampNeg (s3.1 6 v 5)) dX5_keep_27 (fun s5 es5 H locs hH hS => ?_)
    have hk := hk s5 es5
    refine lv_aload_n C.hx C.hb dX5_keep_28 rfl (lv_at hl 0 rfl) ?_
    refine tc_get C hH (hH.v _ hv) (Cn := RX5) (T := TX5) (N := 12) (ci := 3) (fs := tc_vfs E s5 v) in_X5 rfl rfl 11 (by decide) (C.L q181) (fun _ h => h) (v := .ref (ea E (11, v))) rfl dX5_keep_29 ?_
    refine lv_iconst (v := 2) C.hx C.hb dX5_keep_32 (by decide) ?_
    refine lv_aload_n C.hx C.hb dX5_keep_33 rfl (lv_at hl 0 rfl) ?_
    refine tc_get C hH (hH.v _ hv) (Cn := RX5) (T := TX5) (N := 12) (ci := 3) (fs := tc_vfs E s5 v) in_X5 rfl rfl 8 (by decide) (C.L q177) (fun _ h => h) (v := .int (s5.1 6 v 6)) rfl dX5_keep_34 ?_
    obtain ⟨h6, hk⟩ := hk
    refine tc_ast C hH hS (hH.kp _ hv) (N := 3) (f := (s5.1 7 v)) rfl h6 (tc_ua_kept E s5 v (2 : Int32).toNatClampNeg (s5.1 6 v 6)) dX5_keep_37 (fun s7 es7 H locs hH hS => ?_)
    have hk := hk s7 es7
    exact tc_vret () rfl C hr hlk hH hS hk dX5_keep_38
  · have hk := hk.2 c1
    refine lv_iconst (v := 1) C.hx C.hb dX5_keep_12 (by decide) ?_
    refine lv_goto (tgt := 17) C.hx C.hb dX5_keep_13 (by decide) ?_
    obtain ⟨h8, hk⟩ := hk
    refine tc_ast C hH hS (hH.kp _ hv) (N := 3) (f := (s0.1 7 v)) rfl h8 (tc_ua_kept E s0 v (0 : Int32).toNatClampNeg 1) dX5_keep_17 (fun s9 es9 H locs hH hS => ?_)
    have hk := hk s9 es9
    refine lv_aload_n C.hx C.hb dX5_keep_18 rfl (lv_at hl 0 rfl) ?_
    refine tc_get C hH (hH.v _ hv) (Cn := RX5) (T := TX5) (N := 12) (ci := 3) (fs := tc_vfs E s9 v) in_X5 rfl rfl 11 (by decide) (C.L q181) (fun _ h => h) (v := .ref (ea E (11, v))) rfl dX5_keep_19 ?_
    refine lv_iconst (v := 1) C.hx C.hb dX5_keep_22 (by decide) ?_
    refine lv_aload_n C.hx C.hb dX5_keep_23 rfl (lv_at hl 0 rfl) ?_
    refine tc_get C hH (hH.v _ hv) (Cn := RX5) (T := TX5) (N := 12) (ci := 3) (fs := tc_vfs E s9 v) in_X5 rfl rfl 7 (by decide) (C.L q175) (fun _ h => h) (v := .int (s9.1 6 v 5)) rfl dX5_keep_24 ?_
    obtain ⟨h10, hk⟩ := hk
    refine tc_ast C hH hS (hH.kp _ hv) (N := 3) (f := (s9.1 7 v)) rfl h10 (tc_ua_kept E s9 v (1 : Int32).toNatClampNeg (s9.1 6 v 5)) dX5_keep_27 (fun s11 es11 H locs hH hS => ?_)
    have hk := hk s11 es11
    refine lv_aload_n C.hx C.hb dX5_keep_28 rfl (lv_at hl 0 rfl) ?_
    refine tc_get C hH (hH.v _ hv) (Cn := RX5) (T := TX5) (N := 12) (ci := 3) (fs := tc_vfs E s11 v) in_X5 rfl rfl 11 (by decide) (C.L q181) (fun _ h => h) (v := .ref (ea E (11, v))) rfl dX5_keep_29 ?_
    refine lv_iconst (v := 2) C.hx C.hb dX5_keep_32 (by decide) ?_
    refine lv_aload_n C.hx C.hb dX5_keep_33 rfl (lv_at hl 0 rfl) ?_
    refine tc_get C hH (hH.v _ hv) (Cn := RX5) (T := TX5) (N := 12) (ci := 3) (fs := tc_vfs E s11 v) in_X5 rfl rfl 8 (by decide) (C.L q177) (fun _ h => h) (v := .int (s11.1 6 v 6)) rfl dX5_keep_34 ?_
    obtain ⟨h12, hk⟩ := hk
    refine tc_ast C hH hS (hH.kp _ hv) (N := 3) (f := (s11.1 7 v)) rfl h12 (tc_ua_kept E s11 v (2 : Int32).toNatClampNeg (s11.1 6 v 6)) dX5_keep_37 (fun s13 es13 H locs hH hS => ?_)
    have hk := hk s13 es13
    exact tc_vret () rfl C hr hlk hH hS hk dX5_keep_38
/-! ToneGraph$Voice.takeBack()V -/
def wp_X5_takeBack (E : tc_E) (post : Unit → tc_S → Prop) (v : Nat) (s0 : tc_S) : Prop := (vp_in 0 3 ∧ ((¬ ((s0.1 7 v) (0 : Int32).toNatClampNeg) = 1 → (∀ s3 : tc_S, s3 = tI s0 6 v 1 0 → (vp_in 1 3 ∧ (∀ s5 : tc_S, s5 = tI s3 6 v 5 ((s3.1 7 v) (1 : Int32).toNatClampNeg) → (vp_in 2 3 ∧ (∀ s7 : tc_S, s7 = tI s5 6 v 6 ((s5.1 7 v) (2 : Int32).toNatClampNeg) → post () s7)))))) ∧ (((s0.1 7 v) (0 : Int32).toNatClampNeg) = 1 → (∀ s8 : tc_S, s8 = tI s0 6 v 1 1 → (vp_in 1 3 ∧ (∀ s10 : tc_S, s10 = tI s8 6 v 5 ((s8.1 7 v) (1 : Int32).toNatClampNeg) → (vp_in 2 3 ∧ (∀ s12 : tc_S, s12 = tI s10 6 v 6 ((s10.1 7 v) (2 : Int32).toNatClampNeg) → post () s12))))))))
set_option maxHeartbeats 4000000 in
theorem t_X5_takeBack (l : Launch) {E : tc_E} {v : Nat} (hv : v < 4) {post : Unit → tc_S → Prop} {s0 : tc_S} (hk : wp_X5_takeBack E post v s0) : tc_M l yX5_takeBack (ws_ yX5_takeBack cX5_takeBack 1 none) ({ frames := 0, cells := 0, slots := 0, locals := 0 } : Room) E [.ref (ea E (10, v))] s0 (fun _ : Unit => none) post := by
  refine tc_start cX5_takeBack 1 none RX5 (by decide) rfl rfl (Nat.le_of_ble_eq_true rfl) ?_
  intro p e s m args below meth c ls C hnm hr hlk hH hS hl
  have hl : lv_has ls 1 [(0, .ref (ea E (10, v)))] := hl
  unfold wp_X5_takeBack at hk
  refine lv_aload_n C.hx C.hb dX5_takeBack_0 rfl (lv_at hl 0 rfl) ?_
  refine lv_aload_n C.hx C.hb dX5_takeBack_1 rfl (lv_at hl 0 rfl) ?_
  refine tc_get C hH (hH.v _ hv) (Cn := RX5) (T := TX5) (N := 12) (ci := 3) (fs := tc_vfs E s0 v) in_X5 rfl rfl 11 (by decide) (C.L q181) (fun _ h => h) (v := .ref (ea E (11, v))) rfl dX5_takeBack_2 ?_
  refine lv_iconst (v := 0) C.hx C.hb dX5_takeBack_5 (by decide) ?_
  obtain ⟨h1, hk⟩ := hk
  refine tc_ald C hH (hH.kp _ hv) (N := 3) (f := (s0.1 7 v)) rfl h1 dX5_takeBack_6 ?_
  refine lv_iconst (v := 1) C.hx C.hb dX5_takeBack_7 (by decide) ?_
  refine lv_icmp_ne (tgt := 15) C.hx C.hb dX5_takeBack_8 (by decide) (fun c2 => ?_) (fun c2 => ?_)
  · have hk := hk.1 c2
    refine lv_iconst (v := 0) C.hx C.hb dX5_takeBack_15 (by decide) ?_
    refine tc_put C hH hS (hH.v _ hv) (Cn := RX5) (T := TX5) (N := 12) (ci := 3) (fs := tc_vfs E s0 v) in_X5 tyX5 tyX5_ok nmX5 rfl rfl 1 (by decide) (C.L q166) (fun _ h => h) rfl (v := .int 0) (by decide) (by decide) (Nat.le_of_ble_eq_true rfl) (tc_uv_playing E s0 v 0) dX5_takeBack_16 (fun s3 es3 H locs hH hS => ?_)
    have hk := hk s3 es3
    refine lv_aload_n C.hx C.hb dX5_takeBack_19 rfl (lv_at hl 0 rfl) ?_
    refine lv_aload_n C.hx C.hb dX5_takeBack_20 rfl (lv_at hl 0 rfl) ?_
    refine tc_get C hH (hH.v _ hv) (Cn := RX5) (T := TX5) (N := 12) (ci := 3) (fs := tc_vfs E s3 v) in_X5 rfl rfl 11 (by decide) (C.L q181) (fun _ h => h) (v := .ref (ea E (11, v))) rfl dX5_takeBack_21 ?_
    refine lv_iconst (v := 1) C.hx C.hb dX5_takeBack_24 (by decide) ?_
    obtain ⟨h4, hk⟩ := hk
    refine tc_ald C hH (hH.kp _ hv) (N := 3) (f := (s3.1 7 v)) rfl h4 dX5_takeBack_25 ?_
    refine tc_put C hH hS (hH.v _ hv) (Cn := RX5) (T := TX5) (N := 12) (ci := 3) (fs := tc_vfs E s3 v) in_X5 tyX5 tyX5_ok nmX5 rfl rfl 7 (by decide) (C.L q175) (fun _ h => h) rfl (v := .int ((s3.1 7 v) (1 : Int32).toNatClampNeg)) rfl rfl (Nat.le_of_ble_eq_true rfl) (tc_uv_phase E s3 v ((s3.1 7 v) (1 : Int32).toNatClampNeg)) dX5_takeBack_26 (fun s5 es5 H locs hH hS => ?_)
    have hk := hk s5 es5
    refine lv_aload_n C.hx C.hb dX5_takeBack_29 rfl (lv_at hl 0 rfl) ?_
    refine lv_aload_n C.hx C.hb dX5_takeBack_30 rfl (lv_at hl 0 rfl) ?_
    refine tc_get C hH (hH.v _ hv) (Cn := RX5) (T := TX5) (N := 12) (ci := 3) (fs := tc_vfs E s5 v) in_X5 rfl rfl 11 (by decide) (C.L q181) (fun _ h => h) (v := .ref (ea E (11, v))) rfl dX5_takeBack_31 ?_
    refine lv_iconst (v := 2) C.hx C.hb dX5_takeBack_34 (by decide) ?_
    obtain ⟨h6, hk⟩ := hk
    refine tc_ald C hH (hH.kp _ hv) (N := 3) (f := (s5.1 7 v)) rfl h6 dX5_takeBack_35 ?_
    refine tc_put C hH hS (hH.v _ hv) (Cn := RX5) (T := TX5) (N := 12) (ci := 3) (fs := tc_vfs E s5 v) in_X5 tyX5 tyX5_ok nmX5 rfl rfl 8 (by decide) (C.L q177) (fun _ h => h) rfl (v := .int ((s5.1 7 v) (2 : Int32).toNatClampNeg)) rfl rfl (Nat.le_of_ble_eq_true rfl) (tc_uv_sample E s5 v ((s5.1 7 v) (2 : Int32).toNatClampNeg)) dX5_takeBack_36 (fun s7 es7 H locs hH hS => ?_)
    have hk := hk s7 es7
    exact tc_vret () rfl C hr hlk hH hS hk dX5_takeBack_39
  · have hk := hk.2 c2
    refine lv_iconst (v := 1) C.hx C.hb dX5_takeBack_11 (by decide) ?_
    refine lv_goto (tgt := 16) C.hx C.hb dX5_takeBack_12 (by decide) ?_
    refine tc_put C hH hS (hH.v _ hv) (Cn := RX5) (T := TX5) (N := 12) (ci := 3) (fs := tc_vfs E s0 v) in_X5 tyX5 tyX5_ok nmX5 rfl rfl 1 (by decide) (C.L q166) (fun _ h => h) rfl (v := .int 1) (by decide) (by decide) (Nat.le_of_ble_eq_true rfl) (tc_uv_playing E s0 v 1) dX5_takeBack_16 (fun s8 es8 H locs hH hS => ?_)
    have hk := hk s8 es8
    refine lv_aload_n C.hx C.hb dX5_takeBack_19 rfl (lv_at hl 0 rfl) ?_
    refine lv_aload_n C.hx C.hb dX5_takeBack_20 rfl (lv_at hl 0 rfl) ?_
    refine tc_get C hH (hH.v _ hv) (Cn := RX5) (T := TX5) (N := 12) (ci := 3) (fs := tc_vfs E s8 v) in_X5 rfl rfl 11 (by decide) (C.L q181) (fun _ h => h) (v := .ref (ea E (11, v))) rfl dX5_takeBack_21 ?_
    refine lv_iconst (v := 1) C.hx C.hb dX5_takeBack_24 (by decide) ?_
    obtain ⟨h9, hk⟩ := hk
    refine tc_ald C hH (hH.kp _ hv) (N := 3) (f := (s8.1 7 v)) rfl h9 dX5_takeBack_25 ?_
    refine tc_put C hH hS (hH.v _ hv) (Cn := RX5) (T := TX5) (N := 12) (ci := 3) (fs := tc_vfs E s8 v) in_X5 tyX5 tyX5_ok nmX5 rfl rfl 7 (by decide) (C.L q175) (fun _ h => h) rfl (v := .int ((s8.1 7 v) (1 : Int32).toNatClampNeg)) rfl rfl (Nat.le_of_ble_eq_true rfl) (tc_uv_phase E s8 v ((s8.1 7 v) (1 : Int32).toNatClampNeg)) dX5_takeBack_26 (fun s10 es10 H locs hH hS => ?_)
    have hk := hk s10 es10
    refine lv_aload_n C.hx C.hb dX5_takeBack_29 rfl (lv_at hl 0 rfl) ?_
    refine lv_aload_n C.hx C.hb dX5_takeBack_30 rfl (lv_at hl 0 rfl) ?_
    refine tc_get C hH (hH.v _ hv) (Cn := RX5) (T := TX5) (N := 12) (ci := 3) (fs := tc_vfs E s10 v) in_X5 rfl rfl 11 (by decide) (C.L q181) (fun _ h => h) (v := .ref (ea E (11, v))) rfl dX5_takeBack_31 ?_
    refine lv_iconst (v := 2) C.hx C.hb dX5_takeBack_34 (by decide) ?_
    obtain ⟨h11, hk⟩ := hk
    refine tc_ald C hH (hH.kp _ hv) (N := 3) (f := (s10.1 7 v)) rfl h11 dX5_takeBack_35 ?_
    refine tc_put C hH hS (hH.v _ hv) (Cn := RX5) (T := TX5) (N := 12) (ci := 3) (fs := tc_vfs E s10 v) in_X5 tyX5 tyX5_ok nmX5 rfl rfl 8 (by decide) (C.L q177) (fun _ h => h) rfl (v := .int ((s10.1 7 v) (2 : Int32).toNatClampNeg)) rfl rfl (Nat.le_of_ble_eq_true rfl) (tc_uv_sample E s10 v ((s10.1 7 v) (2 : Int32).toNatClampNeg)) dX5_takeBack_36 (fun s12 es12 H locs hH hS => ?_)
    have hk := hk s12 es12
    exact tc_vret () rfl C hr hlk hH hS hk dX5_takeBack_39
/-! ToneGraph$Voice.begin(IILToneGraph$Wave;LToneGraph$Envelope;J)V -/
def wp_X5_begin (E : tc_E) (post : Unit → tc_S → Prop) (v : Nat) (a : Nat) (b : Nat) (p1 : Int32) (p2 : Int32) (p5 : Int64) (s0 : tc_S) : Prop := (∀ s1 : tc_S, s1 = tI s0 6 v 1 1 → (∀ s2 : tc_S, s2 = tI s1 6 v 2 0 → (∀ s3 : tc_S, s3 = tI s2 6 v 3 p1 → (∀ s4 : tc_S, s4 = tI s3 6 v 4 p2 → (∀ s5 : tc_S, s5 = tP s4 3 v 1 (a + 1) → (∀ s6 : tc_S, s6 = tP s5 3 v 0 (b + 1) → (∀ s7 : tc_S, s7 = tI s6 6 v 5 0 → (∀ s8 : tc_S, s8 = tI s7 6 v 6 0 → (∀ s9 : tc_S, s9 = tL s8 (3 + v) p5 → post () s9)))))))))
set_option maxHeartbeats 4000000 in
theorem t_X5_begin (l : Launch) {E : tc_E} {v : Nat} {a : Nat} {b : Nat} (hv : v < 4) (hb0 : b < yne E) {post : Unit → tc_S → Prop} {p1 : Int32} {p2 : Int32} {p5 : Int64} {s0 : tc_S} (hk : wp_X5_begin E post v a b p1 p2 p5 s0) : tc_M l yX5_begin (ws_ yX5_begin cX5_begin 7 none) ({ frames := 0, cells := 0, slots := 0, locals := 0 } : Room) E [.ref (ea E (10, v)), .int p1, .int p2, .ref (es E (a + 2)), .ref (ea E (12, b)), .long p5] s0 (fun _ : Unit => none) post := by
  refine tc_start cX5_begin 7 none RX5 (by decide) rfl rfl (Nat.le_of_ble_eq_true rfl) ?_
  intro p e s m args below meth c ls C hnm hr hlk hH hS hl
  have hl : lv_has ls 7 [(0, .ref (ea E (10, v))), (1, .int p1), (2, .int p2), (3, .ref (es E (a + 2))), (4, .ref (ea E (12, b))), (5, .long p5)] := hl
  unfold wp_X5_begin at hk
  refine lv_aload_n C.hx C.hb dX5_begin_0 rfl (lv_at hl 0 rfl) ?_
  refine lv_iconst (v := 1) C.hx C.hb dX5_begin_1 (by decide) ?_
  refine tc_put C hH hS (hH.v _ hv) (Cn := RX5) (T := TX5) (N := 12) (ci := 3) (fs := tc_vfs E s0 v) in_X5 tyX5 tyX5_ok nmX5 rfl rfl 1 (by decide) (C.L q166) (fun _ h => h) rfl (v := .int 1) (by decide) (by decide) (Nat.le_of_ble_eq_true rfl) (tc_uv_playing E s0 v 1) dX5_begin_2 (fun s1 es1 H locs hH hS => ?_)
  have hk := hk s1 es1
  refine lv_aload_n C.hx C.hb dX5_begin_5 rfl (lv_at hl 0 rfl) ?_
  refine lv_iconst (v := 0) C.hx C.hb dX5_begin_6 (by decide) ?_
  refine tc_put C hH hS (hH.v _ hv) (Cn := RX5) (T := TX5) (N := 12) (ci := 3) (fs := tc_vfs E s1 v) in_X5 tyX5 tyX5_ok nmX5 rfl rfl 2 (by decide) (C.L q168) (fun _ h => h) rfl (v := .int 0) (by decide) (by decide) (Nat.le_of_ble_eq_true rfl) (tc_uv_released E s1 v 0) dX5_begin_7 (fun s2 es2 H locs hH hS => ?_)
  have hk := hk s2 es2
  refine lv_aload_n C.hx C.hb dX5_begin_10 rfl (lv_at hl 0 rfl) ?_
  refine lv_iload_n C.hx C.hb dX5_begin_11 rfl (lv_at hl 1 rfl) ?_
  refine tc_put C hH hS (hH.v _ hv) (Cn := RX5) (T := TX5) (N := 12) (ci := 3) (fs := tc_vfs E s2 v) in_X5 tyX5 tyX5_ok nmX5 rfl rfl 5 (by decide) (C.L q172) (fun _ h => h) rfl (v := .int p1) rfl rfl (Nat.le_of_ble_eq_true rfl) (tc_uv_key E s2 v p1) dX5_begin_12 (fun s3 es3 H locs hH hS => ?_)
  have hk := hk s3 es3
  refine lv_aload_n C.hx C.hb dX5_begin_15 rfl (lv_at hl 0 rfl) ?_
  refine lv_iload_n C.hx C.hb dX5_begin_16 rfl (lv_at hl 2 rfl) ?_
  refine tc_put C hH hS (hH.v _ hv) (Cn := RX5) (T := TX5) (N := 12) (ci := 3) (fs := tc_vfs E s3 v) in_X5 tyX5 tyX5_ok nmX5 rfl rfl 6 (by decide) (C.L q174) (fun _ h => h) rfl (v := .int p2) rfl rfl (Nat.le_of_ble_eq_true rfl) (tc_uv_velocity E s3 v p2) dX5_begin_17 (fun s4 es4 H locs hH hS => ?_)
  have hk := hk s4 es4
  refine lv_aload_n C.hx C.hb dX5_begin_20 rfl (lv_at hl 0 rfl) ?_
  refine lv_aload_n C.hx C.hb dX5_begin_21 rfl (lv_at hl 3 rfl) ?_
  refine tc_put C hH hS (hH.v _ hv) (Cn := RX5) (T := TX5) (N := 12) (ci := 3) (fs := tc_vfs E s4 v) in_X5 tyX5 tyX5_ok nmX5 rfl rfl 3 (by decide) (C.L q170) (fun _ h => h) rfl (v := .ref (es E (a + 2))) rfl rfl (Nat.le_of_ble_eq_true rfl) (tc_uv_wave E s4 v a) dX5_begin_22 (fun s5 es5 H locs hH hS => ?_)
  have hk := hk s5 es5
  refine lv_aload_n C.hx C.hb dX5_begin_25 rfl (lv_at hl 0 rfl) ?_
  refine lv_aload C.hx C.hb dX5_begin_26 (lv_at hl 4 rfl) ?_
  refine tc_put C hH hS (hH.v _ hv) (Cn := RX5) (T := TX5) (N := 12) (ci := 3) (fs := tc_vfs E s5 v) in_X5 tyX5 tyX5_ok nmX5 rfl rfl 4 (by decide) (C.L q171) (fun _ h => h) rfl (v := .ref (ea E (12, b))) rfl rfl (Nat.le_of_ble_eq_true rfl) (tc_uv_envelope E s5 v b) dX5_begin_28 (fun s6 es6 H locs hH hS => ?_)
  have hk := hk s6 es6
  refine lv_aload_n C.hx C.hb dX5_begin_31 rfl (lv_at hl 0 rfl) ?_
  refine lv_iconst (v := 0) C.hx C.hb dX5_begin_32 (by decide) ?_
  refine tc_put C hH hS (hH.v _ hv) (Cn := RX5) (T := TX5) (N := 12) (ci := 3) (fs := tc_vfs E s6 v) in_X5 tyX5 tyX5_ok nmX5 rfl rfl 7 (by decide) (C.L q175) (fun _ h => h) rfl (v := .int 0) rfl rfl (Nat.le_of_ble_eq_true rfl) (tc_uv_phase E s6 v 0) dX5_begin_33 (fun s7 es7 H locs hH hS => ?_)
  have hk := hk s7 es7
  refine lv_aload_n C.hx C.hb dX5_begin_36 rfl (lv_at hl 0 rfl) ?_
  refine lv_iconst (v := 0) C.hx C.hb dX5_begin_37 (by decide) ?_
  refine tc_put C hH hS (hH.v _ hv) (Cn := RX5) (T := TX5) (N := 12) (ci := 3) (fs := tc_vfs E s7 v) in_X5 tyX5 tyX5_ok nmX5 rfl rfl 8 (by decide) (C.L q177) (fun _ h => h) rfl (v := .int 0) rfl rfl (Nat.le_of_ble_eq_true rfl) (tc_uv_sample E s7 v 0) dX5_begin_38 (fun s8 es8 H locs hH hS => ?_)
  have hk := hk s8 es8
  refine lv_aload_n C.hx C.hb dX5_begin_41 rfl (lv_at hl 0 rfl) ?_
  refine lv_lload C.hx C.hb dX5_begin_42 (lv_at hl 5 rfl) ?_
  refine tc_put C hH hS (hH.v _ hv) (Cn := RX5) (T := TX5) (N := 12) (ci := 3) (fs := tc_vfs E s8 v) in_X5 tyX5 tyX5_ok nmX5 rfl rfl 10 (by decide) (C.L q179) (fun _ h => h) rfl (v := .long p5) rfl rfl (Nat.le_of_ble_eq_true rfl) (tc_uv_turn E s8 v p5) dX5_begin_44 (fun s9 es9 H locs hH hS => ?_)
  have hk := hk s9 es9
  exact tc_vret () rfl C hr hlk hH hS hk dX5_begin_47
/-! ToneGraph.lambda$voiceForNote$3(LToneGraph$Voice;)Z -/
def wp_X1_lambda_voiceForNote_3 (E : tc_E) (post : Int32 → tc_S → Prop) (v : Nat) (s0 : tc_S) : Prop := (narrow .boolean (.int (s0.1 6 v 2)) = .int (s0.1 6 v 2) ∧ post (s0.1 6 v 2) s0)
set_option maxHeartbeats 4000000 in
theorem t_X1_lambda_voiceForNote_3 (l : Launch) {E : tc_E} {v : Nat} (hv : v < 4) {post : Int32 → tc_S → Prop} {s0 : tc_S} (hk : wp_X1_lambda_voiceForNote_3 E post v s0) : tc_R l yX1_lambda_voiceForNote_3 (ws_ yX1_lambda_voiceForNote_3 cX1_lambda_voiceForNote_3 1 (some .boolean)) ({ frames := 0, cells := 0, slots := 0, locals := 0 } : Room) E [.ref (ea E (10, v))] s0 (fun _ _ => True) (fun r : Int32 => some (.int r)) post := by
  refine tc_startR cX1_lambda_voiceForNote_3 1 (some .boolean) RX1 (by decide) rfl rfl (Nat.le_of_ble_eq_true rfl) ?_
  intro p e s m args below meth c ls C hz hnm hr hlk hH hS hl
  have hl : lv_has ls 1 [(0, .ref (ea E (10, v)))] := hl
  unfold wp_X1_lambda_voiceForNote_3 at hk
  refine lv_aload_n C.hx C.hb dX1_lambda_voiceForNote_3_0 rfl (lv_at hl 0 rfl) ?_
  refine tc_get C hH (hH.v _ hv) (Cn := RX5) (T := TX5) (N := 12) (ci := 3) (fs := tc_vfs E s0 v) in_X5 rfl rfl 2 (by decide) (C.N 13 rfl) (fun _ h => h) (v := .int (s0.1 6 v 2)) rfl dX1_lambda_voiceForNote_3_1 ?_
  obtain ⟨h1, hk⟩ := hk
  exact tc_zretR (ty := .boolean) (s0.1 6 v 2) rfl C hr hlk h1 hH hS hk dX1_lambda_voiceForNote_3_4
/-! ToneGraph.lambda$voiceForNote$4(LToneGraph$Voice;)Z -/
def wp_X1_lambda_voiceForNote_4 (E : tc_E) (post : Int32 → tc_S → Prop) (v : Nat) (s0 : tc_S) : Prop := post 1 s0
set_option maxHeartbeats 4000000 in
theorem t_X1_lambda_voiceForNote_4 (l : Launch) {E : tc_E} {v : Nat} (hv : v < 4) {post : Int32 → tc_S → Prop} {s0 : tc_S} (hk : wp_X1_lambda_voiceForNote_4 E post v s0) : tc_R l yX1_lambda_voiceForNote_4 (ws_ yX1_lambda_voiceForNote_4 cX1_lambda_voiceForNote_4 1 (some .boolean)) ({ frames := 0, cells := 0, slots := 0, locals := 0 } : Room) E [.ref (ea E (10, v))] s0 (fun _ _ => True) (fun r : Int32 => some (.int r)) post := by
  refine tc_startR cX1_lambda_voiceForNote_4 1 (some .boolean) RX1 (by decide) rfl rfl (Nat.le_of_ble_eq_true rfl) ?_
  intro p e s m args below meth c ls C hz hnm hr hlk hH hS hl
  have hl : lv_has ls 1 [(0, .ref (ea E (10, v)))] := hl
  unfold wp_X1_lambda_voiceForNote_4 at hk
  refine lv_iconst (v := 1) C.hx C.hb dX1_lambda_voiceForNote_4_0 (by decide) ?_
  exact tc_zretR (ty := .boolean) 1 rfl C hr hlk (by decide) hH hS hk dX1_lambda_voiceForNote_4_1
/-! ToneGraph.lambda$end$5(ILToneGraph$Voice;)Z -/
def wp_X1_lambda_end_5 (E : tc_E) (post : Int32 → tc_S → Prop) (v : Nat) (p1 : Int32) (s0 : tc_S) : Prop := (((s0.1 6 v 1) = 0 → post 0 s0) ∧ (¬ (s0.1 6 v 1) = 0 → ((¬ (s0.1 6 v 2) = 0 → post 0 s0) ∧ ((s0.1 6 v 2) = 0 → ((¬ (s0.1 6 v 3) = p1 → post 0 s0) ∧ ((s0.1 6 v 3) = p1 → post 1 s0))))))
set_option maxHeartbeats 4000000 in
theorem t_X1_lambda_end_5 (l : Launch) {E : tc_E} {v : Nat} (hv : v < 4) {post : Int32 → tc_S → Prop} {p1 : Int32} {s0 : tc_S} (hk : wp_X1_lambda_end_5 E post v p1 s0) : tc_R l yX1_lambda_end_5 (ws_ yX1_lambda_end_5 cX1_lambda_end_5 2 (some .boolean)) ({ frames := 0, cells := 0, slots := 0, locals := 0 } : Room) E [.int p1, .ref (ea E (10, v))] s0 (fun _ _ => True) (fun r : Int32 => some (.int r)) post := by
  refine tc_startR cX1_lambda_end_5 2 (some .boolean) RX1 (by decide) rfl rfl (Nat.le_of_ble_eq_true rfl) ?_
  intro p e s m args below meth c ls C hz hnm hr hlk hH hS hl
  have hl : lv_has ls 2 [(0, .int p1), (1, .ref (ea E (10, v)))] := hl
  unfold wp_X1_lambda_end_5 at hk
  refine lv_aload_n C.hx C.hb dX1_lambda_end_5_0 rfl (lv_at hl 1 rfl) ?_
  refine tc_get C hH (hH.v _ hv) (Cn := RX5) (T := TX5) (N := 12) (ci := 3) (fs := tc_vfs E s0 v) in_X5 rfl rfl 1 (by decide) (C.N 11 rfl) (fun _ h => h) (v := .int (s0.1 6 v 1)) rfl dX1_lambda_end_5_1 ?_
  refine lv_if_eq (tgt := 26) C.hx C.hb dX1_lambda_end_5_4 (by decide) (fun c1 => ?_) (fun c1 => ?_)
  · have hk := hk.1 c1
    refine lv_iconst (v := 0) C.hx C.hb dX1_lambda_end_5_26 (by decide) ?_
    exact tc_zretR (ty := .boolean) 0 rfl C hr hlk (by decide) hH hS hk dX1_lambda_end_5_27
  · have hk := hk.2 c1
    refine lv_aload_n C.hx C.hb dX1_lambda_end_5_7 rfl (lv_at hl 1 rfl) ?_
    refine tc_get C hH (hH.v _ hv) (Cn := RX5) (T := TX5) (N := 12) (ci := 3) (fs := tc_vfs E s0 v) in_X5 rfl rfl 2 (by decide) (C.N 13 rfl) (fun _ h => h) (v := .int (s0.1 6 v 2)) rfl dX1_lambda_end_5_8 ?_
    refine lv_if_ne (tgt := 26) C.hx C.hb dX1_lambda_end_5_11 (by decide) (fun c2 => ?_) (fun c2 => ?_)
    · have hk := hk.1 c2
      refine lv_iconst (v := 0) C.hx C.hb dX1_lambda_end_5_26 (by decide) ?_
      exact tc_zretR (ty := .boolean) 0 rfl C hr hlk (by decide) hH hS hk dX1_lambda_end_5_27
    · have hk := hk.2 c2
      refine lv_aload_n C.hx C.hb dX1_lambda_end_5_14 rfl (lv_at hl 1 rfl) ?_
      refine tc_get C hH (hH.v _ hv) (Cn := RX5) (T := TX5) (N := 12) (ci := 3) (fs := tc_vfs E s0 v) in_X5 rfl rfl 5 (by decide) (C.N 14 rfl) (fun _ h => h) (v := .int (s0.1 6 v 3)) rfl dX1_lambda_end_5_15 ?_
      refine lv_iload_n C.hx C.hb dX1_lambda_end_5_18 rfl (lv_at hl 0 rfl) ?_
      refine lv_icmp_ne (tgt := 26) C.hx C.hb dX1_lambda_end_5_19 (by decide) (fun c3 => ?_) (fun c3 => ?_)
      · have hk := hk.1 c3
        refine lv_iconst (v := 0) C.hx C.hb dX1_lambda_end_5_26 (by decide) ?_
        exact tc_zretR (ty := .boolean) 0 rfl C hr hlk (by decide) hH hS hk dX1_lambda_end_5_27
      · have hk := hk.2 c3
        refine lv_iconst (v := 1) C.hx C.hb dX1_lambda_end_5_22 (by decide) ?_
        refine lv_goto (tgt := 27) C.hx C.hb dX1_lambda_end_5_23 (by decide) ?_
        exact tc_zretR (ty := .boolean) 1 rfl C hr hlk (by decide) hH hS hk dX1_lambda_end_5_27

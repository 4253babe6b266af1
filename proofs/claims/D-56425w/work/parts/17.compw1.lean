/-! the component's methods: wp and walk, by program (gen/decc.py) -/
set_option maxRecDepth 100000
/-! java/util/ArrayList.size()I -/
def wp_J2_size (E : tc_E) (post : Int32 → tc_S → Prop) (x : Nat) (s0 : tc_S) : Prop := post (s0.1 11 x 1) s0
set_option maxHeartbeats 4000000 in
theorem t_J2_size (l : Launch) {E : tc_E} {x : Nat} (hx : x < yn E + 2) {post : Int32 → tc_S → Prop} {s0 : tc_S} (hk : wp_J2_size E post x s0) : tc_M l yJ2_size (ws_ yJ2_size cJ2_size 1 (some .int)) ({ frames := 0, cells := 0, slots := 0, locals := 0 } : Room) E [.ref (ea E (2, x))] s0 (fun r : Int32 => some (.int r)) post := by
  refine tc_start cJ2_size 1 (some .int) RJ2 (by decide) rfl rfl (Nat.le_of_ble_eq_true rfl) ?_
  intro p e s m args below meth c ls C hnm hr hlk hH hS hl
  have hl : lv_has ls 1 [(0, .ref (ea E (2, x)))] := hl
  unfold wp_J2_size at hk
  refine lv_aload_n C.hx C.hb dJ2_size_0 rfl (lv_at hl 0 rfl) ?_
  refine tc_get C hH (hH.l _ hx) (Cn := RJ2) (T := TJ2) (N := 3) (ci := 9) (fs := tc_lfs E s0 x) in_J2 rfl rfl 2 (by decide) (C.L q107) (fun _ h => h) (v := .int (s0.1 11 x 1)) rfl dJ2_size_1 ?_
  exact tc_iret (s0.1 11 x 1) rfl C hr hlk hH hS hk dJ2_size_4
/-! java/util/ArrayList.elementData(I)Ljava/lang/Object; -/
def wp_J2_elementData (E : tc_E) (post : Nat → tc_S → Prop) (x : Nat) (p1 : Int32) (s0 : tc_S) : Prop := (vp_in p1 10 ∧ (∃ q2 : Nat, s0.2.1 2 x p1.toNatClampNeg = q2 + 1 ∧ post q2 s0))
set_option maxHeartbeats 4000000 in
theorem t_J2_elementData (l : Launch) {E : tc_E} {x : Nat} (hx : x < yn E + 2) (hg : ygr E x = true) {post : Nat → tc_S → Prop} {p1 : Int32} {s0 : tc_S} (hk : wp_J2_elementData E post x p1 s0) : tc_M l yJ2_elementData (ws_ yJ2_elementData cJ2_elementData 2 (some (.object "java/lang/Object"))) ({ frames := 0, cells := 0, slots := 0, locals := 0 } : Room) E [.ref (ea E (2, x)), .int p1] s0 (fun k : Nat => some (.ref (ea E (tc_tk x, k)))) post := by
  refine tc_start cJ2_elementData 2 (some (.object "java/lang/Object")) RJ2 (by decide) rfl rfl (Nat.le_of_ble_eq_true rfl) ?_
  intro p e s m args below meth c ls C hnm hr hlk hH hS hl
  have hl : lv_has ls 2 [(0, .ref (ea E (2, x))), (1, .int p1)] := hl
  unfold wp_J2_elementData at hk
  refine lv_aload_n C.hx C.hb dJ2_elementData_0 rfl (lv_at hl 0 rfl) ?_
  refine tc_get C hH (hH.l _ hx) (Cn := RJ2) (T := TJ2) (N := 3) (ci := 9) (fs := tc_lfs E s0 x) in_J2 rfl rfl 1 (by decide) (C.L q106) (fun _ h => h) (v := .ref (ea E (3, x))) (tc_lg hg) dJ2_elementData_1 ?_
  refine lv_iload_n C.hx C.hb dJ2_elementData_4 rfl (lv_at hl 1 rfl) ?_
  obtain ⟨h1, hk⟩ := hk
  obtain ⟨q2, hq2, hk⟩ := hk
  refine tc_aaldL C hH hx hg h1 hq2 dJ2_elementData_5 ?_
  exact tc_aret q2 rfl (Or.inr ⟨_, rfl⟩) C hr hlk hH hS hk dJ2_elementData_6
/-! java/util/ArrayList.get(I)Ljava/lang/Object; -/
def wp_J2_get (E : tc_E) (post : Nat → tc_S → Prop) (x : Nat) (p1 : Int32) (s0 : tc_S) : Prop := wp_J11_checkIndex (fun r1 => wp_J2_elementData E (fun r2 s3 => post r2 s3) x p1 s0) p1 (s0.1 11 x 1)
set_option maxHeartbeats 4000000 in
theorem t_J2_get (l : Launch) {E : tc_E} {x : Nat} (hx : x < yn E + 2) (hg : ygr E x = true) {post : Nat → tc_S → Prop} {p1 : Int32} {s0 : tc_S} (hk : wp_J2_get E post x p1 s0) : tc_M l yJ2_get (ws_ yJ2_get cJ2_get 2 (some (.object "java/lang/Object"))) ({ frames := 2, cells := 0, slots := 0, locals := 43 } : Room) E [.ref (ea E (2, x)), .int p1] s0 (fun k : Nat => some (.ref (ea E (tc_tk x, k)))) post := by
  refine tc_start cJ2_get 2 (some (.object "java/lang/Object")) RJ2 (by decide) rfl rfl (Nat.le_of_ble_eq_true rfl) ?_
  intro p e s m args below meth c ls C hnm hr hlk hH hS hl
  have hl : lv_has ls 2 [(0, .ref (ea E (2, x))), (1, .int p1)] := hl
  unfold wp_J2_get at hk
  refine lv_iload_n C.hx C.hb dJ2_get_0 rfl (lv_at hl 1 rfl) ?_
  refine lv_aload_n C.hx C.hb dJ2_get_1 rfl (lv_at hl 0 rfl) ?_
  refine tc_get C hH (hH.l _ hx) (Cn := RJ2) (T := TJ2) (N := 3) (ci := 9) (fs := tc_lfs E s0 x) in_J2 rfl rfl 2 (by decide) (C.L q107) (fun _ h => h) (v := .int (s0.1 11 x 1)) rfl dJ2_get_2 ?_
  refine gb_call (As := [.int p1, .int (s0.1 11 x 1)]) (rest := []) C.1 (t_J11_checkIndex l hk) (va_cwS 2 C.hts (lw_S q372 q373 q72 q374) rfl rfl rfl (by decide +kernel) ⟨Nat.le_of_ble_eq_true rfl, Nat.le_of_ble_eq_true rfl⟩) rfl hl.1 rfl (lv_room (Nat.le_of_ble_eq_true rfl)) dJ2_get_5 ⟨Nat.le_of_ble_eq_true rfl, Nat.le_of_ble_eq_true rfl⟩ (fun r1 hk => ?_)
  refine lv_pop C.hx C.hb dJ2_get_8 rfl ?_
  refine lv_aload_n C.hx C.hb dJ2_get_9 rfl (lv_at hl 0 rfl) ?_
  refine lv_iload_n C.hx C.hb dJ2_get_10 rfl (lv_at hl 1 rfl) ?_
  refine tc_run (tc_rV (As := [.int p1]) (rest := []) (L := (2, x)) (ci := 9) (fs := tc_lfs E s0 x) (q := (RJ2, TJ2, 3)) C (hH.l _ hx) rfl rfl (t_J2_elementData l hx hg hk) (cwV 1 C.hts (lw_V q378 q379 q380 q56 q381) rfl rfl rfl (by decide +kernel) ⟨Nat.le_of_ble_eq_true rfl, Nat.le_of_ble_eq_true rfl⟩) hH hS rfl hl.1 rfl (lv_room (Nat.le_of_ble_eq_true rfl)) dJ2_get_11 ⟨Nat.le_of_ble_eq_true rfl, Nat.le_of_ble_eq_true rfl⟩) hS (fun r2 s3 H locs hk hH hS => ?_)
  refine W.eq (g2 := F0 m 14 ls [.ref (ea E (tc_tk x, r2))]) rfl ?_
  exact tc_aret r2 rfl (Or.inr ⟨_, rfl⟩) C hr hlk hH hS hk dJ2_get_14
/-! java/util/ArrayList.add(Ljava/lang/Object;[Ljava/lang/Object;I)V -/
def wp_J2_add_2N (E : tc_E) (post : Unit → tc_S → Prop) (x : Nat) (j : Nat) (p3 : Int32) (s0 : tc_S) : Prop := ((¬ p3 = 10 → (vp_in p3 10 ∧ (∀ s3 : tc_S, s3 = tP s0 2 x p3.toNatClampNeg (j + 1) → (∀ s4 : tc_S, s4 = tI s3 11 x 1 (p3 + 1) → post () s4)))) ∧ (p3 = 10 → False))
set_option maxHeartbeats 4000000 in
theorem t_J2_add_2N (l : Launch) {E : tc_E} {x : Nat} {j : Nat} (hx : x < yn E + 2) (hg : ygr E x = true) (hx2 : tc_tk x = 1) (hj : j < yn E) {post : Unit → tc_S → Prop} {p3 : Int32} {s0 : tc_S} (hk : wp_J2_add_2N E post x j p3 s0) : tc_M l yJ2_add_2 (ws_ yJ2_add_2 cJ2_add_2 4 none) ({ frames := 0, cells := 0, slots := 0, locals := 0 } : Room) E [.ref (ea E (2, x)), .ref (ea E (1, j)), .ref (ea E (3, x)), .int p3] s0 (fun _ : Unit => none) post := by
  refine tc_start cJ2_add_2 4 none RJ2 (by decide) rfl rfl (Nat.le_of_ble_eq_true rfl) ?_
  intro p e s m args below meth c ls C hnm hr hlk hH hS hl
  have hl : lv_has ls 4 [(0, .ref (ea E (2, x))), (1, .ref (ea E (1, j))), (2, .ref (ea E (3, x))), (3, .int p3)] := hl
  unfold wp_J2_add_2N at hk
  refine lv_iload_n C.hx C.hb dJ2_add_2_0 rfl (lv_at hl 3 rfl) ?_
  refine lv_aload_n C.hx C.hb dJ2_add_2_1 rfl (lv_at hl 2 rfl) ?_
  refine tc_alenL C hH hx hg dJ2_add_2_2 ?_
  refine lv_icmp_ne (tgt := 11) C.hx C.hb dJ2_add_2_3 (by decide) (fun c1 => ?_) (fun c1 => ?_)
  · have hk := hk.1 c1
    refine lv_aload_n C.hx C.hb dJ2_add_2_11 rfl (lv_at hl 2 rfl) ?_
    refine lv_iload_n C.hx C.hb dJ2_add_2_12 rfl (lv_at hl 3 rfl) ?_
    refine lv_aload_n C.hx C.hb dJ2_add_2_13 rfl (lv_at hl 1 rfl) ?_
    obtain ⟨h2, hk⟩ := hk
    refine tc_aastLN C hH hS hj hx2 hx hg h2 dJ2_add_2_14 (fun s3 es3 H locs hH hS => ?_)
    have hk := hk s3 es3
    refine lv_aload_n C.hx C.hb dJ2_add_2_15 rfl (lv_at hl 0 rfl) ?_
    refine lv_iload_n C.hx C.hb dJ2_add_2_16 rfl (lv_at hl 3 rfl) ?_
    refine lv_iconst (v := 1) C.hx C.hb dJ2_add_2_17 (by decide) ?_
    refine lv_iadd C.hx C.hb dJ2_add_2_18 ?_
    refine tc_put C hH hS (hH.l _ hx) (Cn := RJ2) (T := TJ2) (N := 3) (ci := 9) (fs := tc_lfs E s3 x) in_J2 tyJ2 tyJ2_ok nmJ2 rfl rfl 2 (by decide) (C.L q107) (fun _ h => h) rfl (v := .int (p3 + 1)) rfl rfl (Nat.le_of_ble_eq_true rfl) (tc_ul_size E s3 x (p3 + 1)) dJ2_add_2_19 (fun s4 es4 H locs hH hS => ?_)
    have hk := hk s4 es4
    exact tc_vret () rfl C hr hlk hH hS hk dJ2_add_2_22
  · have hk := hk.2 c1
    refine lv_aload_n C.hx C.hb dJ2_add_2_6 rfl (lv_at hl 0 rfl) ?_
    exact hk.elim
/-! java/util/ArrayList.add(Ljava/lang/Object;)Z -/
def wp_J2_addN (E : tc_E) (post : Int32 → tc_S → Prop) (x : Nat) (j : Nat) (s0 : tc_S) : Prop := (∀ s1 : tc_S, s1 = tI s0 11 x 0 ((s0.1 11 x 0) + 1) → wp_J2_add_2N E (fun _ s3 => post 1 s3) x j (s1.1 11 x 1) s1)
set_option maxHeartbeats 4000000 in
theorem t_J2_addN (l : Launch) {E : tc_E} {x : Nat} {j : Nat} (hx : x < yn E + 2) (hg : ygr E x = true) (hx2 : tc_tk x = 1) (hj : j < yn E) {post : Int32 → tc_S → Prop} {s0 : tc_S} (hk : wp_J2_addN E post x j s0) : tc_M l yJ2_add (ws_ yJ2_add cJ2_add 2 (some .boolean)) ({ frames := 1, cells := 0, slots := 0, locals := 23 } : Room) E [.ref (ea E (2, x)), .ref (ea E (1, j))] s0 (fun r : Int32 => some (.int r)) post := by
  refine tc_start cJ2_add 2 (some .boolean) RJ2 (by decide) rfl rfl (Nat.le_of_ble_eq_true rfl) ?_
  intro p e s m args below meth c ls C hnm hr hlk hH hS hl
  have hl : lv_has ls 2 [(0, .ref (ea E (2, x))), (1, .ref (ea E (1, j)))] := hl
  unfold wp_J2_addN at hk
  refine lv_aload_n C.hx C.hb dJ2_add_0 rfl (lv_at hl 0 rfl) ?_
  refine lv_dup C.hx C.hb dJ2_add_1 rfl ?_
  refine tc_get C hH (hH.l _ hx) (Cn := RJ2) (T := TJ2) (N := 3) (ci := 9) (fs := tc_lfs E s0 x) in_J2 rfl rfl 0 (by decide) (C.L q109) (u_same (C.hts _ q110)) (v := .int (s0.1 11 x 0)) rfl dJ2_add_2 ?_
  refine lv_iconst (v := 1) C.hx C.hb dJ2_add_5 (by decide) ?_
  refine lv_iadd C.hx C.hb dJ2_add_6 ?_
  refine tc_put C hH hS (hH.l _ hx) (Cn := RJ2) (T := TJ2) (N := 3) (ci := 9) (fs := tc_lfs E s0 x) in_J2 tyJ2 tyJ2_ok nmJ2 rfl rfl 0 (by decide) (C.L q109) (u_same (C.hts _ q110)) rfl (v := .int ((s0.1 11 x 0) + 1)) rfl rfl (Nat.le_of_ble_eq_true rfl) (tc_ul_modCount E s0 x ((s0.1 11 x 0) + 1)) dJ2_add_7 (fun s1 es1 H locs hH hS => ?_)
  have hk := hk s1 es1
  refine lv_aload_n C.hx C.hb dJ2_add_10 rfl (lv_at hl 0 rfl) ?_
  refine lv_aload_n C.hx C.hb dJ2_add_11 rfl (lv_at hl 1 rfl) ?_
  refine lv_aload_n C.hx C.hb dJ2_add_12 rfl (lv_at hl 0 rfl) ?_
  refine tc_get C hH (hH.l _ hx) (Cn := RJ2) (T := TJ2) (N := 3) (ci := 9) (fs := tc_lfs E s1 x) in_J2 rfl rfl 1 (by decide) (C.L q106) (fun _ h => h) (v := .ref (ea E (3, x))) (tc_lg hg) dJ2_add_13 ?_
  refine lv_aload_n C.hx C.hb dJ2_add_16 rfl (lv_at hl 0 rfl) ?_
  refine tc_get C hH (hH.l _ hx) (Cn := RJ2) (T := TJ2) (N := 3) (ci := 9) (fs := tc_lfs E s1 x) in_J2 rfl rfl 2 (by decide) (C.L q107) (fun _ h => h) (v := .int (s1.1 11 x 1)) rfl dJ2_add_17 ?_
  refine tc_run (tc_rV (As := [.ref (ea E (1, j)), .ref (ea E (3, x)), .int (s1.1 11 x 1)]) (rest := []) (L := (2, x)) (ci := 9) (fs := tc_lfs E s1 x) (q := (RJ2, TJ2, 3)) C (hH.l _ hx) rfl rfl (t_J2_add_2N l hx hg hx2 hj hk) (cwV 3 C.hts (lw_V q255 q257 qs0 q56 q258) rfl rfl rfl (by decide +kernel) ⟨Nat.le_of_ble_eq_true rfl, Nat.le_of_ble_eq_true rfl⟩) hH hS rfl hl.1 rfl (lv_room (Nat.le_of_ble_eq_true rfl)) dJ2_add_20 ⟨Nat.le_of_ble_eq_true rfl, Nat.le_of_ble_eq_true rfl⟩) hS (fun _ s3 H locs hk hH hS => ?_)
  refine W.eq (g2 := F0 m 23 ls []) rfl ?_
  refine lv_iconst (v := 1) C.hx C.hb dJ2_add_23 (by decide) ?_
  exact tc_zret (ty := .boolean) 1 rfl C hr hlk (by decide) hH hS hk dJ2_add_24
/-! java/util/ArrayList.add(Ljava/lang/Object;[Ljava/lang/Object;I)V -/
def wp_J2_add_2W (E : tc_E) (post : Unit → tc_S → Prop) (x : Nat) (j : Nat) (p3 : Int32) (s0 : tc_S) : Prop := ((¬ p3 = 10 → (vp_in p3 10 ∧ (∀ s3 : tc_S, s3 = tP s0 2 x p3.toNatClampNeg (j + 1) → (∀ s4 : tc_S, s4 = tI s3 11 x 1 (p3 + 1) → post () s4)))) ∧ (p3 = 10 → False))
set_option maxHeartbeats 4000000 in
theorem t_J2_add_2W (l : Launch) {E : tc_E} {x : Nat} {j : Nat} (hx : x < yn E + 2) (hg : ygr E x = true) (hx2 : tc_tk x = 13) (hj : j < ynw E) {post : Unit → tc_S → Prop} {p3 : Int32} {s0 : tc_S} (hk : wp_J2_add_2W E post x j p3 s0) : tc_M l yJ2_add_2 (ws_ yJ2_add_2 cJ2_add_2 4 none) ({ frames := 0, cells := 0, slots := 0, locals := 0 } : Room) E [.ref (ea E (2, x)), .ref (ea E (13, j)), .ref (ea E (3, x)), .int p3] s0 (fun _ : Unit => none) post := by
  refine tc_start cJ2_add_2 4 none RJ2 (by decide) rfl rfl (Nat.le_of_ble_eq_true rfl) ?_
  intro p e s m args below meth c ls C hnm hr hlk hH hS hl
  have hl : lv_has ls 4 [(0, .ref (ea E (2, x))), (1, .ref (ea E (13, j))), (2, .ref (ea E (3, x))), (3, .int p3)] := hl
  unfold wp_J2_add_2W at hk
  refine lv_iload_n C.hx C.hb dJ2_add_2_0 rfl (lv_at hl 3 rfl) ?_
  refine lv_aload_n C.hx C.hb dJ2_add_2_1 rfl (lv_at hl 2 rfl) ?_
  refine tc_alenL C hH hx hg dJ2_add_2_2 ?_
  refine lv_icmp_ne (tgt := 11) C.hx C.hb dJ2_add_2_3 (by decide) (fun c1 => ?_) (fun c1 => ?_)
  · have hk := hk.1 c1
    refine lv_aload_n C.hx C.hb dJ2_add_2_11 rfl (lv_at hl 2 rfl) ?_
    refine lv_iload_n C.hx C.hb dJ2_add_2_12 rfl (lv_at hl 3 rfl) ?_
    refine lv_aload_n C.hx C.hb dJ2_add_2_13 rfl (lv_at hl 1 rfl) ?_
    obtain ⟨h2, hk⟩ := hk
    refine tc_aastLW C hH hS hj hx2 hx hg h2 dJ2_add_2_14 (fun s3 es3 H locs hH hS => ?_)
    have hk := hk s3 es3
    refine lv_aload_n C.hx C.hb dJ2_add_2_15 rfl (lv_at hl 0 rfl) ?_
    refine lv_iload_n C.hx C.hb dJ2_add_2_16 rfl (lv_at hl 3 rfl) ?_
    refine lv_iconst (v := 1) C.hx C.hb dJ2_add_2_17 (by decide) ?_
    refine lv_iadd C.hx C.hb dJ2_add_2_18 ?_
    refine tc_put C hH hS (hH.l _ hx) (Cn := RJ2) (T := TJ2) (N := 3) (ci := 9) (fs := tc_lfs E s3 x) in_J2 tyJ2 tyJ2_ok nmJ2 rfl rfl 2 (by decide) (C.L q107) (fun _ h => h) rfl (v := .int (p3 + 1)) rfl rfl (Nat.le_of_ble_eq_true rfl) (tc_ul_size E s3 x (p3 + 1)) dJ2_add_2_19 (fun s4 es4 H locs hH hS => ?_)
    have hk := hk s4 es4
    exact tc_vret () rfl C hr hlk hH hS hk dJ2_add_2_22
  · have hk := hk.2 c1
    refine lv_aload_n C.hx C.hb dJ2_add_2_6 rfl (lv_at hl 0 rfl) ?_
    exact hk.elim
/-! java/util/ArrayList.add(Ljava/lang/Object;)Z -/
def wp_J2_addW (E : tc_E) (post : Int32 → tc_S → Prop) (x : Nat) (j : Nat) (s0 : tc_S) : Prop := (∀ s1 : tc_S, s1 = tI s0 11 x 0 ((s0.1 11 x 0) + 1) → wp_J2_add_2W E (fun _ s3 => post 1 s3) x j (s1.1 11 x 1) s1)
set_option maxHeartbeats 4000000 in
theorem t_J2_addW (l : Launch) {E : tc_E} {x : Nat} {j : Nat} (hx : x < yn E + 2) (hg : ygr E x = true) (hx2 : tc_tk x = 13) (hj : j < ynw E) {post : Int32 → tc_S → Prop} {s0 : tc_S} (hk : wp_J2_addW E post x j s0) : tc_M l yJ2_add (ws_ yJ2_add cJ2_add 2 (some .boolean)) ({ frames := 1, cells := 0, slots := 0, locals := 23 } : Room) E [.ref (ea E (2, x)), .ref (ea E (13, j))] s0 (fun r : Int32 => some (.int r)) post := by
  refine tc_start cJ2_add 2 (some .boolean) RJ2 (by decide) rfl rfl (Nat.le_of_ble_eq_true rfl) ?_
  intro p e s m args below meth c ls C hnm hr hlk hH hS hl
  have hl : lv_has ls 2 [(0, .ref (ea E (2, x))), (1, .ref (ea E (13, j)))] := hl
  unfold wp_J2_addW at hk
  refine lv_aload_n C.hx C.hb dJ2_add_0 rfl (lv_at hl 0 rfl) ?_
  refine lv_dup C.hx C.hb dJ2_add_1 rfl ?_
  refine tc_get C hH (hH.l _ hx) (Cn := RJ2) (T := TJ2) (N := 3) (ci := 9) (fs := tc_lfs E s0 x) in_J2 rfl rfl 0 (by decide) (C.L q109) (u_same (C.hts _ q110)) (v := .int (s0.1 11 x 0)) rfl dJ2_add_2 ?_
  refine lv_iconst (v := 1) C.hx C.hb dJ2_add_5 (by decide) ?_
  refine lv_iadd C.hx C.hb dJ2_add_6 ?_
  refine tc_put C hH hS (hH.l _ hx) (Cn := RJ2) (T := TJ2) (N := 3) (ci := 9) (fs := tc_lfs E s0 x) in_J2 tyJ2 tyJ2_ok nmJ2 rfl rfl 0 (by decide) (C.L q109) (u_same (C.hts _ q110)) rfl (v := .int ((s0.1 11 x 0) + 1)) rfl rfl (Nat.le_of_ble_eq_true rfl) (tc_ul_modCount E s0 x ((s0.1 11 x 0) + 1)) dJ2_add_7 (fun s1 es1 H locs hH hS => ?_)
  have hk := hk s1 es1
  refine lv_aload_n C.hx C.hb dJ2_add_10 rfl (lv_at hl 0 rfl) ?_
  refine lv_aload_n C.hx C.hb dJ2_add_11 rfl (lv_at hl 1 rfl) ?_
  refine lv_aload_n C.hx C.hb dJ2_add_12 rfl (lv_at hl 0 rfl) ?_
  refine tc_get C hH (hH.l _ hx) (Cn := RJ2) (T := TJ2) (N := 3) (ci := 9) (fs := tc_lfs E s1 x) in_J2 rfl rfl 1 (by decide) (C.L q106) (fun _ h => h) (v := .ref (ea E (3, x))) (tc_lg hg) dJ2_add_13 ?_
  refine lv_aload_n C.hx C.hb dJ2_add_16 rfl (lv_at hl 0 rfl) ?_
  refine tc_get C hH (hH.l _ hx) (Cn := RJ2) (T := TJ2) (N := 3) (ci := 9) (fs := tc_lfs E s1 x) in_J2 rfl rfl 2 (by decide) (C.L q107) (fun _ h => h) (v := .int (s1.1 11 x 1)) rfl dJ2_add_17 ?_
  refine tc_run (tc_rV (As := [.ref (ea E (13, j)), .ref (ea E (3, x)), .int (s1.1 11 x 1)]) (rest := []) (L := (2, x)) (ci := 9) (fs := tc_lfs E s1 x) (q := (RJ2, TJ2, 3)) C (hH.l _ hx) rfl rfl (t_J2_add_2W l hx hg hx2 hj hk) (cwV 3 C.hts (lw_V q255 q257 qs0 q56 q258) rfl rfl rfl (by decide +kernel) ⟨Nat.le_of_ble_eq_true rfl, Nat.le_of_ble_eq_true rfl⟩) hH hS rfl hl.1 rfl (lv_room (Nat.le_of_ble_eq_true rfl)) dJ2_add_20 ⟨Nat.le_of_ble_eq_true rfl, Nat.le_of_ble_eq_true rfl⟩) hS (fun _ s3 H locs hk hH hS => ?_)
  refine W.eq (g2 := F0 m 23 ls []) rfl ?_
  refine lv_iconst (v := 1) C.hx C.hb dJ2_add_23 (by decide) ?_
  exact tc_zret (ty := .boolean) 1 rfl C hr hlk (by decide) hH hS hk dJ2_add_24
/-! java/util/ArrayList.clear()V -/
def wp_J2_clear_27 (E : tc_E) (post : Unit → tc_S → Prop) (K : Int32 → Int32 → tc_S → Prop) (x : Nat) : Nat → Int32 → Int32 → tc_S → Prop
  | 0, _, _, _ => False
  | n27 + 1, x2, x3, s0 => ((x2 ≤ x3 → K x2 x3 s0) ∧ (¬ x2 ≤ x3 → (vp_in x3 10 ∧ (∀ s6 : tc_S, s6 = tP s0 2 x x3.toNatClampNeg 0 → (∀ v7, v7 = x3 + 1 → wp_J2_clear_27 E post K x n27 x2 v7 s6)))))
set_option maxHeartbeats 4000000 in
theorem tw_J2_clear_27 {p : Program} {l : Launch} {e : Env} {s : State} {m : MethodId} {args : Array Value} {below : List Frame} {meth : Method} {c : Code} {E : tc_E} {post : Unit → tc_S → Prop} {K : Int32 → Int32 → tc_S → Prop}  {x : Nat} (C : tc_C p m c cJ2_clear 4 s args RJ2 E) (hx : x < yn E + 2) (hg : ygr E x = true) (hr : meth.sig.returnType = none) (hlk : meth.locks = false) (hK : ∀ (x2 : Int32) (x3 : Int32) (σ' : tc_S) (H : Heap) (locs : List Loc) (ls : Array Slot), K x2 x3 σ' → tc_ok E σ' H → va_S (fun q => eb E ≤ q) s.heap H locs → lv_has ls 4 [(0, .ref (ea E (2, x))), (1, .ref (ea E (3, x))), (2, .int x2), (3, .int x3)] → W p l e ({ frames := 0, cells := 0, slots := 0, locals := 0 } : Room) s m args below meth c H locs 0 0 (MQ below (tc_Qg E (fun _ : Unit => none) post) args s 0 0 (fun q => eb E ≤ q)) (F0 m 42 ls [])) :
    ∀ (n : Nat) (x2 : Int32) (x3 : Int32) (s0 : tc_S) (H : Heap) (locs : List Loc) (ls : Array Slot), wp_J2_clear_27 E post K x n x2 x3 s0 → tc_ok E s0 H → va_S (fun q => eb E ≤ q) s.heap H locs → lv_has ls 4 [(0, .ref (ea E (2, x))), (1, .ref (ea E (3, x))), (2, .int x2), (3, .int x3)] → W p l e ({ frames := 0, cells := 0, slots := 0, locals := 0 } : Room) s m args below meth c H locs 0 0 (MQ below (tc_Qg E (fun _ : Unit => none) post) args s 0 0 (fun q => eb E ≤ q)) (F0 m 27 ls []) := by
  intro n
  induction n with
  | zero =>
    intro x2 x3 s0 H locs ls hk
    exact hk.elim
  | succ n ih =>
    intro x2 x3 s0 H locs ls hk hH hS hl
    rw [wp_J2_clear_27] at hk
    refine lv_iload_n C.hx C.hb dJ2_clear_27 rfl (lv_at hl 3 rfl) ?_
    refine lv_iload_n C.hx C.hb dJ2_clear_28 rfl (lv_at hl 2 rfl) ?_
    refine lv_icmp_ge (tgt := 42) C.hx C.hb dJ2_clear_29 (by decide) (fun c4 => ?_) (fun c4 => ?_)
    · have hk := hk.1 c4
      exact hK x2 x3 s0 _ _ _ hk hH hS (lv_sub hl [0, 1, 2, 3] rfl)
    · have hk := hk.2 c4
      refine lv_aload_n C.hx C.hb dJ2_clear_32 rfl (lv_at hl 1 rfl) ?_
      refine lv_iload_n C.hx C.hb dJ2_clear_33 rfl (lv_at hl 3 rfl) ?_
      refine lv_null C.hx C.hb dJ2_clear_34 ?_
      obtain ⟨h5, hk⟩ := hk
      refine tc_aastL0 C hH hS hx hg h5 dJ2_clear_35 (fun s6 es6 H locs hH hS => ?_)
      have hk := hk s6 es6
      obtain ⟨v7, ev7⟩ : ∃ y : Int32, y = x3 + 1 := ⟨_, rfl⟩
      have hk := hk v7 ev7
      refine lv_iinc (v := v7) (lv' := [(3, .int v7), (0, .ref (ea E (2, x))), (1, .ref (ea E (3, x))), (2, .int x2)]) C.hx C.hb dJ2_clear_36 hl (k := 3) rfl (by rw [ev7]; rfl) (by decide) rfl (fun ls hl => ?_)
      refine lv_goto (tgt := 27) C.hx C.hb dJ2_clear_39 (by decide) ?_
      exact ih x2 v7 s6 _ _ _ hk hH hS (lv_sub hl [1, 2, 3, 0] rfl)
def wp_J2_clear (E : tc_E) (post : Unit → tc_S → Prop) (x : Nat) (s0 : tc_S) : Prop := (∀ s1 : tc_S, s1 = tI s0 11 x 0 ((s0.1 11 x 0) + 1) → (∀ v2, v2 = (s1.1 11 x 1) → (∀ s3 : tc_S, s3 = tI s1 11 x 1 0 → (∃ n27, wp_J2_clear_27 E post (fun y8 y9 s10 => post () s10) x n27 v2 0 s3))))
set_option maxHeartbeats 4000000 in
theorem t_J2_clear (l : Launch) {E : tc_E} {x : Nat} (hx : x < yn E + 2) (hg : ygr E x = true) {post : Unit → tc_S → Prop} {s0 : tc_S} (hk : wp_J2_clear E post x s0) : tc_M l yJ2_clear (ws_ yJ2_clear cJ2_clear 4 none) ({ frames := 0, cells := 0, slots := 0, locals := 0 } : Room) E [.ref (ea E (2, x))] s0 (fun _ : Unit => none) post := by
  refine tc_start cJ2_clear 4 none RJ2 (by decide) rfl rfl (Nat.le_of_ble_eq_true rfl) ?_
  intro p e s m args below meth c ls C hnm hr hlk hH hS hl
  have hl : lv_has ls 4 [(0, .ref (ea E (2, x)))] := hl
  unfold wp_J2_clear at hk
  refine lv_aload_n C.hx C.hb dJ2_clear_0 rfl (lv_at hl 0 rfl) ?_
  refine lv_dup C.hx C.hb dJ2_clear_1 rfl ?_
  refine tc_get C hH (hH.l _ hx) (Cn := RJ2) (T := TJ2) (N := 3) (ci := 9) (fs := tc_lfs E s0 x) in_J2 rfl rfl 0 (by decide) (C.L q109) (u_same (C.hts _ q110)) (v := .int (s0.1 11 x 0)) rfl dJ2_clear_2 ?_
  refine lv_iconst (v := 1) C.hx C.hb dJ2_clear_5 (by decide) ?_
  refine lv_iadd C.hx C.hb dJ2_clear_6 ?_
  refine tc_put C hH hS (hH.l _ hx) (Cn := RJ2) (T := TJ2) (N := 3) (ci := 9) (fs := tc_lfs E s0 x) in_J2 tyJ2 tyJ2_ok nmJ2 rfl rfl 0 (by decide) (C.L q109) (u_same (C.hts _ q110)) rfl (v := .int ((s0.1 11 x 0) + 1)) rfl rfl (Nat.le_of_ble_eq_true rfl) (tc_ul_modCount E s0 x ((s0.1 11 x 0) + 1)) dJ2_clear_7 (fun s1 es1 H locs hH hS => ?_)
  have hk := hk s1 es1
  refine lv_aload_n C.hx C.hb dJ2_clear_10 rfl (lv_at hl 0 rfl) ?_
  refine tc_get C hH (hH.l _ hx) (Cn := RJ2) (T := TJ2) (N := 3) (ci := 9) (fs := tc_lfs E s1 x) in_J2 rfl rfl 1 (by decide) (C.L q106) (fun _ h => h) (v := .ref (ea E (3, x))) (tc_lg hg) dJ2_clear_11 ?_
  refine lv_astore_n (lv' := [(1, .ref (ea E (3, x))), (0, .ref (ea E (2, x)))]) C.hx C.hb dJ2_clear_14 rfl hl (by decide) rfl (fun ls hl => ?_)
  refine lv_aload_n C.hx C.hb dJ2_clear_15 rfl (lv_at hl 1 rfl) ?_
  refine tc_get C hH (hH.l _ hx) (Cn := RJ2) (T := TJ2) (N := 3) (ci := 9) (fs := tc_lfs E s1 x) in_J2 rfl rfl 2 (by decide) (C.L q107) (fun _ h => h) (v := .int (s1.1 11 x 1)) rfl dJ2_clear_16 ?_
  refine lv_topi (fun v2 ev2 => ?_)
  have hk := hk v2 ev2
  refine lv_istore_n (lv' := [(2, .int v2), (1, .ref (ea E (3, x))), (0, .ref (ea E (2, x)))]) C.hx C.hb dJ2_clear_19 rfl hl (by decide) rfl (fun ls hl => ?_)
  refine lv_aload_n C.hx C.hb dJ2_clear_20 rfl (lv_at hl 2 rfl) ?_
  refine lv_iconst (v := 0) C.hx C.hb dJ2_clear_21 (by decide) ?_
  refine lv_dup_x1 C.hx C.hb dJ2_clear_22 rfl rfl ?_
  refine tc_put C hH hS (hH.l _ hx) (Cn := RJ2) (T := TJ2) (N := 3) (ci := 9) (fs := tc_lfs E s1 x) in_J2 tyJ2 tyJ2_ok nmJ2 rfl rfl 2 (by decide) (C.L q107) (fun _ h => h) rfl (v := .int 0) rfl rfl (Nat.le_of_ble_eq_true rfl) (tc_ul_size E s1 x 0) dJ2_clear_23 (fun s3 es3 H locs hH hS => ?_)
  have hk := hk s3 es3
  refine lv_istore_n (lv' := [(3, .int 0), (2, .int v2), (1, .ref (ea E (3, x))), (0, .ref (ea E (2, x)))]) C.hx C.hb dJ2_clear_26 rfl hl (by decide) rfl (fun ls hl => ?_)
  obtain ⟨n27, hk⟩ := hk
  refine tw_J2_clear_27 C hx hg hr hlk (fun y8 y9 s10 H locs ls hk hH hS hl => ?_) n27 v2 0 s3 _ _ _ hk hH hS (lv_sub hl [3, 2, 1, 0] rfl)
  exact tc_vret () rfl C hr hlk hH hS hk dJ2_clear_42
/-! java/util/ArrayList.fastRemove([Ljava/lang/Object;I)V -/
def wp_J2_fastRemove (E : tc_E) (post : Unit → tc_S → Prop) (z : Nat) (p2 : Int32) (s0 : tc_S) : Prop := (∀ s1 : tc_S, s1 = tI s0 11 (z + 2) 0 ((s0.1 11 (z + 2) 0) + 1) → (∀ v2, v2 = ((s1.1 11 (z + 2) 1) - 1) → ((((s1.1 11 (z + 2) 1) - 1) ≤ p2 → (∀ s4 : tc_S, s4 = tI s1 11 (z + 2) 1 v2 → (vp_in v2 10 ∧ (∀ s6 : tc_S, s6 = tP s4 2 (z + 2) v2.toNatClampNeg 0 → post () s6)))) ∧ (¬ ((s1.1 11 (z + 2) 1) - 1) ≤ p2 → (¬ (p2 + 1) < 0 ∧ ¬ p2 < 0 ∧ ¬ (v2 - p2) < 0 ∧ (p2 + 1).toNatClampNeg + (v2 - p2).toNatClampNeg ≤ 10 ∧ p2.toNatClampNeg + (v2 - p2).toNatClampNeg ≤ 10 ∧ (∀ i : Nat, i < (v2 - p2).toNatClampNeg → ∀ k : Nat, s1.2.1 2 (z + 2) ((p2 + 1).toNatClampNeg + i) = k + 1 → k < ynw E) ∧ (∀ s7 : tc_S, s7 = tQ s1 2 (z + 2) (va_cpy (s1.2.1 2 (z + 2)) (s1.2.1 2 (z + 2)) (p2 + 1).toNatClampNeg p2.toNatClampNeg (v2 - p2).toNatClampNeg) → (∀ s14 : tc_S, s14 = tI s7 11 (z + 2) 1 v2 → (vp_in v2 10 ∧ (∀ s16 : tc_S, s16 = tP s14 2 (z + 2) v2.toNatClampNeg 0 → post () s16)))))))))
set_option maxHeartbeats 4000000 in
theorem t_J2_fastRemove (l : Launch) {E : tc_E} {z : Nat} (hz : z < yn E) (hg : ygr E (z + 2) = true) {post : Unit → tc_S → Prop} {p2 : Int32} {s0 : tc_S} (hk : wp_J2_fastRemove E post z p2 s0) : tc_M l yJ2_fastRemove (ws_ yJ2_fastRemove cJ2_fastRemove 4 none) ({ frames := 1, cells := 0, slots := 0, locals := 30 } : Room) E [.ref (ea E (2, z + 2)), .ref (ea E (3, z + 2)), .int p2] s0 (fun _ : Unit => none) post := by
  refine tc_start cJ2_fastRemove 4 none RJ2 (by decide) rfl rfl (Nat.le_of_ble_eq_true rfl) ?_
  intro p e s m args below meth c ls C hnm hr hlk hH hS hl
  have hl : lv_has ls 4 [(0, .ref (ea E (2, z + 2))), (1, .ref (ea E (3, z + 2))), (2, .int p2)] := hl
  unfold wp_J2_fastRemove at hk
  refine lv_aload_n C.hx C.hb dJ2_fastRemove_0 rfl (lv_at hl 0 rfl) ?_
  refine lv_dup C.hx C.hb dJ2_fastRemove_1 rfl ?_
  refine tc_get C hH (hH.l _ (Nat.add_lt_add_right hz 2)) (Cn := RJ2) (T := TJ2) (N := 3) (ci := 9) (fs := tc_lfs E s0 (z + 2)) in_J2 rfl rfl 0 (by decide) (C.L q109) (u_same (C.hts _ q110)) (v := .int (s0.1 11 (z + 2) 0)) rfl dJ2_fastRemove_2 ?_
  refine lv_iconst (v := 1) C.hx C.hb dJ2_fastRemove_5 (by decide) ?_
  refine lv_iadd C.hx C.hb dJ2_fastRemove_6 ?_
  refine tc_put C hH hS (hH.l _ (Nat.add_lt_add_right hz 2)) (Cn := RJ2) (T := TJ2) (N := 3) (ci := 9) (fs := tc_lfs E s0 (z + 2)) in_J2 tyJ2 tyJ2_ok nmJ2 rfl rfl 0 (by decide) (C.L q109) (u_same (C.hts _ q110)) rfl (v := .int ((s0.1 11 (z + 2) 0) + 1)) rfl rfl (Nat.le_of_ble_eq_true rfl) (tc_ul_modCount E s0 (z + 2) ((s0.1 11 (z + 2) 0) + 1)) dJ2_fastRemove_7 (fun s1 es1 H locs hH hS => ?_)
  have hk := hk s1 es1
  refine lv_aload_n C.hx C.hb dJ2_fastRemove_10 rfl (lv_at hl 0 rfl) ?_
  refine tc_get C hH (hH.l _ (Nat.add_lt_add_right hz 2)) (Cn := RJ2) (T := TJ2) (N := 3) (ci := 9) (fs := tc_lfs E s1 (z + 2)) in_J2 rfl rfl 2 (by decide) (C.L q107) (fun _ h => h) (v := .int (s1.1 11 (z + 2) 1)) rfl dJ2_fastRemove_11 ?_
  refine lv_iconst (v := 1) C.hx C.hb dJ2_fastRemove_14 (by decide) ?_
  refine lv_isub C.hx C.hb dJ2_fastRemove_15 ?_
  refine lv_dup C.hx C.hb dJ2_fastRemove_16 rfl ?_
  refine lv_topi (fun v2 ev2 => ?_)
  have hk := hk v2 ev2
  refine lv_istore_n (lv' := [(3, .int v2), (0, .ref (ea E (2, z + 2))), (1, .ref (ea E (3, z + 2))), (2, .int p2)]) C.hx C.hb dJ2_fastRemove_17 rfl hl (by decide) rfl (fun ls hl => ?_)
  refine lv_iload_n C.hx C.hb dJ2_fastRemove_18 rfl (lv_at hl 3 rfl) ?_
  refine lv_icmp_le (tgt := 34) C.hx C.hb dJ2_fastRemove_19 (by decide) (fun c3 => ?_) (fun c3 => ?_)
  · have hk := hk.1 c3
    refine lv_aload_n C.hx C.hb dJ2_fastRemove_34 rfl (lv_at hl 2 rfl) ?_
    refine lv_aload_n C.hx C.hb dJ2_fastRemove_35 rfl (lv_at hl 1 rfl) ?_
    refine lv_iload_n C.hx C.hb dJ2_fastRemove_36 rfl (lv_at hl 0 rfl) ?_
    refine lv_dup_x1 C.hx C.hb dJ2_fastRemove_37 rfl rfl ?_
    refine tc_put C hH hS (hH.l _ (Nat.add_lt_add_right hz 2)) (Cn := RJ2) (T := TJ2) (N := 3) (ci := 9) (fs := tc_lfs E s1 (z + 2)) in_J2 tyJ2 tyJ2_ok nmJ2 rfl rfl 2 (by decide) (C.L q107) (fun _ h => h) rfl (v := .int v2) rfl rfl (Nat.le_of_ble_eq_true rfl) (tc_ul_size E s1 (z + 2) v2) dJ2_fastRemove_38 (fun s4 es4 H locs hH hS => ?_)
    have hk := hk s4 es4
    refine lv_null C.hx C.hb dJ2_fastRemove_41 ?_
    obtain ⟨h5, hk⟩ := hk
    refine tc_aastL0 C hH hS (Nat.add_lt_add_right hz 2) hg h5 dJ2_fastRemove_42 (fun s6 es6 H locs hH hS => ?_)
    have hk := hk s6 es6
    exact tc_vret () rfl C hr hlk hH hS hk dJ2_fastRemove_43
  · have hk := hk.2 c3
    refine lv_aload_n C.hx C.hb dJ2_fastRemove_22 rfl (lv_at hl 2 rfl) ?_
    refine lv_iload_n C.hx C.hb dJ2_fastRemove_23 rfl (lv_at hl 3 rfl) ?_
    refine lv_iconst (v := 1) C.hx C.hb dJ2_fastRemove_24 (by decide) ?_
    refine lv_iadd C.hx C.hb dJ2_fastRemove_25 ?_
    refine lv_aload_n C.hx C.hb dJ2_fastRemove_26 rfl (lv_at hl 2 rfl) ?_
    refine lv_iload_n C.hx C.hb dJ2_fastRemove_27 rfl (lv_at hl 3 rfl) ?_
    refine lv_iload_n C.hx C.hb dJ2_fastRemove_28 rfl (lv_at hl 0 rfl) ?_
    refine lv_iload_n C.hx C.hb dJ2_fastRemove_29 rfl (lv_at hl 3 rfl) ?_
    refine lv_isub C.hx C.hb dJ2_fastRemove_30 ?_
    obtain ⟨h8, h9, h10, h11, h12, h13, hk⟩ := hk
    refine tc_copyL C hH hS hl.1.symm hz hg q1007 h8 h9 h10 h11 h12 h13 (Nat.le_of_ble_eq_true rfl) (Nat.le_of_ble_eq_true rfl) dJ2_fastRemove_31 (fun s7 es7 H locs hH hS => ?_)
    have hk := hk s7 es7
    refine lv_aload_n C.hx C.hb dJ2_fastRemove_34 rfl (lv_at hl 2 rfl) ?_
    refine lv_aload_n C.hx C.hb dJ2_fastRemove_35 rfl (lv_at hl 1 rfl) ?_
    refine lv_iload_n C.hx C.hb dJ2_fastRemove_36 rfl (lv_at hl 0 rfl) ?_
    refine lv_dup_x1 C.hx C.hb dJ2_fastRemove_37 rfl rfl ?_
    refine tc_put C hH hS (hH.l _ (Nat.add_lt_add_right hz 2)) (Cn := RJ2) (T := TJ2) (N := 3) (ci := 9) (fs := tc_lfs E s7 (z + 2)) in_J2 tyJ2 tyJ2_ok nmJ2 rfl rfl 2 (by decide) (C.L q107) (fun _ h => h) rfl (v := .int v2) rfl rfl (Nat.le_of_ble_eq_true rfl) (tc_ul_size E s7 (z + 2) v2) dJ2_fastRemove_38 (fun s14 es14 H locs hH hS => ?_)
    have hk := hk s14 es14
    refine lv_null C.hx C.hb dJ2_fastRemove_41 ?_
    obtain ⟨h15, hk⟩ := hk
    refine tc_aastL0 C hH hS (Nat.add_lt_add_right hz 2) hg h15 dJ2_fastRemove_42 (fun s16 es16 H locs hH hS => ?_)
    have hk := hk s16 es16
    exact tc_vret () rfl C hr hlk hH hS hk dJ2_fastRemove_43
/-! java/util/ArrayList.remove(I)Ljava/lang/Object; -/
def wp_J2_remove (E : tc_E) (post : Nat → tc_S → Prop) (z : Nat) (p1 : Int32) (s0 : tc_S) : Prop := wp_J11_checkIndex (fun r1 => (vp_in p1 10 ∧ (∃ q3 : Nat, s0.2.1 2 (z + 2) p1.toNatClampNeg = q3 + 1 ∧ wp_J2_fastRemove E (fun _ s5 => post q3 s5) z p1 s0))) p1 (s0.1 11 (z + 2) 1)
set_option maxHeartbeats 4000000 in
theorem t_J2_remove (l : Launch) {E : tc_E} {z : Nat} (hz : z < yn E) (hg : ygr E (z + 2) = true) {post : Nat → tc_S → Prop} {p1 : Int32} {s0 : tc_S} (hk : wp_J2_remove E post z p1 s0) : tc_M l yJ2_remove (ws_ yJ2_remove cJ2_remove 4 (some (.object "java/lang/Object"))) ({ frames := 2, cells := 0, slots := 0, locals := 53 } : Room) E [.ref (ea E (2, z + 2)), .int p1] s0 (fun k : Nat => some (.ref (ea E (13, k)))) post := by
  refine tc_start cJ2_remove 4 (some (.object "java/lang/Object")) RJ2 (by decide) rfl rfl (Nat.le_of_ble_eq_true rfl) ?_
  intro p e s m args below meth c ls C hnm hr hlk hH hS hl
  have hl : lv_has ls 4 [(0, .ref (ea E (2, z + 2))), (1, .int p1)] := hl
  unfold wp_J2_remove at hk
  refine lv_iload_n C.hx C.hb dJ2_remove_0 rfl (lv_at hl 1 rfl) ?_
  refine lv_aload_n C.hx C.hb dJ2_remove_1 rfl (lv_at hl 0 rfl) ?_
  refine tc_get C hH (hH.l _ (Nat.add_lt_add_right hz 2)) (Cn := RJ2) (T := TJ2) (N := 3) (ci := 9) (fs := tc_lfs E s0 (z + 2)) in_J2 rfl rfl 2 (by decide) (C.L q107) (fun _ h => h) (v := .int (s0.1 11 (z + 2) 1)) rfl dJ2_remove_2 ?_
  refine gb_call (As := [.int p1, .int (s0.1 11 (z + 2) 1)]) (rest := []) C.1 (t_J11_checkIndex l hk) (va_cwS 2 C.hts (lw_S q372 q373 q72 q374) rfl rfl rfl (by decide +kernel) ⟨Nat.le_of_ble_eq_true rfl, Nat.le_of_ble_eq_true rfl⟩) rfl hl.1 rfl (lv_room (Nat.le_of_ble_eq_true rfl)) dJ2_remove_5 ⟨Nat.le_of_ble_eq_true rfl, Nat.le_of_ble_eq_true rfl⟩ (fun r1 hk => ?_)
  refine lv_pop C.hx C.hb dJ2_remove_8 rfl ?_
  refine lv_aload_n C.hx C.hb dJ2_remove_9 rfl (lv_at hl 0 rfl) ?_
  refine tc_get C hH (hH.l _ (Nat.add_lt_add_right hz 2)) (Cn := RJ2) (T := TJ2) (N := 3) (ci := 9) (fs := tc_lfs E s0 (z + 2)) in_J2 rfl rfl 1 (by decide) (C.L q106) (fun _ h => h) (v := .ref (ea E (3, z + 2))) (tc_lg hg) dJ2_remove_10 ?_
  refine lv_astore_n (lv' := [(2, .ref (ea E (3, z + 2))), (0, .ref (ea E (2, z + 2))), (1, .int p1)]) C.hx C.hb dJ2_remove_13 rfl hl (by decide) rfl (fun ls hl => ?_)
  refine lv_aload_n C.hx C.hb dJ2_remove_14 rfl (lv_at hl 0 rfl) ?_
  refine lv_iload_n C.hx C.hb dJ2_remove_15 rfl (lv_at hl 2 rfl) ?_
  obtain ⟨h2, hk⟩ := hk
  obtain ⟨q3, hq3, hk⟩ := hk
  refine tc_aaldL C hH (Nat.add_lt_add_right hz 2) hg h2 hq3 dJ2_remove_16 ?_
  refine lv_astore_n (lv' := [(3, .ref (ea E (13, q3))), (2, .ref (ea E (3, z + 2))), (0, .ref (ea E (2, z + 2))), (1, .int p1)]) C.hx C.hb dJ2_remove_17 rfl hl (by decide) rfl (fun ls hl => ?_)
  refine lv_aload_n C.hx C.hb dJ2_remove_18 rfl (lv_at hl 2 rfl) ?_
  refine lv_aload_n C.hx C.hb dJ2_remove_19 rfl (lv_at hl 1 rfl) ?_
  refine lv_iload_n C.hx C.hb dJ2_remove_20 rfl (lv_at hl 3 rfl) ?_
  refine tc_run (tc_rV (As := [.ref (ea E (3, z + 2)), .int p1]) (rest := []) (L := (2, z + 2)) (ci := 9) (fs := tc_lfs E s0 (z + 2)) (q := (RJ2, TJ2, 3)) C (hH.l _ (Nat.add_lt_add_right hz 2)) rfl rfl (t_J2_fastRemove l hz hg hk) (cwV 2 C.hts (lw_V q1003 q1005 qs17 q56 q1006) rfl rfl rfl (by decide +kernel) ⟨Nat.le_of_ble_eq_true rfl, Nat.le_of_ble_eq_true rfl⟩) hH hS rfl hl.1 rfl (lv_room (Nat.le_of_ble_eq_true rfl)) dJ2_remove_21 ⟨Nat.le_of_ble_eq_true rfl, Nat.le_of_ble_eq_true rfl⟩) hS (fun _ s5 H locs hk hH hS => ?_)
  refine W.eq (g2 := F0 m 24 ls []) rfl ?_
  refine lv_aload_n C.hx C.hb dJ2_remove_24 rfl (lv_at hl 0 rfl) ?_
  exact tc_aret q3 rfl (Or.inr ⟨_, rfl⟩) C hr hlk hH hS hk dJ2_remove_25

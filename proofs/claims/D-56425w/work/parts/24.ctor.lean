/-! constructors, by program (gen/decn.py) -/
set_option maxRecDepth 100000
theorem tn_neg {n : Nat} (h : n ≤ 61) : ¬ nI n < 0 := nI_pos (by omega)
theorem tn_clamp {n : Nat} (h : n ≤ 61) : (nI n).toNatClampNeg = n := nI_clamp (by omega)
theorem tn_zJ2 : ∀ j, j < 3 → defaultValue (tyJ2 j) = vp_V [.int 0, .null, .int 0] j := by
  intro j hj
  match j, hj with
  | 0, _ => rfl
  | 1, _ => rfl
  | 2, _ => rfl
theorem tn_zX1 : ∀ j, j < 13 → defaultValue (tyX1 j) = vp_V [.null, .null, .null, .null, .int 0, .null, .null, .int 0, .int 0, .int 0, .long 0, .long 0, .int 0] j := by
  intro j hj
  match j, hj with
  | 0, _ => rfl
  | 1, _ => rfl
  | 2, _ => rfl
  | 3, _ => rfl
  | 4, _ => rfl
  | 5, _ => rfl
  | 6, _ => rfl
  | 7, _ => rfl
  | 8, _ => rfl
  | 9, _ => rfl
  | 10, _ => rfl
  | 11, _ => rfl
  | 12, _ => rfl
theorem tn_zX10 : ∀ j, j < 10 → defaultValue (tyX10 j) = vp_V [.int 0, .int 0, .null, .null, .int 0, .int 0, .null, .null, .int 0, .int 0] j := by
  intro j hj
  match j, hj with
  | 0, _ => rfl
  | 1, _ => rfl
  | 2, _ => rfl
  | 3, _ => rfl
  | 4, _ => rfl
  | 5, _ => rfl
  | 6, _ => rfl
  | 7, _ => rfl
  | 8, _ => rfl
  | 9, _ => rfl
theorem tn_zX11 : ∀ j, j < 2 → defaultValue (tyX11 j) = vp_V [.null, .int 0] j := by
  intro j hj
  match j, hj with
  | 0, _ => rfl
  | 1, _ => rfl
theorem tn_zX2 : ∀ j, j < 4 → defaultValue (tyX2 j) = vp_V [.int 0, .int 0, .int 0, .int 0] j := by
  intro j hj
  match j, hj with
  | 0, _ => rfl
  | 1, _ => rfl
  | 2, _ => rfl
  | 3, _ => rfl
theorem tn_zX4 : ∀ j, j < 10 → defaultValue (tyX4 j) = vp_V [.int 0, .int 0, .null, .null, .int 0, .int 0, .null, .null, .int 0, .null] j := by
  intro j hj
  match j, hj with
  | 0, _ => rfl
  | 1, _ => rfl
  | 2, _ => rfl
  | 3, _ => rfl
  | 4, _ => rfl
  | 5, _ => rfl
  | 6, _ => rfl
  | 7, _ => rfl
  | 8, _ => rfl
  | 9, _ => rfl
theorem tn_zX5 : ∀ j, j < 12 → defaultValue (tyX5 j) = vp_V [.int 0, .int 0, .int 0, .null, .null, .int 0, .int 0, .int 0, .int 0, .int 0, .long 0, .null] j := by
  intro j hj
  match j, hj with
  | 0, _ => rfl
  | 1, _ => rfl
  | 2, _ => rfl
  | 3, _ => rfl
  | 4, _ => rfl
  | 5, _ => rfl
  | 6, _ => rfl
  | 7, _ => rfl
  | 8, _ => rfl
  | 9, _ => rfl
  | 10, _ => rfl
  | 11, _ => rfl
theorem tn_zX6 : ∀ j, j < 26 → defaultValue (tyX6 j) = vp_V [.null, .null, .null, .null, .null, .null, .null, .null, .null, .null, .null, .null, .int 0, .int 0, .int 0, .int 0, .int 0, .int 0, .int 0, .int 0, .int 0, .int 0, .int 0, .int 0, .int 0, .long 0] j := by
  intro j hj
  match j, hj with
  | 0, _ => rfl
  | 1, _ => rfl
  | 2, _ => rfl
  | 3, _ => rfl
  | 4, _ => rfl
  | 5, _ => rfl
  | 6, _ => rfl
  | 7, _ => rfl
  | 8, _ => rfl
  | 9, _ => rfl
  | 10, _ => rfl
  | 11, _ => rfl
  | 12, _ => rfl
  | 13, _ => rfl
  | 14, _ => rfl
  | 15, _ => rfl
  | 16, _ => rfl
  | 17, _ => rfl
  | 18, _ => rfl
  | 19, _ => rfl
  | 20, _ => rfl
  | 21, _ => rfl
  | 22, _ => rfl
  | 23, _ => rfl
  | 24, _ => rfl
  | 25, _ => rfl
  | k + 26, hj => exact absurd hj (by omega)
theorem tn_zX7 : ∀ j, j < 10 → defaultValue (tyX7 j) = vp_V [.int 0, .int 0, .null, .null, .int 0, .int 0, .null, .null, .int 0, .int 0] j := by
  intro j hj
  match j, hj with
  | 0, _ => rfl
  | 1, _ => rfl
  | 2, _ => rfl
  | 3, _ => rfl
  | 4, _ => rfl
  | 5, _ => rfl
  | 6, _ => rfl
  | 7, _ => rfl
  | 8, _ => rfl
  | 9, _ => rfl
theorem tn_zX8 : ∀ j, j < 11 → defaultValue (tyX8 j) = vp_V [.int 0, .int 0, .null, .null, .int 0, .int 0, .null, .null, .int 0, .int 0, .int 0] j := by
  intro j hj
  match j, hj with
  | 0, _ => rfl
  | 1, _ => rfl
  | 2, _ => rfl
  | 3, _ => rfl
  | 4, _ => rfl
  | 5, _ => rfl
  | 6, _ => rfl
  | 7, _ => rfl
  | 8, _ => rfl
  | 9, _ => rfl
  | 10, _ => rfl
theorem tn_zX9 : ∀ j, j < 10 → defaultValue (tyX9 j) = vp_V [.int 0, .int 0, .null, .null, .int 0, .int 0, .null, .null, .int 0, .null] j := by
  intro j hj
  match j, hj with
  | 0, _ => rfl
  | 1, _ => rfl
  | 2, _ => rfl
  | 3, _ => rfl
  | 4, _ => rfl
  | 5, _ => rfl
  | 6, _ => rfl
  | 7, _ => rfl
  | 8, _ => rfl
  | 9, _ => rfl
/-! java/util/AbstractCollection.<init>()V -/
set_option maxHeartbeats 4000000 in
theorem t_J0_init (l : Launch) {E : tc_E} {a : Nat} {sz : Nat} : tn_M l yJ0_init (ws_ yJ0_init cJ0_init 1 none) ({ frames := 1, cells := 0, slots := 0, locals := 30 } : Room) E [.ref a] [] sz (fun _ : Unit => none) (fun (r9 : Unit) (W9 : va_W) => W9 = []) 0 0 := by
  refine tn_start cJ0_init 1 none "java/util/AbstractCollection" (by decide) rfl rfl (Nat.le_of_ble_eq_true rfl) ?_
  intro p e s m args below meth c ls C hnm hsz hbA hr hlk hP hD hS hl
  obtain ⟨mx, hnm, hmt⟩ := hnm
  have hin2 := (name_of_methodNamed hnm hmt).1
  have hl : lv_has ls 1 [(0, .ref a)] := hl
  obtain ⟨H, hH0⟩ : ∃ H : Heap, H = s.heap := ⟨_, rfl⟩
  rw [← hH0] at hP ⊢
  have hS : va_S (va_A [] sz) s.heap H [] := by rw [hH0]; exact va_S.rf
  refine lv_aload_n C.hx C.hb dJ0_init_0 rfl (lv_at hl 0 rfl) ?_
  refine W.objInit C.hx C.hb C.hown (C.hts _ q103) (C.hts _ q90) (C.hts _ q91) rfl (hl.1.trans C.hml.symm) rfl dJ0_init_1 (Nat.le_of_ble_eq_true rfl) (Nat.le_of_ble_eq_true rfl) ?_
  refine W.widen (k := 0) (n := 0) (Nat.le_of_ble_eq_true rfl) (Nat.le_of_ble_eq_true rfl) ?_
  exact tn_vret () rfl C hr hlk hP hD hS rfl dJ0_init_4
/-! java/util/AbstractList.<init>()V -/
set_option maxHeartbeats 4000000 in
theorem t_J1_init (l : Launch) {E : tc_E} {a : Nat} {sz : Nat} : tn_M l yJ1_init (ws_ yJ1_init cJ1_init 1 none) ({ frames := 2, cells := 0, slots := 0, locals := 50 } : Room) E [.ref a] [(a, .inr (9, [.int 0, .null, .int 0]))] sz (fun _ : Unit => none) (fun (r9 : Unit) (W9 : va_W) => W9 = [(a, .inr (9, [.int 0, .null, .int 0]))]) 0 0 := by
  refine tn_start cJ1_init 1 none "java/util/AbstractList" (by decide) rfl rfl (Nat.le_of_ble_eq_true rfl) ?_
  intro p e s m args below meth c ls C hnm hsz hbA hr hlk hP hD hS hl
  obtain ⟨mx, hnm, hmt⟩ := hnm
  have hin2 := (name_of_methodNamed hnm hmt).1
  have hl : lv_has ls 1 [(0, .ref a)] := hl
  obtain ⟨H, hH0⟩ : ∃ H : Heap, H = s.heap := ⟨_, rfl⟩
  rw [← hH0] at hP ⊢
  have hS : va_S (va_A [(a, .inr (9, [.int 0, .null, .int 0]))] sz) s.heap H [] := by rw [hH0]; exact va_S.rf
  refine lv_aload_n C.hx C.hb dJ1_init_0 rfl (lv_at hl 0 rfl) ?_
  refine tn_run (wr := [(a, .inr (9, [.int 0, .null, .int 0]))]) (tn_rI (As := []) (rest := []) (wc := []) C hsz hbA hP hD hS [] rfl rfl (by decide) (t_J0_init l (a := a)) (cwI 0 C.hts (lw_meth q102) rfl rfl rfl (C.hts _ q54) (C.hts _ q100) (C.hts _ q101) rfl (by decide +kernel) ⟨Nat.le_of_ble_eq_true rfl, Nat.le_of_ble_eq_true rfl⟩) rfl hl.1 rfl (lv_room (Nat.le_of_ble_eq_true rfl)) dJ1_init_1 ⟨Nat.le_of_ble_eq_true rfl, Nat.le_of_ble_eq_true rfl⟩) hsz hP hD hS [] [0] rfl rfl (by decide) (by decide) (fun r9 W9 H locs hk hP hD hS => ?_)
  subst hk
  have hP : va_P (eD E) gcl [(a, .inr (9, [.int 0, .null, .int 0]))] H := hP
  have hD : va_D (va_A [(a, .inr (9, [.int 0, .null, .int 0]))] sz) [(a, .inr (9, [.int 0, .null, .int 0]))] := hD
  refine W.eq (g2 := F0 m 4 ls []) rfl ?_
  refine lv_aload_n C.hx C.hb dJ1_init_4 rfl (lv_at hl 0 rfl) ?_
  refine lv_iconst (v := 0) C.hx C.hb dJ1_init_5 (by decide) ?_
  refine va_put (C := RJ2) (T := TJ2) (N := 3) C.hx C.hb C.hts in_J2 tyJ2 tyJ2_ok nmJ2 C.hown C.hK hP hD hS 0 rfl rfl 0 (by decide) (C.hts _ q108) (fun _ h => h) rfl (tyJ2_ok 0 (by decide)) (v := .int 0) rfl rfl (Nat.le_of_ble_eq_true rfl) dJ1_init_6 (fun H locs hP hD hS => ?_)
  have hP : va_P (eD E) gcl [(a, .inr (9, [.int 0, .null, .int 0]))] H := hP
  have hD : va_D (va_A [(a, .inr (9, [.int 0, .null, .int 0]))] sz) [(a, .inr (9, [.int 0, .null, .int 0]))] := hD
  refine W.widen (k := 0) (n := 0) (Nat.le_of_ble_eq_true rfl) (Nat.le_of_ble_eq_true rfl) ?_
  exact tn_vret () rfl C hr hlk hP hD hS rfl dJ1_init_9
/-! java/util/ArrayList.<init>()V -/
set_option maxHeartbeats 4000000 in
theorem t_J2_init (l : Launch) {E : tc_E} {a : Nat} {sz : Nat} : tn_M l yJ2_init (ws_ yJ2_init cJ2_init 1 none) ({ frames := 3, cells := 0, slots := 0, locals := 70 } : Room) E [.ref a] [(a, .inr (9, [.int 0, .null, .int 0]))] sz (fun _ : Unit => none) (fun (r9 : Unit) (W9 : va_W) => W9 = [(a, .inr (9, [.int 0, .ref (es E 0), .int 0]))]) 0 0 := by
  refine tn_start cJ2_init 1 none RJ2 (by decide) rfl rfl (Nat.le_of_ble_eq_true rfl) ?_
  intro p e s m args below meth c ls C hnm hsz hbA hr hlk hP hD hS hl
  obtain ⟨mx, hnm, hmt⟩ := hnm
  have hin2 := (name_of_methodNamed hnm hmt).1
  have hl : lv_has ls 1 [(0, .ref a)] := hl
  obtain ⟨H, hH0⟩ : ∃ H : Heap, H = s.heap := ⟨_, rfl⟩
  rw [← hH0] at hP ⊢
  have hS : va_S (va_A [(a, .inr (9, [.int 0, .null, .int 0]))] sz) s.heap H [] := by rw [hH0]; exact va_S.rf
  refine lv_aload_n C.hx C.hb dJ2_init_0 rfl (lv_at hl 0 rfl) ?_
  refine tn_run (wr := []) (tn_rI (As := []) (rest := []) (wc := [(a, .inr (9, [.int 0, .null, .int 0]))]) C hsz hbA hP hD hS [0] rfl rfl (by decide) (t_J1_init l (a := a)) (cwI 0 C.hts (lw_meth q99) rfl rfl rfl (C.hts _ q55) (C.hts _ q97) (C.hts _ q98) rfl (by decide +kernel) ⟨Nat.le_of_ble_eq_true rfl, Nat.le_of_ble_eq_true rfl⟩) rfl hl.1 rfl (lv_room (Nat.le_of_ble_eq_true rfl)) dJ2_init_1 ⟨Nat.le_of_ble_eq_true rfl, Nat.le_of_ble_eq_true rfl⟩) hsz hP hD hS [0] [] rfl rfl (by decide) (by decide) (fun r9 W9 H locs hk hP hD hS => ?_)
  subst hk
  have hP : va_P (eD E) gcl [(a, .inr (9, [.int 0, .null, .int 0]))] H := hP
  have hD : va_D (va_A [(a, .inr (9, [.int 0, .null, .int 0]))] sz) [(a, .inr (9, [.int 0, .null, .int 0]))] := hD
  refine W.eq (g2 := F0 m 4 ls []) rfl ?_
  refine lv_aload_n C.hx C.hb dJ2_init_4 rfl (lv_at hl 0 rfl) ?_
  refine tn_empty C hS hbA q104 dJ2_init_5 ?_
  refine va_put (C := RJ2) (T := TJ2) (N := 3) C.hx C.hb C.hts in_J2 tyJ2 tyJ2_ok nmJ2 C.hown C.hK hP hD hS 0 rfl rfl 1 (by decide) (C.hts _ q106) (fun _ h => h) rfl (tyJ2_ok 1 (by decide)) (v := .ref (es E 0)) rfl rfl (Nat.le_of_ble_eq_true rfl) dJ2_init_8 (fun H locs hP hD hS => ?_)
  have hP : va_P (eD E) gcl [(a, .inr (9, [.int 0, .ref (es E 0), .int 0]))] H := hP
  have hD : va_D (va_A [(a, .inr (9, [.int 0, .null, .int 0]))] sz) [(a, .inr (9, [.int 0, .ref (es E 0), .int 0]))] := hD
  refine W.widen (k := 0) (n := 0) (Nat.le_of_ble_eq_true rfl) (Nat.le_of_ble_eq_true rfl) ?_
  exact tn_vret () rfl C hr hlk hP hD hS rfl dJ2_init_11
/-! ToneGraph$Wire.<init>(LToneGraph$Node;I)V -/
set_option maxHeartbeats 4000000 in
theorem t_X11_init (l : Launch) {E : tc_E} {a : Nat} {q : Nat} {p2 : Int32} {sz : Nat} : tn_M l yX11_init (ws_ yX11_init cX11_init 3 none) ({ frames := 1, cells := 0, slots := 0, locals := 30 } : Room) E [.ref a, .ref q, .int p2] [(a, .inr (8, [.null, .int 0]))] sz (fun _ : Unit => none) (fun (r9 : Unit) (W9 : va_W) => W9 = [(a, .inr (8, [.ref q, .int p2]))]) 0 0 := by
  refine tn_start cX11_init 3 none RX11 (by decide) rfl rfl (Nat.le_of_ble_eq_true rfl) ?_
  intro p e s m args below meth c ls C hnm hsz hbA hr hlk hP hD hS hl
  obtain ⟨mx, hnm, hmt⟩ := hnm
  have hin2 := (name_of_methodNamed hnm hmt).1
  have hl : lv_has ls 3 [(0, .ref a), (1, .ref q), (2, .int p2)] := hl
  obtain ⟨H, hH0⟩ : ∃ H : Heap, H = s.heap := ⟨_, rfl⟩
  rw [← hH0] at hP ⊢
  have hS : va_S (va_A [(a, .inr (8, [.null, .int 0]))] sz) s.heap H [] := by rw [hH0]; exact va_S.rf
  refine lv_aload_n C.hx C.hb dX11_init_0 rfl (lv_at hl 0 rfl) ?_
  refine W.objInit C.hx C.hb C.hown (C.hts _ q964) (C.hts _ q90) (C.hts _ q91) rfl (hl.1.trans C.hml.symm) rfl dX11_init_1 (Nat.le_of_ble_eq_true rfl) (Nat.le_of_ble_eq_true rfl) ?_
  refine lv_aload_n C.hx C.hb dX11_init_4 rfl (lv_at hl 0 rfl) ?_
  refine lv_aload_n C.hx C.hb dX11_init_5 rfl (lv_at hl 1 rfl) ?_
  refine va_putF (C := RX11) (T := TX11) (N := 2) C.hx C.hb C.hts in_X11 tyX11 tyX11_ok nmX11 C.hown C.hK hP hD hS 0 rfl rfl 0 (by decide) (C.hts _ q965) (fun _ h => h) rfl hin2 rfl (tyX11_ok 0 (by decide)) (v := .ref q) rfl rfl (Nat.le_of_ble_eq_true rfl) dX11_init_6 (fun H locs hP hD hS => ?_)
  have hP : va_P (eD E) gcl [(a, .inr (8, [.ref q, .int 0]))] H := hP
  have hD : va_D (va_A [(a, .inr (8, [.null, .int 0]))] sz) [(a, .inr (8, [.ref q, .int 0]))] := hD
  refine lv_aload_n C.hx C.hb dX11_init_9 rfl (lv_at hl 0 rfl) ?_
  refine lv_iload_n C.hx C.hb dX11_init_10 rfl (lv_at hl 2 rfl) ?_
  refine va_putF (C := RX11) (T := TX11) (N := 2) C.hx C.hb C.hts in_X11 tyX11 tyX11_ok nmX11 C.hown C.hK hP hD hS 0 rfl rfl 1 (by decide) (C.hts _ q968) (fun _ h => h) rfl hin2 rfl (tyX11_ok 1 (by decide)) (v := .int p2) rfl rfl (Nat.le_of_ble_eq_true rfl) dX11_init_11 (fun H locs hP hD hS => ?_)
  have hP : va_P (eD E) gcl [(a, .inr (8, [.ref q, .int p2]))] H := hP
  have hD : va_D (va_A [(a, .inr (8, [.null, .int 0]))] sz) [(a, .inr (8, [.ref q, .int p2]))] := hD
  refine W.widen (k := 0) (n := 0) (Nat.le_of_ble_eq_true rfl) (Nat.le_of_ble_eq_true rfl) ?_
  exact tn_vret () rfl C hr hlk hP hD hS rfl dX11_init_14
/-! ToneGraph$Envelope.<init>(IIII)V -/
set_option maxHeartbeats 4000000 in
theorem t_X2_init_3 (l : Launch) {E : tc_E} {a : Nat} {p1 : Int32} {p2 : Int32} {p3 : Int32} {p4 : Int32} {sz : Nat} : tn_M l yX2_init_3 (ws_ yX2_init_3 cX2_init_3 5 none) ({ frames := 1, cells := 0, slots := 0, locals := 30 } : Room) E [.ref a, .int p1, .int p2, .int p3, .int p4] [(a, .inr (1, [.int 0, .int 0, .int 0, .int 0]))] sz (fun _ : Unit => none) (fun (r9 : Unit) (W9 : va_W) => W9 = [(a, .inr (1, [.int p1, .int p2, .int p3, .int p4]))]) 0 0 := by
  refine tn_start cX2_init_3 5 none RX2 (by decide) rfl rfl (Nat.le_of_ble_eq_true rfl) ?_
  intro p e s m args below meth c ls C hnm hsz hbA hr hlk hP hD hS hl
  obtain ⟨mx, hnm, hmt⟩ := hnm
  have hin2 := (name_of_methodNamed hnm hmt).1
  have hl : lv_has ls 5 [(0, .ref a), (1, .int p1), (2, .int p2), (3, .int p3), (4, .int p4)] := hl
  obtain ⟨H, hH0⟩ : ∃ H : Heap, H = s.heap := ⟨_, rfl⟩
  rw [← hH0] at hP ⊢
  have hS : va_S (va_A [(a, .inr (1, [.int 0, .int 0, .int 0, .int 0]))] sz) s.heap H [] := by rw [hH0]; exact va_S.rf
  refine lv_aload_n C.hx C.hb dX2_init_3_0 rfl (lv_at hl 0 rfl) ?_
  refine W.objInit C.hx C.hb C.hown (C.hts _ q129) (C.hts _ q90) (C.hts _ q91) rfl (hl.1.trans C.hml.symm) rfl dX2_init_3_1 (Nat.le_of_ble_eq_true rfl) (Nat.le_of_ble_eq_true rfl) ?_
  refine lv_aload_n C.hx C.hb dX2_init_3_4 rfl (lv_at hl 0 rfl) ?_
  refine lv_iload_n C.hx C.hb dX2_init_3_5 rfl (lv_at hl 1 rfl) ?_
  refine va_putF (C := RX2) (T := TX2) (N := 4) C.hx C.hb C.hts in_X2 tyX2 tyX2_ok nmX2 C.hown C.hK hP hD hS 0 rfl rfl 0 (by decide) (C.hts _ q130) (fun _ h => h) rfl hin2 rfl (tyX2_ok 0 (by decide)) (v := .int p1) rfl rfl (Nat.le_of_ble_eq_true rfl) dX2_init_3_6 (fun H locs hP hD hS => ?_)
  have hP : va_P (eD E) gcl [(a, .inr (1, [.int p1, .int 0, .int 0, .int 0]))] H := hP
  have hD : va_D (va_A [(a, .inr (1, [.int 0, .int 0, .int 0, .int 0]))] sz) [(a, .inr (1, [.int p1, .int 0, .int 0, .int 0]))] := hD
  refine lv_aload_n C.hx C.hb dX2_init_3_9 rfl (lv_at hl 0 rfl) ?_
  refine lv_iload_n C.hx C.hb dX2_init_3_10 rfl (lv_at hl 2 rfl) ?_
  refine va_putF (C := RX2) (T := TX2) (N := 4) C.hx C.hb C.hts in_X2 tyX2 tyX2_ok nmX2 C.hown C.hK hP hD hS 0 rfl rfl 1 (by decide) (C.hts _ q131) (fun _ h => h) rfl hin2 rfl (tyX2_ok 1 (by decide)) (v := .int p2) rfl rfl (Nat.le_of_ble_eq_true rfl) dX2_init_3_11 (fun H locs hP hD hS => ?_)
  have hP : va_P (eD E) gcl [(a, .inr (1, [.int p1, .int p2, .int 0, .int 0]))] H := hP
  have hD : va_D (va_A [(a, .inr (1, [.int 0, .int 0, .int 0, .int 0]))] sz) [(a, .inr (1, [.int p1, .int p2, .int 0, .int 0]))] := hD
  refine lv_aload_n C.hx C.hb dX2_init_3_14 rfl (lv_at hl 0 rfl) ?_
  refine lv_iload_n C.hx C.hb dX2_init_3_15 rfl (lv_at hl 3 rfl) ?_
  refine va_putF (C := RX2) (T := TX2) (N := 4) C.hx C.hb C.hts in_X2 tyX2 tyX2_ok nmX2 C.hown C.hK hP hD hS 0 rfl rfl 2 (by decide) (C.hts _ q132) (fun _ h => h) rfl hin2 rfl (tyX2_ok 2 (by decide)) (v := .int p3) rfl rfl (Nat.le_of_ble_eq_true rfl) dX2_init_3_16 (fun H locs hP hD hS => ?_)
  have hP : va_P (eD E) gcl [(a, .inr (1, [.int p1, .int p2, .int p3, .int 0]))] H := hP
  have hD : va_D (va_A [(a, .inr (1, [.int 0, .int 0, .int 0, .int 0]))] sz) [(a, .inr (1, [.int p1, .int p2, .int p3, .int 0]))] := hD
  refine lv_aload_n C.hx C.hb dX2_init_3_19 rfl (lv_at hl 0 rfl) ?_
  refine lv_iload C.hx C.hb dX2_init_3_20 (lv_at hl 4 rfl) ?_
  refine va_putF (C := RX2) (T := TX2) (N := 4) C.hx C.hb C.hts in_X2 tyX2 tyX2_ok nmX2 C.hown C.hK hP hD hS 0 rfl rfl 3 (by decide) (C.hts _ q135) (fun _ h => h) rfl hin2 rfl (tyX2_ok 3 (by decide)) (v := .int p4) rfl rfl (Nat.le_of_ble_eq_true rfl) dX2_init_3_22 (fun H locs hP hD hS => ?_)
  have hP : va_P (eD E) gcl [(a, .inr (1, [.int p1, .int p2, .int p3, .int p4]))] H := hP
  have hD : va_D (va_A [(a, .inr (1, [.int 0, .int 0, .int 0, .int 0]))] sz) [(a, .inr (1, [.int p1, .int p2, .int p3, .int p4]))] := hD
  refine W.widen (k := 0) (n := 0) (Nat.le_of_ble_eq_true rfl) (Nat.le_of_ble_eq_true rfl) ?_
  exact tn_vret () rfl C hr hlk hP hD hS rfl dX2_init_3_25
/-! ToneGraph$Envelope.<init>(I)V -/
set_option maxHeartbeats 4000000 in
theorem t_X2_init_2 (l : Launch) {E : tc_E} {a : Nat} {p1 : Int32} {sz : Nat} : tn_M l yX2_init_2 (ws_ yX2_init_2 cX2_init_2 2 none) ({ frames := 2, cells := 0, slots := 0, locals := 54 } : Room) E [.ref a, .int p1] [(a, .inr (1, [.int 0, .int 0, .int 0, .int 0]))] sz (fun _ : Unit => none) (fun (r9 : Unit) (W9 : va_W) => W9 = [(a, .inr (1, [.int 0, .int 0, .int p1, .int 0]))]) 0 0 := by
  refine tn_start cX2_init_2 2 none RX2 (by decide) rfl rfl (Nat.le_of_ble_eq_true rfl) ?_
  intro p e s m args below meth c ls C hnm hsz hbA hr hlk hP hD hS hl
  obtain ⟨mx, hnm, hmt⟩ := hnm
  have hin2 := (name_of_methodNamed hnm hmt).1
  have hl : lv_has ls 2 [(0, .ref a), (1, .int p1)] := hl
  obtain ⟨H, hH0⟩ : ∃ H : Heap, H = s.heap := ⟨_, rfl⟩
  rw [← hH0] at hP ⊢
  have hS : va_S (va_A [(a, .inr (1, [.int 0, .int 0, .int 0, .int 0]))] sz) s.heap H [] := by rw [hH0]; exact va_S.rf
  refine lv_aload_n C.hx C.hb dX2_init_2_0 rfl (lv_at hl 0 rfl) ?_
  refine lv_iconst (v := 0) C.hx C.hb dX2_init_2_1 (by decide) ?_
  refine lv_iconst (v := 0) C.hx C.hb dX2_init_2_2 (by decide) ?_
  refine lv_iload_n C.hx C.hb dX2_init_2_3 rfl (lv_at hl 1 rfl) ?_
  refine lv_iconst (v := 0) C.hx C.hb dX2_init_2_4 (by decide) ?_
  refine tn_run (wr := []) (tn_rI (As := [.int 0, .int 0, .int p1, .int 0]) (rest := []) (wc := [(a, .inr (1, [.int 0, .int 0, .int 0, .int 0]))]) C hsz hbA hP hD hS [0] rfl rfl (by decide) (t_X2_init_3 l (a := a) (p1 := 0) (p2 := 0) (p3 := p1) (p4 := 0)) (cwI 4 C.hts (lw_meth q128) rfl rfl rfl (C.hts _ q57) (C.hts _ q126) (C.hts _ q127) rfl (by decide +kernel) ⟨Nat.le_of_ble_eq_true rfl, Nat.le_of_ble_eq_true rfl⟩) rfl hl.1 rfl (lv_room (Nat.le_of_ble_eq_true rfl)) dX2_init_2_5 ⟨Nat.le_of_ble_eq_true rfl, Nat.le_of_ble_eq_true rfl⟩) hsz hP hD hS [0] [] rfl rfl (by decide) (by decide) (fun r9 W9 H locs hk hP hD hS => ?_)
  subst hk
  have hP : va_P (eD E) gcl [(a, .inr (1, [.int 0, .int 0, .int p1, .int 0]))] H := hP
  have hD : va_D (va_A [(a, .inr (1, [.int 0, .int 0, .int 0, .int 0]))] sz) [(a, .inr (1, [.int 0, .int 0, .int p1, .int 0]))] := hD
  refine W.eq (g2 := F0 m 8 ls []) rfl ?_
  refine W.widen (k := 0) (n := 0) (Nat.le_of_ble_eq_true rfl) (Nat.le_of_ble_eq_true rfl) ?_
  exact tn_vret () rfl C hr hlk hP hD hS rfl dX2_init_2_8
/-! ToneGraph$Envelope.<init>()V -/
set_option maxHeartbeats 4000000 in
theorem t_X2_init (l : Launch) {E : tc_E} {a : Nat} {sz : Nat} : tn_M l yX2_init (ws_ yX2_init cX2_init 1 none) ({ frames := 3, cells := 0, slots := 0, locals := 75 } : Room) E [.ref a] [(a, .inr (1, [.int 0, .int 0, .int 0, .int 0]))] sz (fun _ : Unit => none) (fun (r9 : Unit) (W9 : va_W) => W9 = [(a, .inr (1, [.int 0, .int 0, .int 1000, .int 0]))]) 0 0 := by
  refine tn_start cX2_init 1 none RX2 (by decide) rfl rfl (Nat.le_of_ble_eq_true rfl) ?_
  intro p e s m args below meth c ls C hnm hsz hbA hr hlk hP hD hS hl
  obtain ⟨mx, hnm, hmt⟩ := hnm
  have hin2 := (name_of_methodNamed hnm hmt).1
  have hl : lv_has ls 1 [(0, .ref a)] := hl
  obtain ⟨H, hH0⟩ : ∃ H : Heap, H = s.heap := ⟨_, rfl⟩
  rw [← hH0] at hP ⊢
  have hS : va_S (va_A [(a, .inr (1, [.int 0, .int 0, .int 0, .int 0]))] sz) s.heap H [] := by rw [hH0]; exact va_S.rf
  refine lv_aload_n C.hx C.hb dX2_init_0 rfl (lv_at hl 0 rfl) ?_
  refine lv_sipush (v := 1000) C.hx C.hb dX2_init_1 (by decide) ?_
  refine tn_run (wr := []) (tn_rI (As := [.int 1000]) (rest := []) (wc := [(a, .inr (1, [.int 0, .int 0, .int 0, .int 0]))]) C hsz hbA hP hD hS [0] rfl rfl (by decide) (t_X2_init_2 l (a := a) (p1 := 1000)) (cwI 1 C.hts (lw_meth q125) rfl rfl rfl (C.hts _ q57) (C.hts _ q123) (C.hts _ q124) rfl (by decide +kernel) ⟨Nat.le_of_ble_eq_true rfl, Nat.le_of_ble_eq_true rfl⟩) rfl hl.1 rfl (lv_room (Nat.le_of_ble_eq_true rfl)) dX2_init_4 ⟨Nat.le_of_ble_eq_true rfl, Nat.le_of_ble_eq_true rfl⟩) hsz hP hD hS [0] [] rfl rfl (by decide) (by decide) (fun r9 W9 H locs hk hP hD hS => ?_)
  subst hk
  have hP : va_P (eD E) gcl [(a, .inr (1, [.int 0, .int 0, .int 1000, .int 0]))] H := hP
  have hD : va_D (va_A [(a, .inr (1, [.int 0, .int 0, .int 0, .int 0]))] sz) [(a, .inr (1, [.int 0, .int 0, .int 1000, .int 0]))] := hD
  refine W.eq (g2 := F0 m 7 ls []) rfl ?_
  refine W.widen (k := 0) (n := 0) (Nat.le_of_ble_eq_true rfl) (Nat.le_of_ble_eq_true rfl) ?_
  exact tn_vret () rfl C hr hlk hP hD hS rfl dX2_init_7
/-! ToneGraph$Voice.<init>(I)V -/
set_option maxHeartbeats 4000000 in
theorem t_X5_init (l : Launch) {E : tc_E} {a : Nat} {p1 : Int32} {sz : Nat} : tn_M l yX5_init (ws_ yX5_init cX5_init 2 none) ({ frames := 1, cells := 1, slots := 3, locals := 30 } : Room) E [.ref a, .int p1] [(a, .inr (3, [.int 0, .int 0, .int 0, .null, .null, .int 0, .int 0, .int 0, .int 0, .int 0, .long 0, .null]))] sz (fun _ : Unit => none) (fun (r9 : Unit) (W9 : va_W) => ∃ b1 : Nat, W9 = [(a, .inr (3, [.int p1, .int 0, .int 0, .null, .null, .int 0, .int 0, .int 0, .int 0, .int 0, .long 0, .ref b1])), (b1, .inl (ec E 0, 3, .inl (fun _ => 0)))]) 1 3 := by
  refine tn_start cX5_init 2 none RX5 (by decide) rfl rfl (Nat.le_of_ble_eq_true rfl) ?_
  intro p e s m args below meth c ls C hnm hsz hbA hr hlk hP hD hS hl
  obtain ⟨mx, hnm, hmt⟩ := hnm
  have hin2 := (name_of_methodNamed hnm hmt).1
  have hl : lv_has ls 2 [(0, .ref a), (1, .int p1)] := hl
  obtain ⟨H, hH0⟩ : ∃ H : Heap, H = s.heap := ⟨_, rfl⟩
  rw [← hH0] at hP ⊢
  have hS : va_S (va_A [(a, .inr (3, [.int 0, .int 0, .int 0, .null, .null, .int 0, .int 0, .int 0, .int 0, .int 0, .long 0, .null]))] sz) s.heap H [] := by rw [hH0]; exact va_S.rf
  refine lv_aload_n C.hx C.hb dX5_init_0 rfl (lv_at hl 0 rfl) ?_
  refine W.objInit C.hx C.hb C.hown (C.hts _ q163) (C.hts _ q90) (C.hts _ q91) rfl (hl.1.trans C.hml.symm) rfl dX5_init_1 (Nat.le_of_ble_eq_true rfl) (Nat.le_of_ble_eq_true rfl) ?_
  refine lv_aload_n C.hx C.hb dX5_init_4 rfl (lv_at hl 0 rfl) ?_
  refine lv_iconst (v := 3) C.hx C.hb dX5_init_5 (by decide) ?_
  refine tn_newI (N' := 3) C hsz hP hD hS (by decide) (by decide) (by decide) (Nat.le_of_ble_eq_true rfl) (Nat.le_of_ble_eq_true rfl) dX5_init_6 (fun b1 H hP hD hS => ?_)
  have hP : va_P (eD E) gcl [(a, .inr (3, [.int 0, .int 0, .int 0, .null, .null, .int 0, .int 0, .int 0, .int 0, .int 0, .long 0, .null])), (b1, .inl (ec E 0, 3, .inl (fun _ => 0)))] H := hP
  have hD : va_D (va_A [(a, .inr (3, [.int 0, .int 0, .int 0, .null, .null, .int 0, .int 0, .int 0, .int 0, .int 0, .long 0, .null]))] sz) [(a, .inr (3, [.int 0, .int 0, .int 0, .null, .null, .int 0, .int 0, .int 0, .int 0, .int 0, .long 0, .null])), (b1, .inl (ec E 0, 3, .inl (fun _ => 0)))] := hD
  refine va_putF (C := RX5) (T := TX5) (N := 12) C.hx C.hb C.hts in_X5 tyX5 tyX5_ok nmX5 C.hown C.hK hP hD hS 0 rfl rfl 11 (by decide) (C.hts _ q181) (fun _ h => h) rfl hin2 rfl (tyX5_ok 11 (by decide)) (v := .ref b1) rfl rfl (Nat.le_of_ble_eq_true rfl) dX5_init_8 (fun H locs hP hD hS => ?_)
  have hP : va_P (eD E) gcl [(a, .inr (3, [.int 0, .int 0, .int 0, .null, .null, .int 0, .int 0, .int 0, .int 0, .int 0, .long 0, .ref b1])), (b1, .inl (ec E 0, 3, .inl (fun _ => 0)))] H := hP
  have hD : va_D (va_A [(a, .inr (3, [.int 0, .int 0, .int 0, .null, .null, .int 0, .int 0, .int 0, .int 0, .int 0, .long 0, .null]))] sz) [(a, .inr (3, [.int 0, .int 0, .int 0, .null, .null, .int 0, .int 0, .int 0, .int 0, .int 0, .long 0, .ref b1])), (b1, .inl (ec E 0, 3, .inl (fun _ => 0)))] := hD
  refine lv_aload_n C.hx C.hb dX5_init_11 rfl (lv_at hl 0 rfl) ?_
  refine lv_iload_n C.hx C.hb dX5_init_12 rfl (lv_at hl 1 rfl) ?_
  refine va_putF (C := RX5) (T := TX5) (N := 12) C.hx C.hb C.hts in_X5 tyX5 tyX5_ok nmX5 C.hown C.hK hP hD hS 0 rfl rfl 0 (by decide) (C.hts _ q164) (fun _ h => h) rfl hin2 rfl (tyX5_ok 0 (by decide)) (v := .int p1) rfl rfl (Nat.le_of_ble_eq_true rfl) dX5_init_13 (fun H locs hP hD hS => ?_)
  have hP : va_P (eD E) gcl [(a, .inr (3, [.int p1, .int 0, .int 0, .null, .null, .int 0, .int 0, .int 0, .int 0, .int 0, .long 0, .ref b1])), (b1, .inl (ec E 0, 3, .inl (fun _ => 0)))] H := hP
  have hD : va_D (va_A [(a, .inr (3, [.int 0, .int 0, .int 0, .null, .null, .int 0, .int 0, .int 0, .int 0, .int 0, .long 0, .null]))] sz) [(a, .inr (3, [.int p1, .int 0, .int 0, .null, .null, .int 0, .int 0, .int 0, .int 0, .int 0, .long 0, .ref b1])), (b1, .inl (ec E 0, 3, .inl (fun _ => 0)))] := hD
  refine W.widen (k := 1) (n := 3) (Nat.le_of_ble_eq_true rfl) (Nat.le_of_ble_eq_true rfl) ?_
  exact tn_vret () rfl C hr hlk hP hD hS ⟨b1, rfl⟩ dX5_init_16
/-! ToneGraph$Node.<init>(IC[I)V -/
set_option maxHeartbeats 4000000 in
theorem t_X3_init_X4 (l : Launch) {E : tc_E} {a : Nat} {q : Nat} {n : Nat} {f : Nat → Int32} {p1 : Int32} {sz : Nat} (hn : n ≤ 61) : tn_M l yX3_init (ws_ yX3_init cX3_init 4 none) ({ frames := 4, cells := 3, slots := 128, locals := 90 } : Room) E [.ref a, .int p1, .int 118, .ref q] [(a, .inr (2, [.int 0, .int 0, .null, .null, .int 0, .int 0, .null, .null, .int 0, .null])), (q, .inl (ec E 0, n, .inl f))] sz (fun _ : Unit => none) (fun (r9 : Unit) (W9 : va_W) => ∃ b1 : Nat, ∃ b2 : Nat, ∃ b3 : Nat, W9 = [(a, .inr (2, [.int p1, .int 118, .ref b1, .ref b2, .int 0, .int 0, .ref q, .ref b3, .int 0, .null])), (q, .inl (ec E 0, n, .inl f)), (b1, .inr (9, [.int 0, .ref (es E 0), .int 0])), (b2, .inl (ec E 0, 64, .inl (fun _ => 0))), (b3, .inl (ec E 0, n, .inl (fun _ => 0)))]) 3 128 := by
  refine tn_start cX3_init 4 none RX3 (by decide) rfl rfl (Nat.le_of_ble_eq_true rfl) ?_
  intro p e s m args below meth c ls C hnm hsz hbA hr hlk hP hD hS hl
  obtain ⟨mx, hnm, hmt⟩ := hnm
  have hin2 := (name_of_methodNamed hnm hmt).1
  have hl : lv_has ls 4 [(0, .ref a), (1, .int p1), (2, .int 118), (3, .ref q)] := hl
  obtain ⟨H, hH0⟩ : ∃ H : Heap, H = s.heap := ⟨_, rfl⟩
  rw [← hH0] at hP ⊢
  have hS : va_S (va_A [(a, .inr (2, [.int 0, .int 0, .null, .null, .int 0, .int 0, .null, .null, .int 0, .null])), (q, .inl (ec E 0, n, .inl f))] sz) s.heap H [] := by rw [hH0]; exact va_S.rf
  refine lv_aload_n C.hx C.hb dX3_init_0 rfl (lv_at hl 0 rfl) ?_
  refine W.objInit C.hx C.hb C.hown (C.hts _ q154) (C.hts _ q90) (C.hts _ q91) rfl (hl.1.trans C.hml.symm) rfl dX3_init_1 (Nat.le_of_ble_eq_true rfl) (Nat.le_of_ble_eq_true rfl) ?_
  refine lv_aload_n C.hx C.hb dX3_init_4 rfl (lv_at hl 0 rfl) ?_
  refine tn_new (Cn := RJ2) (T := TJ2) (N := 3) (ci := 9) C hsz hP hD hS in_J2 tyJ2 tyJ2_ok q155 q93 q56 rfl (fs := [.int 0, .null, .int 0]) tn_zJ2 (Nat.le_of_ble_eq_true rfl) (Nat.le_of_ble_eq_true rfl) dX3_init_5 (fun b1 H hP hD hS => ?_)
  have hP : va_P (eD E) gcl [(a, .inr (2, [.int 0, .int 0, .null, .null, .int 0, .int 0, .null, .null, .int 0, .null])), (q, .inl (ec E 0, n, .inl f)), (b1, .inr (9, [.int 0, .null, .int 0]))] H := hP
  have hD : va_D (va_A [(a, .inr (2, [.int 0, .int 0, .null, .null, .int 0, .int 0, .null, .null, .int 0, .null])), (q, .inl (ec E 0, n, .inl f))] sz) [(a, .inr (2, [.int 0, .int 0, .null, .null, .int 0, .int 0, .null, .null, .int 0, .null])), (q, .inl (ec E 0, n, .inl f)), (b1, .inr (9, [.int 0, .null, .int 0]))] := hD
  refine lv_dup C.hx C.hb dX3_init_8 rfl ?_
  refine tn_run (wr := [(a, .inr (2, [.int 0, .int 0, .null, .null, .int 0, .int 0, .null, .null, .int 0, .null])), (q, .inl (ec E 0, n, .inl f))]) (tn_rI (As := []) (rest := [.ref b1, .ref a]) (wc := [(b1, .inr (9, [.int 0, .null, .int 0]))]) C hsz hbA hP hD hS [2] rfl rfl (by decide) (t_J2_init l (a := b1)) (cwI 0 C.hts (lw_meth q96) rfl rfl rfl (C.hts _ q56) (C.hts _ q156) (C.hts _ q95) rfl (by decide +kernel) ⟨Nat.le_of_ble_eq_true rfl, Nat.le_of_ble_eq_true rfl⟩) rfl hl.1 rfl (lv_room (Nat.le_of_ble_eq_true rfl)) dX3_init_9 ⟨Nat.le_of_ble_eq_true rfl, Nat.le_of_ble_eq_true rfl⟩) hsz hP hD hS [2] [0, 1] rfl rfl (by decide) (by decide) (fun r9 W9 H locs hk hP hD hS => ?_)
  subst hk
  have hP : va_P (eD E) gcl [(a, .inr (2, [.int 0, .int 0, .null, .null, .int 0, .int 0, .null, .null, .int 0, .null])), (q, .inl (ec E 0, n, .inl f)), (b1, .inr (9, [.int 0, .ref (es E 0), .int 0]))] H := hP
  have hD : va_D (va_A [(a, .inr (2, [.int 0, .int 0, .null, .null, .int 0, .int 0, .null, .null, .int 0, .null])), (q, .inl (ec E 0, n, .inl f))] sz) [(a, .inr (2, [.int 0, .int 0, .null, .null, .int 0, .int 0, .null, .null, .int 0, .null])), (q, .inl (ec E 0, n, .inl f)), (b1, .inr (9, [.int 0, .ref (es E 0), .int 0]))] := hD
  refine W.eq (g2 := F0 m 12 ls [.ref b1, .ref a]) rfl ?_
  refine va_putF (C := RX4) (T := TX4) (N := 10) C.hx C.hb C.hts in_X4 tyX4 tyX4_ok nmX4 C.hown C.hK hP hD hS 0 rfl rfl 2 (by decide) (C.hts _ q214) (fun _ h => h) rfl hin2 rfl (tyX4_ok 2 (by decide)) (v := .ref b1) rfl rfl (Nat.le_of_ble_eq_true rfl) dX3_init_12 (fun H locs hP hD hS => ?_)
  have hP : va_P (eD E) gcl [(a, .inr (2, [.int 0, .int 0, .ref b1, .null, .int 0, .int 0, .null, .null, .int 0, .null])), (q, .inl (ec E 0, n, .inl f)), (b1, .inr (9, [.int 0, .ref (es E 0), .int 0]))] H := hP
  have hD : va_D (va_A [(a, .inr (2, [.int 0, .int 0, .null, .null, .int 0, .int 0, .null, .null, .int 0, .null])), (q, .inl (ec E 0, n, .inl f))] sz) [(a, .inr (2, [.int 0, .int 0, .ref b1, .null, .int 0, .int 0, .null, .null, .int 0, .null])), (q, .inl (ec E 0, n, .inl f)), (b1, .inr (9, [.int 0, .ref (es E 0), .int 0]))] := hD
  refine lv_aload_n C.hx C.hb dX3_init_15 rfl (lv_at hl 0 rfl) ?_
  refine lv_bipush (v := 64) C.hx C.hb dX3_init_16 (by decide) ?_
  refine tn_newI (N' := 64) C hsz hP hD hS (by decide) (by decide) (by decide) (Nat.le_of_ble_eq_true rfl) (Nat.le_of_ble_eq_true rfl) dX3_init_18 (fun b2 H hP hD hS => ?_)
  have hP : va_P (eD E) gcl [(a, .inr (2, [.int 0, .int 0, .ref b1, .null, .int 0, .int 0, .null, .null, .int 0, .null])), (q, .inl (ec E 0, n, .inl f)), (b1, .inr (9, [.int 0, .ref (es E 0), .int 0])), (b2, .inl (ec E 0, 64, .inl (fun _ => 0)))] H := hP
  have hD : va_D (va_A [(a, .inr (2, [.int 0, .int 0, .null, .null, .int 0, .int 0, .null, .null, .int 0, .null])), (q, .inl (ec E 0, n, .inl f))] sz) [(a, .inr (2, [.int 0, .int 0, .ref b1, .null, .int 0, .int 0, .null, .null, .int 0, .null])), (q, .inl (ec E 0, n, .inl f)), (b1, .inr (9, [.int 0, .ref (es E 0), .int 0])), (b2, .inl (ec E 0, 64, .inl (fun _ => 0)))] := hD
  refine va_putF (C := RX4) (T := TX4) (N := 10) C.hx C.hb C.hts in_X4 tyX4 tyX4_ok nmX4 C.hown C.hK hP hD hS 0 rfl rfl 3 (by decide) (C.hts _ q216) (fun _ h => h) rfl hin2 rfl (tyX4_ok 3 (by decide)) (v := .ref b2) rfl rfl (Nat.le_of_ble_eq_true rfl) dX3_init_20 (fun H locs hP hD hS => ?_)
  have hP : va_P (eD E) gcl [(a, .inr (2, [.int 0, .int 0, .ref b1, .ref b2, .int 0, .int 0, .null, .null, .int 0, .null])), (q, .inl (ec E 0, n, .inl f)), (b1, .inr (9, [.int 0, .ref (es E 0), .int 0])), (b2, .inl (ec E 0, 64, .inl (fun _ => 0)))] H := hP
  have hD : va_D (va_A [(a, .inr (2, [.int 0, .int 0, .null, .null, .int 0, .int 0, .null, .null, .int 0, .null])), (q, .inl (ec E 0, n, .inl f))] sz) [(a, .inr (2, [.int 0, .int 0, .ref b1, .ref b2, .int 0, .int 0, .null, .null, .int 0, .null])), (q, .inl (ec E 0, n, .inl f)), (b1, .inr (9, [.int 0, .ref (es E 0), .int 0])), (b2, .inl (ec E 0, 64, .inl (fun _ => 0)))] := hD
  refine lv_aload_n C.hx C.hb dX3_init_23 rfl (lv_at hl 0 rfl) ?_
  refine lv_iload_n C.hx C.hb dX3_init_24 rfl (lv_at hl 1 rfl) ?_
  refine va_putF (C := RX4) (T := TX4) (N := 10) C.hx C.hb C.hts in_X4 tyX4 tyX4_ok nmX4 C.hown C.hK hP hD hS 0 rfl rfl 0 (by decide) (C.hts _ q210) (fun _ h => h) rfl hin2 rfl (tyX4_ok 0 (by decide)) (v := .int p1) rfl rfl (Nat.le_of_ble_eq_true rfl) dX3_init_25 (fun H locs hP hD hS => ?_)
  have hP : va_P (eD E) gcl [(a, .inr (2, [.int p1, .int 0, .ref b1, .ref b2, .int 0, .int 0, .null, .null, .int 0, .null])), (q, .inl (ec E 0, n, .inl f)), (b1, .inr (9, [.int 0, .ref (es E 0), .int 0])), (b2, .inl (ec E 0, 64, .inl (fun _ => 0)))] H := hP
  have hD : va_D (va_A [(a, .inr (2, [.int 0, .int 0, .null, .null, .int 0, .int 0, .null, .null, .int 0, .null])), (q, .inl (ec E 0, n, .inl f))] sz) [(a, .inr (2, [.int p1, .int 0, .ref b1, .ref b2, .int 0, .int 0, .null, .null, .int 0, .null])), (q, .inl (ec E 0, n, .inl f)), (b1, .inr (9, [.int 0, .ref (es E 0), .int 0])), (b2, .inl (ec E 0, 64, .inl (fun _ => 0)))] := hD
  refine lv_aload_n C.hx C.hb dX3_init_28 rfl (lv_at hl 0 rfl) ?_
  refine lv_iload_n C.hx C.hb dX3_init_29 rfl (lv_at hl 2 rfl) ?_
  refine va_putF (C := RX4) (T := TX4) (N := 10) C.hx C.hb C.hts in_X4 tyX4 tyX4_ok nmX4 C.hown C.hK hP hD hS 0 rfl rfl 1 (by decide) (C.hts _ q212) (fun _ h => h) rfl hin2 rfl (tyX4_ok 1 (by decide)) (v := .int 118) (by decide) (by decide) (Nat.le_of_ble_eq_true rfl) dX3_init_30 (fun H locs hP hD hS => ?_)
  have hP : va_P (eD E) gcl [(a, .inr (2, [.int p1, .int 118, .ref b1, .ref b2, .int 0, .int 0, .null, .null, .int 0, .null])), (q, .inl (ec E 0, n, .inl f)), (b1, .inr (9, [.int 0, .ref (es E 0), .int 0])), (b2, .inl (ec E 0, 64, .inl (fun _ => 0)))] H := hP
  have hD : va_D (va_A [(a, .inr (2, [.int 0, .int 0, .null, .null, .int 0, .int 0, .null, .null, .int 0, .null])), (q, .inl (ec E 0, n, .inl f))] sz) [(a, .inr (2, [.int p1, .int 118, .ref b1, .ref b2, .int 0, .int 0, .null, .null, .int 0, .null])), (q, .inl (ec E 0, n, .inl f)), (b1, .inr (9, [.int 0, .ref (es E 0), .int 0])), (b2, .inl (ec E 0, 64, .inl (fun _ => 0)))] := hD
  refine lv_aload_n C.hx C.hb dX3_init_33 rfl (lv_at hl 0 rfl) ?_
  refine lv_aload_n C.hx C.hb dX3_init_34 rfl (lv_at hl 3 rfl) ?_
  refine va_putF (C := RX4) (T := TX4) (N := 10) C.hx C.hb C.hts in_X4 tyX4 tyX4_ok nmX4 C.hown C.hK hP hD hS 0 rfl rfl 6 (by decide) (C.hts _ q225) (fun _ h => h) rfl hin2 rfl (tyX4_ok 6 (by decide)) (v := .ref q) rfl rfl (Nat.le_of_ble_eq_true rfl) dX3_init_35 (fun H locs hP hD hS => ?_)
  have hP : va_P (eD E) gcl [(a, .inr (2, [.int p1, .int 118, .ref b1, .ref b2, .int 0, .int 0, .ref q, .null, .int 0, .null])), (q, .inl (ec E 0, n, .inl f)), (b1, .inr (9, [.int 0, .ref (es E 0), .int 0])), (b2, .inl (ec E 0, 64, .inl (fun _ => 0)))] H := hP
  have hD : va_D (va_A [(a, .inr (2, [.int 0, .int 0, .null, .null, .int 0, .int 0, .null, .null, .int 0, .null])), (q, .inl (ec E 0, n, .inl f))] sz) [(a, .inr (2, [.int p1, .int 118, .ref b1, .ref b2, .int 0, .int 0, .ref q, .null, .int 0, .null])), (q, .inl (ec E 0, n, .inl f)), (b1, .inr (9, [.int 0, .ref (es E 0), .int 0])), (b2, .inl (ec E 0, 64, .inl (fun _ => 0)))] := hD
  refine lv_aload_n C.hx C.hb dX3_init_38 rfl (lv_at hl 0 rfl) ?_
  refine lv_aload_n C.hx C.hb dX3_init_39 rfl (lv_at hl 3 rfl) ?_
  refine va_alen C.hx C.hb C.hK hP 1 0 rfl rfl (v := (nI n)) rfl dX3_init_40 ?_
  refine tn_newI (N' := n) C hsz hP hD hS (tn_neg hn) (tn_clamp hn) (by omega) (Nat.le_of_ble_eq_true rfl) (Nat.le_trans (Nat.add_le_add_left hn _) (Nat.le_of_ble_eq_true rfl)) dX3_init_41 (fun b3 H hP hD hS => ?_)
  refine W.widen (k := 3) (n := 128) (Nat.le_of_ble_eq_true rfl) (Nat.add_le_add_left hn _) ?_
  have hP : va_P (eD E) gcl [(a, .inr (2, [.int p1, .int 118, .ref b1, .ref b2, .int 0, .int 0, .ref q, .null, .int 0, .null])), (q, .inl (ec E 0, n, .inl f)), (b1, .inr (9, [.int 0, .ref (es E 0), .int 0])), (b2, .inl (ec E 0, 64, .inl (fun _ => 0))), (b3, .inl (ec E 0, n, .inl (fun _ => 0)))] H := hP
  have hD : va_D (va_A [(a, .inr (2, [.int 0, .int 0, .null, .null, .int 0, .int 0, .null, .null, .int 0, .null])), (q, .inl (ec E 0, n, .inl f))] sz) [(a, .inr (2, [.int p1, .int 118, .ref b1, .ref b2, .int 0, .int 0, .ref q, .null, .int 0, .null])), (q, .inl (ec E 0, n, .inl f)), (b1, .inr (9, [.int 0, .ref (es E 0), .int 0])), (b2, .inl (ec E 0, 64, .inl (fun _ => 0))), (b3, .inl (ec E 0, n, .inl (fun _ => 0)))] := hD
  refine va_putF (C := RX4) (T := TX4) (N := 10) C.hx C.hb C.hts in_X4 tyX4 tyX4_ok nmX4 C.hown C.hK hP hD hS 0 rfl rfl 7 (by decide) (C.hts _ q228) (fun _ h => h) rfl hin2 rfl (tyX4_ok 7 (by decide)) (v := .ref b3) rfl rfl (Nat.le_of_ble_eq_true rfl) dX3_init_43 (fun H locs hP hD hS => ?_)
  have hP : va_P (eD E) gcl [(a, .inr (2, [.int p1, .int 118, .ref b1, .ref b2, .int 0, .int 0, .ref q, .ref b3, .int 0, .null])), (q, .inl (ec E 0, n, .inl f)), (b1, .inr (9, [.int 0, .ref (es E 0), .int 0])), (b2, .inl (ec E 0, 64, .inl (fun _ => 0))), (b3, .inl (ec E 0, n, .inl (fun _ => 0)))] H := hP
  have hD : va_D (va_A [(a, .inr (2, [.int 0, .int 0, .null, .null, .int 0, .int 0, .null, .null, .int 0, .null])), (q, .inl (ec E 0, n, .inl f))] sz) [(a, .inr (2, [.int p1, .int 118, .ref b1, .ref b2, .int 0, .int 0, .ref q, .ref b3, .int 0, .null])), (q, .inl (ec E 0, n, .inl f)), (b1, .inr (9, [.int 0, .ref (es E 0), .int 0])), (b2, .inl (ec E 0, 64, .inl (fun _ => 0))), (b3, .inl (ec E 0, n, .inl (fun _ => 0)))] := hD
  refine W.widen (k := 3) (n := 128) (Nat.le_of_ble_eq_true rfl) (Nat.le_of_ble_eq_true rfl) ?_
  exact tn_vret () rfl C hr hlk hP hD hS ⟨b1, b2, b3, rfl⟩ dX3_init_46
/-! ToneGraph$Node.<init>(IC[I)V -/
set_option maxHeartbeats 4000000 in
theorem t_X3_init_X7 (l : Launch) {E : tc_E} {a : Nat} {q : Nat} {n : Nat} {f : Nat → Int32} {p1 : Int32} {sz : Nat} (hn : n ≤ 61) : tn_M l yX3_init (ws_ yX3_init cX3_init 4 none) ({ frames := 4, cells := 3, slots := 128, locals := 90 } : Room) E [.ref a, .int p1, .int 103, .ref q] [(a, .inr (4, [.int 0, .int 0, .null, .null, .int 0, .int 0, .null, .null, .int 0, .int 0])), (q, .inl (ec E 0, n, .inl f))] sz (fun _ : Unit => none) (fun (r9 : Unit) (W9 : va_W) => ∃ b1 : Nat, ∃ b2 : Nat, ∃ b3 : Nat, W9 = [(a, .inr (4, [.int p1, .int 103, .ref b1, .ref b2, .int 0, .int 0, .ref q, .ref b3, .int 0, .int 0])), (q, .inl (ec E 0, n, .inl f)), (b1, .inr (9, [.int 0, .ref (es E 0), .int 0])), (b2, .inl (ec E 0, 64, .inl (fun _ => 0))), (b3, .inl (ec E 0, n, .inl (fun _ => 0)))]) 3 128 := by
  refine tn_start cX3_init 4 none RX3 (by decide) rfl rfl (Nat.le_of_ble_eq_true rfl) ?_
  intro p e s m args below meth c ls C hnm hsz hbA hr hlk hP hD hS hl
  obtain ⟨mx, hnm, hmt⟩ := hnm
  have hin2 := (name_of_methodNamed hnm hmt).1
  have hl : lv_has ls 4 [(0, .ref a), (1, .int p1), (2, .int 103), (3, .ref q)] := hl
  obtain ⟨H, hH0⟩ : ∃ H : Heap, H = s.heap := ⟨_, rfl⟩
  rw [← hH0] at hP ⊢
  have hS : va_S (va_A [(a, .inr (4, [.int 0, .int 0, .null, .null, .int 0, .int 0, .null, .null, .int 0, .int 0])), (q, .inl (ec E 0, n, .inl f))] sz) s.heap H [] := by rw [hH0]; exact va_S.rf
  refine lv_aload_n C.hx C.hb dX3_init_0 rfl (lv_at hl 0 rfl) ?_
  refine W.objInit C.hx C.hb C.hown (C.hts _ q154) (C.hts _ q90) (C.hts _ q91) rfl (hl.1.trans C.hml.symm) rfl dX3_init_1 (Nat.le_of_ble_eq_true rfl) (Nat.le_of_ble_eq_true rfl) ?_
  refine lv_aload_n C.hx C.hb dX3_init_4 rfl (lv_at hl 0 rfl) ?_
  refine tn_new (Cn := RJ2) (T := TJ2) (N := 3) (ci := 9) C hsz hP hD hS in_J2 tyJ2 tyJ2_ok q155 q93 q56 rfl (fs := [.int 0, .null, .int 0]) tn_zJ2 (Nat.le_of_ble_eq_true rfl) (Nat.le_of_ble_eq_true rfl) dX3_init_5 (fun b1 H hP hD hS => ?_)
  have hP : va_P (eD E) gcl [(a, .inr (4, [.int 0, .int 0, .null, .null, .int 0, .int 0, .null, .null, .int 0, .int 0])), (q, .inl (ec E 0, n, .inl f)), (b1, .inr (9, [.int 0, .null, .int 0]))] H := hP
  have hD : va_D (va_A [(a, .inr (4, [.int 0, .int 0, .null, .null, .int 0, .int 0, .null, .null, .int 0, .int 0])), (q, .inl (ec E 0, n, .inl f))] sz) [(a, .inr (4, [.int 0, .int 0, .null, .null, .int 0, .int 0, .null, .null, .int 0, .int 0])), (q, .inl (ec E 0, n, .inl f)), (b1, .inr (9, [.int 0, .null, .int 0]))] := hD
  refine lv_dup C.hx C.hb dX3_init_8 rfl ?_
  refine tn_run (wr := [(a, .inr (4, [.int 0, .int 0, .null, .null, .int 0, .int 0, .null, .null, .int 0, .int 0])), (q, .inl (ec E 0, n, .inl f))]) (tn_rI (As := []) (rest := [.ref b1, .ref a]) (wc := [(b1, .inr (9, [.int 0, .null, .int 0]))]) C hsz hbA hP hD hS [2] rfl rfl (by decide) (t_J2_init l (a := b1)) (cwI 0 C.hts (lw_meth q96) rfl rfl rfl (C.hts _ q56) (C.hts _ q156) (C.hts _ q95) rfl (by decide +kernel) ⟨Nat.le_of_ble_eq_true rfl, Nat.le_of_ble_eq_true rfl⟩) rfl hl.1 rfl (lv_room (Nat.le_of_ble_eq_true rfl)) dX3_init_9 ⟨Nat.le_of_ble_eq_true rfl, Nat.le_of_ble_eq_true rfl⟩) hsz hP hD hS [2] [0, 1] rfl rfl (by decide) (by decide) (fun r9 W9 H locs hk hP hD hS => ?_)
  subst hk
  have hP : va_P (eD E) gcl [(a, .inr (4, [.int 0, .int 0, .null, .null, .int 0, .int 0, .null, .null, .int 0, .int 0])), (q, .inl (ec E 0, n, .inl f)), (b1, .inr (9, [.int 0, .ref (es E 0), .int 0]))] H := hP
  have hD : va_D (va_A [(a, .inr (4, [.int 0, .int 0, .null, .null, .int 0, .int 0, .null, .null, .int 0, .int 0])), (q, .inl (ec E 0, n, .inl f))] sz) [(a, .inr (4, [.int 0, .int 0, .null, .null, .int 0, .int 0, .null, .null, .int 0, .int 0])), (q, .inl (ec E 0, n, .inl f)), (b1, .inr (9, [.int 0, .ref (es E 0), .int 0]))] := hD
  refine W.eq (g2 := F0 m 12 ls [.ref b1, .ref a]) rfl ?_
  refine va_putF (C := RX7) (T := TX7) (N := 10) C.hx C.hb C.hts in_X7 tyX7 tyX7_ok nmX7 C.hown C.hK hP hD hS 0 rfl rfl 2 (by decide) (C.hts _ q214) (fun _ h => h) rfl hin2 rfl (tyX7_ok 2 (by decide)) (v := .ref b1) rfl rfl (Nat.le_of_ble_eq_true rfl) dX3_init_12 (fun H locs hP hD hS => ?_)
  have hP : va_P (eD E) gcl [(a, .inr (4, [.int 0, .int 0, .ref b1, .null, .int 0, .int 0, .null, .null, .int 0, .int 0])), (q, .inl (ec E 0, n, .inl f)), (b1, .inr (9, [.int 0, .ref (es E 0), .int 0]))] H := hP
  have hD : va_D (va_A [(a, .inr (4, [.int 0, .int 0, .null, .null, .int 0, .int 0, .null, .null, .int 0, .int 0])), (q, .inl (ec E 0, n, .inl f))] sz) [(a, .inr (4, [.int 0, .int 0, .ref b1, .null, .int 0, .int 0, .null, .null, .int 0, .int 0])), (q, .inl (ec E 0, n, .inl f)), (b1, .inr (9, [.int 0, .ref (es E 0), .int 0]))] := hD
  refine lv_aload_n C.hx C.hb dX3_init_15 rfl (lv_at hl 0 rfl) ?_
  refine lv_bipush (v := 64) C.hx C.hb dX3_init_16 (by decide) ?_
  refine tn_newI (N' := 64) C hsz hP hD hS (by decide) (by decide) (by decide) (Nat.le_of_ble_eq_true rfl) (Nat.le_of_ble_eq_true rfl) dX3_init_18 (fun b2 H hP hD hS => ?_)
  have hP : va_P (eD E) gcl [(a, .inr (4, [.int 0, .int 0, .ref b1, .null, .int 0, .int 0, .null, .null, .int 0, .int 0])), (q, .inl (ec E 0, n, .inl f)), (b1, .inr (9, [.int 0, .ref (es E 0), .int 0])), (b2, .inl (ec E 0, 64, .inl (fun _ => 0)))] H := hP
  have hD : va_D (va_A [(a, .inr (4, [.int 0, .int 0, .null, .null, .int 0, .int 0, .null, .null, .int 0, .int 0])), (q, .inl (ec E 0, n, .inl f))] sz) [(a, .inr (4, [.int 0, .int 0, .ref b1, .null, .int 0, .int 0, .null, .null, .int 0, .int 0])), (q, .inl (ec E 0, n, .inl f)), (b1, .inr (9, [.int 0, .ref (es E 0), .int 0])), (b2, .inl (ec E 0, 64, .inl (fun _ => 0)))] := hD
  refine va_putF (C := RX7) (T := TX7) (N := 10) C.hx C.hb C.hts in_X7 tyX7 tyX7_ok nmX7 C.hown C.hK hP hD hS 0 rfl rfl 3 (by decide) (C.hts _ q216) (fun _ h => h) rfl hin2 rfl (tyX7_ok 3 (by decide)) (v := .ref b2) rfl rfl (Nat.le_of_ble_eq_true rfl) dX3_init_20 (fun H locs hP hD hS => ?_)
  have hP : va_P (eD E) gcl [(a, .inr (4, [.int 0, .int 0, .ref b1, .ref b2, .int 0, .int 0, .null, .null, .int 0, .int 0])), (q, .inl (ec E 0, n, .inl f)), (b1, .inr (9, [.int 0, .ref (es E 0), .int 0])), (b2, .inl (ec E 0, 64, .inl (fun _ => 0)))] H := hP
  have hD : va_D (va_A [(a, .inr (4, [.int 0, .int 0, .null, .null, .int 0, .int 0, .null, .null, .int 0, .int 0])), (q, .inl (ec E 0, n, .inl f))] sz) [(a, .inr (4, [.int 0, .int 0, .ref b1, .ref b2, .int 0, .int 0, .null, .null, .int 0, .int 0])), (q, .inl (ec E 0, n, .inl f)), (b1, .inr (9, [.int 0, .ref (es E 0), .int 0])), (b2, .inl (ec E 0, 64, .inl (fun _ => 0)))] := hD
  refine lv_aload_n C.hx C.hb dX3_init_23 rfl (lv_at hl 0 rfl) ?_
  refine lv_iload_n C.hx C.hb dX3_init_24 rfl (lv_at hl 1 rfl) ?_
  refine va_putF (C := RX7) (T := TX7) (N := 10) C.hx C.hb C.hts in_X7 tyX7 tyX7_ok nmX7 C.hown C.hK hP hD hS 0 rfl rfl 0 (by decide) (C.hts _ q210) (fun _ h => h) rfl hin2 rfl (tyX7_ok 0 (by decide)) (v := .int p1) rfl rfl (Nat.le_of_ble_eq_true rfl) dX3_init_25 (fun H locs hP hD hS => ?_)
  have hP : va_P (eD E) gcl [(a, .inr (4, [.int p1, .int 0, .ref b1, .ref b2, .int 0, .int 0, .null, .null, .int 0, .int 0])), (q, .inl (ec E 0, n, .inl f)), (b1, .inr (9, [.int 0, .ref (es E 0), .int 0])), (b2, .inl (ec E 0, 64, .inl (fun _ => 0)))] H := hP
  have hD : va_D (va_A [(a, .inr (4, [.int 0, .int 0, .null, .null, .int 0, .int 0, .null, .null, .int 0, .int 0])), (q, .inl (ec E 0, n, .inl f))] sz) [(a, .inr (4, [.int p1, .int 0, .ref b1, .ref b2, .int 0, .int 0, .null, .null, .int 0, .int 0])), (q, .inl (ec E 0, n, .inl f)), (b1, .inr (9, [.int 0, .ref (es E 0), .int 0])), (b2, .inl (ec E 0, 64, .inl (fun _ => 0)))] := hD
  refine lv_aload_n C.hx C.hb dX3_init_28 rfl (lv_at hl 0 rfl) ?_
  refine lv_iload_n C.hx C.hb dX3_init_29 rfl (lv_at hl 2 rfl) ?_
  refine va_putF (C := RX7) (T := TX7) (N := 10) C.hx C.hb C.hts in_X7 tyX7 tyX7_ok nmX7 C.hown C.hK hP hD hS 0 rfl rfl 1 (by decide) (C.hts _ q212) (fun _ h => h) rfl hin2 rfl (tyX7_ok 1 (by decide)) (v := .int 103) (by decide) (by decide) (Nat.le_of_ble_eq_true rfl) dX3_init_30 (fun H locs hP hD hS => ?_)
  have hP : va_P (eD E) gcl [(a, .inr (4, [.int p1, .int 103, .ref b1, .ref b2, .int 0, .int 0, .null, .null, .int 0, .int 0])), (q, .inl (ec E 0, n, .inl f)), (b1, .inr (9, [.int 0, .ref (es E 0), .int 0])), (b2, .inl (ec E 0, 64, .inl (fun _ => 0)))] H := hP
  have hD : va_D (va_A [(a, .inr (4, [.int 0, .int 0, .null, .null, .int 0, .int 0, .null, .null, .int 0, .int 0])), (q, .inl (ec E 0, n, .inl f))] sz) [(a, .inr (4, [.int p1, .int 103, .ref b1, .ref b2, .int 0, .int 0, .null, .null, .int 0, .int 0])), (q, .inl (ec E 0, n, .inl f)), (b1, .inr (9, [.int 0, .ref (es E 0), .int 0])), (b2, .inl (ec E 0, 64, .inl (fun _ => 0)))] := hD
  refine lv_aload_n C.hx C.hb dX3_init_33 rfl (lv_at hl 0 rfl) ?_
  refine lv_aload_n C.hx C.hb dX3_init_34 rfl (lv_at hl 3 rfl) ?_
  refine va_putF (C := RX7) (T := TX7) (N := 10) C.hx C.hb C.hts in_X7 tyX7 tyX7_ok nmX7 C.hown C.hK hP hD hS 0 rfl rfl 6 (by decide) (C.hts _ q225) (fun _ h => h) rfl hin2 rfl (tyX7_ok 6 (by decide)) (v := .ref q) rfl rfl (Nat.le_of_ble_eq_true rfl) dX3_init_35 (fun H locs hP hD hS => ?_)
  have hP : va_P (eD E) gcl [(a, .inr (4, [.int p1, .int 103, .ref b1, .ref b2, .int 0, .int 0, .ref q, .null, .int 0, .int 0])), (q, .inl (ec E 0, n, .inl f)), (b1, .inr (9, [.int 0, .ref (es E 0), .int 0])), (b2, .inl (ec E 0, 64, .inl (fun _ => 0)))] H := hP
  have hD : va_D (va_A [(a, .inr (4, [.int 0, .int 0, .null, .null, .int 0, .int 0, .null, .null, .int 0, .int 0])), (q, .inl (ec E 0, n, .inl f))] sz) [(a, .inr (4, [.int p1, .int 103, .ref b1, .ref b2, .int 0, .int 0, .ref q, .null, .int 0, .int 0])), (q, .inl (ec E 0, n, .inl f)), (b1, .inr (9, [.int 0, .ref (es E 0), .int 0])), (b2, .inl (ec E 0, 64, .inl (fun _ => 0)))] := hD
  refine lv_aload_n C.hx C.hb dX3_init_38 rfl (lv_at hl 0 rfl) ?_
  refine lv_aload_n C.hx C.hb dX3_init_39 rfl (lv_at hl 3 rfl) ?_
  refine va_alen C.hx C.hb C.hK hP 1 0 rfl rfl (v := (nI n)) rfl dX3_init_40 ?_
  refine tn_newI (N' := n) C hsz hP hD hS (tn_neg hn) (tn_clamp hn) (by omega) (Nat.le_of_ble_eq_true rfl) (Nat.le_trans (Nat.add_le_add_left hn _) (Nat.le_of_ble_eq_true rfl)) dX3_init_41 (fun b3 H hP hD hS => ?_)
  refine W.widen (k := 3) (n := 128) (Nat.le_of_ble_eq_true rfl) (Nat.add_le_add_left hn _) ?_
  have hP : va_P (eD E) gcl [(a, .inr (4, [.int p1, .int 103, .ref b1, .ref b2, .int 0, .int 0, .ref q, .null, .int 0, .int 0])), (q, .inl (ec E 0, n, .inl f)), (b1, .inr (9, [.int 0, .ref (es E 0), .int 0])), (b2, .inl (ec E 0, 64, .inl (fun _ => 0))), (b3, .inl (ec E 0, n, .inl (fun _ => 0)))] H := hP
  have hD : va_D (va_A [(a, .inr (4, [.int 0, .int 0, .null, .null, .int 0, .int 0, .null, .null, .int 0, .int 0])), (q, .inl (ec E 0, n, .inl f))] sz) [(a, .inr (4, [.int p1, .int 103, .ref b1, .ref b2, .int 0, .int 0, .ref q, .null, .int 0, .int 0])), (q, .inl (ec E 0, n, .inl f)), (b1, .inr (9, [.int 0, .ref (es E 0), .int 0])), (b2, .inl (ec E 0, 64, .inl (fun _ => 0))), (b3, .inl (ec E 0, n, .inl (fun _ => 0)))] := hD
  refine va_putF (C := RX7) (T := TX7) (N := 10) C.hx C.hb C.hts in_X7 tyX7 tyX7_ok nmX7 C.hown C.hK hP hD hS 0 rfl rfl 7 (by decide) (C.hts _ q228) (fun _ h => h) rfl hin2 rfl (tyX7_ok 7 (by decide)) (v := .ref b3) rfl rfl (Nat.le_of_ble_eq_true rfl) dX3_init_43 (fun H locs hP hD hS => ?_)
  have hP : va_P (eD E) gcl [(a, .inr (4, [.int p1, .int 103, .ref b1, .ref b2, .int 0, .int 0, .ref q, .ref b3, .int 0, .int 0])), (q, .inl (ec E 0, n, .inl f)), (b1, .inr (9, [.int 0, .ref (es E 0), .int 0])), (b2, .inl (ec E 0, 64, .inl (fun _ => 0))), (b3, .inl (ec E 0, n, .inl (fun _ => 0)))] H := hP
  have hD : va_D (va_A [(a, .inr (4, [.int 0, .int 0, .null, .null, .int 0, .int 0, .null, .null, .int 0, .int 0])), (q, .inl (ec E 0, n, .inl f))] sz) [(a, .inr (4, [.int p1, .int 103, .ref b1, .ref b2, .int 0, .int 0, .ref q, .ref b3, .int 0, .int 0])), (q, .inl (ec E 0, n, .inl f)), (b1, .inr (9, [.int 0, .ref (es E 0), .int 0])), (b2, .inl (ec E 0, 64, .inl (fun _ => 0))), (b3, .inl (ec E 0, n, .inl (fun _ => 0)))] := hD
  refine W.widen (k := 3) (n := 128) (Nat.le_of_ble_eq_true rfl) (Nat.le_of_ble_eq_true rfl) ?_
  exact tn_vret () rfl C hr hlk hP hD hS ⟨b1, b2, b3, rfl⟩ dX3_init_46
/-! ToneGraph$Node.<init>(IC[I)V -/
set_option maxHeartbeats 4000000 in
theorem t_X3_init_X8 (l : Launch) {E : tc_E} {a : Nat} {q : Nat} {n : Nat} {f : Nat → Int32} {p1 : Int32} {sz : Nat} (hn : n ≤ 61) : tn_M l yX3_init (ws_ yX3_init cX3_init 4 none) ({ frames := 4, cells := 3, slots := 128, locals := 90 } : Room) E [.ref a, .int p1, .int 100, .ref q] [(a, .inr (5, [.int 0, .int 0, .null, .null, .int 0, .int 0, .null, .null, .int 0, .int 0, .int 0])), (q, .inl (ec E 0, n, .inl f))] sz (fun _ : Unit => none) (fun (r9 : Unit) (W9 : va_W) => ∃ b1 : Nat, ∃ b2 : Nat, ∃ b3 : Nat, W9 = [(a, .inr (5, [.int p1, .int 100, .ref b1, .ref b2, .int 0, .int 0, .ref q, .ref b3, .int 0, .int 0, .int 0])), (q, .inl (ec E 0, n, .inl f)), (b1, .inr (9, [.int 0, .ref (es E 0), .int 0])), (b2, .inl (ec E 0, 64, .inl (fun _ => 0))), (b3, .inl (ec E 0, n, .inl (fun _ => 0)))]) 3 128 := by
  refine tn_start cX3_init 4 none RX3 (by decide) rfl rfl (Nat.le_of_ble_eq_true rfl) ?_
  intro p e s m args below meth c ls C hnm hsz hbA hr hlk hP hD hS hl
  obtain ⟨mx, hnm, hmt⟩ := hnm
  have hin2 := (name_of_methodNamed hnm hmt).1
  have hl : lv_has ls 4 [(0, .ref a), (1, .int p1), (2, .int 100), (3, .ref q)] := hl
  obtain ⟨H, hH0⟩ : ∃ H : Heap, H = s.heap := ⟨_, rfl⟩
  rw [← hH0] at hP ⊢
  have hS : va_S (va_A [(a, .inr (5, [.int 0, .int 0, .null, .null, .int 0, .int 0, .null, .null, .int 0, .int 0, .int 0])), (q, .inl (ec E 0, n, .inl f))] sz) s.heap H [] := by rw [hH0]; exact va_S.rf
  refine lv_aload_n C.hx C.hb dX3_init_0 rfl (lv_at hl 0 rfl) ?_
  refine W.objInit C.hx C.hb C.hown (C.hts _ q154) (C.hts _ q90) (C.hts _ q91) rfl (hl.1.trans C.hml.symm) rfl dX3_init_1 (Nat.le_of_ble_eq_true rfl) (Nat.le_of_ble_eq_true rfl) ?_
  refine lv_aload_n C.hx C.hb dX3_init_4 rfl (lv_at hl 0 rfl) ?_
  refine tn_new (Cn := RJ2) (T := TJ2) (N := 3) (ci := 9) C hsz hP hD hS in_J2 tyJ2 tyJ2_ok q155 q93 q56 rfl (fs := [.int 0, .null, .int 0]) tn_zJ2 (Nat.le_of_ble_eq_true rfl) (Nat.le_of_ble_eq_true rfl) dX3_init_5 (fun b1 H hP hD hS => ?_)
  have hP : va_P (eD E) gcl [(a, .inr (5, [.int 0, .int 0, .null, .null, .int 0, .int 0, .null, .null, .int 0, .int 0, .int 0])), (q, .inl (ec E 0, n, .inl f)), (b1, .inr (9, [.int 0, .null, .int 0]))] H := hP
  have hD : va_D (va_A [(a, .inr (5, [.int 0, .int 0, .null, .null, .int 0, .int 0, .null, .null, .int 0, .int 0, .int 0])), (q, .inl (ec E 0, n, .inl f))] sz) [(a, .inr (5, [.int 0, .int 0, .null, .null, .int 0, .int 0, .null, .null, .int 0, .int 0, .int 0])), (q, .inl (ec E 0, n, .inl f)), (b1, .inr (9, [.int 0, .null, .int 0]))] := hD
  refine lv_dup C.hx C.hb dX3_init_8 rfl ?_
  refine tn_run (wr := [(a, .inr (5, [.int 0, .int 0, .null, .null, .int 0, .int 0, .null, .null, .int 0, .int 0, .int 0])), (q, .inl (ec E 0, n, .inl f))]) (tn_rI (As := []) (rest := [.ref b1, .ref a]) (wc := [(b1, .inr (9, [.int 0, .null, .int 0]))]) C hsz hbA hP hD hS [2] rfl rfl (by decide) (t_J2_init l (a := b1)) (cwI 0 C.hts (lw_meth q96) rfl rfl rfl (C.hts _ q56) (C.hts _ q156) (C.hts _ q95) rfl (by decide +kernel) ⟨Nat.le_of_ble_eq_true rfl, Nat.le_of_ble_eq_true rfl⟩) rfl hl.1 rfl (lv_room (Nat.le_of_ble_eq_true rfl)) dX3_init_9 ⟨Nat.le_of_ble_eq_true rfl, Nat.le_of_ble_eq_true rfl⟩) hsz hP hD hS [2] [0, 1] rfl rfl (by decide) (by decide) (fun r9 W9 H locs hk hP hD hS => ?_)
  subst hk
  have hP : va_P (eD E) gcl [(a, .inr (5, [.int 0, .int 0, .null, .null, .int 0, .int 0, .null, .null, .int 0, .int 0, .int 0])), (q, .inl (ec E 0, n, .inl f)), (b1, .inr (9, [.int 0, .ref (es E 0), .int 0]))] H := hP
  have hD : va_D (va_A [(a, .inr (5, [.int 0, .int 0, .null, .null, .int 0, .int 0, .null, .null, .int 0, .int 0, .int 0])), (q, .inl (ec E 0, n, .inl f))] sz) [(a, .inr (5, [.int 0, .int 0, .null, .null, .int 0, .int 0, .null, .null, .int 0, .int 0, .int 0])), (q, .inl (ec E 0, n, .inl f)), (b1, .inr (9, [.int 0, .ref (es E 0), .int 0]))] := hD
  refine W.eq (g2 := F0 m 12 ls [.ref b1, .ref a]) rfl ?_
  refine va_putF (C := RX8) (T := TX8) (N := 11) C.hx C.hb C.hts in_X8 tyX8 tyX8_ok nmX8 C.hown C.hK hP hD hS 0 rfl rfl 2 (by decide) (C.hts _ q214) (fun _ h => h) rfl hin2 rfl (tyX8_ok 2 (by decide)) (v := .ref b1) rfl rfl (Nat.le_of_ble_eq_true rfl) dX3_init_12 (fun H locs hP hD hS => ?_)
  have hP : va_P (eD E) gcl [(a, .inr (5, [.int 0, .int 0, .ref b1, .null, .int 0, .int 0, .null, .null, .int 0, .int 0, .int 0])), (q, .inl (ec E 0, n, .inl f)), (b1, .inr (9, [.int 0, .ref (es E 0), .int 0]))] H := hP
  have hD : va_D (va_A [(a, .inr (5, [.int 0, .int 0, .null, .null, .int 0, .int 0, .null, .null, .int 0, .int 0, .int 0])), (q, .inl (ec E 0, n, .inl f))] sz) [(a, .inr (5, [.int 0, .int 0, .ref b1, .null, .int 0, .int 0, .null, .null, .int 0, .int 0, .int 0])), (q, .inl (ec E 0, n, .inl f)), (b1, .inr (9, [.int 0, .ref (es E 0), .int 0]))] := hD
  refine lv_aload_n C.hx C.hb dX3_init_15 rfl (lv_at hl 0 rfl) ?_
  refine lv_bipush (v := 64) C.hx C.hb dX3_init_16 (by decide) ?_
  refine tn_newI (N' := 64) C hsz hP hD hS (by decide) (by decide) (by decide) (Nat.le_of_ble_eq_true rfl) (Nat.le_of_ble_eq_true rfl) dX3_init_18 (fun b2 H hP hD hS => ?_)
  have hP : va_P (eD E) gcl [(a, .inr (5, [.int 0, .int 0, .ref b1, .null, .int 0, .int 0, .null, .null, .int 0, .int 0, .int 0])), (q, .inl (ec E 0, n, .inl f)), (b1, .inr (9, [.int 0, .ref (es E 0), .int 0])), (b2, .inl (ec E 0, 64, .inl (fun _ => 0)))] H := hP
  have hD : va_D (va_A [(a, .inr (5, [.int 0, .int 0, .null, .null, .int 0, .int 0, .null, .null, .int 0, .int 0, .int 0])), (q, .inl (ec E 0, n, .inl f))] sz) [(a, .inr (5, [.int 0, .int 0, .ref b1, .null, .int 0, .int 0, .null, .null, .int 0, .int 0, .int 0])), (q, .inl (ec E 0, n, .inl f)), (b1, .inr (9, [.int 0, .ref (es E 0), .int 0])), (b2, .inl (ec E 0, 64, .inl (fun _ => 0)))] := hD
  refine va_putF (C := RX8) (T := TX8) (N := 11) C.hx C.hb C.hts in_X8 tyX8 tyX8_ok nmX8 C.hown C.hK hP hD hS 0 rfl rfl 3 (by decide) (C.hts _ q216) (fun _ h => h) rfl hin2 rfl (tyX8_ok 3 (by decide)) (v := .ref b2) rfl rfl (Nat.le_of_ble_eq_true rfl) dX3_init_20 (fun H locs hP hD hS => ?_)
  have hP : va_P (eD E) gcl [(a, .inr (5, [.int 0, .int 0, .ref b1, .ref b2, .int 0, .int 0, .null, .null, .int 0, .int 0, .int 0])), (q, .inl (ec E 0, n, .inl f)), (b1, .inr (9, [.int 0, .ref (es E 0), .int 0])), (b2, .inl (ec E 0, 64, .inl (fun _ => 0)))] H := hP
  have hD : va_D (va_A [(a, .inr (5, [.int 0, .int 0, .null, .null, .int 0, .int 0, .null, .null, .int 0, .int 0, .int 0])), (q, .inl (ec E 0, n, .inl f))] sz) [(a, .inr (5, [.int 0, .int 0, .ref b1, .ref b2, .int 0, .int 0, .null, .null, .int 0, .int 0, .int 0])), (q, .inl (ec E 0, n, .inl f)), (b1, .inr (9, [.int 0, .ref (es E 0), .int 0])), (b2, .inl (ec E 0, 64, .inl (fun _ => 0)))] := hD
  refine lv_aload_n C.hx C.hb dX3_init_23 rfl (lv_at hl 0 rfl) ?_
  refine lv_iload_n C.hx C.hb dX3_init_24 rfl (lv_at hl 1 rfl) ?_
  refine va_putF (C := RX8) (T := TX8) (N := 11) C.hx C.hb C.hts in_X8 tyX8 tyX8_ok nmX8 C.hown C.hK hP hD hS 0 rfl rfl 0 (by decide) (C.hts _ q210) (fun _ h => h) rfl hin2 rfl (tyX8_ok 0 (by decide)) (v := .int p1) rfl rfl (Nat.le_of_ble_eq_true rfl) dX3_init_25 (fun H locs hP hD hS => ?_)
  have hP : va_P (eD E) gcl [(a, .inr (5, [.int p1, .int 0, .ref b1, .ref b2, .int 0, .int 0, .null, .null, .int 0, .int 0, .int 0])), (q, .inl (ec E 0, n, .inl f)), (b1, .inr (9, [.int 0, .ref (es E 0), .int 0])), (b2, .inl (ec E 0, 64, .inl (fun _ => 0)))] H := hP
  have hD : va_D (va_A [(a, .inr (5, [.int 0, .int 0, .null, .null, .int 0, .int 0, .null, .null, .int 0, .int 0, .int 0])), (q, .inl (ec E 0, n, .inl f))] sz) [(a, .inr (5, [.int p1, .int 0, .ref b1, .ref b2, .int 0, .int 0, .null, .null, .int 0, .int 0, .int 0])), (q, .inl (ec E 0, n, .inl f)), (b1, .inr (9, [.int 0, .ref (es E 0), .int 0])), (b2, .inl (ec E 0, 64, .inl (fun _ => 0)))] := hD
  refine lv_aload_n C.hx C.hb dX3_init_28 rfl (lv_at hl 0 rfl) ?_
  refine lv_iload_n C.hx C.hb dX3_init_29 rfl (lv_at hl 2 rfl) ?_
  refine va_putF (C := RX8) (T := TX8) (N := 11) C.hx C.hb C.hts in_X8 tyX8 tyX8_ok nmX8 C.hown C.hK hP hD hS 0 rfl rfl 1 (by decide) (C.hts _ q212) (fun _ h => h) rfl hin2 rfl (tyX8_ok 1 (by decide)) (v := .int 100) (by decide) (by decide) (Nat.le_of_ble_eq_true rfl) dX3_init_30 (fun H locs hP hD hS => ?_)
  have hP : va_P (eD E) gcl [(a, .inr (5, [.int p1, .int 100, .ref b1, .ref b2, .int 0, .int 0, .null, .null, .int 0, .int 0, .int 0])), (q, .inl (ec E 0, n, .inl f)), (b1, .inr (9, [.int 0, .ref (es E 0), .int 0])), (b2, .inl (ec E 0, 64, .inl (fun _ => 0)))] H := hP
  have hD : va_D (va_A [(a, .inr (5, [.int 0, .int 0, .null, .null, .int 0, .int 0, .null, .null, .int 0, .int 0, .int 0])), (q, .inl (ec E 0, n, .inl f))] sz) [(a, .inr (5, [.int p1, .int 100, .ref b1, .ref b2, .int 0, .int 0, .null, .null, .int 0, .int 0, .int 0])), (q, .inl (ec E 0, n, .inl f)), (b1, .inr (9, [.int 0, .ref (es E 0), .int 0])), (b2, .inl (ec E 0, 64, .inl (fun _ => 0)))] := hD
  refine lv_aload_n C.hx C.hb dX3_init_33 rfl (lv_at hl 0 rfl) ?_
  refine lv_aload_n C.hx C.hb dX3_init_34 rfl (lv_at hl 3 rfl) ?_
  refine va_putF (C := RX8) (T := TX8) (N := 11) C.hx C.hb C.hts in_X8 tyX8 tyX8_ok nmX8 C.hown C.hK hP hD hS 0 rfl rfl 6 (by decide) (C.hts _ q225) (fun _ h => h) rfl hin2 rfl (tyX8_ok 6 (by decide)) (v := .ref q) rfl rfl (Nat.le_of_ble_eq_true rfl) dX3_init_35 (fun H locs hP hD hS => ?_)
  have hP : va_P (eD E) gcl [(a, .inr (5, [.int p1, .int 100, .ref b1, .ref b2, .int 0, .int 0, .ref q, .null, .int 0, .int 0, .int 0])), (q, .inl (ec E 0, n, .inl f)), (b1, .inr (9, [.int 0, .ref (es E 0), .int 0])), (b2, .inl (ec E 0, 64, .inl (fun _ => 0)))] H := hP
  have hD : va_D (va_A [(a, .inr (5, [.int 0, .int 0, .null, .null, .int 0, .int 0, .null, .null, .int 0, .int 0, .int 0])), (q, .inl (ec E 0, n, .inl f))] sz) [(a, .inr (5, [.int p1, .int 100, .ref b1, .ref b2, .int 0, .int 0, .ref q, .null, .int 0, .int 0, .int 0])), (q, .inl (ec E 0, n, .inl f)), (b1, .inr (9, [.int 0, .ref (es E 0), .int 0])), (b2, .inl (ec E 0, 64, .inl (fun _ => 0)))] := hD
  refine lv_aload_n C.hx C.hb dX3_init_38 rfl (lv_at hl 0 rfl) ?_
  refine lv_aload_n C.hx C.hb dX3_init_39 rfl (lv_at hl 3 rfl) ?_
  refine va_alen C.hx C.hb C.hK hP 1 0 rfl rfl (v := (nI n)) rfl dX3_init_40 ?_
  refine tn_newI (N' := n) C hsz hP hD hS (tn_neg hn) (tn_clamp hn) (by omega) (Nat.le_of_ble_eq_true rfl) (Nat.le_trans (Nat.add_le_add_left hn _) (Nat.le_of_ble_eq_true rfl)) dX3_init_41 (fun b3 H hP hD hS => ?_)
  refine W.widen (k := 3) (n := 128) (Nat.le_of_ble_eq_true rfl) (Nat.add_le_add_left hn _) ?_
  have hP : va_P (eD E) gcl [(a, .inr (5, [.int p1, .int 100, .ref b1, .ref b2, .int 0, .int 0, .ref q, .null, .int 0, .int 0, .int 0])), (q, .inl (ec E 0, n, .inl f)), (b1, .inr (9, [.int 0, .ref (es E 0), .int 0])), (b2, .inl (ec E 0, 64, .inl (fun _ => 0))), (b3, .inl (ec E 0, n, .inl (fun _ => 0)))] H := hP
  have hD : va_D (va_A [(a, .inr (5, [.int 0, .int 0, .null, .null, .int 0, .int 0, .null, .null, .int 0, .int 0, .int 0])), (q, .inl (ec E 0, n, .inl f))] sz) [(a, .inr (5, [.int p1, .int 100, .ref b1, .ref b2, .int 0, .int 0, .ref q, .null, .int 0, .int 0, .int 0])), (q, .inl (ec E 0, n, .inl f)), (b1, .inr (9, [.int 0, .ref (es E 0), .int 0])), (b2, .inl (ec E 0, 64, .inl (fun _ => 0))), (b3, .inl (ec E 0, n, .inl (fun _ => 0)))] := hD
  refine va_putF (C := RX8) (T := TX8) (N := 11) C.hx C.hb C.hts in_X8 tyX8 tyX8_ok nmX8 C.hown C.hK hP hD hS 0 rfl rfl 7 (by decide) (C.hts _ q228) (fun _ h => h) rfl hin2 rfl (tyX8_ok 7 (by decide)) (v := .ref b3) rfl rfl (Nat.le_of_ble_eq_true rfl) dX3_init_43 (fun H locs hP hD hS => ?_)
  have hP : va_P (eD E) gcl [(a, .inr (5, [.int p1, .int 100, .ref b1, .ref b2, .int 0, .int 0, .ref q, .ref b3, .int 0, .int 0, .int 0])), (q, .inl (ec E 0, n, .inl f)), (b1, .inr (9, [.int 0, .ref (es E 0), .int 0])), (b2, .inl (ec E 0, 64, .inl (fun _ => 0))), (b3, .inl (ec E 0, n, .inl (fun _ => 0)))] H := hP
  have hD : va_D (va_A [(a, .inr (5, [.int 0, .int 0, .null, .null, .int 0, .int 0, .null, .null, .int 0, .int 0, .int 0])), (q, .inl (ec E 0, n, .inl f))] sz) [(a, .inr (5, [.int p1, .int 100, .ref b1, .ref b2, .int 0, .int 0, .ref q, .ref b3, .int 0, .int 0, .int 0])), (q, .inl (ec E 0, n, .inl f)), (b1, .inr (9, [.int 0, .ref (es E 0), .int 0])), (b2, .inl (ec E 0, 64, .inl (fun _ => 0))), (b3, .inl (ec E 0, n, .inl (fun _ => 0)))] := hD
  refine W.widen (k := 3) (n := 128) (Nat.le_of_ble_eq_true rfl) (Nat.le_of_ble_eq_true rfl) ?_
  exact tn_vret () rfl C hr hlk hP hD hS ⟨b1, b2, b3, rfl⟩ dX3_init_46
/-! ToneGraph$Node.<init>(IC[I)V -/
set_option maxHeartbeats 4000000 in
theorem t_X3_init_X9 (l : Launch) {E : tc_E} {a : Nat} {q : Nat} {n : Nat} {f : Nat → Int32} {p1 : Int32} {sz : Nat} (hn : n ≤ 61) : tn_M l yX3_init (ws_ yX3_init cX3_init 4 none) ({ frames := 4, cells := 3, slots := 128, locals := 90 } : Room) E [.ref a, .int p1, .int 102, .ref q] [(a, .inr (6, [.int 0, .int 0, .null, .null, .int 0, .int 0, .null, .null, .int 0, .null])), (q, .inl (ec E 0, n, .inl f))] sz (fun _ : Unit => none) (fun (r9 : Unit) (W9 : va_W) => ∃ b1 : Nat, ∃ b2 : Nat, ∃ b3 : Nat, W9 = [(a, .inr (6, [.int p1, .int 102, .ref b1, .ref b2, .int 0, .int 0, .ref q, .ref b3, .int 0, .null])), (q, .inl (ec E 0, n, .inl f)), (b1, .inr (9, [.int 0, .ref (es E 0), .int 0])), (b2, .inl (ec E 0, 64, .inl (fun _ => 0))), (b3, .inl (ec E 0, n, .inl (fun _ => 0)))]) 3 128 := by
  refine tn_start cX3_init 4 none RX3 (by decide) rfl rfl (Nat.le_of_ble_eq_true rfl) ?_
  intro p e s m args below meth c ls C hnm hsz hbA hr hlk hP hD hS hl
  obtain ⟨mx, hnm, hmt⟩ := hnm
  have hin2 := (name_of_methodNamed hnm hmt).1
  have hl : lv_has ls 4 [(0, .ref a), (1, .int p1), (2, .int 102), (3, .ref q)] := hl
  obtain ⟨H, hH0⟩ : ∃ H : Heap, H = s.heap := ⟨_, rfl⟩
  rw [← hH0] at hP ⊢
  have hS : va_S (va_A [(a, .inr (6, [.int 0, .int 0, .null, .null, .int 0, .int 0, .null, .null, .int 0, .null])), (q, .inl (ec E 0, n, .inl f))] sz) s.heap H [] := by rw [hH0]; exact va_S.rf
  refine lv_aload_n C.hx C.hb dX3_init_0 rfl (lv_at hl 0 rfl) ?_
  refine W.objInit C.hx C.hb C.hown (C.hts _ q154) (C.hts _ q90) (C.hts _ q91) rfl (hl.1.trans C.hml.symm) rfl dX3_init_1 (Nat.le_of_ble_eq_true rfl) (Nat.le_of_ble_eq_true rfl) ?_
  refine lv_aload_n C.hx C.hb dX3_init_4 rfl (lv_at hl 0 rfl) ?_
  refine tn_new (Cn := RJ2) (T := TJ2) (N := 3) (ci := 9) C hsz hP hD hS in_J2 tyJ2 tyJ2_ok q155 q93 q56 rfl (fs := [.int 0, .null, .int 0]) tn_zJ2 (Nat.le_of_ble_eq_true rfl) (Nat.le_of_ble_eq_true rfl) dX3_init_5 (fun b1 H hP hD hS => ?_)
  have hP : va_P (eD E) gcl [(a, .inr (6, [.int 0, .int 0, .null, .null, .int 0, .int 0, .null, .null, .int 0, .null])), (q, .inl (ec E 0, n, .inl f)), (b1, .inr (9, [.int 0, .null, .int 0]))] H := hP
  have hD : va_D (va_A [(a, .inr (6, [.int 0, .int 0, .null, .null, .int 0, .int 0, .null, .null, .int 0, .null])), (q, .inl (ec E 0, n, .inl f))] sz) [(a, .inr (6, [.int 0, .int 0, .null, .null, .int 0, .int 0, .null, .null, .int 0, .null])), (q, .inl (ec E 0, n, .inl f)), (b1, .inr (9, [.int 0, .null, .int 0]))] := hD
  refine lv_dup C.hx C.hb dX3_init_8 rfl ?_
  refine tn_run (wr := [(a, .inr (6, [.int 0, .int 0, .null, .null, .int 0, .int 0, .null, .null, .int 0, .null])), (q, .inl (ec E 0, n, .inl f))]) (tn_rI (As := []) (rest := [.ref b1, .ref a]) (wc := [(b1, .inr (9, [.int 0, .null, .int 0]))]) C hsz hbA hP hD hS [2] rfl rfl (by decide) (t_J2_init l (a := b1)) (cwI 0 C.hts (lw_meth q96) rfl rfl rfl (C.hts _ q56) (C.hts _ q156) (C.hts _ q95) rfl (by decide +kernel) ⟨Nat.le_of_ble_eq_true rfl, Nat.le_of_ble_eq_true rfl⟩) rfl hl.1 rfl (lv_room (Nat.le_of_ble_eq_true rfl)) dX3_init_9 ⟨Nat.le_of_ble_eq_true rfl, Nat.le_of_ble_eq_true rfl⟩) hsz hP hD hS [2] [0, 1] rfl rfl (by decide) (by decide) (fun r9 W9 H locs hk hP hD hS => ?_)
  subst hk
  have hP : va_P (eD E) gcl [(a, .inr (6, [.int 0, .int 0, .null, .null, .int 0, .int 0, .null, .null, .int 0, .null])), (q, .inl (ec E 0, n, .inl f)), (b1, .inr (9, [.int 0, .ref (es E 0), .int 0]))] H := hP
  have hD : va_D (va_A [(a, .inr (6, [.int 0, .int 0, .null, .null, .int 0, .int 0, .null, .null, .int 0, .null])), (q, .inl (ec E 0, n, .inl f))] sz) [(a, .inr (6, [.int 0, .int 0, .null, .null, .int 0, .int 0, .null, .null, .int 0, .null])), (q, .inl (ec E 0, n, .inl f)), (b1, .inr (9, [.int 0, .ref (es E 0), .int 0]))] := hD
  refine W.eq (g2 := F0 m 12 ls [.ref b1, .ref a]) rfl ?_
  refine va_putF (C := RX9) (T := TX9) (N := 10) C.hx C.hb C.hts in_X9 tyX9 tyX9_ok nmX9 C.hown C.hK hP hD hS 0 rfl rfl 2 (by decide) (C.hts _ q214) (fun _ h => h) rfl hin2 rfl (tyX9_ok 2 (by decide)) (v := .ref b1) rfl rfl (Nat.le_of_ble_eq_true rfl) dX3_init_12 (fun H locs hP hD hS => ?_)
  have hP : va_P (eD E) gcl [(a, .inr (6, [.int 0, .int 0, .ref b1, .null, .int 0, .int 0, .null, .null, .int 0, .null])), (q, .inl (ec E 0, n, .inl f)), (b1, .inr (9, [.int 0, .ref (es E 0), .int 0]))] H := hP
  have hD : va_D (va_A [(a, .inr (6, [.int 0, .int 0, .null, .null, .int 0, .int 0, .null, .null, .int 0, .null])), (q, .inl (ec E 0, n, .inl f))] sz) [(a, .inr (6, [.int 0, .int 0, .ref b1, .null, .int 0, .int 0, .null, .null, .int 0, .null])), (q, .inl (ec E 0, n, .inl f)), (b1, .inr (9, [.int 0, .ref (es E 0), .int 0]))] := hD
  refine lv_aload_n C.hx C.hb dX3_init_15 rfl (lv_at hl 0 rfl) ?_
  refine lv_bipush (v := 64) C.hx C.hb dX3_init_16 (by decide) ?_
  refine tn_newI (N' := 64) C hsz hP hD hS (by decide) (by decide) (by decide) (Nat.le_of_ble_eq_true rfl) (Nat.le_of_ble_eq_true rfl) dX3_init_18 (fun b2 H hP hD hS => ?_)
  have hP : va_P (eD E) gcl [(a, .inr (6, [.int 0, .int 0, .ref b1, .null, .int 0, .int 0, .null, .null, .int 0, .null])), (q, .inl (ec E 0, n, .inl f)), (b1, .inr (9, [.int 0, .ref (es E 0), .int 0])), (b2, .inl (ec E 0, 64, .inl (fun _ => 0)))] H := hP
  have hD : va_D (va_A [(a, .inr (6, [.int 0, .int 0, .null, .null, .int 0, .int 0, .null, .null, .int 0, .null])), (q, .inl (ec E 0, n, .inl f))] sz) [(a, .inr (6, [.int 0, .int 0, .ref b1, .null, .int 0, .int 0, .null, .null, .int 0, .null])), (q, .inl (ec E 0, n, .inl f)), (b1, .inr (9, [.int 0, .ref (es E 0), .int 0])), (b2, .inl (ec E 0, 64, .inl (fun _ => 0)))] := hD
  refine va_putF (C := RX9) (T := TX9) (N := 10) C.hx C.hb C.hts in_X9 tyX9 tyX9_ok nmX9 C.hown C.hK hP hD hS 0 rfl rfl 3 (by decide) (C.hts _ q216) (fun _ h => h) rfl hin2 rfl (tyX9_ok 3 (by decide)) (v := .ref b2) rfl rfl (Nat.le_of_ble_eq_true rfl) dX3_init_20 (fun H locs hP hD hS => ?_)
  have hP : va_P (eD E) gcl [(a, .inr (6, [.int 0, .int 0, .ref b1, .ref b2, .int 0, .int 0, .null, .null, .int 0, .null])), (q, .inl (ec E 0, n, .inl f)), (b1, .inr (9, [.int 0, .ref (es E 0), .int 0])), (b2, .inl (ec E 0, 64, .inl (fun _ => 0)))] H := hP
  have hD : va_D (va_A [(a, .inr (6, [.int 0, .int 0, .null, .null, .int 0, .int 0, .null, .null, .int 0, .null])), (q, .inl (ec E 0, n, .inl f))] sz) [(a, .inr (6, [.int 0, .int 0, .ref b1, .ref b2, .int 0, .int 0, .null, .null, .int 0, .null])), (q, .inl (ec E 0, n, .inl f)), (b1, .inr (9, [.int 0, .ref (es E 0), .int 0])), (b2, .inl (ec E 0, 64, .inl (fun _ => 0)))] := hD
  refine lv_aload_n C.hx C.hb dX3_init_23 rfl (lv_at hl 0 rfl) ?_
  refine lv_iload_n C.hx C.hb dX3_init_24 rfl (lv_at hl 1 rfl) ?_
  refine va_putF (C := RX9) (T := TX9) (N := 10) C.hx C.hb C.hts in_X9 tyX9 tyX9_ok nmX9 C.hown C.hK hP hD hS 0 rfl rfl 0 (by decide) (C.hts _ q210) (fun _ h => h) rfl hin2 rfl (tyX9_ok 0 (by decide)) (v := .int p1) rfl rfl (Nat.le_of_ble_eq_true rfl) dX3_init_25 (fun H locs hP hD hS => ?_)
  have hP : va_P (eD E) gcl [(a, .inr (6, [.int p1, .int 0, .ref b1, .ref b2, .int 0, .int 0, .null, .null, .int 0, .null])), (q, .inl (ec E 0, n, .inl f)), (b1, .inr (9, [.int 0, .ref (es E 0), .int 0])), (b2, .inl (ec E 0, 64, .inl (fun _ => 0)))] H := hP
  have hD : va_D (va_A [(a, .inr (6, [.int 0, .int 0, .null, .null, .int 0, .int 0, .null, .null, .int 0, .null])), (q, .inl (ec E 0, n, .inl f))] sz) [(a, .inr (6, [.int p1, .int 0, .ref b1, .ref b2, .int 0, .int 0, .null, .null, .int 0, .null])), (q, .inl (ec E 0, n, .inl f)), (b1, .inr (9, [.int 0, .ref (es E 0), .int 0])), (b2, .inl (ec E 0, 64, .inl (fun _ => 0)))] := hD
  refine lv_aload_n C.hx C.hb dX3_init_28 rfl (lv_at hl 0 rfl) ?_
  refine lv_iload_n C.hx C.hb dX3_init_29 rfl (lv_at hl 2 rfl) ?_
  refine va_putF (C := RX9) (T := TX9) (N := 10) C.hx C.hb C.hts in_X9 tyX9 tyX9_ok nmX9 C.hown C.hK hP hD hS 0 rfl rfl 1 (by decide) (C.hts _ q212) (fun _ h => h) rfl hin2 rfl (tyX9_ok 1 (by decide)) (v := .int 102) (by decide) (by decide) (Nat.le_of_ble_eq_true rfl) dX3_init_30 (fun H locs hP hD hS => ?_)
  have hP : va_P (eD E) gcl [(a, .inr (6, [.int p1, .int 102, .ref b1, .ref b2, .int 0, .int 0, .null, .null, .int 0, .null])), (q, .inl (ec E 0, n, .inl f)), (b1, .inr (9, [.int 0, .ref (es E 0), .int 0])), (b2, .inl (ec E 0, 64, .inl (fun _ => 0)))] H := hP
  have hD : va_D (va_A [(a, .inr (6, [.int 0, .int 0, .null, .null, .int 0, .int 0, .null, .null, .int 0, .null])), (q, .inl (ec E 0, n, .inl f))] sz) [(a, .inr (6, [.int p1, .int 102, .ref b1, .ref b2, .int 0, .int 0, .null, .null, .int 0, .null])), (q, .inl (ec E 0, n, .inl f)), (b1, .inr (9, [.int 0, .ref (es E 0), .int 0])), (b2, .inl (ec E 0, 64, .inl (fun _ => 0)))] := hD
  refine lv_aload_n C.hx C.hb dX3_init_33 rfl (lv_at hl 0 rfl) ?_
  refine lv_aload_n C.hx C.hb dX3_init_34 rfl (lv_at hl 3 rfl) ?_
  refine va_putF (C := RX9) (T := TX9) (N := 10) C.hx C.hb C.hts in_X9 tyX9 tyX9_ok nmX9 C.hown C.hK hP hD hS 0 rfl rfl 6 (by decide) (C.hts _ q225) (fun _ h => h) rfl hin2 rfl (tyX9_ok 6 (by decide)) (v := .ref q) rfl rfl (Nat.le_of_ble_eq_true rfl) dX3_init_35 (fun H locs hP hD hS => ?_)
  have hP : va_P (eD E) gcl [(a, .inr (6, [.int p1, .int 102, .ref b1, .ref b2, .int 0, .int 0, .ref q, .null, .int 0, .null])), (q, .inl (ec E 0, n, .inl f)), (b1, .inr (9, [.int 0, .ref (es E 0), .int 0])), (b2, .inl (ec E 0, 64, .inl (fun _ => 0)))] H := hP
  have hD : va_D (va_A [(a, .inr (6, [.int 0, .int 0, .null, .null, .int 0, .int 0, .null, .null, .int 0, .null])), (q, .inl (ec E 0, n, .inl f))] sz) [(a, .inr (6, [.int p1, .int 102, .ref b1, .ref b2, .int 0, .int 0, .ref q, .null, .int 0, .null])), (q, .inl (ec E 0, n, .inl f)), (b1, .inr (9, [.int 0, .ref (es E 0), .int 0])), (b2, .inl (ec E 0, 64, .inl (fun _ => 0)))] := hD
  refine lv_aload_n C.hx C.hb dX3_init_38 rfl (lv_at hl 0 rfl) ?_
  refine lv_aload_n C.hx C.hb dX3_init_39 rfl (lv_at hl 3 rfl) ?_
  refine va_alen C.hx C.hb C.hK hP 1 0 rfl rfl (v := (nI n)) rfl dX3_init_40 ?_
  refine tn_newI (N' := n) C hsz hP hD hS (tn_neg hn) (tn_clamp hn) (by omega) (Nat.le_of_ble_eq_true rfl) (Nat.le_trans (Nat.add_le_add_left hn _) (Nat.le_of_ble_eq_true rfl)) dX3_init_41 (fun b3 H hP hD hS => ?_)
  refine W.widen (k := 3) (n := 128) (Nat.le_of_ble_eq_true rfl) (Nat.add_le_add_left hn _) ?_
  have hP : va_P (eD E) gcl [(a, .inr (6, [.int p1, .int 102, .ref b1, .ref b2, .int 0, .int 0, .ref q, .null, .int 0, .null])), (q, .inl (ec E 0, n, .inl f)), (b1, .inr (9, [.int 0, .ref (es E 0), .int 0])), (b2, .inl (ec E 0, 64, .inl (fun _ => 0))), (b3, .inl (ec E 0, n, .inl (fun _ => 0)))] H := hP
  have hD : va_D (va_A [(a, .inr (6, [.int 0, .int 0, .null, .null, .int 0, .int 0, .null, .null, .int 0, .null])), (q, .inl (ec E 0, n, .inl f))] sz) [(a, .inr (6, [.int p1, .int 102, .ref b1, .ref b2, .int 0, .int 0, .ref q, .null, .int 0, .null])), (q, .inl (ec E 0, n, .inl f)), (b1, .inr (9, [.int 0, .ref (es E 0), .int 0])), (b2, .inl (ec E 0, 64, .inl (fun _ => 0))), (b3, .inl (ec E 0, n, .inl (fun _ => 0)))] := hD
  refine va_putF (C := RX9) (T := TX9) (N := 10) C.hx C.hb C.hts in_X9 tyX9 tyX9_ok nmX9 C.hown C.hK hP hD hS 0 rfl rfl 7 (by decide) (C.hts _ q228) (fun _ h => h) rfl hin2 rfl (tyX9_ok 7 (by decide)) (v := .ref b3) rfl rfl (Nat.le_of_ble_eq_true rfl) dX3_init_43 (fun H locs hP hD hS => ?_)
  have hP : va_P (eD E) gcl [(a, .inr (6, [.int p1, .int 102, .ref b1, .ref b2, .int 0, .int 0, .ref q, .ref b3, .int 0, .null])), (q, .inl (ec E 0, n, .inl f)), (b1, .inr (9, [.int 0, .ref (es E 0), .int 0])), (b2, .inl (ec E 0, 64, .inl (fun _ => 0))), (b3, .inl (ec E 0, n, .inl (fun _ => 0)))] H := hP
  have hD : va_D (va_A [(a, .inr (6, [.int 0, .int 0, .null, .null, .int 0, .int 0, .null, .null, .int 0, .null])), (q, .inl (ec E 0, n, .inl f))] sz) [(a, .inr (6, [.int p1, .int 102, .ref b1, .ref b2, .int 0, .int 0, .ref q, .ref b3, .int 0, .null])), (q, .inl (ec E 0, n, .inl f)), (b1, .inr (9, [.int 0, .ref (es E 0), .int 0])), (b2, .inl (ec E 0, 64, .inl (fun _ => 0))), (b3, .inl (ec E 0, n, .inl (fun _ => 0)))] := hD
  refine W.widen (k := 3) (n := 128) (Nat.le_of_ble_eq_true rfl) (Nat.le_of_ble_eq_true rfl) ?_
  exact tn_vret () rfl C hr hlk hP hD hS ⟨b1, b2, b3, rfl⟩ dX3_init_46
/-! ToneGraph$Node.<init>(IC[I)V -/
set_option maxHeartbeats 4000000 in
theorem t_X3_init_X10 (l : Launch) {E : tc_E} {a : Nat} {q : Nat} {n : Nat} {f : Nat → Int32} {p1 : Int32} {sz : Nat} (hn : n ≤ 61) : tn_M l yX3_init (ws_ yX3_init cX3_init 4 none) ({ frames := 4, cells := 3, slots := 128, locals := 90 } : Room) E [.ref a, .int p1, .int 98, .ref q] [(a, .inr (7, [.int 0, .int 0, .null, .null, .int 0, .int 0, .null, .null, .int 0, .int 0])), (q, .inl (ec E 0, n, .inl f))] sz (fun _ : Unit => none) (fun (r9 : Unit) (W9 : va_W) => ∃ b1 : Nat, ∃ b2 : Nat, ∃ b3 : Nat, W9 = [(a, .inr (7, [.int p1, .int 98, .ref b1, .ref b2, .int 0, .int 0, .ref q, .ref b3, .int 0, .int 0])), (q, .inl (ec E 0, n, .inl f)), (b1, .inr (9, [.int 0, .ref (es E 0), .int 0])), (b2, .inl (ec E 0, 64, .inl (fun _ => 0))), (b3, .inl (ec E 0, n, .inl (fun _ => 0)))]) 3 128 := by
  refine tn_start cX3_init 4 none RX3 (by decide) rfl rfl (Nat.le_of_ble_eq_true rfl) ?_
  intro p e s m args below meth c ls C hnm hsz hbA hr hlk hP hD hS hl
  obtain ⟨mx, hnm, hmt⟩ := hnm
  have hin2 := (name_of_methodNamed hnm hmt).1
  have hl : lv_has ls 4 [(0, .ref a), (1, .int p1), (2, .int 98), (3, .ref q)] := hl
  obtain ⟨H, hH0⟩ : ∃ H : Heap, H = s.heap := ⟨_, rfl⟩
  rw [← hH0] at hP ⊢
  have hS : va_S (va_A [(a, .inr (7, [.int 0, .int 0, .null, .null, .int 0, .int 0, .null, .null, .int 0, .int 0])), (q, .inl (ec E 0, n, .inl f))] sz) s.heap H [] := by rw [hH0]; exact va_S.rf
  refine lv_aload_n C.hx C.hb dX3_init_0 rfl (lv_at hl 0 rfl) ?_
  refine W.objInit C.hx C.hb C.hown (C.hts _ q154) (C.hts _ q90) (C.hts _ q91) rfl (hl.1.trans C.hml.symm) rfl dX3_init_1 (Nat.le_of_ble_eq_true rfl) (Nat.le_of_ble_eq_true rfl) ?_
  refine lv_aload_n C.hx C.hb dX3_init_4 rfl (lv_at hl 0 rfl) ?_
  refine tn_new (Cn := RJ2) (T := TJ2) (N := 3) (ci := 9) C hsz hP hD hS in_J2 tyJ2 tyJ2_ok q155 q93 q56 rfl (fs := [.int 0, .null, .int 0]) tn_zJ2 (Nat.le_of_ble_eq_true rfl) (Nat.le_of_ble_eq_true rfl) dX3_init_5 (fun b1 H hP hD hS => ?_)
  have hP : va_P (eD E) gcl [(a, .inr (7, [.int 0, .int 0, .null, .null, .int 0, .int 0, .null, .null, .int 0, .int 0])), (q, .inl (ec E 0, n, .inl f)), (b1, .inr (9, [.int 0, .null, .int 0]))] H := hP
  have hD : va_D (va_A [(a, .inr (7, [.int 0, .int 0, .null, .null, .int 0, .int 0, .null, .null, .int 0, .int 0])), (q, .inl (ec E 0, n, .inl f))] sz) [(a, .inr (7, [.int 0, .int 0, .null, .null, .int 0, .int 0, .null, .null, .int 0, .int 0])), (q, .inl (ec E 0, n, .inl f)), (b1, .inr (9, [.int 0, .null, .int 0]))] := hD
  refine lv_dup C.hx C.hb dX3_init_8 rfl ?_
  refine tn_run (wr := [(a, .inr (7, [.int 0, .int 0, .null, .null, .int 0, .int 0, .null, .null, .int 0, .int 0])), (q, .inl (ec E 0, n, .inl f))]) (tn_rI (As := []) (rest := [.ref b1, .ref a]) (wc := [(b1, .inr (9, [.int 0, .null, .int 0]))]) C hsz hbA hP hD hS [2] rfl rfl (by decide) (t_J2_init l (a := b1)) (cwI 0 C.hts (lw_meth q96) rfl rfl rfl (C.hts _ q56) (C.hts _ q156) (C.hts _ q95) rfl (by decide +kernel) ⟨Nat.le_of_ble_eq_true rfl, Nat.le_of_ble_eq_true rfl⟩) rfl hl.1 rfl (lv_room (Nat.le_of_ble_eq_true rfl)) dX3_init_9 ⟨Nat.le_of_ble_eq_true rfl, Nat.le_of_ble_eq_true rfl⟩) hsz hP hD hS [2] [0, 1] rfl rfl (by decide) (by decide) (fun r9 W9 H locs hk hP hD hS => ?_)
  subst hk
  have hP : va_P (eD E) gcl [(a, .inr (7, [.int 0, .int 0, .null, .null, .int 0, .int 0, .null, .null, .int 0, .int 0])), (q, .inl (ec E 0, n, .inl f)), (b1, .inr (9, [.int 0, .ref (es E 0), .int 0]))] H := hP
  have hD : va_D (va_A [(a, .inr (7, [.int 0, .int 0, .null, .null, .int 0, .int 0, .null, .null, .int 0, .int 0])), (q, .inl (ec E 0, n, .inl f))] sz) [(a, .inr (7, [.int 0, .int 0, .null, .null, .int 0, .int 0, .null, .null, .int 0, .int 0])), (q, .inl (ec E 0, n, .inl f)), (b1, .inr (9, [.int 0, .ref (es E 0), .int 0]))] := hD
  refine W.eq (g2 := F0 m 12 ls [.ref b1, .ref a]) rfl ?_
  refine va_putF (C := RX10) (T := TX10) (N := 10) C.hx C.hb C.hts in_X10 tyX10 tyX10_ok nmX10 C.hown C.hK hP hD hS 0 rfl rfl 2 (by decide) (C.hts _ q214) (fun _ h => h) rfl hin2 rfl (tyX10_ok 2 (by decide)) (v := .ref b1) rfl rfl (Nat.le_of_ble_eq_true rfl) dX3_init_12 (fun H locs hP hD hS => ?_)
  have hP : va_P (eD E) gcl [(a, .inr (7, [.int 0, .int 0, .ref b1, .null, .int 0, .int 0, .null, .null, .int 0, .int 0])), (q, .inl (ec E 0, n, .inl f)), (b1, .inr (9, [.int 0, .ref (es E 0), .int 0]))] H := hP
  have hD : va_D (va_A [(a, .inr (7, [.int 0, .int 0, .null, .null, .int 0, .int 0, .null, .null, .int 0, .int 0])), (q, .inl (ec E 0, n, .inl f))] sz) [(a, .inr (7, [.int 0, .int 0, .ref b1, .null, .int 0, .int 0, .null, .null, .int 0, .int 0])), (q, .inl (ec E 0, n, .inl f)), (b1, .inr (9, [.int 0, .ref (es E 0), .int 0]))] := hD
  refine lv_aload_n C.hx C.hb dX3_init_15 rfl (lv_at hl 0 rfl) ?_
  refine lv_bipush (v := 64) C.hx C.hb dX3_init_16 (by decide) ?_
  refine tn_newI (N' := 64) C hsz hP hD hS (by decide) (by decide) (by decide) (Nat.le_of_ble_eq_true rfl) (Nat.le_of_ble_eq_true rfl) dX3_init_18 (fun b2 H hP hD hS => ?_)
  have hP : va_P (eD E) gcl [(a, .inr (7, [.int 0, .int 0, .ref b1, .null, .int 0, .int 0, .null, .null, .int 0, .int 0])), (q, .inl (ec E 0, n, .inl f)), (b1, .inr (9, [.int 0, .ref (es E 0), .int 0])), (b2, .inl (ec E 0, 64, .inl (fun _ => 0)))] H := hP
  have hD : va_D (va_A [(a, .inr (7, [.int 0, .int 0, .null, .null, .int 0, .int 0, .null, .null, .int 0, .int 0])), (q, .inl (ec E 0, n, .inl f))] sz) [(a, .inr (7, [.int 0, .int 0, .ref b1, .null, .int 0, .int 0, .null, .null, .int 0, .int 0])), (q, .inl (ec E 0, n, .inl f)), (b1, .inr (9, [.int 0, .ref (es E 0), .int 0])), (b2, .inl (ec E 0, 64, .inl (fun _ => 0)))] := hD
  refine va_putF (C := RX10) (T := TX10) (N := 10) C.hx C.hb C.hts in_X10 tyX10 tyX10_ok nmX10 C.hown C.hK hP hD hS 0 rfl rfl 3 (by decide) (C.hts _ q216) (fun _ h => h) rfl hin2 rfl (tyX10_ok 3 (by decide)) (v := .ref b2) rfl rfl (Nat.le_of_ble_eq_true rfl) dX3_init_20 (fun H locs hP hD hS => ?_)
  have hP : va_P (eD E) gcl [(a, .inr (7, [.int 0, .int 0, .ref b1, .ref b2, .int 0, .int 0, .null, .null, .int 0, .int 0])), (q, .inl (ec E 0, n, .inl f)), (b1, .inr (9, [.int 0, .ref (es E 0), .int 0])), (b2, .inl (ec E 0, 64, .inl (fun _ => 0)))] H := hP
  have hD : va_D (va_A [(a, .inr (7, [.int 0, .int 0, .null, .null, .int 0, .int 0, .null, .null, .int 0, .int 0])), (q, .inl (ec E 0, n, .inl f))] sz) [(a, .inr (7, [.int 0, .int 0, .ref b1, .ref b2, .int 0, .int 0, .null, .null, .int 0, .int 0])), (q, .inl (ec E 0, n, .inl f)), (b1, .inr (9, [.int 0, .ref (es E 0), .int 0])), (b2, .inl (ec E 0, 64, .inl (fun _ => 0)))] := hD
  refine lv_aload_n C.hx C.hb dX3_init_23 rfl (lv_at hl 0 rfl) ?_
  refine lv_iload_n C.hx C.hb dX3_init_24 rfl (lv_at hl 1 rfl) ?_
  refine va_putF (C := RX10) (T := TX10) (N := 10) C.hx C.hb C.hts in_X10 tyX10 tyX10_ok nmX10 C.hown C.hK hP hD hS 0 rfl rfl 0 (by decide) (C.hts _ q210) (fun _ h => h) rfl hin2 rfl (tyX10_ok 0 (by decide)) (v := .int p1) rfl rfl (Nat.le_of_ble_eq_true rfl) dX3_init_25 (fun H locs hP hD hS => ?_)
  have hP : va_P (eD E) gcl [(a, .inr (7, [.int p1, .int 0, .ref b1, .ref b2, .int 0, .int 0, .null, .null, .int 0, .int 0])), (q, .inl (ec E 0, n, .inl f)), (b1, .inr (9, [.int 0, .ref (es E 0), .int 0])), (b2, .inl (ec E 0, 64, .inl (fun _ => 0)))] H := hP
  have hD : va_D (va_A [(a, .inr (7, [.int 0, .int 0, .null, .null, .int 0, .int 0, .null, .null, .int 0, .int 0])), (q, .inl (ec E 0, n, .inl f))] sz) [(a, .inr (7, [.int p1, .int 0, .ref b1, .ref b2, .int 0, .int 0, .null, .null, .int 0, .int 0])), (q, .inl (ec E 0, n, .inl f)), (b1, .inr (9, [.int 0, .ref (es E 0), .int 0])), (b2, .inl (ec E 0, 64, .inl (fun _ => 0)))] := hD
  refine lv_aload_n C.hx C.hb dX3_init_28 rfl (lv_at hl 0 rfl) ?_
  refine lv_iload_n C.hx C.hb dX3_init_29 rfl (lv_at hl 2 rfl) ?_
  refine va_putF (C := RX10) (T := TX10) (N := 10) C.hx C.hb C.hts in_X10 tyX10 tyX10_ok nmX10 C.hown C.hK hP hD hS 0 rfl rfl 1 (by decide) (C.hts _ q212) (fun _ h => h) rfl hin2 rfl (tyX10_ok 1 (by decide)) (v := .int 98) (by decide) (by decide) (Nat.le_of_ble_eq_true rfl) dX3_init_30 (fun H locs hP hD hS => ?_)
  have hP : va_P (eD E) gcl [(a, .inr (7, [.int p1, .int 98, .ref b1, .ref b2, .int 0, .int 0, .null, .null, .int 0, .int 0])), (q, .inl (ec E 0, n, .inl f)), (b1, .inr (9, [.int 0, .ref (es E 0), .int 0])), (b2, .inl (ec E 0, 64, .inl (fun _ => 0)))] H := hP
  have hD : va_D (va_A [(a, .inr (7, [.int 0, .int 0, .null, .null, .int 0, .int 0, .null, .null, .int 0, .int 0])), (q, .inl (ec E 0, n, .inl f))] sz) [(a, .inr (7, [.int p1, .int 98, .ref b1, .ref b2, .int 0, .int 0, .null, .null, .int 0, .int 0])), (q, .inl (ec E 0, n, .inl f)), (b1, .inr (9, [.int 0, .ref (es E 0), .int 0])), (b2, .inl (ec E 0, 64, .inl (fun _ => 0)))] := hD
  refine lv_aload_n C.hx C.hb dX3_init_33 rfl (lv_at hl 0 rfl) ?_
  refine lv_aload_n C.hx C.hb dX3_init_34 rfl (lv_at hl 3 rfl) ?_
  refine va_putF (C := RX10) (T := TX10) (N := 10) C.hx C.hb C.hts in_X10 tyX10 tyX10_ok nmX10 C.hown C.hK hP hD hS 0 rfl rfl 6 (by decide) (C.hts _ q225) (fun _ h => h) rfl hin2 rfl (tyX10_ok 6 (by decide)) (v := .ref q) rfl rfl (Nat.le_of_ble_eq_true rfl) dX3_init_35 (fun H locs hP hD hS => ?_)
  have hP : va_P (eD E) gcl [(a, .inr (7, [.int p1, .int 98, .ref b1, .ref b2, .int 0, .int 0, .ref q, .null, .int 0, .int 0])), (q, .inl (ec E 0, n, .inl f)), (b1, .inr (9, [.int 0, .ref (es E 0), .int 0])), (b2, .inl (ec E 0, 64, .inl (fun _ => 0)))] H := hP
  have hD : va_D (va_A [(a, .inr (7, [.int 0, .int 0, .null, .null, .int 0, .int 0, .null, .null, .int 0, .int 0])), (q, .inl (ec E 0, n, .inl f))] sz) [(a, .inr (7, [.int p1, .int 98, .ref b1, .ref b2, .int 0, .int 0, .ref q, .null, .int 0, .int 0])), (q, .inl (ec E 0, n, .inl f)), (b1, .inr (9, [.int 0, .ref (es E 0), .int 0])), (b2, .inl (ec E 0, 64, .inl (fun _ => 0)))] := hD
  refine lv_aload_n C.hx C.hb dX3_init_38 rfl (lv_at hl 0 rfl) ?_
  refine lv_aload_n C.hx C.hb dX3_init_39 rfl (lv_at hl 3 rfl) ?_
  refine va_alen C.hx C.hb C.hK hP 1 0 rfl rfl (v := (nI n)) rfl dX3_init_40 ?_
  refine tn_newI (N' := n) C hsz hP hD hS (tn_neg hn) (tn_clamp hn) (by omega) (Nat.le_of_ble_eq_true rfl) (Nat.le_trans (Nat.add_le_add_left hn _) (Nat.le_of_ble_eq_true rfl)) dX3_init_41 (fun b3 H hP hD hS => ?_)
  refine W.widen (k := 3) (n := 128) (Nat.le_of_ble_eq_true rfl) (Nat.add_le_add_left hn _) ?_
  have hP : va_P (eD E) gcl [(a, .inr (7, [.int p1, .int 98, .ref b1, .ref b2, .int 0, .int 0, .ref q, .null, .int 0, .int 0])), (q, .inl (ec E 0, n, .inl f)), (b1, .inr (9, [.int 0, .ref (es E 0), .int 0])), (b2, .inl (ec E 0, 64, .inl (fun _ => 0))), (b3, .inl (ec E 0, n, .inl (fun _ => 0)))] H := hP
  have hD : va_D (va_A [(a, .inr (7, [.int 0, .int 0, .null, .null, .int 0, .int 0, .null, .null, .int 0, .int 0])), (q, .inl (ec E 0, n, .inl f))] sz) [(a, .inr (7, [.int p1, .int 98, .ref b1, .ref b2, .int 0, .int 0, .ref q, .null, .int 0, .int 0])), (q, .inl (ec E 0, n, .inl f)), (b1, .inr (9, [.int 0, .ref (es E 0), .int 0])), (b2, .inl (ec E 0, 64, .inl (fun _ => 0))), (b3, .inl (ec E 0, n, .inl (fun _ => 0)))] := hD
  refine va_putF (C := RX10) (T := TX10) (N := 10) C.hx C.hb C.hts in_X10 tyX10 tyX10_ok nmX10 C.hown C.hK hP hD hS 0 rfl rfl 7 (by decide) (C.hts _ q228) (fun _ h => h) rfl hin2 rfl (tyX10_ok 7 (by decide)) (v := .ref b3) rfl rfl (Nat.le_of_ble_eq_true rfl) dX3_init_43 (fun H locs hP hD hS => ?_)
  have hP : va_P (eD E) gcl [(a, .inr (7, [.int p1, .int 98, .ref b1, .ref b2, .int 0, .int 0, .ref q, .ref b3, .int 0, .int 0])), (q, .inl (ec E 0, n, .inl f)), (b1, .inr (9, [.int 0, .ref (es E 0), .int 0])), (b2, .inl (ec E 0, 64, .inl (fun _ => 0))), (b3, .inl (ec E 0, n, .inl (fun _ => 0)))] H := hP
  have hD : va_D (va_A [(a, .inr (7, [.int 0, .int 0, .null, .null, .int 0, .int 0, .null, .null, .int 0, .int 0])), (q, .inl (ec E 0, n, .inl f))] sz) [(a, .inr (7, [.int p1, .int 98, .ref b1, .ref b2, .int 0, .int 0, .ref q, .ref b3, .int 0, .int 0])), (q, .inl (ec E 0, n, .inl f)), (b1, .inr (9, [.int 0, .ref (es E 0), .int 0])), (b2, .inl (ec E 0, 64, .inl (fun _ => 0))), (b3, .inl (ec E 0, n, .inl (fun _ => 0)))] := hD
  refine W.widen (k := 3) (n := 128) (Nat.le_of_ble_eq_true rfl) (Nat.le_of_ble_eq_true rfl) ?_
  exact tn_vret () rfl C hr hlk hP hD hS ⟨b1, b2, b3, rfl⟩ dX3_init_46
/-! ToneGraph$Gain.<init>(II)V -/
set_option maxHeartbeats 4000000 in
theorem t_X7_init (l : Launch) {E : tc_E} {a : Nat} {p1 : Int32} {p2 : Int32} {sz : Nat} : tn_M l yX7_init (ws_ yX7_init cX7_init 3 none) ({ frames := 5, cells := 4, slots := 128, locals := 113 } : Room) E [.ref a, .int p1, .int p2] [(a, .inr (4, [.int 0, .int 0, .null, .null, .int 0, .int 0, .null, .null, .int 0, .int 0]))] sz (fun _ : Unit => none) (fun (r9 : Unit) (W9 : va_W) => ∃ b1 : Nat, ∃ b2 : Nat, ∃ b3 : Nat, ∃ b4 : Nat, W9 = [(a, .inr (4, [.int p1, .int 103, .ref b2, .ref b3, .int 0, .int 0, .ref b1, .ref b4, .int 0, .int p2])), (b1, .inl (ec E 0, 0, .inl (fun _ => 0))), (b2, .inr (9, [.int 0, .ref (es E 0), .int 0])), (b3, .inl (ec E 0, 64, .inl (fun _ => 0))), (b4, .inl (ec E 0, 0, .inl (fun _ => 0)))]) 4 128 := by
  refine tn_start cX7_init 3 none RX7 (by decide) rfl rfl (Nat.le_of_ble_eq_true rfl) ?_
  intro p e s m args below meth c ls C hnm hsz hbA hr hlk hP hD hS hl
  obtain ⟨mx, hnm, hmt⟩ := hnm
  have hin2 := (name_of_methodNamed hnm hmt).1
  have hl : lv_has ls 3 [(0, .ref a), (1, .int p1), (2, .int p2)] := hl
  obtain ⟨H, hH0⟩ : ∃ H : Heap, H = s.heap := ⟨_, rfl⟩
  rw [← hH0] at hP ⊢
  have hS : va_S (va_A [(a, .inr (4, [.int 0, .int 0, .null, .null, .int 0, .int 0, .null, .null, .int 0, .int 0]))] sz) s.heap H [] := by rw [hH0]; exact va_S.rf
  refine lv_aload_n C.hx C.hb dX7_init_0 rfl (lv_at hl 0 rfl) ?_
  refine lv_iload_n C.hx C.hb dX7_init_1 rfl (lv_at hl 1 rfl) ?_
  refine lv_bipush (v := 103) C.hx C.hb dX7_init_2 (by decide) ?_
  refine lv_iconst (v := 0) C.hx C.hb dX7_init_4 (by decide) ?_
  refine tn_newI (N' := 0) C hsz hP hD hS (by decide) (by decide) (by decide) (Nat.le_of_ble_eq_true rfl) (Nat.le_of_ble_eq_true rfl) dX7_init_5 (fun b1 H hP hD hS => ?_)
  have hP : va_P (eD E) gcl [(a, .inr (4, [.int 0, .int 0, .null, .null, .int 0, .int 0, .null, .null, .int 0, .int 0])), (b1, .inl (ec E 0, 0, .inl (fun _ => 0)))] H := hP
  have hD : va_D (va_A [(a, .inr (4, [.int 0, .int 0, .null, .null, .int 0, .int 0, .null, .null, .int 0, .int 0]))] sz) [(a, .inr (4, [.int 0, .int 0, .null, .null, .int 0, .int 0, .null, .null, .int 0, .int 0])), (b1, .inl (ec E 0, 0, .inl (fun _ => 0)))] := hD
  refine tn_run (wr := []) (tn_rI (As := [.int p1, .int 103, .ref b1]) (rest := []) (wc := [(a, .inr (4, [.int 0, .int 0, .null, .null, .int 0, .int 0, .null, .null, .int 0, .int 0])), (b1, .inl (ec E 0, 0, .inl (fun _ => 0)))]) C hsz hbA hP hD hS [0, 1] rfl rfl (by decide) (t_X3_init_X7 l (a := a) (q := b1) (n := 0) (f := (fun _ => 0)) (p1 := p1) (by decide)) (cwI 3 C.hts (lw_meth q153) rfl rfl rfl (C.hts _ q58) (C.hts _ q755) (C.hts _ q152) rfl (by decide +kernel) ⟨Nat.le_of_ble_eq_true rfl, Nat.le_of_ble_eq_true rfl⟩) rfl hl.1 rfl (lv_room (Nat.le_of_ble_eq_true rfl)) dX7_init_7 ⟨Nat.le_of_ble_eq_true rfl, Nat.le_of_ble_eq_true rfl⟩) hsz hP hD hS [0, 1] [] rfl rfl (by decide) (by decide) (fun r9 W9 H locs hk hP hD hS => ?_)
  obtain ⟨b2, b3, b4, rfl⟩ := hk
  have hP : va_P (eD E) gcl [(a, .inr (4, [.int p1, .int 103, .ref b2, .ref b3, .int 0, .int 0, .ref b1, .ref b4, .int 0, .int 0])), (b1, .inl (ec E 0, 0, .inl (fun _ => 0))), (b2, .inr (9, [.int 0, .ref (es E 0), .int 0])), (b3, .inl (ec E 0, 64, .inl (fun _ => 0))), (b4, .inl (ec E 0, 0, .inl (fun _ => 0)))] H := hP
  have hD : va_D (va_A [(a, .inr (4, [.int 0, .int 0, .null, .null, .int 0, .int 0, .null, .null, .int 0, .int 0]))] sz) [(a, .inr (4, [.int p1, .int 103, .ref b2, .ref b3, .int 0, .int 0, .ref b1, .ref b4, .int 0, .int 0])), (b1, .inl (ec E 0, 0, .inl (fun _ => 0))), (b2, .inr (9, [.int 0, .ref (es E 0), .int 0])), (b3, .inl (ec E 0, 64, .inl (fun _ => 0))), (b4, .inl (ec E 0, 0, .inl (fun _ => 0)))] := hD
  refine W.eq (g2 := F0 m 10 ls []) rfl ?_
  refine lv_aload_n C.hx C.hb dX7_init_10 rfl (lv_at hl 0 rfl) ?_
  refine lv_iload_n C.hx C.hb dX7_init_11 rfl (lv_at hl 2 rfl) ?_
  refine va_put (C := RX7) (T := TX7) (N := 10) C.hx C.hb C.hts in_X7 tyX7 tyX7_ok nmX7 C.hown C.hK hP hD hS 0 rfl rfl 9 (by decide) (C.hts _ q756) (fun _ h => h) rfl (tyX7_ok 9 (by decide)) (v := .int p2) rfl rfl (Nat.le_of_ble_eq_true rfl) dX7_init_12 (fun H locs hP hD hS => ?_)
  have hP : va_P (eD E) gcl [(a, .inr (4, [.int p1, .int 103, .ref b2, .ref b3, .int 0, .int 0, .ref b1, .ref b4, .int 0, .int p2])), (b1, .inl (ec E 0, 0, .inl (fun _ => 0))), (b2, .inr (9, [.int 0, .ref (es E 0), .int 0])), (b3, .inl (ec E 0, 64, .inl (fun _ => 0))), (b4, .inl (ec E 0, 0, .inl (fun _ => 0)))] H := hP
  have hD : va_D (va_A [(a, .inr (4, [.int 0, .int 0, .null, .null, .int 0, .int 0, .null, .null, .int 0, .int 0]))] sz) [(a, .inr (4, [.int p1, .int 103, .ref b2, .ref b3, .int 0, .int 0, .ref b1, .ref b4, .int 0, .int p2])), (b1, .inl (ec E 0, 0, .inl (fun _ => 0))), (b2, .inr (9, [.int 0, .ref (es E 0), .int 0])), (b3, .inl (ec E 0, 64, .inl (fun _ => 0))), (b4, .inl (ec E 0, 0, .inl (fun _ => 0)))] := hD
  refine W.widen (k := 4) (n := 128) (Nat.le_of_ble_eq_true rfl) (Nat.le_of_ble_eq_true rfl) ?_
  exact tn_vret () rfl C hr hlk hP hD hS ⟨b1, b2, b3, b4, rfl⟩ dX7_init_15
/-! ToneGraph$Bus.<init>(II)V -/
set_option maxHeartbeats 4000000 in
theorem t_X10_init (l : Launch) {E : tc_E} {a : Nat} {p1 : Int32} {p2 : Int32} {sz : Nat} : tn_M l yX10_init (ws_ yX10_init cX10_init 3 none) ({ frames := 5, cells := 4, slots := 128, locals := 113 } : Room) E [.ref a, .int p1, .int p2] [(a, .inr (7, [.int 0, .int 0, .null, .null, .int 0, .int 0, .null, .null, .int 0, .int 0]))] sz (fun _ : Unit => none) (fun (r9 : Unit) (W9 : va_W) => ∃ b1 : Nat, ∃ b2 : Nat, ∃ b3 : Nat, ∃ b4 : Nat, W9 = [(a, .inr (7, [.int p1, .int 98, .ref b2, .ref b3, .int 0, .int 0, .ref b1, .ref b4, .int 0, .int p2])), (b1, .inl (ec E 0, 0, .inl (fun _ => 0))), (b2, .inr (9, [.int 0, .ref (es E 0), .int 0])), (b3, .inl (ec E 0, 64, .inl (fun _ => 0))), (b4, .inl (ec E 0, 0, .inl (fun _ => 0)))]) 4 128 := by
  refine tn_start cX10_init 3 none RX10 (by decide) rfl rfl (Nat.le_of_ble_eq_true rfl) ?_
  intro p e s m args below meth c ls C hnm hsz hbA hr hlk hP hD hS hl
  obtain ⟨mx, hnm, hmt⟩ := hnm
  have hin2 := (name_of_methodNamed hnm hmt).1
  have hl : lv_has ls 3 [(0, .ref a), (1, .int p1), (2, .int p2)] := hl
  obtain ⟨H, hH0⟩ : ∃ H : Heap, H = s.heap := ⟨_, rfl⟩
  rw [← hH0] at hP ⊢
  have hS : va_S (va_A [(a, .inr (7, [.int 0, .int 0, .null, .null, .int 0, .int 0, .null, .null, .int 0, .int 0]))] sz) s.heap H [] := by rw [hH0]; exact va_S.rf
  refine lv_aload_n C.hx C.hb dX10_init_0 rfl (lv_at hl 0 rfl) ?_
  refine lv_iload_n C.hx C.hb dX10_init_1 rfl (lv_at hl 1 rfl) ?_
  refine lv_bipush (v := 98) C.hx C.hb dX10_init_2 (by decide) ?_
  refine lv_iconst (v := 0) C.hx C.hb dX10_init_4 (by decide) ?_
  refine tn_newI (N' := 0) C hsz hP hD hS (by decide) (by decide) (by decide) (Nat.le_of_ble_eq_true rfl) (Nat.le_of_ble_eq_true rfl) dX10_init_5 (fun b1 H hP hD hS => ?_)
  have hP : va_P (eD E) gcl [(a, .inr (7, [.int 0, .int 0, .null, .null, .int 0, .int 0, .null, .null, .int 0, .int 0])), (b1, .inl (ec E 0, 0, .inl (fun _ => 0)))] H := hP
  have hD : va_D (va_A [(a, .inr (7, [.int 0, .int 0, .null, .null, .int 0, .int 0, .null, .null, .int 0, .int 0]))] sz) [(a, .inr (7, [.int 0, .int 0, .null, .null, .int 0, .int 0, .null, .null, .int 0, .int 0])), (b1, .inl (ec E 0, 0, .inl (fun _ => 0)))] := hD
  refine tn_run (wr := []) (tn_rI (As := [.int p1, .int 98, .ref b1]) (rest := []) (wc := [(a, .inr (7, [.int 0, .int 0, .null, .null, .int 0, .int 0, .null, .null, .int 0, .int 0])), (b1, .inl (ec E 0, 0, .inl (fun _ => 0)))]) C hsz hbA hP hD hS [0, 1] rfl rfl (by decide) (t_X3_init_X10 l (a := a) (q := b1) (n := 0) (f := (fun _ => 0)) (p1 := p1) (by decide)) (cwI 3 C.hts (lw_meth q153) rfl rfl rfl (C.hts _ q58) (C.hts _ q851) (C.hts _ q152) rfl (by decide +kernel) ⟨Nat.le_of_ble_eq_true rfl, Nat.le_of_ble_eq_true rfl⟩) rfl hl.1 rfl (lv_room (Nat.le_of_ble_eq_true rfl)) dX10_init_7 ⟨Nat.le_of_ble_eq_true rfl, Nat.le_of_ble_eq_true rfl⟩) hsz hP hD hS [0, 1] [] rfl rfl (by decide) (by decide) (fun r9 W9 H locs hk hP hD hS => ?_)
  obtain ⟨b2, b3, b4, rfl⟩ := hk
  have hP : va_P (eD E) gcl [(a, .inr (7, [.int p1, .int 98, .ref b2, .ref b3, .int 0, .int 0, .ref b1, .ref b4, .int 0, .int 0])), (b1, .inl (ec E 0, 0, .inl (fun _ => 0))), (b2, .inr (9, [.int 0, .ref (es E 0), .int 0])), (b3, .inl (ec E 0, 64, .inl (fun _ => 0))), (b4, .inl (ec E 0, 0, .inl (fun _ => 0)))] H := hP
  have hD : va_D (va_A [(a, .inr (7, [.int 0, .int 0, .null, .null, .int 0, .int 0, .null, .null, .int 0, .int 0]))] sz) [(a, .inr (7, [.int p1, .int 98, .ref b2, .ref b3, .int 0, .int 0, .ref b1, .ref b4, .int 0, .int 0])), (b1, .inl (ec E 0, 0, .inl (fun _ => 0))), (b2, .inr (9, [.int 0, .ref (es E 0), .int 0])), (b3, .inl (ec E 0, 64, .inl (fun _ => 0))), (b4, .inl (ec E 0, 0, .inl (fun _ => 0)))] := hD
  refine W.eq (g2 := F0 m 10 ls []) rfl ?_
  refine lv_aload_n C.hx C.hb dX10_init_10 rfl (lv_at hl 0 rfl) ?_
  refine lv_iload_n C.hx C.hb dX10_init_11 rfl (lv_at hl 2 rfl) ?_
  refine va_putF (C := RX10) (T := TX10) (N := 10) C.hx C.hb C.hts in_X10 tyX10 tyX10_ok nmX10 C.hown C.hK hP hD hS 0 rfl rfl 9 (by decide) (C.hts _ q852) (fun _ h => h) rfl hin2 rfl (tyX10_ok 9 (by decide)) (v := .int p2) rfl rfl (Nat.le_of_ble_eq_true rfl) dX10_init_12 (fun H locs hP hD hS => ?_)
  have hP : va_P (eD E) gcl [(a, .inr (7, [.int p1, .int 98, .ref b2, .ref b3, .int 0, .int 0, .ref b1, .ref b4, .int 0, .int p2])), (b1, .inl (ec E 0, 0, .inl (fun _ => 0))), (b2, .inr (9, [.int 0, .ref (es E 0), .int 0])), (b3, .inl (ec E 0, 64, .inl (fun _ => 0))), (b4, .inl (ec E 0, 0, .inl (fun _ => 0)))] H := hP
  have hD : va_D (va_A [(a, .inr (7, [.int 0, .int 0, .null, .null, .int 0, .int 0, .null, .null, .int 0, .int 0]))] sz) [(a, .inr (7, [.int p1, .int 98, .ref b2, .ref b3, .int 0, .int 0, .ref b1, .ref b4, .int 0, .int p2])), (b1, .inl (ec E 0, 0, .inl (fun _ => 0))), (b2, .inr (9, [.int 0, .ref (es E 0), .int 0])), (b3, .inl (ec E 0, 64, .inl (fun _ => 0))), (b4, .inl (ec E 0, 0, .inl (fun _ => 0)))] := hD
  refine W.widen (k := 4) (n := 128) (Nat.le_of_ble_eq_true rfl) (Nat.le_of_ble_eq_true rfl) ?_
  exact tn_vret () rfl C hr hlk hP hD hS ⟨b1, b2, b3, b4, rfl⟩ dX10_init_15
/-! ToneGraph$Filter.<init>(I[I)V -/
set_option maxHeartbeats 4000000 in
theorem t_X9_init (l : Launch) {E : tc_E} {a : Nat} {p1 : Int32} {q2 : Nat} {sz : Nat} : tn_M l yX9_init (ws_ yX9_init cX9_init 3 none) ({ frames := 5, cells := 4, slots := 130, locals := 113 } : Room) E [.ref a, .int p1, .ref q2] [(a, .inr (6, [.int 0, .int 0, .null, .null, .int 0, .int 0, .null, .null, .int 0, .null]))] sz (fun _ : Unit => none) (fun (r9 : Unit) (W9 : va_W) => ∃ b1 : Nat, ∃ b2 : Nat, ∃ b3 : Nat, ∃ b4 : Nat, W9 = [(a, .inr (6, [.int p1, .int 102, .ref b2, .ref b3, .int 0, .int 0, .ref b1, .ref b4, .int 0, .ref q2])), (b1, .inl (ec E 0, 2, .inl (upd (upd (fun _ => 0) (0 : Int32).toNatClampNeg 0) (1 : Int32).toNatClampNeg 0))), (b2, .inr (9, [.int 0, .ref (es E 0), .int 0])), (b3, .inl (ec E 0, 64, .inl (fun _ => 0))), (b4, .inl (ec E 0, 2, .inl (fun _ => 0)))]) 4 130 := by
  refine tn_start cX9_init 3 none RX9 (by decide) rfl rfl (Nat.le_of_ble_eq_true rfl) ?_
  intro p e s m args below meth c ls C hnm hsz hbA hr hlk hP hD hS hl
  obtain ⟨mx, hnm, hmt⟩ := hnm
  have hin2 := (name_of_methodNamed hnm hmt).1
  have hl : lv_has ls 3 [(0, .ref a), (1, .int p1), (2, .ref q2)] := hl
  obtain ⟨H, hH0⟩ : ∃ H : Heap, H = s.heap := ⟨_, rfl⟩
  rw [← hH0] at hP ⊢
  have hS : va_S (va_A [(a, .inr (6, [.int 0, .int 0, .null, .null, .int 0, .int 0, .null, .null, .int 0, .null]))] sz) s.heap H [] := by rw [hH0]; exact va_S.rf
  refine lv_aload_n C.hx C.hb dX9_init_0 rfl (lv_at hl 0 rfl) ?_
  refine lv_iload_n C.hx C.hb dX9_init_1 rfl (lv_at hl 1 rfl) ?_
  refine lv_bipush (v := 102) C.hx C.hb dX9_init_2 (by decide) ?_
  refine lv_iconst (v := 2) C.hx C.hb dX9_init_4 (by decide) ?_
  refine tn_newI (N' := 2) C hsz hP hD hS (by decide) (by decide) (by decide) (Nat.le_of_ble_eq_true rfl) (Nat.le_of_ble_eq_true rfl) dX9_init_5 (fun b1 H hP hD hS => ?_)
  have hP : va_P (eD E) gcl [(a, .inr (6, [.int 0, .int 0, .null, .null, .int 0, .int 0, .null, .null, .int 0, .null])), (b1, .inl (ec E 0, 2, .inl (fun _ => 0)))] H := hP
  have hD : va_D (va_A [(a, .inr (6, [.int 0, .int 0, .null, .null, .int 0, .int 0, .null, .null, .int 0, .null]))] sz) [(a, .inr (6, [.int 0, .int 0, .null, .null, .int 0, .int 0, .null, .null, .int 0, .null])), (b1, .inl (ec E 0, 2, .inl (fun _ => 0)))] := hD
  refine lv_dup C.hx C.hb dX9_init_7 rfl ?_
  refine lv_iconst (v := 0) C.hx C.hb dX9_init_8 (by decide) ?_
  refine lv_iconst (v := 0) C.hx C.hb dX9_init_9 (by decide) ?_
  refine va_iast C.hx C.hb C.hK hP hD hS 1 0 rfl rfl (by unfold vp_in; decide) dX9_init_10 (fun H locs hP hD hS => ?_)
  have hP : va_P (eD E) gcl [(a, .inr (6, [.int 0, .int 0, .null, .null, .int 0, .int 0, .null, .null, .int 0, .null])), (b1, .inl (ec E 0, 2, .inl (upd (fun _ => 0) (0 : Int32).toNatClampNeg 0)))] H := hP
  have hD : va_D (va_A [(a, .inr (6, [.int 0, .int 0, .null, .null, .int 0, .int 0, .null, .null, .int 0, .null]))] sz) [(a, .inr (6, [.int 0, .int 0, .null, .null, .int 0, .int 0, .null, .null, .int 0, .null])), (b1, .inl (ec E 0, 2, .inl (upd (fun _ => 0) (0 : Int32).toNatClampNeg 0)))] := hD
  refine lv_dup C.hx C.hb dX9_init_11 rfl ?_
  refine lv_iconst (v := 1) C.hx C.hb dX9_init_12 (by decide) ?_
  refine lv_iconst (v := 0) C.hx C.hb dX9_init_13 (by decide) ?_
  refine va_iast C.hx C.hb C.hK hP hD hS 1 0 rfl rfl (by unfold vp_in; decide) dX9_init_14 (fun H locs hP hD hS => ?_)
  have hP : va_P (eD E) gcl [(a, .inr (6, [.int 0, .int 0, .null, .null, .int 0, .int 0, .null, .null, .int 0, .null])), (b1, .inl (ec E 0, 2, .inl (upd (upd (fun _ => 0) (0 : Int32).toNatClampNeg 0) (1 : Int32).toNatClampNeg 0)))] H := hP
  have hD : va_D (va_A [(a, .inr (6, [.int 0, .int 0, .null, .null, .int 0, .int 0, .null, .null, .int 0, .null]))] sz) [(a, .inr (6, [.int 0, .int 0, .null, .null, .int 0, .int 0, .null, .null, .int 0, .null])), (b1, .inl (ec E 0, 2, .inl (upd (upd (fun _ => 0) (0 : Int32).toNatClampNeg 0) (1 : Int32).toNatClampNeg 0)))] := hD
  refine tn_run (wr := []) (tn_rI (As := [.int p1, .int 102, .ref b1]) (rest := []) (wc := [(a, .inr (6, [.int 0, .int 0, .null, .null, .int 0, .int 0, .null, .null, .int 0, .null])), (b1, .inl (ec E 0, 2, .inl (upd (upd (fun _ => 0) (0 : Int32).toNatClampNeg 0) (1 : Int32).toNatClampNeg 0)))]) C hsz hbA hP hD hS [0, 1] rfl rfl (by decide) (t_X3_init_X9 l (a := a) (q := b1) (n := 2) (f := (upd (upd (fun _ => 0) (0 : Int32).toNatClampNeg 0) (1 : Int32).toNatClampNeg 0)) (p1 := p1) (by decide)) (cwI 3 C.hts (lw_meth q153) rfl rfl rfl (C.hts _ q58) (C.hts _ q825) (C.hts _ q152) rfl (by decide +kernel) ⟨Nat.le_of_ble_eq_true rfl, Nat.le_of_ble_eq_true rfl⟩) rfl hl.1 rfl (lv_room (Nat.le_of_ble_eq_true rfl)) dX9_init_15 ⟨Nat.le_of_ble_eq_true rfl, Nat.le_of_ble_eq_true rfl⟩) hsz hP hD hS [0, 1] [] rfl rfl (by decide) (by decide) (fun r9 W9 H locs hk hP hD hS => ?_)
  obtain ⟨b2, b3, b4, rfl⟩ := hk
  have hP : va_P (eD E) gcl [(a, .inr (6, [.int p1, .int 102, .ref b2, .ref b3, .int 0, .int 0, .ref b1, .ref b4, .int 0, .null])), (b1, .inl (ec E 0, 2, .inl (upd (upd (fun _ => 0) (0 : Int32).toNatClampNeg 0) (1 : Int32).toNatClampNeg 0))), (b2, .inr (9, [.int 0, .ref (es E 0), .int 0])), (b3, .inl (ec E 0, 64, .inl (fun _ => 0))), (b4, .inl (ec E 0, 2, .inl (fun _ => 0)))] H := hP
  have hD : va_D (va_A [(a, .inr (6, [.int 0, .int 0, .null, .null, .int 0, .int 0, .null, .null, .int 0, .null]))] sz) [(a, .inr (6, [.int p1, .int 102, .ref b2, .ref b3, .int 0, .int 0, .ref b1, .ref b4, .int 0, .null])), (b1, .inl (ec E 0, 2, .inl (upd (upd (fun _ => 0) (0 : Int32).toNatClampNeg 0) (1 : Int32).toNatClampNeg 0))), (b2, .inr (9, [.int 0, .ref (es E 0), .int 0])), (b3, .inl (ec E 0, 64, .inl (fun _ => 0))), (b4, .inl (ec E 0, 2, .inl (fun _ => 0)))] := hD
  refine W.eq (g2 := F0 m 18 ls []) rfl ?_
  refine lv_aload_n C.hx C.hb dX9_init_18 rfl (lv_at hl 0 rfl) ?_
  refine lv_aload_n C.hx C.hb dX9_init_19 rfl (lv_at hl 2 rfl) ?_
  refine va_putF (C := RX9) (T := TX9) (N := 10) C.hx C.hb C.hts in_X9 tyX9 tyX9_ok nmX9 C.hown C.hK hP hD hS 0 rfl rfl 9 (by decide) (C.hts _ q826) (fun _ h => h) rfl hin2 rfl (tyX9_ok 9 (by decide)) (v := .ref q2) rfl rfl (Nat.le_of_ble_eq_true rfl) dX9_init_20 (fun H locs hP hD hS => ?_)
  have hP : va_P (eD E) gcl [(a, .inr (6, [.int p1, .int 102, .ref b2, .ref b3, .int 0, .int 0, .ref b1, .ref b4, .int 0, .ref q2])), (b1, .inl (ec E 0, 2, .inl (upd (upd (fun _ => 0) (0 : Int32).toNatClampNeg 0) (1 : Int32).toNatClampNeg 0))), (b2, .inr (9, [.int 0, .ref (es E 0), .int 0])), (b3, .inl (ec E 0, 64, .inl (fun _ => 0))), (b4, .inl (ec E 0, 2, .inl (fun _ => 0)))] H := hP
  have hD : va_D (va_A [(a, .inr (6, [.int 0, .int 0, .null, .null, .int 0, .int 0, .null, .null, .int 0, .null]))] sz) [(a, .inr (6, [.int p1, .int 102, .ref b2, .ref b3, .int 0, .int 0, .ref b1, .ref b4, .int 0, .ref q2])), (b1, .inl (ec E 0, 2, .inl (upd (upd (fun _ => 0) (0 : Int32).toNatClampNeg 0) (1 : Int32).toNatClampNeg 0))), (b2, .inr (9, [.int 0, .ref (es E 0), .int 0])), (b3, .inl (ec E 0, 64, .inl (fun _ => 0))), (b4, .inl (ec E 0, 2, .inl (fun _ => 0)))] := hD
  refine W.widen (k := 4) (n := 130) (Nat.le_of_ble_eq_true rfl) (Nat.le_of_ble_eq_true rfl) ?_
  exact tn_vret () rfl C hr hlk hP hD hS ⟨b1, b2, b3, b4, rfl⟩ dX9_init_23
/-! ToneGraph$Delay.<init>(III)V -/
set_option maxHeartbeats 4000000 in
theorem t_X8_init (l : Launch) {E : tc_E} {a : Nat} {n : Nat} {p1 : Int32} {p2 : Int32} {p3 : Int32} {sz : Nat} (hneg : ¬ (p2 + 1) < 0) (hlen : (p2 + 1).toNatClampNeg = n) (hn : n ≤ 61) : tn_M l yX8_init (ws_ yX8_init cX8_init 4 none) ({ frames := 5, cells := 4, slots := 189, locals := 113 } : Room) E [.ref a, .int p1, .int p2, .int p3] [(a, .inr (5, [.int 0, .int 0, .null, .null, .int 0, .int 0, .null, .null, .int 0, .int 0, .int 0]))] sz (fun _ : Unit => none) (fun (r9 : Unit) (W9 : va_W) => ∃ b1 : Nat, ∃ b2 : Nat, ∃ b3 : Nat, ∃ b4 : Nat, W9 = [(a, .inr (5, [.int p1, .int 100, .ref b2, .ref b3, .int 0, .int 0, .ref b1, .ref b4, .int 0, .int p2, .int p3])), (b1, .inl (ec E 0, n, .inl (fun _ => 0))), (b2, .inr (9, [.int 0, .ref (es E 0), .int 0])), (b3, .inl (ec E 0, 64, .inl (fun _ => 0))), (b4, .inl (ec E 0, n, .inl (fun _ => 0)))]) 4 189 := by
  refine tn_start cX8_init 4 none RX8 (by decide) rfl rfl (Nat.le_of_ble_eq_true rfl) ?_
  intro p e s m args below meth c ls C hnm hsz hbA hr hlk hP hD hS hl
  obtain ⟨mx, hnm, hmt⟩ := hnm
  have hin2 := (name_of_methodNamed hnm hmt).1
  have hl : lv_has ls 4 [(0, .ref a), (1, .int p1), (2, .int p2), (3, .int p3)] := hl
  obtain ⟨H, hH0⟩ : ∃ H : Heap, H = s.heap := ⟨_, rfl⟩
  rw [← hH0] at hP ⊢
  have hS : va_S (va_A [(a, .inr (5, [.int 0, .int 0, .null, .null, .int 0, .int 0, .null, .null, .int 0, .int 0, .int 0]))] sz) s.heap H [] := by rw [hH0]; exact va_S.rf
  refine lv_aload_n C.hx C.hb dX8_init_0 rfl (lv_at hl 0 rfl) ?_
  refine lv_iload_n C.hx C.hb dX8_init_1 rfl (lv_at hl 1 rfl) ?_
  refine lv_bipush (v := 100) C.hx C.hb dX8_init_2 (by decide) ?_
  refine lv_iload_n C.hx C.hb dX8_init_4 rfl (lv_at hl 2 rfl) ?_
  refine lv_iconst (v := 1) C.hx C.hb dX8_init_5 (by decide) ?_
  refine lv_iadd C.hx C.hb dX8_init_6 ?_
  refine tn_newI (N' := n) C hsz hP hD hS hneg hlen (by omega) (Nat.le_of_ble_eq_true rfl) (Nat.le_trans (Nat.add_le_add_left hn _) (Nat.le_of_ble_eq_true rfl)) dX8_init_7 (fun b1 H hP hD hS => ?_)
  refine W.widen (k := 1) (n := 61) (Nat.le_of_ble_eq_true rfl) (Nat.add_le_add_left hn _) ?_
  have hP : va_P (eD E) gcl [(a, .inr (5, [.int 0, .int 0, .null, .null, .int 0, .int 0, .null, .null, .int 0, .int 0, .int 0])), (b1, .inl (ec E 0, n, .inl (fun _ => 0)))] H := hP
  have hD : va_D (va_A [(a, .inr (5, [.int 0, .int 0, .null, .null, .int 0, .int 0, .null, .null, .int 0, .int 0, .int 0]))] sz) [(a, .inr (5, [.int 0, .int 0, .null, .null, .int 0, .int 0, .null, .null, .int 0, .int 0, .int 0])), (b1, .inl (ec E 0, n, .inl (fun _ => 0)))] := hD
  refine tn_run (wr := []) (tn_rI (As := [.int p1, .int 100, .ref b1]) (rest := []) (wc := [(a, .inr (5, [.int 0, .int 0, .null, .null, .int 0, .int 0, .null, .null, .int 0, .int 0, .int 0])), (b1, .inl (ec E 0, n, .inl (fun _ => 0)))]) C hsz hbA hP hD hS [0, 1] rfl rfl (by decide) (t_X3_init_X8 l (a := a) (q := b1) (n := n) (f := (fun _ => 0)) (p1 := p1) hn) (cwI 3 C.hts (lw_meth q153) rfl rfl rfl (C.hts _ q58) (C.hts _ q795) (C.hts _ q152) rfl (by decide +kernel) ⟨Nat.le_of_ble_eq_true rfl, Nat.le_of_ble_eq_true rfl⟩) rfl hl.1 rfl (lv_room (Nat.le_of_ble_eq_true rfl)) dX8_init_9 ⟨Nat.le_of_ble_eq_true rfl, Nat.le_of_ble_eq_true rfl⟩) hsz hP hD hS [0, 1] [] rfl rfl (by decide) (by decide) (fun r9 W9 H locs hk hP hD hS => ?_)
  obtain ⟨b2, b3, b4, rfl⟩ := hk
  have hP : va_P (eD E) gcl [(a, .inr (5, [.int p1, .int 100, .ref b2, .ref b3, .int 0, .int 0, .ref b1, .ref b4, .int 0, .int 0, .int 0])), (b1, .inl (ec E 0, n, .inl (fun _ => 0))), (b2, .inr (9, [.int 0, .ref (es E 0), .int 0])), (b3, .inl (ec E 0, 64, .inl (fun _ => 0))), (b4, .inl (ec E 0, n, .inl (fun _ => 0)))] H := hP
  have hD : va_D (va_A [(a, .inr (5, [.int 0, .int 0, .null, .null, .int 0, .int 0, .null, .null, .int 0, .int 0, .int 0]))] sz) [(a, .inr (5, [.int p1, .int 100, .ref b2, .ref b3, .int 0, .int 0, .ref b1, .ref b4, .int 0, .int 0, .int 0])), (b1, .inl (ec E 0, n, .inl (fun _ => 0))), (b2, .inr (9, [.int 0, .ref (es E 0), .int 0])), (b3, .inl (ec E 0, 64, .inl (fun _ => 0))), (b4, .inl (ec E 0, n, .inl (fun _ => 0)))] := hD
  refine W.eq (g2 := F0 m 12 ls []) rfl ?_
  refine lv_aload_n C.hx C.hb dX8_init_12 rfl (lv_at hl 0 rfl) ?_
  refine lv_iload_n C.hx C.hb dX8_init_13 rfl (lv_at hl 2 rfl) ?_
  refine va_putF (C := RX8) (T := TX8) (N := 11) C.hx C.hb C.hts in_X8 tyX8 tyX8_ok nmX8 C.hown C.hK hP hD hS 0 rfl rfl 9 (by decide) (C.hts _ q796) (fun _ h => h) rfl hin2 rfl (tyX8_ok 9 (by decide)) (v := .int p2) rfl rfl (Nat.le_of_ble_eq_true rfl) dX8_init_14 (fun H locs hP hD hS => ?_)
  have hP : va_P (eD E) gcl [(a, .inr (5, [.int p1, .int 100, .ref b2, .ref b3, .int 0, .int 0, .ref b1, .ref b4, .int 0, .int p2, .int 0])), (b1, .inl (ec E 0, n, .inl (fun _ => 0))), (b2, .inr (9, [.int 0, .ref (es E 0), .int 0])), (b3, .inl (ec E 0, 64, .inl (fun _ => 0))), (b4, .inl (ec E 0, n, .inl (fun _ => 0)))] H := hP
  have hD : va_D (va_A [(a, .inr (5, [.int 0, .int 0, .null, .null, .int 0, .int 0, .null, .null, .int 0, .int 0, .int 0]))] sz) [(a, .inr (5, [.int p1, .int 100, .ref b2, .ref b3, .int 0, .int 0, .ref b1, .ref b4, .int 0, .int p2, .int 0])), (b1, .inl (ec E 0, n, .inl (fun _ => 0))), (b2, .inr (9, [.int 0, .ref (es E 0), .int 0])), (b3, .inl (ec E 0, 64, .inl (fun _ => 0))), (b4, .inl (ec E 0, n, .inl (fun _ => 0)))] := hD
  refine lv_aload_n C.hx C.hb dX8_init_17 rfl (lv_at hl 0 rfl) ?_
  refine lv_iload_n C.hx C.hb dX8_init_18 rfl (lv_at hl 3 rfl) ?_
  refine va_putF (C := RX8) (T := TX8) (N := 11) C.hx C.hb C.hts in_X8 tyX8 tyX8_ok nmX8 C.hown C.hK hP hD hS 0 rfl rfl 10 (by decide) (C.hts _ q798) (fun _ h => h) rfl hin2 rfl (tyX8_ok 10 (by decide)) (v := .int p3) rfl rfl (Nat.le_of_ble_eq_true rfl) dX8_init_19 (fun H locs hP hD hS => ?_)
  have hP : va_P (eD E) gcl [(a, .inr (5, [.int p1, .int 100, .ref b2, .ref b3, .int 0, .int 0, .ref b1, .ref b4, .int 0, .int p2, .int p3])), (b1, .inl (ec E 0, n, .inl (fun _ => 0))), (b2, .inr (9, [.int 0, .ref (es E 0), .int 0])), (b3, .inl (ec E 0, 64, .inl (fun _ => 0))), (b4, .inl (ec E 0, n, .inl (fun _ => 0)))] H := hP
  have hD : va_D (va_A [(a, .inr (5, [.int 0, .int 0, .null, .null, .int 0, .int 0, .null, .null, .int 0, .int 0, .int 0]))] sz) [(a, .inr (5, [.int p1, .int 100, .ref b2, .ref b3, .int 0, .int 0, .ref b1, .ref b4, .int 0, .int p2, .int p3])), (b1, .inl (ec E 0, n, .inl (fun _ => 0))), (b2, .inr (9, [.int 0, .ref (es E 0), .int 0])), (b3, .inl (ec E 0, 64, .inl (fun _ => 0))), (b4, .inl (ec E 0, n, .inl (fun _ => 0)))] := hD
  refine W.widen (k := 4) (n := 189) (Nat.le_of_ble_eq_true rfl) (Nat.le_of_ble_eq_true rfl) ?_
  exact tn_vret () rfl C hr hlk hP hD hS ⟨b1, b2, b3, b4, rfl⟩ dX8_init_22
/-! ToneGraph$Chorus.<init>()V -/
set_option maxHeartbeats 4000000 in
theorem t_X4_init (l : Launch) {E : tc_E} {a : Nat} {sz : Nat} : tn_M l yX4_init (ws_ yX4_init cX4_init 2 none) ({ frames := 5, cells := 13, slots := 192, locals := 113 } : Room) E [.ref a] [(a, .inr (2, [.int 0, .int 0, .null, .null, .int 0, .int 0, .null, .null, .int 0, .null]))] sz (fun _ : Unit => none) (fun (r9 : Unit) (W9 : va_W) => ∃ b1 : Nat, ∃ b2 : Nat, ∃ b3 : Nat, ∃ b4 : Nat, ∃ b5 : Nat, ∃ b6 : Nat, ∃ b7 : Nat, ∃ b8 : Nat, ∃ b9 : Nat, ∃ b10 : Nat, ∃ b11 : Nat, ∃ b12 : Nat, ∃ b13 : Nat, W9 = [(a, .inr (2, [.int 0, .int 118, .ref b2, .ref b3, .int 0, .int 0, .ref b1, .ref b4, .int 0, .ref b5])), (b1, .inl (ec E 0, 0, .inl (fun _ => 0))), (b2, .inr (9, [.int 0, .ref (es E 0), .int 0])), (b3, .inl (ec E 0, 64, .inl (fun _ => 0))), (b4, .inl (ec E 0, 0, .inl (fun _ => 0))), (b5, tc_ref (ec E 5) 4 (va_up (va_up (va_up (va_up (fun _ => none) (0 : Int32).toNatClampNeg (some b6)) (1 : Int32).toNatClampNeg (some b8)) (2 : Int32).toNatClampNeg (some b10)) (3 : Int32).toNatClampNeg (some b12))), (b6, .inr (3, [.int 0, .int 0, .int 0, .null, .null, .int 0, .int 0, .int 0, .int 0, .int 0, .long 0, .ref b7])), (b7, .inl (ec E 0, 3, .inl (fun _ => 0))), (b8, .inr (3, [.int 1, .int 0, .int 0, .null, .null, .int 0, .int 0, .int 0, .int 0, .int 0, .long 0, .ref b9])), (b9, .inl (ec E 0, 3, .inl (fun _ => 0))), (b10, .inr (3, [.int 2, .int 0, .int 0, .null, .null, .int 0, .int 0, .int 0, .int 0, .int 0, .long 0, .ref b11])), (b11, .inl (ec E 0, 3, .inl (fun _ => 0))), (b12, .inr (3, [.int 3, .int 0, .int 0, .null, .null, .int 0, .int 0, .int 0, .int 0, .int 0, .long 0, .ref b13])), (b13, .inl (ec E 0, 3, .inl (fun _ => 0)))]) 13 192 := by
  refine tn_start cX4_init 2 none RX4 (by decide) rfl rfl (Nat.le_of_ble_eq_true rfl) ?_
  intro p e s m args below meth c ls C hnm hsz hbA hr hlk hP hD hS hl
  obtain ⟨mx, hnm, hmt⟩ := hnm
  have hin2 := (name_of_methodNamed hnm hmt).1
  have hl : lv_has ls 2 [(0, .ref a)] := hl
  obtain ⟨H, hH0⟩ : ∃ H : Heap, H = s.heap := ⟨_, rfl⟩
  rw [← hH0] at hP ⊢
  have hS : va_S (va_A [(a, .inr (2, [.int 0, .int 0, .null, .null, .int 0, .int 0, .null, .null, .int 0, .null]))] sz) s.heap H [] := by rw [hH0]; exact va_S.rf
  refine lv_aload_n C.hx C.hb dX4_init_0 rfl (lv_at hl 0 rfl) ?_
  refine lv_iconst (v := 0) C.hx C.hb dX4_init_1 (by decide) ?_
  refine lv_bipush (v := 118) C.hx C.hb dX4_init_2 (by decide) ?_
  refine lv_iconst (v := 0) C.hx C.hb dX4_init_4 (by decide) ?_
  refine tn_newI (N' := 0) C hsz hP hD hS (by decide) (by decide) (by decide) (Nat.le_of_ble_eq_true rfl) (Nat.le_of_ble_eq_true rfl) dX4_init_5 (fun b1 H hP hD hS => ?_)
  have hP : va_P (eD E) gcl [(a, .inr (2, [.int 0, .int 0, .null, .null, .int 0, .int 0, .null, .null, .int 0, .null])), (b1, .inl (ec E 0, 0, .inl (fun _ => 0)))] H := hP
  have hD : va_D (va_A [(a, .inr (2, [.int 0, .int 0, .null, .null, .int 0, .int 0, .null, .null, .int 0, .null]))] sz) [(a, .inr (2, [.int 0, .int 0, .null, .null, .int 0, .int 0, .null, .null, .int 0, .null])), (b1, .inl (ec E 0, 0, .inl (fun _ => 0)))] := hD
  refine tn_run (wr := []) (tn_rI (As := [.int 0, .int 118, .ref b1]) (rest := []) (wc := [(a, .inr (2, [.int 0, .int 0, .null, .null, .int 0, .int 0, .null, .null, .int 0, .null])), (b1, .inl (ec E 0, 0, .inl (fun _ => 0)))]) C hsz hbA hP hD hS [0, 1] rfl rfl (by decide) (t_X3_init_X4 l (a := a) (q := b1) (n := 0) (f := (fun _ => 0)) (p1 := 0) (by decide)) (cwI 3 C.hts (lw_meth q153) rfl rfl rfl (C.hts _ q58) (C.hts _ q151) (C.hts _ q152) rfl (by decide +kernel) ⟨Nat.le_of_ble_eq_true rfl, Nat.le_of_ble_eq_true rfl⟩) rfl hl.1 rfl (lv_room (Nat.le_of_ble_eq_true rfl)) dX4_init_7 ⟨Nat.le_of_ble_eq_true rfl, Nat.le_of_ble_eq_true rfl⟩) hsz hP hD hS [0, 1] [] rfl rfl (by decide) (by decide) (fun r9 W9 H locs hk hP hD hS => ?_)
  obtain ⟨b2, b3, b4, rfl⟩ := hk
  have hP : va_P (eD E) gcl [(a, .inr (2, [.int 0, .int 118, .ref b2, .ref b3, .int 0, .int 0, .ref b1, .ref b4, .int 0, .null])), (b1, .inl (ec E 0, 0, .inl (fun _ => 0))), (b2, .inr (9, [.int 0, .ref (es E 0), .int 0])), (b3, .inl (ec E 0, 64, .inl (fun _ => 0))), (b4, .inl (ec E 0, 0, .inl (fun _ => 0)))] H := hP
  have hD : va_D (va_A [(a, .inr (2, [.int 0, .int 0, .null, .null, .int 0, .int 0, .null, .null, .int 0, .null]))] sz) [(a, .inr (2, [.int 0, .int 118, .ref b2, .ref b3, .int 0, .int 0, .ref b1, .ref b4, .int 0, .null])), (b1, .inl (ec E 0, 0, .inl (fun _ => 0))), (b2, .inr (9, [.int 0, .ref (es E 0), .int 0])), (b3, .inl (ec E 0, 64, .inl (fun _ => 0))), (b4, .inl (ec E 0, 0, .inl (fun _ => 0)))] := hD
  refine W.eq (g2 := F0 m 10 ls []) rfl ?_
  refine lv_aload_n C.hx C.hb dX4_init_10 rfl (lv_at hl 0 rfl) ?_
  refine lv_iconst (v := 4) C.hx C.hb dX4_init_11 (by decide) ?_
  refine tn_newQ (N' := 4) C hsz hP hD hS 5 rfl q157 C.hZ.nc.2.2 (by decide) (by decide) (by decide) (Nat.le_of_ble_eq_true rfl) (Nat.le_of_ble_eq_true rfl) dX4_init_12 (fun b5 H hP hD hS => ?_)
  have hP : va_P (eD E) gcl [(a, .inr (2, [.int 0, .int 118, .ref b2, .ref b3, .int 0, .int 0, .ref b1, .ref b4, .int 0, .null])), (b1, .inl (ec E 0, 0, .inl (fun _ => 0))), (b2, .inr (9, [.int 0, .ref (es E 0), .int 0])), (b3, .inl (ec E 0, 64, .inl (fun _ => 0))), (b4, .inl (ec E 0, 0, .inl (fun _ => 0))), (b5, tc_ref (ec E 5) 4 (fun _ => none))] H := hP
  have hD : va_D (va_A [(a, .inr (2, [.int 0, .int 0, .null, .null, .int 0, .int 0, .null, .null, .int 0, .null]))] sz) [(a, .inr (2, [.int 0, .int 118, .ref b2, .ref b3, .int 0, .int 0, .ref b1, .ref b4, .int 0, .null])), (b1, .inl (ec E 0, 0, .inl (fun _ => 0))), (b2, .inr (9, [.int 0, .ref (es E 0), .int 0])), (b3, .inl (ec E 0, 64, .inl (fun _ => 0))), (b4, .inl (ec E 0, 0, .inl (fun _ => 0))), (b5, tc_ref (ec E 5) 4 (fun _ => none))] := hD
  refine va_putF (C := RX4) (T := TX4) (N := 10) C.hx C.hb C.hts in_X4 tyX4 tyX4_ok nmX4 C.hown C.hK hP hD hS 0 rfl rfl 9 (by decide) (C.hts _ q208) (fun _ h => h) rfl hin2 rfl (tyX4_ok 9 (by decide)) (v := .ref b5) rfl rfl (Nat.le_of_ble_eq_true rfl) dX4_init_15 (fun H locs hP hD hS => ?_)
  have hP : va_P (eD E) gcl [(a, .inr (2, [.int 0, .int 118, .ref b2, .ref b3, .int 0, .int 0, .ref b1, .ref b4, .int 0, .ref b5])), (b1, .inl (ec E 0, 0, .inl (fun _ => 0))), (b2, .inr (9, [.int 0, .ref (es E 0), .int 0])), (b3, .inl (ec E 0, 64, .inl (fun _ => 0))), (b4, .inl (ec E 0, 0, .inl (fun _ => 0))), (b5, tc_ref (ec E 5) 4 (fun _ => none))] H := hP
  have hD : va_D (va_A [(a, .inr (2, [.int 0, .int 0, .null, .null, .int 0, .int 0, .null, .null, .int 0, .null]))] sz) [(a, .inr (2, [.int 0, .int 118, .ref b2, .ref b3, .int 0, .int 0, .ref b1, .ref b4, .int 0, .ref b5])), (b1, .inl (ec E 0, 0, .inl (fun _ => 0))), (b2, .inr (9, [.int 0, .ref (es E 0), .int 0])), (b3, .inl (ec E 0, 64, .inl (fun _ => 0))), (b4, .inl (ec E 0, 0, .inl (fun _ => 0))), (b5, tc_ref (ec E 5) 4 (fun _ => none))] := hD
  refine lv_iconst (v := 0) C.hx C.hb dX4_init_18 (by decide) ?_
  refine lv_istore_n (lv' := [(1, .int 0), (0, .ref a)]) C.hx C.hb dX4_init_19 rfl hl (by decide) rfl (fun ls hl => ?_)
  refine lv_iload_n C.hx C.hb dX4_init_20 rfl (lv_at hl 0 rfl) ?_
  refine lv_iconst (v := 4) C.hx C.hb dX4_init_21 (by decide) ?_
  refine lv_icmp_ge (tgt := 45) C.hx C.hb dX4_init_22 (by decide) (fun c => absurd c (by decide)) (fun c => ?_)
  refine lv_aload_n C.hx C.hb dX4_init_25 rfl (lv_at hl 1 rfl) ?_
  refine va_get (C := RX4) (T := TX4) (N := 10) C.hx C.hb C.hts in_X4 C.hown C.hK hP 0 rfl rfl 9 (by decide) (C.hts _ q208) (fun _ h => h) (v := .ref b5) rfl dX4_init_26 ?_
  refine lv_iload_n C.hx C.hb dX4_init_29 rfl (lv_at hl 0 rfl) ?_
  refine tn_new (Cn := RX5) (T := TX5) (N := 12) (ci := 3) C hsz hP hD hS in_X5 tyX5 tyX5_ok q157 q159 q60 rfl (fs := [.int 0, .int 0, .int 0, .null, .null, .int 0, .int 0, .int 0, .int 0, .int 0, .long 0, .null]) tn_zX5 (Nat.le_of_ble_eq_true rfl) (Nat.le_of_ble_eq_true rfl) dX4_init_30 (fun b6 H hP hD hS => ?_)
  have hP : va_P (eD E) gcl [(a, .inr (2, [.int 0, .int 118, .ref b2, .ref b3, .int 0, .int 0, .ref b1, .ref b4, .int 0, .ref b5])), (b1, .inl (ec E 0, 0, .inl (fun _ => 0))), (b2, .inr (9, [.int 0, .ref (es E 0), .int 0])), (b3, .inl (ec E 0, 64, .inl (fun _ => 0))), (b4, .inl (ec E 0, 0, .inl (fun _ => 0))), (b5, tc_ref (ec E 5) 4 (fun _ => none)), (b6, .inr (3, [.int 0, .int 0, .int 0, .null, .null, .int 0, .int 0, .int 0, .int 0, .int 0, .long 0, .null]))] H := hP
  have hD : va_D (va_A [(a, .inr (2, [.int 0, .int 0, .null, .null, .int 0, .int 0, .null, .null, .int 0, .null]))] sz) [(a, .inr (2, [.int 0, .int 118, .ref b2, .ref b3, .int 0, .int 0, .ref b1, .ref b4, .int 0, .ref b5])), (b1, .inl (ec E 0, 0, .inl (fun _ => 0))), (b2, .inr (9, [.int 0, .ref (es E 0), .int 0])), (b3, .inl (ec E 0, 64, .inl (fun _ => 0))), (b4, .inl (ec E 0, 0, .inl (fun _ => 0))), (b5, tc_ref (ec E 5) 4 (fun _ => none)), (b6, .inr (3, [.int 0, .int 0, .int 0, .null, .null, .int 0, .int 0, .int 0, .int 0, .int 0, .long 0, .null]))] := hD
  refine lv_dup C.hx C.hb dX4_init_33 rfl ?_
  refine lv_iload_n C.hx C.hb dX4_init_34 rfl (lv_at hl 0 rfl) ?_
  refine tn_run (wr := [(a, .inr (2, [.int 0, .int 118, .ref b2, .ref b3, .int 0, .int 0, .ref b1, .ref b4, .int 0, .ref b5])), (b1, .inl (ec E 0, 0, .inl (fun _ => 0))), (b2, .inr (9, [.int 0, .ref (es E 0), .int 0])), (b3, .inl (ec E 0, 64, .inl (fun _ => 0))), (b4, .inl (ec E 0, 0, .inl (fun _ => 0))), (b5, tc_ref (ec E 5) 4 (fun _ => none))]) (tn_rI (As := [.int 0]) (rest := [.ref b6, .int 0, .ref b5]) (wc := [(b6, .inr (3, [.int 0, .int 0, .int 0, .null, .null, .int 0, .int 0, .int 0, .int 0, .int 0, .long 0, .null]))]) C hsz hbA hP hD hS [6] rfl rfl (by decide) (t_X5_init l (a := b6) (p1 := 0)) (cwI 1 C.hts (lw_meth q162) rfl rfl rfl (C.hts _ q60) (C.hts _ q160) (C.hts _ q161) rfl (by decide +kernel) ⟨Nat.le_of_ble_eq_true rfl, Nat.le_of_ble_eq_true rfl⟩) rfl hl.1 rfl (lv_room (Nat.le_of_ble_eq_true rfl)) dX4_init_35 ⟨Nat.le_of_ble_eq_true rfl, Nat.le_of_ble_eq_true rfl⟩) hsz hP hD hS [6] [0, 1, 2, 3, 4, 5] rfl rfl (by decide) (by decide) (fun r9 W9 H locs hk hP hD hS => ?_)
  obtain ⟨b7, rfl⟩ := hk
  have hP : va_P (eD E) gcl [(a, .inr (2, [.int 0, .int 118, .ref b2, .ref b3, .int 0, .int 0, .ref b1, .ref b4, .int 0, .ref b5])), (b1, .inl (ec E 0, 0, .inl (fun _ => 0))), (b2, .inr (9, [.int 0, .ref (es E 0), .int 0])), (b3, .inl (ec E 0, 64, .inl (fun _ => 0))), (b4, .inl (ec E 0, 0, .inl (fun _ => 0))), (b5, tc_ref (ec E 5) 4 (fun _ => none)), (b6, .inr (3, [.int 0, .int 0, .int 0, .null, .null, .int 0, .int 0, .int 0, .int 0, .int 0, .long 0, .ref b7])), (b7, .inl (ec E 0, 3, .inl (fun _ => 0)))] H := hP
  have hD : va_D (va_A [(a, .inr (2, [.int 0, .int 0, .null, .null, .int 0, .int 0, .null, .null, .int 0, .null]))] sz) [(a, .inr (2, [.int 0, .int 118, .ref b2, .ref b3, .int 0, .int 0, .ref b1, .ref b4, .int 0, .ref b5])), (b1, .inl (ec E 0, 0, .inl (fun _ => 0))), (b2, .inr (9, [.int 0, .ref (es E 0), .int 0])), (b3, .inl (ec E 0, 64, .inl (fun _ => 0))), (b4, .inl (ec E 0, 0, .inl (fun _ => 0))), (b5, tc_ref (ec E 5) 4 (fun _ => none)), (b6, .inr (3, [.int 0, .int 0, .int 0, .null, .null, .int 0, .int 0, .int 0, .int 0, .int 0, .long 0, .ref b7])), (b7, .inl (ec E 0, 3, .inl (fun _ => 0)))] := hD
  refine W.eq (g2 := F0 m 38 ls [.ref b6, .int 0, .ref b5]) rfl ?_
  refine va_astq (r := (RX5, TX5, 12)) (vs := [.int 0, .int 0, .int 0, .null, .null, .int 0, .int 0, .int 0, .int 0, .int 0, .long 0, .ref b7]) C.hx C.hb C.hK hP hD hS 5 5 6 3 rfl rfl rfl rfl (by unfold vp_in; decide) dX4_init_38 (fun H locs hP hD hS => ?_)
  have hP : va_P (eD E) gcl [(a, .inr (2, [.int 0, .int 118, .ref b2, .ref b3, .int 0, .int 0, .ref b1, .ref b4, .int 0, .ref b5])), (b1, .inl (ec E 0, 0, .inl (fun _ => 0))), (b2, .inr (9, [.int 0, .ref (es E 0), .int 0])), (b3, .inl (ec E 0, 64, .inl (fun _ => 0))), (b4, .inl (ec E 0, 0, .inl (fun _ => 0))), (b5, tc_ref (ec E 5) 4 (va_up (fun _ => none) (0 : Int32).toNatClampNeg (some b6))), (b6, .inr (3, [.int 0, .int 0, .int 0, .null, .null, .int 0, .int 0, .int 0, .int 0, .int 0, .long 0, .ref b7])), (b7, .inl (ec E 0, 3, .inl (fun _ => 0)))] H := hP
  have hD : va_D (va_A [(a, .inr (2, [.int 0, .int 0, .null, .null, .int 0, .int 0, .null, .null, .int 0, .null]))] sz) [(a, .inr (2, [.int 0, .int 118, .ref b2, .ref b3, .int 0, .int 0, .ref b1, .ref b4, .int 0, .ref b5])), (b1, .inl (ec E 0, 0, .inl (fun _ => 0))), (b2, .inr (9, [.int 0, .ref (es E 0), .int 0])), (b3, .inl (ec E 0, 64, .inl (fun _ => 0))), (b4, .inl (ec E 0, 0, .inl (fun _ => 0))), (b5, tc_ref (ec E 5) 4 (va_up (fun _ => none) (0 : Int32).toNatClampNeg (some b6))), (b6, .inr (3, [.int 0, .int 0, .int 0, .null, .null, .int 0, .int 0, .int 0, .int 0, .int 0, .long 0, .ref b7])), (b7, .inl (ec E 0, 3, .inl (fun _ => 0)))] := hD
  refine lv_iinc (v := 1) (lv' := [(1, .int 1), (0, .ref a)]) C.hx C.hb dX4_init_39 hl (k := 0) rfl (by decide) (by decide) rfl (fun ls hl => ?_)
  refine lv_goto (tgt := 20) C.hx C.hb dX4_init_42 (by decide) ?_
  refine lv_iload_n C.hx C.hb dX4_init_20 rfl (lv_at hl 0 rfl) ?_
  refine lv_iconst (v := 4) C.hx C.hb dX4_init_21 (by decide) ?_
  refine lv_icmp_ge (tgt := 45) C.hx C.hb dX4_init_22 (by decide) (fun c => absurd c (by decide)) (fun c => ?_)
  refine lv_aload_n C.hx C.hb dX4_init_25 rfl (lv_at hl 1 rfl) ?_
  refine va_get (C := RX4) (T := TX4) (N := 10) C.hx C.hb C.hts in_X4 C.hown C.hK hP 0 rfl rfl 9 (by decide) (C.hts _ q208) (fun _ h => h) (v := .ref b5) rfl dX4_init_26 ?_
  refine lv_iload_n C.hx C.hb dX4_init_29 rfl (lv_at hl 0 rfl) ?_
  refine tn_new (Cn := RX5) (T := TX5) (N := 12) (ci := 3) C hsz hP hD hS in_X5 tyX5 tyX5_ok q157 q159 q60 rfl (fs := [.int 0, .int 0, .int 0, .null, .null, .int 0, .int 0, .int 0, .int 0, .int 0, .long 0, .null]) tn_zX5 (Nat.le_of_ble_eq_true rfl) (Nat.le_of_ble_eq_true rfl) dX4_init_30 (fun b8 H hP hD hS => ?_)
  have hP : va_P (eD E) gcl [(a, .inr (2, [.int 0, .int 118, .ref b2, .ref b3, .int 0, .int 0, .ref b1, .ref b4, .int 0, .ref b5])), (b1, .inl (ec E 0, 0, .inl (fun _ => 0))), (b2, .inr (9, [.int 0, .ref (es E 0), .int 0])), (b3, .inl (ec E 0, 64, .inl (fun _ => 0))), (b4, .inl (ec E 0, 0, .inl (fun _ => 0))), (b5, tc_ref (ec E 5) 4 (va_up (fun _ => none) (0 : Int32).toNatClampNeg (some b6))), (b6, .inr (3, [.int 0, .int 0, .int 0, .null, .null, .int 0, .int 0, .int 0, .int 0, .int 0, .long 0, .ref b7])), (b7, .inl (ec E 0, 3, .inl (fun _ => 0))), (b8, .inr (3, [.int 0, .int 0, .int 0, .null, .null, .int 0, .int 0, .int 0, .int 0, .int 0, .long 0, .null]))] H := hP
  have hD : va_D (va_A [(a, .inr (2, [.int 0, .int 0, .null, .null, .int 0, .int 0, .null, .null, .int 0, .null]))] sz) [(a, .inr (2, [.int 0, .int 118, .ref b2, .ref b3, .int 0, .int 0, .ref b1, .ref b4, .int 0, .ref b5])), (b1, .inl (ec E 0, 0, .inl (fun _ => 0))), (b2, .inr (9, [.int 0, .ref (es E 0), .int 0])), (b3, .inl (ec E 0, 64, .inl (fun _ => 0))), (b4, .inl (ec E 0, 0, .inl (fun _ => 0))), (b5, tc_ref (ec E 5) 4 (va_up (fun _ => none) (0 : Int32).toNatClampNeg (some b6))), (b6, .inr (3, [.int 0, .int 0, .int 0, .null, .null, .int 0, .int 0, .int 0, .int 0, .int 0, .long 0, .ref b7])), (b7, .inl (ec E 0, 3, .inl (fun _ => 0))), (b8, .inr (3, [.int 0, .int 0, .int 0, .null, .null, .int 0, .int 0, .int 0, .int 0, .int 0, .long 0, .null]))] := hD
  refine lv_dup C.hx C.hb dX4_init_33 rfl ?_
  refine lv_iload_n C.hx C.hb dX4_init_34 rfl (lv_at hl 0 rfl) ?_
  refine tn_run (wr := [(a, .inr (2, [.int 0, .int 118, .ref b2, .ref b3, .int 0, .int 0, .ref b1, .ref b4, .int 0, .ref b5])), (b1, .inl (ec E 0, 0, .inl (fun _ => 0))), (b2, .inr (9, [.int 0, .ref (es E 0), .int 0])), (b3, .inl (ec E 0, 64, .inl (fun _ => 0))), (b4, .inl (ec E 0, 0, .inl (fun _ => 0))), (b5, tc_ref (ec E 5) 4 (va_up (fun _ => none) (0 : Int32).toNatClampNeg (some b6))), (b6, .inr (3, [.int 0, .int 0, .int 0, .null, .null, .int 0, .int 0, .int 0, .int 0, .int 0, .long 0, .ref b7])), (b7, .inl (ec E 0, 3, .inl (fun _ => 0)))]) (tn_rI (As := [.int 1]) (rest := [.ref b8, .int 1, .ref b5]) (wc := [(b8, .inr (3, [.int 0, .int 0, .int 0, .null, .null, .int 0, .int 0, .int 0, .int 0, .int 0, .long 0, .null]))]) C hsz hbA hP hD hS [8] rfl rfl (by decide) (t_X5_init l (a := b8) (p1 := 1)) (cwI 1 C.hts (lw_meth q162) rfl rfl rfl (C.hts _ q60) (C.hts _ q160) (C.hts _ q161) rfl (by decide +kernel) ⟨Nat.le_of_ble_eq_true rfl, Nat.le_of_ble_eq_true rfl⟩) rfl hl.1 rfl (lv_room (Nat.le_of_ble_eq_true rfl)) dX4_init_35 ⟨Nat.le_of_ble_eq_true rfl, Nat.le_of_ble_eq_true rfl⟩) hsz hP hD hS [8] [0, 1, 2, 3, 4, 5, 6, 7] rfl rfl (by decide) (by decide) (fun r9 W9 H locs hk hP hD hS => ?_)
  obtain ⟨b9, rfl⟩ := hk
  have hP : va_P (eD E) gcl [(a, .inr (2, [.int 0, .int 118, .ref b2, .ref b3, .int 0, .int 0, .ref b1, .ref b4, .int 0, .ref b5])), (b1, .inl (ec E 0, 0, .inl (fun _ => 0))), (b2, .inr (9, [.int 0, .ref (es E 0), .int 0])), (b3, .inl (ec E 0, 64, .inl (fun _ => 0))), (b4, .inl (ec E 0, 0, .inl (fun _ => 0))), (b5, tc_ref (ec E 5) 4 (va_up (fun _ => none) (0 : Int32).toNatClampNeg (some b6))), (b6, .inr (3, [.int 0, .int 0, .int 0, .null, .null, .int 0, .int 0, .int 0, .int 0, .int 0, .long 0, .ref b7])), (b7, .inl (ec E 0, 3, .inl (fun _ => 0))), (b8, .inr (3, [.int 1, .int 0, .int 0, .null, .null, .int 0, .int 0, .int 0, .int 0, .int 0, .long 0, .ref b9])), (b9, .inl (ec E 0, 3, .inl (fun _ => 0)))] H := hP
  have hD : va_D (va_A [(a, .inr (2, [.int 0, .int 0, .null, .null, .int 0, .int 0, .null, .null, .int 0, .null]))] sz) [(a, .inr (2, [.int 0, .int 118, .ref b2, .ref b3, .int 0, .int 0, .ref b1, .ref b4, .int 0, .ref b5])), (b1, .inl (ec E 0, 0, .inl (fun _ => 0))), (b2, .inr (9, [.int 0, .ref (es E 0), .int 0])), (b3, .inl (ec E 0, 64, .inl (fun _ => 0))), (b4, .inl (ec E 0, 0, .inl (fun _ => 0))), (b5, tc_ref (ec E 5) 4 (va_up (fun _ => none) (0 : Int32).toNatClampNeg (some b6))), (b6, .inr (3, [.int 0, .int 0, .int 0, .null, .null, .int 0, .int 0, .int 0, .int 0, .int 0, .long 0, .ref b7])), (b7, .inl (ec E 0, 3, .inl (fun _ => 0))), (b8, .inr (3, [.int 1, .int 0, .int 0, .null, .null, .int 0, .int 0, .int 0, .int 0, .int 0, .long 0, .ref b9])), (b9, .inl (ec E 0, 3, .inl (fun _ => 0)))] := hD
  refine W.eq (g2 := F0 m 38 ls [.ref b8, .int 1, .ref b5]) rfl ?_
  refine va_astq (r := (RX5, TX5, 12)) (vs := [.int 1, .int 0, .int 0, .null, .null, .int 0, .int 0, .int 0, .int 0, .int 0, .long 0, .ref b9]) C.hx C.hb C.hK hP hD hS 5 5 8 3 rfl rfl rfl rfl (by unfold vp_in; decide) dX4_init_38 (fun H locs hP hD hS => ?_)
  have hP : va_P (eD E) gcl [(a, .inr (2, [.int 0, .int 118, .ref b2, .ref b3, .int 0, .int 0, .ref b1, .ref b4, .int 0, .ref b5])), (b1, .inl (ec E 0, 0, .inl (fun _ => 0))), (b2, .inr (9, [.int 0, .ref (es E 0), .int 0])), (b3, .inl (ec E 0, 64, .inl (fun _ => 0))), (b4, .inl (ec E 0, 0, .inl (fun _ => 0))), (b5, tc_ref (ec E 5) 4 (va_up (va_up (fun _ => none) (0 : Int32).toNatClampNeg (some b6)) (1 : Int32).toNatClampNeg (some b8))), (b6, .inr (3, [.int 0, .int 0, .int 0, .null, .null, .int 0, .int 0, .int 0, .int 0, .int 0, .long 0, .ref b7])), (b7, .inl (ec E 0, 3, .inl (fun _ => 0))), (b8, .inr (3, [.int 1, .int 0, .int 0, .null, .null, .int 0, .int 0, .int 0, .int 0, .int 0, .long 0, .ref b9])), (b9, .inl (ec E 0, 3, .inl (fun _ => 0)))] H := hP
  have hD : va_D (va_A [(a, .inr (2, [.int 0, .int 0, .null, .null, .int 0, .int 0, .null, .null, .int 0, .null]))] sz) [(a, .inr (2, [.int 0, .int 118, .ref b2, .ref b3, .int 0, .int 0, .ref b1, .ref b4, .int 0, .ref b5])), (b1, .inl (ec E 0, 0, .inl (fun _ => 0))), (b2, .inr (9, [.int 0, .ref (es E 0), .int 0])), (b3, .inl (ec E 0, 64, .inl (fun _ => 0))), (b4, .inl (ec E 0, 0, .inl (fun _ => 0))), (b5, tc_ref (ec E 5) 4 (va_up (va_up (fun _ => none) (0 : Int32).toNatClampNeg (some b6)) (1 : Int32).toNatClampNeg (some b8))), (b6, .inr (3, [.int 0, .int 0, .int 0, .null, .null, .int 0, .int 0, .int 0, .int 0, .int 0, .long 0, .ref b7])), (b7, .inl (ec E 0, 3, .inl (fun _ => 0))), (b8, .inr (3, [.int 1, .int 0, .int 0, .null, .null, .int 0, .int 0, .int 0, .int 0, .int 0, .long 0, .ref b9])), (b9, .inl (ec E 0, 3, .inl (fun _ => 0)))] := hD
  refine lv_iinc (v := 2) (lv' := [(1, .int 2), (0, .ref a)]) C.hx C.hb dX4_init_39 hl (k := 0) rfl (by decide) (by decide) rfl (fun ls hl => ?_)
  refine lv_goto (tgt := 20) C.hx C.hb dX4_init_42 (by decide) ?_
  refine lv_iload_n C.hx C.hb dX4_init_20 rfl (lv_at hl 0 rfl) ?_
  refine lv_iconst (v := 4) C.hx C.hb dX4_init_21 (by decide) ?_
  refine lv_icmp_ge (tgt := 45) C.hx C.hb dX4_init_22 (by decide) (fun c => absurd c (by decide)) (fun c => ?_)
  refine lv_aload_n C.hx C.hb dX4_init_25 rfl (lv_at hl 1 rfl) ?_
  refine va_get (C := RX4) (T := TX4) (N := 10) C.hx C.hb C.hts in_X4 C.hown C.hK hP 0 rfl rfl 9 (by decide) (C.hts _ q208) (fun _ h => h) (v := .ref b5) rfl dX4_init_26 ?_
  refine lv_iload_n C.hx C.hb dX4_init_29 rfl (lv_at hl 0 rfl) ?_
  refine tn_new (Cn := RX5) (T := TX5) (N := 12) (ci := 3) C hsz hP hD hS in_X5 tyX5 tyX5_ok q157 q159 q60 rfl (fs := [.int 0, .int 0, .int 0, .null, .null, .int 0, .int 0, .int 0, .int 0, .int 0, .long 0, .null]) tn_zX5 (Nat.le_of_ble_eq_true rfl) (Nat.le_of_ble_eq_true rfl) dX4_init_30 (fun b10 H hP hD hS => ?_)
  have hP : va_P (eD E) gcl [(a, .inr (2, [.int 0, .int 118, .ref b2, .ref b3, .int 0, .int 0, .ref b1, .ref b4, .int 0, .ref b5])), (b1, .inl (ec E 0, 0, .inl (fun _ => 0))), (b2, .inr (9, [.int 0, .ref (es E 0), .int 0])), (b3, .inl (ec E 0, 64, .inl (fun _ => 0))), (b4, .inl (ec E 0, 0, .inl (fun _ => 0))), (b5, tc_ref (ec E 5) 4 (va_up (va_up (fun _ => none) (0 : Int32).toNatClampNeg (some b6)) (1 : Int32).toNatClampNeg (some b8))), (b6, .inr (3, [.int 0, .int 0, .int 0, .null, .null, .int 0, .int 0, .int 0, .int 0, .int 0, .long 0, .ref b7])), (b7, .inl (ec E 0, 3, .inl (fun _ => 0))), (b8, .inr (3, [.int 1, .int 0, .int 0, .null, .null, .int 0, .int 0, .int 0, .int 0, .int 0, .long 0, .ref b9])), (b9, .inl (ec E 0, 3, .inl (fun _ => 0))), (b10, .inr (3, [.int 0, .int 0, .int 0, .null, .null, .int 0, .int 0, .int 0, .int 0, .int 0, .long 0, .null]))] H := hP
  have hD : va_D (va_A [(a, .inr (2, [.int 0, .int 0, .null, .null, .int 0, .int 0, .null, .null, .int 0, .null]))] sz) [(a, .inr (2, [.int 0, .int 118, .ref b2, .ref b3, .int 0, .int 0, .ref b1, .ref b4, .int 0, .ref b5])), (b1, .inl (ec E 0, 0, .inl (fun _ => 0))), (b2, .inr (9, [.int 0, .ref (es E 0), .int 0])), (b3, .inl (ec E 0, 64, .inl (fun _ => 0))), (b4, .inl (ec E 0, 0, .inl (fun _ => 0))), (b5, tc_ref (ec E 5) 4 (va_up (va_up (fun _ => none) (0 : Int32).toNatClampNeg (some b6)) (1 : Int32).toNatClampNeg (some b8))), (b6, .inr (3, [.int 0, .int 0, .int 0, .null, .null, .int 0, .int 0, .int 0, .int 0, .int 0, .long 0, .ref b7])), (b7, .inl (ec E 0, 3, .inl (fun _ => 0))), (b8, .inr (3, [.int 1, .int 0, .int 0, .null, .null, .int 0, .int 0, .int 0, .int 0, .int 0, .long 0, .ref b9])), (b9, .inl (ec E 0, 3, .inl (fun _ => 0))), (b10, .inr (3, [.int 0, .int 0, .int 0, .null, .null, .int 0, .int 0, .int 0, .int 0, .int 0, .long 0, .null]))] := hD
  refine lv_dup C.hx C.hb dX4_init_33 rfl ?_
  refine lv_iload_n C.hx C.hb dX4_init_34 rfl (lv_at hl 0 rfl) ?_
  refine tn_run (wr := [(a, .inr (2, [.int 0, .int 118, .ref b2, .ref b3, .int 0, .int 0, .ref b1, .ref b4, .int 0, .ref b5])), (b1, .inl (ec E 0, 0, .inl (fun _ => 0))), (b2, .inr (9, [.int 0, .ref (es E 0), .int 0])), (b3, .inl (ec E 0, 64, .inl (fun _ => 0))), (b4, .inl (ec E 0, 0, .inl (fun _ => 0))), (b5, tc_ref (ec E 5) 4 (va_up (va_up (fun _ => none) (0 : Int32).toNatClampNeg (some b6)) (1 : Int32).toNatClampNeg (some b8))), (b6, .inr (3, [.int 0, .int 0, .int 0, .null, .null, .int 0, .int 0, .int 0, .int 0, .int 0, .long 0, .ref b7])), (b7, .inl (ec E 0, 3, .inl (fun _ => 0))), (b8, .inr (3, [.int 1, .int 0, .int 0, .null, .null, .int 0, .int 0, .int 0, .int 0, .int 0, .long 0, .ref b9])), (b9, .inl (ec E 0, 3, .inl (fun _ => 0)))]) (tn_rI (As := [.int 2]) (rest := [.ref b10, .int 2, .ref b5]) (wc := [(b10, .inr (3, [.int 0, .int 0, .int 0, .null, .null, .int 0, .int 0, .int 0, .int 0, .int 0, .long 0, .null]))]) C hsz hbA hP hD hS [10] rfl rfl (by decide) (t_X5_init l (a := b10) (p1 := 2)) (cwI 1 C.hts (lw_meth q162) rfl rfl rfl (C.hts _ q60) (C.hts _ q160) (C.hts _ q161) rfl (by decide +kernel) ⟨Nat.le_of_ble_eq_true rfl, Nat.le_of_ble_eq_true rfl⟩) rfl hl.1 rfl (lv_room (Nat.le_of_ble_eq_true rfl)) dX4_init_35 ⟨Nat.le_of_ble_eq_true rfl, Nat.le_of_ble_eq_true rfl⟩) hsz hP hD hS [10] [0, 1, 2, 3, 4, 5, 6, 7, 8, 9] rfl rfl (by decide) (by decide) (fun r9 W9 H locs hk hP hD hS => ?_)
  obtain ⟨b11, rfl⟩ := hk
  have hP : va_P (eD E) gcl [(a, .inr (2, [.int 0, .int 118, .ref b2, .ref b3, .int 0, .int 0, .ref b1, .ref b4, .int 0, .ref b5])), (b1, .inl (ec E 0, 0, .inl (fun _ => 0))), (b2, .inr (9, [.int 0, .ref (es E 0), .int 0])), (b3, .inl (ec E 0, 64, .inl (fun _ => 0))), (b4, .inl (ec E 0, 0, .inl (fun _ => 0))), (b5, tc_ref (ec E 5) 4 (va_up (va_up (fun _ => none) (0 : Int32).toNatClampNeg (some b6)) (1 : Int32).toNatClampNeg (some b8))), (b6, .inr (3, [.int 0, .int 0, .int 0, .null, .null, .int 0, .int 0, .int 0, .int 0, .int 0, .long 0, .ref b7])), (b7, .inl (ec E 0, 3, .inl (fun _ => 0))), (b8, .inr (3, [.int 1, .int 0, .int 0, .null, .null, .int 0, .int 0, .int 0, .int 0, .int 0, .long 0, .ref b9])), (b9, .inl (ec E 0, 3, .inl (fun _ => 0))), (b10, .inr (3, [.int 2, .int 0, .int 0, .null, .null, .int 0, .int 0, .int 0, .int 0, .int 0, .long 0, .ref b11])), (b11, .inl (ec E 0, 3, .inl (fun _ => 0)))] H := hP
  have hD : va_D (va_A [(a, .inr (2, [.int 0, .int 0, .null, .null, .int 0, .int 0, .null, .null, .int 0, .null]))] sz) [(a, .inr (2, [.int 0, .int 118, .ref b2, .ref b3, .int 0, .int 0, .ref b1, .ref b4, .int 0, .ref b5])), (b1, .inl (ec E 0, 0, .inl (fun _ => 0))), (b2, .inr (9, [.int 0, .ref (es E 0), .int 0])), (b3, .inl (ec E 0, 64, .inl (fun _ => 0))), (b4, .inl (ec E 0, 0, .inl (fun _ => 0))), (b5, tc_ref (ec E 5) 4 (va_up (va_up (fun _ => none) (0 : Int32).toNatClampNeg (some b6)) (1 : Int32).toNatClampNeg (some b8))), (b6, .inr (3, [.int 0, .int 0, .int 0, .null, .null, .int 0, .int 0, .int 0, .int 0, .int 0, .long 0, .ref b7])), (b7, .inl (ec E 0, 3, .inl (fun _ => 0))), (b8, .inr (3, [.int 1, .int 0, .int 0, .null, .null, .int 0, .int 0, .int 0, .int 0, .int 0, .long 0, .ref b9])), (b9, .inl (ec E 0, 3, .inl (fun _ => 0))), (b10, .inr (3, [.int 2, .int 0, .int 0, .null, .null, .int 0, .int 0, .int 0, .int 0, .int 0, .long 0, .ref b11])), (b11, .inl (ec E 0, 3, .inl (fun _ => 0)))] := hD
  refine W.eq (g2 := F0 m 38 ls [.ref b10, .int 2, .ref b5]) rfl ?_
  refine va_astq (r := (RX5, TX5, 12)) (vs := [.int 2, .int 0, .int 0, .null, .null, .int 0, .int 0, .int 0, .int 0, .int 0, .long 0, .ref b11]) C.hx C.hb C.hK hP hD hS 5 5 10 3 rfl rfl rfl rfl (by unfold vp_in; decide) dX4_init_38 (fun H locs hP hD hS => ?_)
  have hP : va_P (eD E) gcl [(a, .inr (2, [.int 0, .int 118, .ref b2, .ref b3, .int 0, .int 0, .ref b1, .ref b4, .int 0, .ref b5])), (b1, .inl (ec E 0, 0, .inl (fun _ => 0))), (b2, .inr (9, [.int 0, .ref (es E 0), .int 0])), (b3, .inl (ec E 0, 64, .inl (fun _ => 0))), (b4, .inl (ec E 0, 0, .inl (fun _ => 0))), (b5, tc_ref (ec E 5) 4 (va_up (va_up (va_up (fun _ => none) (0 : Int32).toNatClampNeg (some b6)) (1 : Int32).toNatClampNeg (some b8)) (2 : Int32).toNatClampNeg (some b10))), (b6, .inr (3, [.int 0, .int 0, .int 0, .null, .null, .int 0, .int 0, .int 0, .int 0, .int 0, .long 0, .ref b7])), (b7, .inl (ec E 0, 3, .inl (fun _ => 0))), (b8, .inr (3, [.int 1, .int 0, .int 0, .null, .null, .int 0, .int 0, .int 0, .int 0, .int 0, .long 0, .ref b9])), (b9, .inl (ec E 0, 3, .inl (fun _ => 0))), (b10, .inr (3, [.int 2, .int 0, .int 0, .null, .null, .int 0, .int 0, .int 0, .int 0, .int 0, .long 0, .ref b11])), (b11, .inl (ec E 0, 3, .inl (fun _ => 0)))] H := hP
  have hD : va_D (va_A [(a, .inr (2, [.int 0, .int 0, .null, .null, .int 0, .int 0, .null, .null, .int 0, .null]))] sz) [(a, .inr (2, [.int 0, .int 118, .ref b2, .ref b3, .int 0, .int 0, .ref b1, .ref b4, .int 0, .ref b5])), (b1, .inl (ec E 0, 0, .inl (fun _ => 0))), (b2, .inr (9, [.int 0, .ref (es E 0), .int 0])), (b3, .inl (ec E 0, 64, .inl (fun _ => 0))), (b4, .inl (ec E 0, 0, .inl (fun _ => 0))), (b5, tc_ref (ec E 5) 4 (va_up (va_up (va_up (fun _ => none) (0 : Int32).toNatClampNeg (some b6)) (1 : Int32).toNatClampNeg (some b8)) (2 : Int32).toNatClampNeg (some b10))), (b6, .inr (3, [.int 0, .int 0, .int 0, .null, .null, .int 0, .int 0, .int 0, .int 0, .int 0, .long 0, .ref b7])), (b7, .inl (ec E 0, 3, .inl (fun _ => 0))), (b8, .inr (3, [.int 1, .int 0, .int 0, .null, .null, .int 0, .int 0, .int 0, .int 0, .int 0, .long 0, .ref b9])), (b9, .inl (ec E 0, 3, .inl (fun _ => 0))), (b10, .inr (3, [.int 2, .int 0, .int 0, .null, .null, .int 0, .int 0, .int 0, .int 0, .int 0, .long 0, .ref b11])), (b11, .inl (ec E 0, 3, .inl (fun _ => 0)))] := hD
  refine lv_iinc (v := 3) (lv' := [(1, .int 3), (0, .ref a)]) C.hx C.hb dX4_init_39 hl (k := 0) rfl (by decide) (by decide) rfl (fun ls hl => ?_)
  refine lv_goto (tgt := 20) C.hx C.hb dX4_init_42 (by decide) ?_
  refine lv_iload_n C.hx C.hb dX4_init_20 rfl (lv_at hl 0 rfl) ?_
  refine lv_iconst (v := 4) C.hx C.hb dX4_init_21 (by decide) ?_
  refine lv_icmp_ge (tgt := 45) C.hx C.hb dX4_init_22 (by decide) (fun c => absurd c (by decide)) (fun c => ?_)
  refine lv_aload_n C.hx C.hb dX4_init_25 rfl (lv_at hl 1 rfl) ?_
  refine va_get (C := RX4) (T := TX4) (N := 10) C.hx C.hb C.hts in_X4 C.hown C.hK hP 0 rfl rfl 9 (by decide) (C.hts _ q208) (fun _ h => h) (v := .ref b5) rfl dX4_init_26 ?_
  refine lv_iload_n C.hx C.hb dX4_init_29 rfl (lv_at hl 0 rfl) ?_
  refine tn_new (Cn := RX5) (T := TX5) (N := 12) (ci := 3) C hsz hP hD hS in_X5 tyX5 tyX5_ok q157 q159 q60 rfl (fs := [.int 0, .int 0, .int 0, .null, .null, .int 0, .int 0, .int 0, .int 0, .int 0, .long 0, .null]) tn_zX5 (Nat.le_of_ble_eq_true rfl) (Nat.le_of_ble_eq_true rfl) dX4_init_30 (fun b12 H hP hD hS => ?_)
  have hP : va_P (eD E) gcl [(a, .inr (2, [.int 0, .int 118, .ref b2, .ref b3, .int 0, .int 0, .ref b1, .ref b4, .int 0, .ref b5])), (b1, .inl (ec E 0, 0, .inl (fun _ => 0))), (b2, .inr (9, [.int 0, .ref (es E 0), .int 0])), (b3, .inl (ec E 0, 64, .inl (fun _ => 0))), (b4, .inl (ec E 0, 0, .inl (fun _ => 0))), (b5, tc_ref (ec E 5) 4 (va_up (va_up (va_up (fun _ => none) (0 : Int32).toNatClampNeg (some b6)) (1 : Int32).toNatClampNeg (some b8)) (2 : Int32).toNatClampNeg (some b10))), (b6, .inr (3, [.int 0, .int 0, .int 0, .null, .null, .int 0, .int 0, .int 0, .int 0, .int 0, .long 0, .ref b7])), (b7, .inl (ec E 0, 3, .inl (fun _ => 0))), (b8, .inr (3, [.int 1, .int 0, .int 0, .null, .null, .int 0, .int 0, .int 0, .int 0, .int 0, .long 0, .ref b9])), (b9, .inl (ec E 0, 3, .inl (fun _ => 0))), (b10, .inr (3, [.int 2, .int 0, .int 0, .null, .null, .int 0, .int 0, .int 0, .int 0, .int 0, .long 0, .ref b11])), (b11, .inl (ec E 0, 3, .inl (fun _ => 0))), (b12, .inr (3, [.int 0, .int 0, .int 0, .null, .null, .int 0, .int 0, .int 0, .int 0, .int 0, .long 0, .null]))] H := hP
  have hD : va_D (va_A [(a, .inr (2, [.int 0, .int 0, .null, .null, .int 0, .int 0, .null, .null, .int 0, .null]))] sz) [(a, .inr (2, [.int 0, .int 118, .ref b2, .ref b3, .int 0, .int 0, .ref b1, .ref b4, .int 0, .ref b5])), (b1, .inl (ec E 0, 0, .inl (fun _ => 0))), (b2, .inr (9, [.int 0, .ref (es E 0), .int 0])), (b3, .inl (ec E 0, 64, .inl (fun _ => 0))), (b4, .inl (ec E 0, 0, .inl (fun _ => 0))), (b5, tc_ref (ec E 5) 4 (va_up (va_up (va_up (fun _ => none) (0 : Int32).toNatClampNeg (some b6)) (1 : Int32).toNatClampNeg (some b8)) (2 : Int32).toNatClampNeg (some b10))), (b6, .inr (3, [.int 0, .int 0, .int 0, .null, .null, .int 0, .int 0, .int 0, .int 0, .int 0, .long 0, .ref b7])), (b7, .inl (ec E 0, 3, .inl (fun _ => 0))), (b8, .inr (3, [.int 1, .int 0, .int 0, .null, .null, .int 0, .int 0, .int 0, .int 0, .int 0, .long 0, .ref b9])), (b9, .inl (ec E 0, 3, .inl (fun _ => 0))), (b10, .inr (3, [.int 2, .int 0, .int 0, .null, .null, .int 0, .int 0, .int 0, .int 0, .int 0, .long 0, .ref b11])), (b11, .inl (ec E 0, 3, .inl (fun _ => 0))), (b12, .inr (3, [.int 0, .int 0, .int 0, .null, .null, .int 0, .int 0, .int 0, .int 0, .int 0, .long 0, .null]))] := hD
  refine lv_dup C.hx C.hb dX4_init_33 rfl ?_
  refine lv_iload_n C.hx C.hb dX4_init_34 rfl (lv_at hl 0 rfl) ?_
  refine tn_run (wr := [(a, .inr (2, [.int 0, .int 118, .ref b2, .ref b3, .int 0, .int 0, .ref b1, .ref b4, .int 0, .ref b5])), (b1, .inl (ec E 0, 0, .inl (fun _ => 0))), (b2, .inr (9, [.int 0, .ref (es E 0), .int 0])), (b3, .inl (ec E 0, 64, .inl (fun _ => 0))), (b4, .inl (ec E 0, 0, .inl (fun _ => 0))), (b5, tc_ref (ec E 5) 4 (va_up (va_up (va_up (fun _ => none) (0 : Int32).toNatClampNeg (some b6)) (1 : Int32).toNatClampNeg (some b8)) (2 : Int32).toNatClampNeg (some b10))), (b6, .inr (3, [.int 0, .int 0, .int 0, .null, .null, .int 0, .int 0, .int 0, .int 0, .int 0, .long 0, .ref b7])), (b7, .inl (ec E 0, 3, .inl (fun _ => 0))), (b8, .inr (3, [.int 1, .int 0, .int 0, .null, .null, .int 0, .int 0, .int 0, .int 0, .int 0, .long 0, .ref b9])), (b9, .inl (ec E 0, 3, .inl (fun _ => 0))), (b10, .inr (3, [.int 2, .int 0, .int 0, .null, .null, .int 0, .int 0, .int 0, .int 0, .int 0, .long 0, .ref b11])), (b11, .inl (ec E 0, 3, .inl (fun _ => 0)))]) (tn_rI (As := [.int 3]) (rest := [.ref b12, .int 3, .ref b5]) (wc := [(b12, .inr (3, [.int 0, .int 0, .int 0, .null, .null, .int 0, .int 0, .int 0, .int 0, .int 0, .long 0, .null]))]) C hsz hbA hP hD hS [12] rfl rfl (by decide) (t_X5_init l (a := b12) (p1 := 3)) (cwI 1 C.hts (lw_meth q162) rfl rfl rfl (C.hts _ q60) (C.hts _ q160) (C.hts _ q161) rfl (by decide +kernel) ⟨Nat.le_of_ble_eq_true rfl, Nat.le_of_ble_eq_true rfl⟩) rfl hl.1 rfl (lv_room (Nat.le_of_ble_eq_true rfl)) dX4_init_35 ⟨Nat.le_of_ble_eq_true rfl, Nat.le_of_ble_eq_true rfl⟩) hsz hP hD hS [12] [0, 1, 2, 3, 4, 5, 6, 7, 8, 9, 10, 11] rfl rfl (by decide) (by decide) (fun r9 W9 H locs hk hP hD hS => ?_)
  obtain ⟨b13, rfl⟩ := hk
  have hP : va_P (eD E) gcl [(a, .inr (2, [.int 0, .int 118, .ref b2, .ref b3, .int 0, .int 0, .ref b1, .ref b4, .int 0, .ref b5])), (b1, .inl (ec E 0, 0, .inl (fun _ => 0))), (b2, .inr (9, [.int 0, .ref (es E 0), .int 0])), (b3, .inl (ec E 0, 64, .inl (fun _ => 0))), (b4, .inl (ec E 0, 0, .inl (fun _ => 0))), (b5, tc_ref (ec E 5) 4 (va_up (va_up (va_up (fun _ => none) (0 : Int32).toNatClampNeg (some b6)) (1 : Int32).toNatClampNeg (some b8)) (2 : Int32).toNatClampNeg (some b10))), (b6, .inr (3, [.int 0, .int 0, .int 0, .null, .null, .int 0, .int 0, .int 0, .int 0, .int 0, .long 0, .ref b7])), (b7, .inl (ec E 0, 3, .inl (fun _ => 0))), (b8, .inr (3, [.int 1, .int 0, .int 0, .null, .null, .int 0, .int 0, .int 0, .int 0, .int 0, .long 0, .ref b9])), (b9, .inl (ec E 0, 3, .inl (fun _ => 0))), (b10, .inr (3, [.int 2, .int 0, .int 0, .null, .null, .int 0, .int 0, .int 0, .int 0, .int 0, .long 0, .ref b11])), (b11, .inl (ec E 0, 3, .inl (fun _ => 0))), (b12, .inr (3, [.int 3, .int 0, .int 0, .null, .null, .int 0, .int 0, .int 0, .int 0, .int 0, .long 0, .ref b13])), (b13, .inl (ec E 0, 3, .inl (fun _ => 0)))] H := hP
  have hD : va_D (va_A [(a, .inr (2, [.int 0, .int 0, .null, .null, .int 0, .int 0, .null, .null, .int 0, .null]))] sz) [(a, .inr (2, [.int 0, .int 118, .ref b2, .ref b3, .int 0, .int 0, .ref b1, .ref b4, .int 0, .ref b5])), (b1, .inl (ec E 0, 0, .inl (fun _ => 0))), (b2, .inr (9, [.int 0, .ref (es E 0), .int 0])), (b3, .inl (ec E 0, 64, .inl (fun _ => 0))), (b4, .inl (ec E 0, 0, .inl (fun _ => 0))), (b5, tc_ref (ec E 5) 4 (va_up (va_up (va_up (fun _ => none) (0 : Int32).toNatClampNeg (some b6)) (1 : Int32).toNatClampNeg (some b8)) (2 : Int32).toNatClampNeg (some b10))), (b6, .inr (3, [.int 0, .int 0, .int 0, .null, .null, .int 0, .int 0, .int 0, .int 0, .int 0, .long 0, .ref b7])), (b7, .inl (ec E 0, 3, .inl (fun _ => 0))), (b8, .inr (3, [.int 1, .int 0, .int 0, .null, .null, .int 0, .int 0, .int 0, .int 0, .int 0, .long 0, .ref b9])), (b9, .inl (ec E 0, 3, .inl (fun _ => 0))), (b10, .inr (3, [.int 2, .int 0, .int 0, .null, .null, .int 0, .int 0, .int 0, .int 0, .int 0, .long 0, .ref b11])), (b11, .inl (ec E 0, 3, .inl (fun _ => 0))), (b12, .inr (3, [.int 3, .int 0, .int 0, .null, .null, .int 0, .int 0, .int 0, .int 0, .int 0, .long 0, .ref b13])), (b13, .inl (ec E 0, 3, .inl (fun _ => 0)))] := hD
  refine W.eq (g2 := F0 m 38 ls [.ref b12, .int 3, .ref b5]) rfl ?_
  refine va_astq (r := (RX5, TX5, 12)) (vs := [.int 3, .int 0, .int 0, .null, .null, .int 0, .int 0, .int 0, .int 0, .int 0, .long 0, .ref b13]) C.hx C.hb C.hK hP hD hS 5 5 12 3 rfl rfl rfl rfl (by unfold vp_in; decide) dX4_init_38 (fun H locs hP hD hS => ?_)
  have hP : va_P (eD E) gcl [(a, .inr (2, [.int 0, .int 118, .ref b2, .ref b3, .int 0, .int 0, .ref b1, .ref b4, .int 0, .ref b5])), (b1, .inl (ec E 0, 0, .inl (fun _ => 0))), (b2, .inr (9, [.int 0, .ref (es E 0), .int 0])), (b3, .inl (ec E 0, 64, .inl (fun _ => 0))), (b4, .inl (ec E 0, 0, .inl (fun _ => 0))), (b5, tc_ref (ec E 5) 4 (va_up (va_up (va_up (va_up (fun _ => none) (0 : Int32).toNatClampNeg (some b6)) (1 : Int32).toNatClampNeg (some b8)) (2 : Int32).toNatClampNeg (some b10)) (3 : Int32).toNatClampNeg (some b12))), (b6, .inr (3, [.int 0, .int 0, .int 0, .null, .null, .int 0, .int 0, .int 0, .int 0, .int 0, .long 0, .ref b7])), (b7, .inl (ec E 0, 3, .inl (fun _ => 0))), (b8, .inr (3, [.int 1, .int 0, .int 0, .null, .null, .int 0, .int 0, .int 0, .int 0, .int 0, .long 0, .ref b9])), (b9, .inl (ec E 0, 3, .inl (fun _ => 0))), (b10, .inr (3, [.int 2, .int 0, .int 0, .null, .null, .int 0, .int 0, .int 0, .int 0, .int 0, .long 0, .ref b11])), (b11, .inl (ec E 0, 3, .inl (fun _ => 0))), (b12, .inr (3, [.int 3, .int 0, .int 0, .null, .null, .int 0, .int 0, .int 0, .int 0, .int 0, .long 0, .ref b13])), (b13, .inl (ec E 0, 3, .inl (fun _ => 0)))] H := hP
  have hD : va_D (va_A [(a, .inr (2, [.int 0, .int 0, .null, .null, .int 0, .int 0, .null, .null, .int 0, .null]))] sz) [(a, .inr (2, [.int 0, .int 118, .ref b2, .ref b3, .int 0, .int 0, .ref b1, .ref b4, .int 0, .ref b5])), (b1, .inl (ec E 0, 0, .inl (fun _ => 0))), (b2, .inr (9, [.int 0, .ref (es E 0), .int 0])), (b3, .inl (ec E 0, 64, .inl (fun _ => 0))), (b4, .inl (ec E 0, 0, .inl (fun _ => 0))), (b5, tc_ref (ec E 5) 4 (va_up (va_up (va_up (va_up (fun _ => none) (0 : Int32).toNatClampNeg (some b6)) (1 : Int32).toNatClampNeg (some b8)) (2 : Int32).toNatClampNeg (some b10)) (3 : Int32).toNatClampNeg (some b12))), (b6, .inr (3, [.int 0, .int 0, .int 0, .null, .null, .int 0, .int 0, .int 0, .int 0, .int 0, .long 0, .ref b7])), (b7, .inl (ec E 0, 3, .inl (fun _ => 0))), (b8, .inr (3, [.int 1, .int 0, .int 0, .null, .null, .int 0, .int 0, .int 0, .int 0, .int 0, .long 0, .ref b9])), (b9, .inl (ec E 0, 3, .inl (fun _ => 0))), (b10, .inr (3, [.int 2, .int 0, .int 0, .null, .null, .int 0, .int 0, .int 0, .int 0, .int 0, .long 0, .ref b11])), (b11, .inl (ec E 0, 3, .inl (fun _ => 0))), (b12, .inr (3, [.int 3, .int 0, .int 0, .null, .null, .int 0, .int 0, .int 0, .int 0, .int 0, .long 0, .ref b13])), (b13, .inl (ec E 0, 3, .inl (fun _ => 0)))] := hD
  refine lv_iinc (v := 4) (lv' := [(1, .int 4), (0, .ref a)]) C.hx C.hb dX4_init_39 hl (k := 0) rfl (by decide) (by decide) rfl (fun ls hl => ?_)
  refine lv_goto (tgt := 20) C.hx C.hb dX4_init_42 (by decide) ?_
  refine lv_iload_n C.hx C.hb dX4_init_20 rfl (lv_at hl 0 rfl) ?_
  refine lv_iconst (v := 4) C.hx C.hb dX4_init_21 (by decide) ?_
  refine lv_icmp_ge (tgt := 45) C.hx C.hb dX4_init_22 (by decide) (fun c => ?_) (fun c => absurd c (by decide))
  refine W.widen (k := 13) (n := 192) (Nat.le_of_ble_eq_true rfl) (Nat.le_of_ble_eq_true rfl) ?_
  exact tn_vret () rfl C hr hlk hP hD hS ⟨b1, b2, b3, b4, b5, b6, b7, b8, b9, b10, b11, b12, b13, rfl⟩ dX4_init_45
/-! java/util/ArrayList.grow(I)[Ljava/lang/Object; -/
set_option maxHeartbeats 4000000 in
theorem t_J2_grow_2 (l : Launch) {E : tc_E} {a : Nat} {mo : Int32} {sz : Nat} : tn_M l yJ2_grow_2 (ws_ yJ2_grow_2 cJ2_grow_2 4 (some (.array (.object "java/lang/Object")))) ({ frames := 1, cells := 1, slots := 10, locals := 30 } : Room) E [.ref a, .int 1] [(a, .inr (9, [.int mo, .ref (es E 0), .int 0]))] sz (fun k : Nat => some (.ref k)) (fun (r9 : Nat) (W9 : va_W) => ∃ b1 : Nat, b1 = r9 ∧ W9 = [(a, .inr (9, [.int mo, .ref b1, .int 0])), (b1, tc_ref (ec E 4) 10 (fun _ => none))]) 1 10 := by
  refine tn_start cJ2_grow_2 4 (some (.array (.object "java/lang/Object"))) RJ2 (by decide) rfl rfl (Nat.le_of_ble_eq_true rfl) ?_
  intro p e s m args below meth c ls C hnm hsz hbA hr hlk hP hD hS hl
  obtain ⟨mx, hnm, hmt⟩ := hnm
  have hin2 := (name_of_methodNamed hnm hmt).1
  have hl : lv_has ls 4 [(0, .ref a), (1, .int 1)] := hl
  obtain ⟨H, hH0⟩ : ∃ H : Heap, H = s.heap := ⟨_, rfl⟩
  rw [← hH0] at hP ⊢
  have hS : va_S (va_A [(a, .inr (9, [.int mo, .ref (es E 0), .int 0]))] sz) s.heap H [] := by rw [hH0]; exact va_S.rf
  refine lv_aload_n C.hx C.hb dJ2_grow_2_0 rfl (lv_at hl 0 rfl) ?_
  refine va_get (C := RJ2) (T := TJ2) (N := 3) C.hx C.hb C.hts in_J2 C.hown C.hK hP 0 rfl rfl 1 (by decide) (C.hts _ q106) (fun _ h => h) (v := .ref (es E 0)) rfl dJ2_grow_2_1 ?_
  refine tn_emptyLen C hS hbA dJ2_grow_2_4 ?_
  refine lv_istore_n (lv' := [(2, .int 0), (0, .ref a), (1, .int 1)]) C.hx C.hb dJ2_grow_2_5 rfl hl (by decide) rfl (fun ls hl => ?_)
  refine lv_iload_n C.hx C.hb dJ2_grow_2_6 rfl (lv_at hl 0 rfl) ?_
  refine lv_if_gt (tgt := 20) C.hx C.hb dJ2_grow_2_7 (by decide) (fun c => absurd c (by decide)) (fun c => ?_)
  refine lv_aload_n C.hx C.hb dJ2_grow_2_10 rfl (lv_at hl 1 rfl) ?_
  refine va_get (C := RJ2) (T := TJ2) (N := 3) C.hx C.hb C.hts in_J2 C.hown C.hK hP 0 rfl rfl 1 (by decide) (C.hts _ q106) (fun _ h => h) (v := .ref (es E 0)) rfl dJ2_grow_2_11 ?_
  refine tn_empty C hS hbA q104 dJ2_grow_2_14 ?_
  refine lv_acmp_eq (rx := some (es E 0)) (ry := some (es E 0)) (tgt := 45) C.hx C.hb dJ2_grow_2_17 (by decide) (fun _ => ?_) (fun h => absurd rfl h)
  refine lv_aload_n C.hx C.hb dJ2_grow_2_45 rfl (lv_at hl 1 rfl) ?_
  refine lv_bipush (v := 10) C.hx C.hb dJ2_grow_2_46 (by decide) ?_
  refine lv_iload_n C.hx C.hb dJ2_grow_2_48 rfl (lv_at hl 2 rfl) ?_
  refine va_mmax C.hx C.hb (C.hml.trans hl.1.symm) C.hown (C.hts _ q314) (C.hts _ q271) (C.hts _ q62) (C.hts _ q272) (Nat.le_of_ble_eq_true rfl) (Nat.le_of_ble_eq_true rfl) (Nat.le_of_ble_eq_true rfl) (Nat.le_of_ble_eq_true rfl) dJ2_grow_2_49 ?_
  refine W.eq (g2 := F0 m 52 ls [.int 10, .ref a]) (by rfl) ?_
  refine tn_newQ (N' := 10) C hsz hP hD hS 4 rfl q315 C.hZ.nc.2.1 (by decide) (by decide) (by decide) (Nat.le_of_ble_eq_true rfl) (Nat.le_of_ble_eq_true rfl) dJ2_grow_2_52 (fun b1 H hP hD hS => ?_)
  have hP : va_P (eD E) gcl [(a, .inr (9, [.int mo, .ref (es E 0), .int 0])), (b1, tc_ref (ec E 4) 10 (fun _ => none))] H := hP
  have hD : va_D (va_A [(a, .inr (9, [.int mo, .ref (es E 0), .int 0]))] sz) [(a, .inr (9, [.int mo, .ref (es E 0), .int 0])), (b1, tc_ref (ec E 4) 10 (fun _ => none))] := hD
  refine lv_dup_x1 C.hx C.hb dJ2_grow_2_55 rfl rfl ?_
  refine va_put (C := RJ2) (T := TJ2) (N := 3) C.hx C.hb C.hts in_J2 tyJ2 tyJ2_ok nmJ2 C.hown C.hK hP hD hS 0 rfl rfl 1 (by decide) (C.hts _ q106) (fun _ h => h) rfl (tyJ2_ok 1 (by decide)) (v := .ref b1) rfl rfl (Nat.le_of_ble_eq_true rfl) dJ2_grow_2_56 (fun H locs hP hD hS => ?_)
  have hP : va_P (eD E) gcl [(a, .inr (9, [.int mo, .ref b1, .int 0])), (b1, tc_ref (ec E 4) 10 (fun _ => none))] H := hP
  have hD : va_D (va_A [(a, .inr (9, [.int mo, .ref (es E 0), .int 0]))] sz) [(a, .inr (9, [.int mo, .ref b1, .int 0])), (b1, tc_ref (ec E 4) 10 (fun _ => none))] := hD
  refine W.widen (k := 1) (n := 10) (Nat.le_of_ble_eq_true rfl) (Nat.le_of_ble_eq_true rfl) ?_
  exact tn_aret b1 rfl C hr hlk hP hD hS ⟨b1, rfl, rfl⟩ dJ2_grow_2_59
/-! java/util/ArrayList.grow()[Ljava/lang/Object; -/
set_option maxHeartbeats 4000000 in
theorem t_J2_grow (l : Launch) {E : tc_E} {a : Nat} {mo : Int32} {sz : Nat} : tn_M l yJ2_grow (ws_ yJ2_grow cJ2_grow 1 (some (.array (.object "java/lang/Object")))) ({ frames := 2, cells := 1, slots := 10, locals := 53 } : Room) E [.ref a] [(a, .inr (9, [.int mo, .ref (es E 0), .int 0]))] sz (fun k : Nat => some (.ref k)) (fun (r9 : Nat) (W9 : va_W) => ∃ b1 : Nat, b1 = r9 ∧ W9 = [(a, .inr (9, [.int mo, .ref b1, .int 0])), (b1, tc_ref (ec E 4) 10 (fun _ => none))]) 1 10 := by
  refine tn_start cJ2_grow 1 (some (.array (.object "java/lang/Object"))) RJ2 (by decide) rfl rfl (Nat.le_of_ble_eq_true rfl) ?_
  intro p e s m args below meth c ls C hnm hsz hbA hr hlk hP hD hS hl
  obtain ⟨mx, hnm, hmt⟩ := hnm
  have hin2 := (name_of_methodNamed hnm hmt).1
  have hl : lv_has ls 1 [(0, .ref a)] := hl
  obtain ⟨H, hH0⟩ : ∃ H : Heap, H = s.heap := ⟨_, rfl⟩
  rw [← hH0] at hP ⊢
  have hS : va_S (va_A [(a, .inr (9, [.int mo, .ref (es E 0), .int 0]))] sz) s.heap H [] := by rw [hH0]; exact va_S.rf
  refine lv_aload_n C.hx C.hb dJ2_grow_0 rfl (lv_at hl 0 rfl) ?_
  refine lv_aload_n C.hx C.hb dJ2_grow_1 rfl (lv_at hl 0 rfl) ?_
  refine va_get (C := RJ2) (T := TJ2) (N := 3) C.hx C.hb C.hts in_J2 C.hown C.hK hP 0 rfl rfl 2 (by decide) (C.hts _ q107) (fun _ h => h) (v := .int 0) rfl dJ2_grow_2 ?_
  refine lv_iconst (v := 1) C.hx C.hb dJ2_grow_5 (by decide) ?_
  refine lv_iadd C.hx C.hb dJ2_grow_6 ?_
  refine W.eq (g2 := F0 m 7 ls [.int 1, .ref a]) (by rfl) ?_
  refine tn_run (wr := []) (tn_rV (As := [.int 1]) (rest := []) (wc := [(a, .inr (9, [.int mo, .ref (es E 0), .int 0]))]) (q0 := 0) (ci := 9) (q := (RJ2, TJ2, 3)) C hsz hbA hP hD hS [0] rfl rfl (by decide) rfl rfl (t_J2_grow_2 l (a := a) (mo := mo)) (cwV 1 C.hts (lw_V q263 q265 qs2 q56 q266) rfl rfl rfl (by decide +kernel) ⟨Nat.le_of_ble_eq_true rfl, Nat.le_of_ble_eq_true rfl⟩) rfl hl.1 rfl (lv_room (Nat.le_of_ble_eq_true rfl)) dJ2_grow_7 ⟨Nat.le_of_ble_eq_true rfl, Nat.le_of_ble_eq_true rfl⟩) hsz hP hD hS [0] [] rfl rfl (by decide) (by decide) (fun r9 W9 H locs hk hP hD hS => ?_)
  obtain ⟨b1, rfl, rfl⟩ := hk
  have hP : va_P (eD E) gcl [(a, .inr (9, [.int mo, .ref b1, .int 0])), (b1, tc_ref (ec E 4) 10 (fun _ => none))] H := hP
  have hD : va_D (va_A [(a, .inr (9, [.int mo, .ref (es E 0), .int 0]))] sz) [(a, .inr (9, [.int mo, .ref b1, .int 0])), (b1, tc_ref (ec E 4) 10 (fun _ => none))] := hD
  refine W.eq (g2 := F0 m 10 ls [.ref b1]) rfl ?_
  refine W.widen (k := 1) (n := 10) (Nat.le_of_ble_eq_true rfl) (Nat.le_of_ble_eq_true rfl) ?_
  exact tn_aret b1 rfl C hr hlk hP hD hS ⟨b1, rfl, rfl⟩ dJ2_grow_10
/-! java/util/ArrayList.add(Ljava/lang/Object;[Ljava/lang/Object;I)V -/
set_option maxHeartbeats 4000000 in
theorem t_J2_add_2_c2 (l : Launch) {E : tc_E} {a : Nat} {mo : Int32} {q : Nat} {fs : List Value} {sz : Nat} : tn_M l yJ2_add_2 (ws_ yJ2_add_2 cJ2_add_2 4 none) ({ frames := 3, cells := 1, slots := 10, locals := 73 } : Room) E [.ref a, .ref q, .ref (es E 0), .int 0] [(a, .inr (9, [.int mo, .ref (es E 0), .int 0])), (q, .inr (2, fs))] sz (fun _ : Unit => none) (fun (r9 : Unit) (W9 : va_W) => ∃ b1 : Nat, W9 = [(q, .inr (2, fs)), (a, .inr (9, [.int mo, .ref b1, .int 1])), (b1, tc_ref (ec E 4) 10 (va_up (fun _ => none) (0 : Int32).toNatClampNeg (some q)))]) 1 10 := by
  refine tn_start cJ2_add_2 4 none RJ2 (by decide) rfl rfl (Nat.le_of_ble_eq_true rfl) ?_
  intro p e s m args below meth c ls C hnm hsz hbA hr hlk hP hD hS hl
  obtain ⟨mx, hnm, hmt⟩ := hnm
  have hin2 := (name_of_methodNamed hnm hmt).1
  have hl : lv_has ls 4 [(0, .ref a), (1, .ref q), (2, .ref (es E 0)), (3, .int 0)] := hl
  obtain ⟨H, hH0⟩ : ∃ H : Heap, H = s.heap := ⟨_, rfl⟩
  rw [← hH0] at hP ⊢
  have hS : va_S (va_A [(a, .inr (9, [.int mo, .ref (es E 0), .int 0])), (q, .inr (2, fs))] sz) s.heap H [] := by rw [hH0]; exact va_S.rf
  refine lv_iload_n C.hx C.hb dJ2_add_2_0 rfl (lv_at hl 3 rfl) ?_
  refine lv_aload_n C.hx C.hb dJ2_add_2_1 rfl (lv_at hl 2 rfl) ?_
  refine tn_emptyLen C hS hbA dJ2_add_2_2 ?_
  refine lv_icmp_ne (tgt := 11) C.hx C.hb dJ2_add_2_3 (by decide) (fun c => absurd c (by decide)) (fun c => ?_)
  refine lv_aload_n C.hx C.hb dJ2_add_2_6 rfl (lv_at hl 0 rfl) ?_
  refine tn_run (wr := [(q, .inr (2, fs))]) (tn_rV (As := []) (rest := []) (wc := [(a, .inr (9, [.int mo, .ref (es E 0), .int 0]))]) (q0 := 0) (ci := 9) (q := (RJ2, TJ2, 3)) C hsz hbA hP hD hS [0] rfl rfl (by decide) rfl rfl (t_J2_grow l (a := a) (mo := mo)) (cwV 0 C.hts (lw_V q259 q261 qs1 q56 q262) rfl rfl rfl (by decide +kernel) ⟨Nat.le_of_ble_eq_true rfl, Nat.le_of_ble_eq_true rfl⟩) rfl hl.1 rfl (lv_room (Nat.le_of_ble_eq_true rfl)) dJ2_add_2_7 ⟨Nat.le_of_ble_eq_true rfl, Nat.le_of_ble_eq_true rfl⟩) hsz hP hD hS [0] [1] rfl rfl (by decide) (by decide) (fun r9 W9 H locs hk hP hD hS => ?_)
  obtain ⟨b1, rfl, rfl⟩ := hk
  have hP : va_P (eD E) gcl [(q, .inr (2, fs)), (a, .inr (9, [.int mo, .ref b1, .int 0])), (b1, tc_ref (ec E 4) 10 (fun _ => none))] H := hP
  have hD : va_D (va_A [(a, .inr (9, [.int mo, .ref (es E 0), .int 0])), (q, .inr (2, fs))] sz) [(q, .inr (2, fs)), (a, .inr (9, [.int mo, .ref b1, .int 0])), (b1, tc_ref (ec E 4) 10 (fun _ => none))] := hD
  refine W.eq (g2 := F0 m 10 ls [.ref b1]) rfl ?_
  refine lv_astore_n (lv' := [(2, .ref b1), (0, .ref a), (1, .ref q), (3, .int 0)]) C.hx C.hb dJ2_add_2_10 rfl hl (by decide) rfl (fun ls hl => ?_)
  refine lv_aload_n C.hx C.hb dJ2_add_2_11 rfl (lv_at hl 0 rfl) ?_
  refine lv_iload_n C.hx C.hb dJ2_add_2_12 rfl (lv_at hl 3 rfl) ?_
  refine lv_aload_n C.hx C.hb dJ2_add_2_13 rfl (lv_at hl 2 rfl) ?_
  refine va_astqO (r := (RX4, TX4, 10)) (vs := fs) C.hx C.hb C.hK hP hD hS 2 4 0 2 rfl rfl (C.nw 36 rfl) rfl rfl (by unfold vp_in; decide) dJ2_add_2_14 (fun H locs hP hD hS => ?_)
  have hP : va_P (eD E) gcl [(q, .inr (2, fs)), (a, .inr (9, [.int mo, .ref b1, .int 0])), (b1, tc_ref (ec E 4) 10 (va_up (fun _ => none) (0 : Int32).toNatClampNeg (some q)))] H := hP
  have hD : va_D (va_A [(a, .inr (9, [.int mo, .ref (es E 0), .int 0])), (q, .inr (2, fs))] sz) [(q, .inr (2, fs)), (a, .inr (9, [.int mo, .ref b1, .int 0])), (b1, tc_ref (ec E 4) 10 (va_up (fun _ => none) (0 : Int32).toNatClampNeg (some q)))] := hD
  refine lv_aload_n C.hx C.hb dJ2_add_2_15 rfl (lv_at hl 1 rfl) ?_
  refine lv_iload_n C.hx C.hb dJ2_add_2_16 rfl (lv_at hl 3 rfl) ?_
  refine lv_iconst (v := 1) C.hx C.hb dJ2_add_2_17 (by decide) ?_
  refine lv_iadd C.hx C.hb dJ2_add_2_18 ?_
  refine W.eq (g2 := F0 m 19 ls [.int 1, .ref a]) (by rfl) ?_
  refine va_put (C := RJ2) (T := TJ2) (N := 3) C.hx C.hb C.hts in_J2 tyJ2 tyJ2_ok nmJ2 C.hown C.hK hP hD hS 1 rfl rfl 2 (by decide) (C.hts _ q107) (fun _ h => h) rfl (tyJ2_ok 2 (by decide)) (v := .int 1) rfl rfl (Nat.le_of_ble_eq_true rfl) dJ2_add_2_19 (fun H locs hP hD hS => ?_)
  have hP : va_P (eD E) gcl [(q, .inr (2, fs)), (a, .inr (9, [.int mo, .ref b1, .int 1])), (b1, tc_ref (ec E 4) 10 (va_up (fun _ => none) (0 : Int32).toNatClampNeg (some q)))] H := hP
  have hD : va_D (va_A [(a, .inr (9, [.int mo, .ref (es E 0), .int 0])), (q, .inr (2, fs))] sz) [(q, .inr (2, fs)), (a, .inr (9, [.int mo, .ref b1, .int 1])), (b1, tc_ref (ec E 4) 10 (va_up (fun _ => none) (0 : Int32).toNatClampNeg (some q)))] := hD
  refine W.widen (k := 1) (n := 10) (Nat.le_of_ble_eq_true rfl) (Nat.le_of_ble_eq_true rfl) ?_
  exact tn_vret () rfl C hr hlk hP hD hS ⟨b1, rfl⟩ dJ2_add_2_22
/-! java/util/ArrayList.add(Ljava/lang/Object;)Z -/
set_option maxHeartbeats 4000000 in
theorem t_J2_add_c2 (l : Launch) {E : tc_E} {a : Nat} {mo : Int32} {q : Nat} {fs : List Value} {sz : Nat} : tn_M l yJ2_add (ws_ yJ2_add cJ2_add 2 (some .boolean)) ({ frames := 4, cells := 1, slots := 10, locals := 96 } : Room) E [.ref a, .ref q] [(a, .inr (9, [.int mo, .ref (es E 0), .int 0])), (q, .inr (2, fs))] sz (fun r : Int32 => some (.int r)) (fun (r9 : Int32) (W9 : va_W) => ∃ b1 : Nat, r9 = 1 ∧ W9 = [(q, .inr (2, fs)), (a, .inr (9, [.int (mo + 1), .ref b1, .int 1])), (b1, tc_ref (ec E 4) 10 (va_up (fun _ => none) (0 : Int32).toNatClampNeg (some q)))]) 1 10 := by
  refine tn_start cJ2_add 2 (some .boolean) RJ2 (by decide) rfl rfl (Nat.le_of_ble_eq_true rfl) ?_
  intro p e s m args below meth c ls C hnm hsz hbA hr hlk hP hD hS hl
  obtain ⟨mx, hnm, hmt⟩ := hnm
  have hin2 := (name_of_methodNamed hnm hmt).1
  have hl : lv_has ls 2 [(0, .ref a), (1, .ref q)] := hl
  obtain ⟨H, hH0⟩ : ∃ H : Heap, H = s.heap := ⟨_, rfl⟩
  rw [← hH0] at hP ⊢
  have hS : va_S (va_A [(a, .inr (9, [.int mo, .ref (es E 0), .int 0])), (q, .inr (2, fs))] sz) s.heap H [] := by rw [hH0]; exact va_S.rf
  refine lv_aload_n C.hx C.hb dJ2_add_0 rfl (lv_at hl 0 rfl) ?_
  refine lv_dup C.hx C.hb dJ2_add_1 rfl ?_
  refine va_get (C := RJ2) (T := TJ2) (N := 3) C.hx C.hb C.hts in_J2 C.hown C.hK hP 0 rfl rfl 0 (by decide) (C.hts _ q109) (u_same (C.hts _ q110)) (v := .int mo) rfl dJ2_add_2 ?_
  refine lv_iconst (v := 1) C.hx C.hb dJ2_add_5 (by decide) ?_
  refine lv_iadd C.hx C.hb dJ2_add_6 ?_
  refine va_put (C := RJ2) (T := TJ2) (N := 3) C.hx C.hb C.hts in_J2 tyJ2 tyJ2_ok nmJ2 C.hown C.hK hP hD hS 0 rfl rfl 0 (by decide) (C.hts _ q109) (u_same (C.hts _ q110)) rfl (tyJ2_ok 0 (by decide)) (v := .int (mo + 1)) rfl rfl (Nat.le_of_ble_eq_true rfl) dJ2_add_7 (fun H locs hP hD hS => ?_)
  have hP : va_P (eD E) gcl [(a, .inr (9, [.int (mo + 1), .ref (es E 0), .int 0])), (q, .inr (2, fs))] H := hP
  have hD : va_D (va_A [(a, .inr (9, [.int mo, .ref (es E 0), .int 0])), (q, .inr (2, fs))] sz) [(a, .inr (9, [.int (mo + 1), .ref (es E 0), .int 0])), (q, .inr (2, fs))] := hD
  refine lv_aload_n C.hx C.hb dJ2_add_10 rfl (lv_at hl 0 rfl) ?_
  refine lv_aload_n C.hx C.hb dJ2_add_11 rfl (lv_at hl 1 rfl) ?_
  refine lv_aload_n C.hx C.hb dJ2_add_12 rfl (lv_at hl 0 rfl) ?_
  refine va_get (C := RJ2) (T := TJ2) (N := 3) C.hx C.hb C.hts in_J2 C.hown C.hK hP 0 rfl rfl 1 (by decide) (C.hts _ q106) (fun _ h => h) (v := .ref (es E 0)) rfl dJ2_add_13 ?_
  refine lv_aload_n C.hx C.hb dJ2_add_16 rfl (lv_at hl 0 rfl) ?_
  refine va_get (C := RJ2) (T := TJ2) (N := 3) C.hx C.hb C.hts in_J2 C.hown C.hK hP 0 rfl rfl 2 (by decide) (C.hts _ q107) (fun _ h => h) (v := .int 0) rfl dJ2_add_17 ?_
  refine tn_run (wr := []) (tn_rV (As := [.ref q, .ref (es E 0), .int 0]) (rest := []) (wc := [(a, .inr (9, [.int (mo + 1), .ref (es E 0), .int 0])), (q, .inr (2, fs))]) (q0 := 0) (ci := 9) (q := (RJ2, TJ2, 3)) C hsz hbA hP hD hS [0, 1] rfl rfl (by decide) rfl rfl (t_J2_add_2_c2 l (a := a) (mo := (mo + 1)) (q := q) (fs := fs)) (cwV 3 C.hts (lw_V q255 q257 qs0 q56 q258) rfl rfl rfl (by decide +kernel) ⟨Nat.le_of_ble_eq_true rfl, Nat.le_of_ble_eq_true rfl⟩) rfl hl.1 rfl (lv_room (Nat.le_of_ble_eq_true rfl)) dJ2_add_20 ⟨Nat.le_of_ble_eq_true rfl, Nat.le_of_ble_eq_true rfl⟩) hsz hP hD hS [0, 1] [] rfl rfl (by decide) (by decide) (fun r9 W9 H locs hk hP hD hS => ?_)
  obtain ⟨b1, rfl⟩ := hk
  have hP : va_P (eD E) gcl [(q, .inr (2, fs)), (a, .inr (9, [.int (mo + 1), .ref b1, .int 1])), (b1, tc_ref (ec E 4) 10 (va_up (fun _ => none) (0 : Int32).toNatClampNeg (some q)))] H := hP
  have hD : va_D (va_A [(a, .inr (9, [.int mo, .ref (es E 0), .int 0])), (q, .inr (2, fs))] sz) [(q, .inr (2, fs)), (a, .inr (9, [.int (mo + 1), .ref b1, .int 1])), (b1, tc_ref (ec E 4) 10 (va_up (fun _ => none) (0 : Int32).toNatClampNeg (some q)))] := hD
  refine W.eq (g2 := F0 m 23 ls []) rfl ?_
  refine lv_iconst (v := 1) C.hx C.hb dJ2_add_23 (by decide) ?_
  refine W.widen (k := 1) (n := 10) (Nat.le_of_ble_eq_true rfl) (Nat.le_of_ble_eq_true rfl) ?_
  exact tn_zret (ty := .boolean) 1 rfl C hr hlk (by decide) hP hD hS ⟨b1, rfl, rfl⟩ dJ2_add_24
/-! java/util/ArrayList.add(Ljava/lang/Object;[Ljava/lang/Object;I)V -/
set_option maxHeartbeats 4000000 in
theorem t_J2_add_2_c8 (l : Launch) {E : tc_E} {a : Nat} {mo : Int32} {q : Nat} {fs : List Value} {sz : Nat} : tn_M l yJ2_add_2 (ws_ yJ2_add_2 cJ2_add_2 4 none) ({ frames := 3, cells := 1, slots := 10, locals := 73 } : Room) E [.ref a, .ref q, .ref (es E 0), .int 0] [(a, .inr (9, [.int mo, .ref (es E 0), .int 0])), (q, .inr (8, fs))] sz (fun _ : Unit => none) (fun (r9 : Unit) (W9 : va_W) => ∃ b1 : Nat, W9 = [(q, .inr (8, fs)), (a, .inr (9, [.int mo, .ref b1, .int 1])), (b1, tc_ref (ec E 4) 10 (va_up (fun _ => none) (0 : Int32).toNatClampNeg (some q)))]) 1 10 := by
  refine tn_start cJ2_add_2 4 none RJ2 (by decide) rfl rfl (Nat.le_of_ble_eq_true rfl) ?_
  intro p e s m args below meth c ls C hnm hsz hbA hr hlk hP hD hS hl
  obtain ⟨mx, hnm, hmt⟩ := hnm
  have hin2 := (name_of_methodNamed hnm hmt).1
  have hl : lv_has ls 4 [(0, .ref a), (1, .ref q), (2, .ref (es E 0)), (3, .int 0)] := hl
  obtain ⟨H, hH0⟩ : ∃ H : Heap, H = s.heap := ⟨_, rfl⟩
  rw [← hH0] at hP ⊢
  have hS : va_S (va_A [(a, .inr (9, [.int mo, .ref (es E 0), .int 0])), (q, .inr (8, fs))] sz) s.heap H [] := by rw [hH0]; exact va_S.rf
  refine lv_iload_n C.hx C.hb dJ2_add_2_0 rfl (lv_at hl 3 rfl) ?_
  refine lv_aload_n C.hx C.hb dJ2_add_2_1 rfl (lv_at hl 2 rfl) ?_
  refine tn_emptyLen C hS hbA dJ2_add_2_2 ?_
  refine lv_icmp_ne (tgt := 11) C.hx C.hb dJ2_add_2_3 (by decide) (fun c => absurd c (by decide)) (fun c => ?_)
  refine lv_aload_n C.hx C.hb dJ2_add_2_6 rfl (lv_at hl 0 rfl) ?_
  refine tn_run (wr := [(q, .inr (8, fs))]) (tn_rV (As := []) (rest := []) (wc := [(a, .inr (9, [.int mo, .ref (es E 0), .int 0]))]) (q0 := 0) (ci := 9) (q := (RJ2, TJ2, 3)) C hsz hbA hP hD hS [0] rfl rfl (by decide) rfl rfl (t_J2_grow l (a := a) (mo := mo)) (cwV 0 C.hts (lw_V q259 q261 qs1 q56 q262) rfl rfl rfl (by decide +kernel) ⟨Nat.le_of_ble_eq_true rfl, Nat.le_of_ble_eq_true rfl⟩) rfl hl.1 rfl (lv_room (Nat.le_of_ble_eq_true rfl)) dJ2_add_2_7 ⟨Nat.le_of_ble_eq_true rfl, Nat.le_of_ble_eq_true rfl⟩) hsz hP hD hS [0] [1] rfl rfl (by decide) (by decide) (fun r9 W9 H locs hk hP hD hS => ?_)
  obtain ⟨b1, rfl, rfl⟩ := hk
  have hP : va_P (eD E) gcl [(q, .inr (8, fs)), (a, .inr (9, [.int mo, .ref b1, .int 0])), (b1, tc_ref (ec E 4) 10 (fun _ => none))] H := hP
  have hD : va_D (va_A [(a, .inr (9, [.int mo, .ref (es E 0), .int 0])), (q, .inr (8, fs))] sz) [(q, .inr (8, fs)), (a, .inr (9, [.int mo, .ref b1, .int 0])), (b1, tc_ref (ec E 4) 10 (fun _ => none))] := hD
  refine W.eq (g2 := F0 m 10 ls [.ref b1]) rfl ?_
  refine lv_astore_n (lv' := [(2, .ref b1), (0, .ref a), (1, .ref q), (3, .int 0)]) C.hx C.hb dJ2_add_2_10 rfl hl (by decide) rfl (fun ls hl => ?_)
  refine lv_aload_n C.hx C.hb dJ2_add_2_11 rfl (lv_at hl 0 rfl) ?_
  refine lv_iload_n C.hx C.hb dJ2_add_2_12 rfl (lv_at hl 3 rfl) ?_
  refine lv_aload_n C.hx C.hb dJ2_add_2_13 rfl (lv_at hl 2 rfl) ?_
  refine va_astqO (r := (RX11, TX11, 2)) (vs := fs) C.hx C.hb C.hK hP hD hS 2 4 0 8 rfl rfl (C.nw 45 rfl) rfl rfl (by unfold vp_in; decide) dJ2_add_2_14 (fun H locs hP hD hS => ?_)
  have hP : va_P (eD E) gcl [(q, .inr (8, fs)), (a, .inr (9, [.int mo, .ref b1, .int 0])), (b1, tc_ref (ec E 4) 10 (va_up (fun _ => none) (0 : Int32).toNatClampNeg (some q)))] H := hP
  have hD : va_D (va_A [(a, .inr (9, [.int mo, .ref (es E 0), .int 0])), (q, .inr (8, fs))] sz) [(q, .inr (8, fs)), (a, .inr (9, [.int mo, .ref b1, .int 0])), (b1, tc_ref (ec E 4) 10 (va_up (fun _ => none) (0 : Int32).toNatClampNeg (some q)))] := hD
  refine lv_aload_n C.hx C.hb dJ2_add_2_15 rfl (lv_at hl 1 rfl) ?_
  refine lv_iload_n C.hx C.hb dJ2_add_2_16 rfl (lv_at hl 3 rfl) ?_
  refine lv_iconst (v := 1) C.hx C.hb dJ2_add_2_17 (by decide) ?_
  refine lv_iadd C.hx C.hb dJ2_add_2_18 ?_
  refine W.eq (g2 := F0 m 19 ls [.int 1, .ref a]) (by rfl) ?_
  refine va_put (C := RJ2) (T := TJ2) (N := 3) C.hx C.hb C.hts in_J2 tyJ2 tyJ2_ok nmJ2 C.hown C.hK hP hD hS 1 rfl rfl 2 (by decide) (C.hts _ q107) (fun _ h => h) rfl (tyJ2_ok 2 (by decide)) (v := .int 1) rfl rfl (Nat.le_of_ble_eq_true rfl) dJ2_add_2_19 (fun H locs hP hD hS => ?_)
  have hP : va_P (eD E) gcl [(q, .inr (8, fs)), (a, .inr (9, [.int mo, .ref b1, .int 1])), (b1, tc_ref (ec E 4) 10 (va_up (fun _ => none) (0 : Int32).toNatClampNeg (some q)))] H := hP
  have hD : va_D (va_A [(a, .inr (9, [.int mo, .ref (es E 0), .int 0])), (q, .inr (8, fs))] sz) [(q, .inr (8, fs)), (a, .inr (9, [.int mo, .ref b1, .int 1])), (b1, tc_ref (ec E 4) 10 (va_up (fun _ => none) (0 : Int32).toNatClampNeg (some q)))] := hD
  refine W.widen (k := 1) (n := 10) (Nat.le_of_ble_eq_true rfl) (Nat.le_of_ble_eq_true rfl) ?_
  exact tn_vret () rfl C hr hlk hP hD hS ⟨b1, rfl⟩ dJ2_add_2_22
/-! java/util/ArrayList.add(Ljava/lang/Object;)Z -/
set_option maxHeartbeats 4000000 in
theorem t_J2_add_c8 (l : Launch) {E : tc_E} {a : Nat} {mo : Int32} {q : Nat} {fs : List Value} {sz : Nat} : tn_M l yJ2_add (ws_ yJ2_add cJ2_add 2 (some .boolean)) ({ frames := 4, cells := 1, slots := 10, locals := 96 } : Room) E [.ref a, .ref q] [(a, .inr (9, [.int mo, .ref (es E 0), .int 0])), (q, .inr (8, fs))] sz (fun r : Int32 => some (.int r)) (fun (r9 : Int32) (W9 : va_W) => ∃ b1 : Nat, r9 = 1 ∧ W9 = [(q, .inr (8, fs)), (a, .inr (9, [.int (mo + 1), .ref b1, .int 1])), (b1, tc_ref (ec E 4) 10 (va_up (fun _ => none) (0 : Int32).toNatClampNeg (some q)))]) 1 10 := by
  refine tn_start cJ2_add 2 (some .boolean) RJ2 (by decide) rfl rfl (Nat.le_of_ble_eq_true rfl) ?_
  intro p e s m args below meth c ls C hnm hsz hbA hr hlk hP hD hS hl
  obtain ⟨mx, hnm, hmt⟩ := hnm
  have hin2 := (name_of_methodNamed hnm hmt).1
  have hl : lv_has ls 2 [(0, .ref a), (1, .ref q)] := hl
  obtain ⟨H, hH0⟩ : ∃ H : Heap, H = s.heap := ⟨_, rfl⟩
  rw [← hH0] at hP ⊢
  have hS : va_S (va_A [(a, .inr (9, [.int mo, .ref (es E 0), .int 0])), (q, .inr (8, fs))] sz) s.heap H [] := by rw [hH0]; exact va_S.rf
  refine lv_aload_n C.hx C.hb dJ2_add_0 rfl (lv_at hl 0 rfl) ?_
  refine lv_dup C.hx C.hb dJ2_add_1 rfl ?_
  refine va_get (C := RJ2) (T := TJ2) (N := 3) C.hx C.hb C.hts in_J2 C.hown C.hK hP 0 rfl rfl 0 (by decide) (C.hts _ q109) (u_same (C.hts _ q110)) (v := .int mo) rfl dJ2_add_2 ?_
  refine lv_iconst (v := 1) C.hx C.hb dJ2_add_5 (by decide) ?_
  refine lv_iadd C.hx C.hb dJ2_add_6 ?_
  refine va_put (C := RJ2) (T := TJ2) (N := 3) C.hx C.hb C.hts in_J2 tyJ2 tyJ2_ok nmJ2 C.hown C.hK hP hD hS 0 rfl rfl 0 (by decide) (C.hts _ q109) (u_same (C.hts _ q110)) rfl (tyJ2_ok 0 (by decide)) (v := .int (mo + 1)) rfl rfl (Nat.le_of_ble_eq_true rfl) dJ2_add_7 (fun H locs hP hD hS => ?_)
  have hP : va_P (eD E) gcl [(a, .inr (9, [.int (mo + 1), .ref (es E 0), .int 0])), (q, .inr (8, fs))] H := hP
  have hD : va_D (va_A [(a, .inr (9, [.int mo, .ref (es E 0), .int 0])), (q, .inr (8, fs))] sz) [(a, .inr (9, [.int (mo + 1), .ref (es E 0), .int 0])), (q, .inr (8, fs))] := hD
  refine lv_aload_n C.hx C.hb dJ2_add_10 rfl (lv_at hl 0 rfl) ?_
  refine lv_aload_n C.hx C.hb dJ2_add_11 rfl (lv_at hl 1 rfl) ?_
  refine lv_aload_n C.hx C.hb dJ2_add_12 rfl (lv_at hl 0 rfl) ?_
  refine va_get (C := RJ2) (T := TJ2) (N := 3) C.hx C.hb C.hts in_J2 C.hown C.hK hP 0 rfl rfl 1 (by decide) (C.hts _ q106) (fun _ h => h) (v := .ref (es E 0)) rfl dJ2_add_13 ?_
  refine lv_aload_n C.hx C.hb dJ2_add_16 rfl (lv_at hl 0 rfl) ?_
  refine va_get (C := RJ2) (T := TJ2) (N := 3) C.hx C.hb C.hts in_J2 C.hown C.hK hP 0 rfl rfl 2 (by decide) (C.hts _ q107) (fun _ h => h) (v := .int 0) rfl dJ2_add_17 ?_
  refine tn_run (wr := []) (tn_rV (As := [.ref q, .ref (es E 0), .int 0]) (rest := []) (wc := [(a, .inr (9, [.int (mo + 1), .ref (es E 0), .int 0])), (q, .inr (8, fs))]) (q0 := 0) (ci := 9) (q := (RJ2, TJ2, 3)) C hsz hbA hP hD hS [0, 1] rfl rfl (by decide) rfl rfl (t_J2_add_2_c8 l (a := a) (mo := (mo + 1)) (q := q) (fs := fs)) (cwV 3 C.hts (lw_V q255 q257 qs0 q56 q258) rfl rfl rfl (by decide +kernel) ⟨Nat.le_of_ble_eq_true rfl, Nat.le_of_ble_eq_true rfl⟩) rfl hl.1 rfl (lv_room (Nat.le_of_ble_eq_true rfl)) dJ2_add_20 ⟨Nat.le_of_ble_eq_true rfl, Nat.le_of_ble_eq_true rfl⟩) hsz hP hD hS [0, 1] [] rfl rfl (by decide) (by decide) (fun r9 W9 H locs hk hP hD hS => ?_)
  obtain ⟨b1, rfl⟩ := hk
  have hP : va_P (eD E) gcl [(q, .inr (8, fs)), (a, .inr (9, [.int (mo + 1), .ref b1, .int 1])), (b1, tc_ref (ec E 4) 10 (va_up (fun _ => none) (0 : Int32).toNatClampNeg (some q)))] H := hP
  have hD : va_D (va_A [(a, .inr (9, [.int mo, .ref (es E 0), .int 0])), (q, .inr (8, fs))] sz) [(q, .inr (8, fs)), (a, .inr (9, [.int (mo + 1), .ref b1, .int 1])), (b1, tc_ref (ec E 4) 10 (va_up (fun _ => none) (0 : Int32).toNatClampNeg (some q)))] := hD
  refine W.eq (g2 := F0 m 23 ls []) rfl ?_
  refine lv_iconst (v := 1) C.hx C.hb dJ2_add_23 (by decide) ?_
  refine W.widen (k := 1) (n := 10) (Nat.le_of_ble_eq_true rfl) (Nat.le_of_ble_eq_true rfl) ?_
  exact tn_zret (ty := .boolean) 1 rfl C hr hlk (by decide) hP hD hS ⟨b1, rfl, rfl⟩ dJ2_add_24
/-! ToneGraph.<init>()V -/
set_option maxHeartbeats 4000000 in
theorem t_X1_init (l : Launch) {E : tc_E} {a : Nat} {sz : Nat} : tn_M l yX1_init (ws_ yX1_init cX1_init 1 none) ({ frames := 6, cells := 20, slots := 296, locals := 134 } : Room) E [.ref a] [(a, .inr (0, [.null, .null, .null, .null, .int 0, .null, .null, .int 0, .int 0, .int 0, .long 0, .long 0, .int 0]))] sz (fun _ : Unit => none) (fun (r9 : Unit) (W9 : va_W) => ∃ b1 : Nat, ∃ b2 : Nat, ∃ b3 : Nat, ∃ b4 : Nat, ∃ b5 : Nat, ∃ b6 : Nat, ∃ b7 : Nat, ∃ b8 : Nat, ∃ b9 : Nat, ∃ b10 : Nat, ∃ b11 : Nat, ∃ b12 : Nat, ∃ b13 : Nat, ∃ b14 : Nat, ∃ b15 : Nat, ∃ b16 : Nat, ∃ b17 : Nat, ∃ b18 : Nat, ∃ b19 : Nat, ∃ b20 : Nat, W9 = [(a, .inr (0, [.ref b5, .ref b1, .ref b2, .ref b5, .int 115, .ref b3, .ref b4, .int 0, .int 0, .int 0, .long 0, .long 0, .int 0])), (b3, .inr (1, [.int 0, .int 0, .int 1000, .int 0])), (b4, .inl (ec E 0, 64, .inl (fun _ => 0))), (b6, .inl (ec E 0, 0, .inl (fun _ => 0))), (b7, .inr (9, [.int 0, .ref (es E 0), .int 0])), (b8, .inl (ec E 0, 64, .inl (fun _ => 0))), (b9, .inl (ec E 0, 0, .inl (fun _ => 0))), (b10, tc_ref (ec E 5) 4 (va_up (va_up (va_up (va_up (fun _ => none) (0 : Int32).toNatClampNeg (some b11)) (1 : Int32).toNatClampNeg (some b13)) (2 : Int32).toNatClampNeg (some b15)) (3 : Int32).toNatClampNeg (some b17))), (b11, .inr (3, [.int 0, .int 0, .int 0, .null, .null, .int 0, .int 0, .int 0, .int 0, .int 0, .long 0, .ref b12])), (b12, .inl (ec E 0, 3, .inl (fun _ => 0))), (b13, .inr (3, [.int 1, .int 0, .int 0, .null, .null, .int 0, .int 0, .int 0, .int 0, .int 0, .long 0, .ref b14])), (b14, .inl (ec E 0, 3, .inl (fun _ => 0))), (b15, .inr (3, [.int 2, .int 0, .int 0, .null, .null, .int 0, .int 0, .int 0, .int 0, .int 0, .long 0, .ref b16])), (b16, .inl (ec E 0, 3, .inl (fun _ => 0))), (b17, .inr (3, [.int 3, .int 0, .int 0, .null, .null, .int 0, .int 0, .int 0, .int 0, .int 0, .long 0, .ref b18])), (b18, .inl (ec E 0, 3, .inl (fun _ => 0))), (b1, .inr (9, [.int (0 + 1), .ref b19, .int 1])), (b19, tc_ref (ec E 4) 10 (va_up (fun _ => none) (0 : Int32).toNatClampNeg (some b5))), (b5, .inr (2, [.int 0, .int 118, .ref b7, .ref b8, .int 0, .int 0, .ref b6, .ref b9, .int 0, .ref b10])), (b2, .inr (9, [.int (0 + 1), .ref b20, .int 1])), (b20, tc_ref (ec E 4) 10 (va_up (fun _ => none) (0 : Int32).toNatClampNeg (some b5)))]) 20 296 := by
  refine tn_start cX1_init 1 none RX1 (by decide) rfl rfl (Nat.le_of_ble_eq_true rfl) ?_
  intro p e s m args below meth c ls C hnm hsz hbA hr hlk hP hD hS hl
  obtain ⟨mx, hnm, hmt⟩ := hnm
  have hin2 := (name_of_methodNamed hnm hmt).1
  have hl : lv_has ls 1 [(0, .ref a)] := hl
  obtain ⟨H, hH0⟩ : ∃ H : Heap, H = s.heap := ⟨_, rfl⟩
  rw [← hH0] at hP ⊢
  have hS : va_S (va_A [(a, .inr (0, [.null, .null, .null, .null, .int 0, .null, .null, .int 0, .int 0, .int 0, .long 0, .long 0, .int 0]))] sz) s.heap H [] := by rw [hH0]; exact va_S.rf
  refine lv_aload_n C.hx C.hb dX1_init_0 rfl (lv_at hl 0 rfl) ?_
  refine W.objInit C.hx C.hb C.hown (C.hts _ q89) (C.hts _ q90) (C.hts _ q91) rfl (hl.1.trans C.hml.symm) rfl dX1_init_1 (Nat.le_of_ble_eq_true rfl) (Nat.le_of_ble_eq_true rfl) ?_
  refine lv_aload_n C.hx C.hb dX1_init_4 rfl (lv_at hl 0 rfl) ?_
  refine tn_new (Cn := RJ2) (T := TJ2) (N := 3) (ci := 9) C hsz hP hD hS in_J2 tyJ2 tyJ2_ok q92 q93 q56 rfl (fs := [.int 0, .null, .int 0]) tn_zJ2 (Nat.le_of_ble_eq_true rfl) (Nat.le_of_ble_eq_true rfl) dX1_init_5 (fun b1 H hP hD hS => ?_)
  have hP : va_P (eD E) gcl [(a, .inr (0, [.null, .null, .null, .null, .int 0, .null, .null, .int 0, .int 0, .int 0, .long 0, .long 0, .int 0])), (b1, .inr (9, [.int 0, .null, .int 0]))] H := hP
  have hD : va_D (va_A [(a, .inr (0, [.null, .null, .null, .null, .int 0, .null, .null, .int 0, .int 0, .int 0, .long 0, .long 0, .int 0]))] sz) [(a, .inr (0, [.null, .null, .null, .null, .int 0, .null, .null, .int 0, .int 0, .int 0, .long 0, .long 0, .int 0])), (b1, .inr (9, [.int 0, .null, .int 0]))] := hD
  refine lv_dup C.hx C.hb dX1_init_8 rfl ?_
  refine tn_run (wr := [(a, .inr (0, [.null, .null, .null, .null, .int 0, .null, .null, .int 0, .int 0, .int 0, .long 0, .long 0, .int 0]))]) (tn_rI (As := []) (rest := [.ref b1, .ref a]) (wc := [(b1, .inr (9, [.int 0, .null, .int 0]))]) C hsz hbA hP hD hS [1] rfl rfl (by decide) (t_J2_init l (a := b1)) (cwI 0 C.hts (lw_meth q96) rfl rfl rfl (C.hts _ q56) (C.hts _ q94) (C.hts _ q95) rfl (by decide +kernel) ⟨Nat.le_of_ble_eq_true rfl, Nat.le_of_ble_eq_true rfl⟩) rfl hl.1 rfl (lv_room (Nat.le_of_ble_eq_true rfl)) dX1_init_9 ⟨Nat.le_of_ble_eq_true rfl, Nat.le_of_ble_eq_true rfl⟩) hsz hP hD hS [1] [0] rfl rfl (by decide) (by decide) (fun r9 W9 H locs hk hP hD hS => ?_)
  subst hk
  have hP : va_P (eD E) gcl [(a, .inr (0, [.null, .null, .null, .null, .int 0, .null, .null, .int 0, .int 0, .int 0, .long 0, .long 0, .int 0])), (b1, .inr (9, [.int 0, .ref (es E 0), .int 0]))] H := hP
  have hD : va_D (va_A [(a, .inr (0, [.null, .null, .null, .null, .int 0, .null, .null, .int 0, .int 0, .int 0, .long 0, .long 0, .int 0]))] sz) [(a, .inr (0, [.null, .null, .null, .null, .int 0, .null, .null, .int 0, .int 0, .int 0, .long 0, .long 0, .int 0])), (b1, .inr (9, [.int 0, .ref (es E 0), .int 0]))] := hD
  refine W.eq (g2 := F0 m 12 ls [.ref b1, .ref a]) rfl ?_
  refine va_putF (C := RX1) (T := TX1) (N := 13) C.hx C.hb C.hts in_X1 tyX1 tyX1_ok nmX1 C.hown C.hK hP hD hS 0 rfl rfl 1 (by decide) (C.hts _ q317) (fun _ h => h) rfl hin2 rfl (tyX1_ok 1 (by decide)) (v := .ref b1) rfl rfl (Nat.le_of_ble_eq_true rfl) dX1_init_12 (fun H locs hP hD hS => ?_)
  have hP : va_P (eD E) gcl [(a, .inr (0, [.null, .ref b1, .null, .null, .int 0, .null, .null, .int 0, .int 0, .int 0, .long 0, .long 0, .int 0])), (b1, .inr (9, [.int 0, .ref (es E 0), .int 0]))] H := hP
  have hD : va_D (va_A [(a, .inr (0, [.null, .null, .null, .null, .int 0, .null, .null, .int 0, .int 0, .int 0, .long 0, .long 0, .int 0]))] sz) [(a, .inr (0, [.null, .ref b1, .null, .null, .int 0, .null, .null, .int 0, .int 0, .int 0, .long 0, .long 0, .int 0])), (b1, .inr (9, [.int 0, .ref (es E 0), .int 0]))] := hD
  refine lv_aload_n C.hx C.hb dX1_init_15 rfl (lv_at hl 0 rfl) ?_
  refine tn_new (Cn := RJ2) (T := TJ2) (N := 3) (ci := 9) C hsz hP hD hS in_J2 tyJ2 tyJ2_ok q92 q93 q56 rfl (fs := [.int 0, .null, .int 0]) tn_zJ2 (Nat.le_of_ble_eq_true rfl) (Nat.le_of_ble_eq_true rfl) dX1_init_16 (fun b2 H hP hD hS => ?_)
  have hP : va_P (eD E) gcl [(a, .inr (0, [.null, .ref b1, .null, .null, .int 0, .null, .null, .int 0, .int 0, .int 0, .long 0, .long 0, .int 0])), (b1, .inr (9, [.int 0, .ref (es E 0), .int 0])), (b2, .inr (9, [.int 0, .null, .int 0]))] H := hP
  have hD : va_D (va_A [(a, .inr (0, [.null, .null, .null, .null, .int 0, .null, .null, .int 0, .int 0, .int 0, .long 0, .long 0, .int 0]))] sz) [(a, .inr (0, [.null, .ref b1, .null, .null, .int 0, .null, .null, .int 0, .int 0, .int 0, .long 0, .long 0, .int 0])), (b1, .inr (9, [.int 0, .ref (es E 0), .int 0])), (b2, .inr (9, [.int 0, .null, .int 0]))] := hD
  refine lv_dup C.hx C.hb dX1_init_19 rfl ?_
  refine tn_run (wr := [(a, .inr (0, [.null, .ref b1, .null, .null, .int 0, .null, .null, .int 0, .int 0, .int 0, .long 0, .long 0, .int 0])), (b1, .inr (9, [.int 0, .ref (es E 0), .int 0]))]) (tn_rI (As := []) (rest := [.ref b2, .ref a]) (wc := [(b2, .inr (9, [.int 0, .null, .int 0]))]) C hsz hbA hP hD hS [2] rfl rfl (by decide) (t_J2_init l (a := b2)) (cwI 0 C.hts (lw_meth q96) rfl rfl rfl (C.hts _ q56) (C.hts _ q94) (C.hts _ q95) rfl (by decide +kernel) ⟨Nat.le_of_ble_eq_true rfl, Nat.le_of_ble_eq_true rfl⟩) rfl hl.1 rfl (lv_room (Nat.le_of_ble_eq_true rfl)) dX1_init_20 ⟨Nat.le_of_ble_eq_true rfl, Nat.le_of_ble_eq_true rfl⟩) hsz hP hD hS [2] [0, 1] rfl rfl (by decide) (by decide) (fun r9 W9 H locs hk hP hD hS => ?_)
  subst hk
  have hP : va_P (eD E) gcl [(a, .inr (0, [.null, .ref b1, .null, .null, .int 0, .null, .null, .int 0, .int 0, .int 0, .long 0, .long 0, .int 0])), (b1, .inr (9, [.int 0, .ref (es E 0), .int 0])), (b2, .inr (9, [.int 0, .ref (es E 0), .int 0]))] H := hP
  have hD : va_D (va_A [(a, .inr (0, [.null, .null, .null, .null, .int 0, .null, .null, .int 0, .int 0, .int 0, .long 0, .long 0, .int 0]))] sz) [(a, .inr (0, [.null, .ref b1, .null, .null, .int 0, .null, .null, .int 0, .int 0, .int 0, .long 0, .long 0, .int 0])), (b1, .inr (9, [.int 0, .ref (es E 0), .int 0])), (b2, .inr (9, [.int 0, .ref (es E 0), .int 0]))] := hD
  refine W.eq (g2 := F0 m 23 ls [.ref b2, .ref a]) rfl ?_
  refine va_putF (C := RX1) (T := TX1) (N := 13) C.hx C.hb C.hts in_X1 tyX1 tyX1_ok nmX1 C.hown C.hK hP hD hS 0 rfl rfl 2 (by decide) (C.hts _ q318) (fun _ h => h) rfl hin2 rfl (tyX1_ok 2 (by decide)) (v := .ref b2) rfl rfl (Nat.le_of_ble_eq_true rfl) dX1_init_23 (fun H locs hP hD hS => ?_)
  have hP : va_P (eD E) gcl [(a, .inr (0, [.null, .ref b1, .ref b2, .null, .int 0, .null, .null, .int 0, .int 0, .int 0, .long 0, .long 0, .int 0])), (b1, .inr (9, [.int 0, .ref (es E 0), .int 0])), (b2, .inr (9, [.int 0, .ref (es E 0), .int 0]))] H := hP
  have hD : va_D (va_A [(a, .inr (0, [.null, .null, .null, .null, .int 0, .null, .null, .int 0, .int 0, .int 0, .long 0, .long 0, .int 0]))] sz) [(a, .inr (0, [.null, .ref b1, .ref b2, .null, .int 0, .null, .null, .int 0, .int 0, .int 0, .long 0, .long 0, .int 0])), (b1, .inr (9, [.int 0, .ref (es E 0), .int 0])), (b2, .inr (9, [.int 0, .ref (es E 0), .int 0]))] := hD
  refine lv_aload_n C.hx C.hb dX1_init_26 rfl (lv_at hl 0 rfl) ?_
  refine lv_bipush (v := 115) C.hx C.hb dX1_init_27 (by decide) ?_
  refine va_put (C := RX1) (T := TX1) (N := 13) C.hx C.hb C.hts in_X1 tyX1 tyX1_ok nmX1 C.hown C.hK hP hD hS 0 rfl rfl 4 (by decide) (C.hts _ q320) (fun _ h => h) rfl (tyX1_ok 4 (by decide)) (v := .int 115) (by decide) (by decide) (Nat.le_of_ble_eq_true rfl) dX1_init_29 (fun H locs hP hD hS => ?_)
  have hP : va_P (eD E) gcl [(a, .inr (0, [.null, .ref b1, .ref b2, .null, .int 115, .null, .null, .int 0, .int 0, .int 0, .long 0, .long 0, .int 0])), (b1, .inr (9, [.int 0, .ref (es E 0), .int 0])), (b2, .inr (9, [.int 0, .ref (es E 0), .int 0]))] H := hP
  have hD : va_D (va_A [(a, .inr (0, [.null, .null, .null, .null, .int 0, .null, .null, .int 0, .int 0, .int 0, .long 0, .long 0, .int 0]))] sz) [(a, .inr (0, [.null, .ref b1, .ref b2, .null, .int 115, .null, .null, .int 0, .int 0, .int 0, .long 0, .long 0, .int 0])), (b1, .inr (9, [.int 0, .ref (es E 0), .int 0])), (b2, .inr (9, [.int 0, .ref (es E 0), .int 0]))] := hD
  refine lv_aload_n C.hx C.hb dX1_init_32 rfl (lv_at hl 0 rfl) ?_
  refine tn_new (Cn := RX2) (T := TX2) (N := 4) (ci := 1) C hsz hP hD hS in_X2 tyX2 tyX2_ok q118 q119 q57 rfl (fs := [.int 0, .int 0, .int 0, .int 0]) tn_zX2 (Nat.le_of_ble_eq_true rfl) (Nat.le_of_ble_eq_true rfl) dX1_init_33 (fun b3 H hP hD hS => ?_)
  have hP : va_P (eD E) gcl [(a, .inr (0, [.null, .ref b1, .ref b2, .null, .int 115, .null, .null, .int 0, .int 0, .int 0, .long 0, .long 0, .int 0])), (b1, .inr (9, [.int 0, .ref (es E 0), .int 0])), (b2, .inr (9, [.int 0, .ref (es E 0), .int 0])), (b3, .inr (1, [.int 0, .int 0, .int 0, .int 0]))] H := hP
  have hD : va_D (va_A [(a, .inr (0, [.null, .null, .null, .null, .int 0, .null, .null, .int 0, .int 0, .int 0, .long 0, .long 0, .int 0]))] sz) [(a, .inr (0, [.null, .ref b1, .ref b2, .null, .int 115, .null, .null, .int 0, .int 0, .int 0, .long 0, .long 0, .int 0])), (b1, .inr (9, [.int 0, .ref (es E 0), .int 0])), (b2, .inr (9, [.int 0, .ref (es E 0), .int 0])), (b3, .inr (1, [.int 0, .int 0, .int 0, .int 0]))] := hD
  refine lv_dup C.hx C.hb dX1_init_36 rfl ?_
  refine tn_run (wr := [(a, .inr (0, [.null, .ref b1, .ref b2, .null, .int 115, .null, .null, .int 0, .int 0, .int 0, .long 0, .long 0, .int 0])), (b1, .inr (9, [.int 0, .ref (es E 0), .int 0])), (b2, .inr (9, [.int 0, .ref (es E 0), .int 0]))]) (tn_rI (As := []) (rest := [.ref b3, .ref a]) (wc := [(b3, .inr (1, [.int 0, .int 0, .int 0, .int 0]))]) C hsz hbA hP hD hS [3] rfl rfl (by decide) (t_X2_init l (a := b3)) (cwI 0 C.hts (lw_meth q122) rfl rfl rfl (C.hts _ q57) (C.hts _ q120) (C.hts _ q121) rfl (by decide +kernel) ⟨Nat.le_of_ble_eq_true rfl, Nat.le_of_ble_eq_true rfl⟩) rfl hl.1 rfl (lv_room (Nat.le_of_ble_eq_true rfl)) dX1_init_37 ⟨Nat.le_of_ble_eq_true rfl, Nat.le_of_ble_eq_true rfl⟩) hsz hP hD hS [3] [0, 1, 2] rfl rfl (by decide) (by decide) (fun r9 W9 H locs hk hP hD hS => ?_)
  subst hk
  have hP : va_P (eD E) gcl [(a, .inr (0, [.null, .ref b1, .ref b2, .null, .int 115, .null, .null, .int 0, .int 0, .int 0, .long 0, .long 0, .int 0])), (b1, .inr (9, [.int 0, .ref (es E 0), .int 0])), (b2, .inr (9, [.int 0, .ref (es E 0), .int 0])), (b3, .inr (1, [.int 0, .int 0, .int 1000, .int 0]))] H := hP
  have hD : va_D (va_A [(a, .inr (0, [.null, .null, .null, .null, .int 0, .null, .null, .int 0, .int 0, .int 0, .long 0, .long 0, .int 0]))] sz) [(a, .inr (0, [.null, .ref b1, .ref b2, .null, .int 115, .null, .null, .int 0, .int 0, .int 0, .long 0, .long 0, .int 0])), (b1, .inr (9, [.int 0, .ref (es E 0), .int 0])), (b2, .inr (9, [.int 0, .ref (es E 0), .int 0])), (b3, .inr (1, [.int 0, .int 0, .int 1000, .int 0]))] := hD
  refine W.eq (g2 := F0 m 40 ls [.ref b3, .ref a]) rfl ?_
  refine va_put (C := RX1) (T := TX1) (N := 13) C.hx C.hb C.hts in_X1 tyX1 tyX1_ok nmX1 C.hown C.hK hP hD hS 0 rfl rfl 5 (by decide) (C.hts _ q321) (fun _ h => h) rfl (tyX1_ok 5 (by decide)) (v := .ref b3) rfl rfl (Nat.le_of_ble_eq_true rfl) dX1_init_40 (fun H locs hP hD hS => ?_)
  have hP : va_P (eD E) gcl [(a, .inr (0, [.null, .ref b1, .ref b2, .null, .int 115, .ref b3, .null, .int 0, .int 0, .int 0, .long 0, .long 0, .int 0])), (b1, .inr (9, [.int 0, .ref (es E 0), .int 0])), (b2, .inr (9, [.int 0, .ref (es E 0), .int 0])), (b3, .inr (1, [.int 0, .int 0, .int 1000, .int 0]))] H := hP
  have hD : va_D (va_A [(a, .inr (0, [.null, .null, .null, .null, .int 0, .null, .null, .int 0, .int 0, .int 0, .long 0, .long 0, .int 0]))] sz) [(a, .inr (0, [.null, .ref b1, .ref b2, .null, .int 115, .ref b3, .null, .int 0, .int 0, .int 0, .long 0, .long 0, .int 0])), (b1, .inr (9, [.int 0, .ref (es E 0), .int 0])), (b2, .inr (9, [.int 0, .ref (es E 0), .int 0])), (b3, .inr (1, [.int 0, .int 0, .int 1000, .int 0]))] := hD
  refine lv_aload_n C.hx C.hb dX1_init_43 rfl (lv_at hl 0 rfl) ?_
  refine lv_bipush (v := 64) C.hx C.hb dX1_init_44 (by decide) ?_
  refine tn_newI (N' := 64) C hsz hP hD hS (by decide) (by decide) (by decide) (Nat.le_of_ble_eq_true rfl) (Nat.le_of_ble_eq_true rfl) dX1_init_46 (fun b4 H hP hD hS => ?_)
  have hP : va_P (eD E) gcl [(a, .inr (0, [.null, .ref b1, .ref b2, .null, .int 115, .ref b3, .null, .int 0, .int 0, .int 0, .long 0, .long 0, .int 0])), (b1, .inr (9, [.int 0, .ref (es E 0), .int 0])), (b2, .inr (9, [.int 0, .ref (es E 0), .int 0])), (b3, .inr (1, [.int 0, .int 0, .int 1000, .int 0])), (b4, .inl (ec E 0, 64, .inl (fun _ => 0)))] H := hP
  have hD : va_D (va_A [(a, .inr (0, [.null, .null, .null, .null, .int 0, .null, .null, .int 0, .int 0, .int 0, .long 0, .long 0, .int 0]))] sz) [(a, .inr (0, [.null, .ref b1, .ref b2, .null, .int 115, .ref b3, .null, .int 0, .int 0, .int 0, .long 0, .long 0, .int 0])), (b1, .inr (9, [.int 0, .ref (es E 0), .int 0])), (b2, .inr (9, [.int 0, .ref (es E 0), .int 0])), (b3, .inr (1, [.int 0, .int 0, .int 1000, .int 0])), (b4, .inl (ec E 0, 64, .inl (fun _ => 0)))] := hD
  refine va_putF (C := RX1) (T := TX1) (N := 13) C.hx C.hb C.hts in_X1 tyX1 tyX1_ok nmX1 C.hown C.hK hP hD hS 0 rfl rfl 6 (by decide) (C.hts _ q322) (fun _ h => h) rfl hin2 rfl (tyX1_ok 6 (by decide)) (v := .ref b4) rfl rfl (Nat.le_of_ble_eq_true rfl) dX1_init_48 (fun H locs hP hD hS => ?_)
  have hP : va_P (eD E) gcl [(a, .inr (0, [.null, .ref b1, .ref b2, .null, .int 115, .ref b3, .ref b4, .int 0, .int 0, .int 0, .long 0, .long 0, .int 0])), (b1, .inr (9, [.int 0, .ref (es E 0), .int 0])), (b2, .inr (9, [.int 0, .ref (es E 0), .int 0])), (b3, .inr (1, [.int 0, .int 0, .int 1000, .int 0])), (b4, .inl (ec E 0, 64, .inl (fun _ => 0)))] H := hP
  have hD : va_D (va_A [(a, .inr (0, [.null, .null, .null, .null, .int 0, .null, .null, .int 0, .int 0, .int 0, .long 0, .long 0, .int 0]))] sz) [(a, .inr (0, [.null, .ref b1, .ref b2, .null, .int 115, .ref b3, .ref b4, .int 0, .int 0, .int 0, .long 0, .long 0, .int 0])), (b1, .inr (9, [.int 0, .ref (es E 0), .int 0])), (b2, .inr (9, [.int 0, .ref (es E 0), .int 0])), (b3, .inr (1, [.int 0, .int 0, .int 1000, .int 0])), (b4, .inl (ec E 0, 64, .inl (fun _ => 0)))] := hD
  refine lv_aload_n C.hx C.hb dX1_init_51 rfl (lv_at hl 0 rfl) ?_
  refine tn_new (Cn := RX4) (T := TX4) (N := 10) (ci := 2) C hsz hP hD hS in_X4 tyX4 tyX4_ok q146 q147 q59 rfl (fs := [.int 0, .int 0, .null, .null, .int 0, .int 0, .null, .null, .int 0, .null]) tn_zX4 (Nat.le_of_ble_eq_true rfl) (Nat.le_of_ble_eq_true rfl) dX1_init_52 (fun b5 H hP hD hS => ?_)
  have hP : va_P (eD E) gcl [(a, .inr (0, [.null, .ref b1, .ref b2, .null, .int 115, .ref b3, .ref b4, .int 0, .int 0, .int 0, .long 0, .long 0, .int 0])), (b1, .inr (9, [.int 0, .ref (es E 0), .int 0])), (b2, .inr (9, [.int 0, .ref (es E 0), .int 0])), (b3, .inr (1, [.int 0, .int 0, .int 1000, .int 0])), (b4, .inl (ec E 0, 64, .inl (fun _ => 0))), (b5, .inr (2, [.int 0, .int 0, .null, .null, .int 0, .int 0, .null, .null, .int 0, .null]))] H := hP
  have hD : va_D (va_A [(a, .inr (0, [.null, .null, .null, .null, .int 0, .null, .null, .int 0, .int 0, .int 0, .long 0, .long 0, .int 0]))] sz) [(a, .inr (0, [.null, .ref b1, .ref b2, .null, .int 115, .ref b3, .ref b4, .int 0, .int 0, .int 0, .long 0, .long 0, .int 0])), (b1, .inr (9, [.int 0, .ref (es E 0), .int 0])), (b2, .inr (9, [.int 0, .ref (es E 0), .int 0])), (b3, .inr (1, [.int 0, .int 0, .int 1000, .int 0])), (b4, .inl (ec E 0, 64, .inl (fun _ => 0))), (b5, .inr (2, [.int 0, .int 0, .null, .null, .int 0, .int 0, .null, .null, .int 0, .null]))] := hD
  refine lv_dup C.hx C.hb dX1_init_55 rfl ?_
  refine tn_run (wr := [(a, .inr (0, [.null, .ref b1, .ref b2, .null, .int 115, .ref b3, .ref b4, .int 0, .int 0, .int 0, .long 0, .long 0, .int 0])), (b1, .inr (9, [.int 0, .ref (es E 0), .int 0])), (b2, .inr (9, [.int 0, .ref (es E 0), .int 0])), (b3, .inr (1, [.int 0, .int 0, .int 1000, .int 0])), (b4, .inl (ec E 0, 64, .inl (fun _ => 0)))]) (tn_rI (As := []) (rest := [.ref b5, .ref a]) (wc := [(b5, .inr (2, [.int 0, .int 0, .null, .null, .int 0, .int 0, .null, .null, .int 0, .null]))]) C hsz hbA hP hD hS [5] rfl rfl (by decide) (t_X4_init l (a := b5)) (cwI 0 C.hts (lw_meth q150) rfl rfl rfl (C.hts _ q59) (C.hts _ q148) (C.hts _ q149) rfl (by decide +kernel) ⟨Nat.le_of_ble_eq_true rfl, Nat.le_of_ble_eq_true rfl⟩) rfl hl.1 rfl (lv_room (Nat.le_of_ble_eq_true rfl)) dX1_init_56 ⟨Nat.le_of_ble_eq_true rfl, Nat.le_of_ble_eq_true rfl⟩) hsz hP hD hS [5] [0, 1, 2, 3, 4] rfl rfl (by decide) (by decide) (fun r9 W9 H locs hk hP hD hS => ?_)
  obtain ⟨b6, b7, b8, b9, b10, b11, b12, b13, b14, b15, b16, b17, b18, rfl⟩ := hk
  have hP : va_P (eD E) gcl [(a, .inr (0, [.null, .ref b1, .ref b2, .null, .int 115, .ref b3, .ref b4, .int 0, .int 0, .int 0, .long 0, .long 0, .int 0])), (b1, .inr (9, [.int 0, .ref (es E 0), .int 0])), (b2, .inr (9, [.int 0, .ref (es E 0), .int 0])), (b3, .inr (1, [.int 0, .int 0, .int 1000, .int 0])), (b4, .inl (ec E 0, 64, .inl (fun _ => 0))), (b5, .inr (2, [.int 0, .int 118, .ref b7, .ref b8, .int 0, .int 0, .ref b6, .ref b9, .int 0, .ref b10])), (b6, .inl (ec E 0, 0, .inl (fun _ => 0))), (b7, .inr (9, [.int 0, .ref (es E 0), .int 0])), (b8, .inl (ec E 0, 64, .inl (fun _ => 0))), (b9, .inl (ec E 0, 0, .inl (fun _ => 0))), (b10, tc_ref (ec E 5) 4 (va_up (va_up (va_up (va_up (fun _ => none) (0 : Int32).toNatClampNeg (some b11)) (1 : Int32).toNatClampNeg (some b13)) (2 : Int32).toNatClampNeg (some b15)) (3 : Int32).toNatClampNeg (some b17))), (b11, .inr (3, [.int 0, .int 0, .int 0, .null, .null, .int 0, .int 0, .int 0, .int 0, .int 0, .long 0, .ref b12])), (b12, .inl (ec E 0, 3, .inl (fun _ => 0))), (b13, .inr (3, [.int 1, .int 0, .int 0, .null, .null, .int 0, .int 0, .int 0, .int 0, .int 0, .long 0, .ref b14])), (b14, .inl (ec E 0, 3, .inl (fun _ => 0))), (b15, .inr (3, [.int 2, .int 0, .int 0, .null, .null, .int 0, .int 0, .int 0, .int 0, .int 0, .long 0, .ref b16])), (b16, .inl (ec E 0, 3, .inl (fun _ => 0))), (b17, .inr (3, [.int 3, .int 0, .int 0, .null, .null, .int 0, .int 0, .int 0, .int 0, .int 0, .long 0, .ref b18])), (b18, .inl (ec E 0, 3, .inl (fun _ => 0)))] H := hP
  have hD : va_D (va_A [(a, .inr (0, [.null, .null, .null, .null, .int 0, .null, .null, .int 0, .int 0, .int 0, .long 0, .long 0, .int 0]))] sz) [(a, .inr (0, [.null, .ref b1, .ref b2, .null, .int 115, .ref b3, .ref b4, .int 0, .int 0, .int 0, .long 0, .long 0, .int 0])), (b1, .inr (9, [.int 0, .ref (es E 0), .int 0])), (b2, .inr (9, [.int 0, .ref (es E 0), .int 0])), (b3, .inr (1, [.int 0, .int 0, .int 1000, .int 0])), (b4, .inl (ec E 0, 64, .inl (fun _ => 0))), (b5, .inr (2, [.int 0, .int 118, .ref b7, .ref b8, .int 0, .int 0, .ref b6, .ref b9, .int 0, .ref b10])), (b6, .inl (ec E 0, 0, .inl (fun _ => 0))), (b7, .inr (9, [.int 0, .ref (es E 0), .int 0])), (b8, .inl (ec E 0, 64, .inl (fun _ => 0))), (b9, .inl (ec E 0, 0, .inl (fun _ => 0))), (b10, tc_ref (ec E 5) 4 (va_up (va_up (va_up (va_up (fun _ => none) (0 : Int32).toNatClampNeg (some b11)) (1 : Int32).toNatClampNeg (some b13)) (2 : Int32).toNatClampNeg (some b15)) (3 : Int32).toNatClampNeg (some b17))), (b11, .inr (3, [.int 0, .int 0, .int 0, .null, .null, .int 0, .int 0, .int 0, .int 0, .int 0, .long 0, .ref b12])), (b12, .inl (ec E 0, 3, .inl (fun _ => 0))), (b13, .inr (3, [.int 1, .int 0, .int 0, .null, .null, .int 0, .int 0, .int 0, .int 0, .int 0, .long 0, .ref b14])), (b14, .inl (ec E 0, 3, .inl (fun _ => 0))), (b15, .inr (3, [.int 2, .int 0, .int 0, .null, .null, .int 0, .int 0, .int 0, .int 0, .int 0, .long 0, .ref b16])), (b16, .inl (ec E 0, 3, .inl (fun _ => 0))), (b17, .inr (3, [.int 3, .int 0, .int 0, .null, .null, .int 0, .int 0, .int 0, .int 0, .int 0, .long 0, .ref b18])), (b18, .inl (ec E 0, 3, .inl (fun _ => 0)))] := hD
  refine W.eq (g2 := F0 m 59 ls [.ref b5, .ref a]) rfl ?_
  refine va_putF (C := RX1) (T := TX1) (N := 13) C.hx C.hb C.hts in_X1 tyX1 tyX1_ok nmX1 C.hown C.hK hP hD hS 0 rfl rfl 0 (by decide) (C.hts _ q316) (fun _ h => h) rfl hin2 rfl (tyX1_ok 0 (by decide)) (v := .ref b5) rfl rfl (Nat.le_of_ble_eq_true rfl) dX1_init_59 (fun H locs hP hD hS => ?_)
  have hP : va_P (eD E) gcl [(a, .inr (0, [.ref b5, .ref b1, .ref b2, .null, .int 115, .ref b3, .ref b4, .int 0, .int 0, .int 0, .long 0, .long 0, .int 0])), (b1, .inr (9, [.int 0, .ref (es E 0), .int 0])), (b2, .inr (9, [.int 0, .ref (es E 0), .int 0])), (b3, .inr (1, [.int 0, .int 0, .int 1000, .int 0])), (b4, .inl (ec E 0, 64, .inl (fun _ => 0))), (b5, .inr (2, [.int 0, .int 118, .ref b7, .ref b8, .int 0, .int 0, .ref b6, .ref b9, .int 0, .ref b10])), (b6, .inl (ec E 0, 0, .inl (fun _ => 0))), (b7, .inr (9, [.int 0, .ref (es E 0), .int 0])), (b8, .inl (ec E 0, 64, .inl (fun _ => 0))), (b9, .inl (ec E 0, 0, .inl (fun _ => 0))), (b10, tc_ref (ec E 5) 4 (va_up (va_up (va_up (va_up (fun _ => none) (0 : Int32).toNatClampNeg (some b11)) (1 : Int32).toNatClampNeg (some b13)) (2 : Int32).toNatClampNeg (some b15)) (3 : Int32).toNatClampNeg (some b17))), (b11, .inr (3, [.int 0, .int 0, .int 0, .null, .null, .int 0, .int 0, .int 0, .int 0, .int 0, .long 0, .ref b12])), (b12, .inl (ec E 0, 3, .inl (fun _ => 0))), (b13, .inr (3, [.int 1, .int 0, .int 0, .null, .null, .int 0, .int 0, .int 0, .int 0, .int 0, .long 0, .ref b14])), (b14, .inl (ec E 0, 3, .inl (fun _ => 0))), (b15, .inr (3, [.int 2, .int 0, .int 0, .null, .null, .int 0, .int 0, .int 0, .int 0, .int 0, .long 0, .ref b16])), (b16, .inl (ec E 0, 3, .inl (fun _ => 0))), (b17, .inr (3, [.int 3, .int 0, .int 0, .null, .null, .int 0, .int 0, .int 0, .int 0, .int 0, .long 0, .ref b18])), (b18, .inl (ec E 0, 3, .inl (fun _ => 0)))] H := hP
  have hD : va_D (va_A [(a, .inr (0, [.null, .null, .null, .null, .int 0, .null, .null, .int 0, .int 0, .int 0, .long 0, .long 0, .int 0]))] sz) [(a, .inr (0, [.ref b5, .ref b1, .ref b2, .null, .int 115, .ref b3, .ref b4, .int 0, .int 0, .int 0, .long 0, .long 0, .int 0])), (b1, .inr (9, [.int 0, .ref (es E 0), .int 0])), (b2, .inr (9, [.int 0, .ref (es E 0), .int 0])), (b3, .inr (1, [.int 0, .int 0, .int 1000, .int 0])), (b4, .inl (ec E 0, 64, .inl (fun _ => 0))), (b5, .inr (2, [.int 0, .int 118, .ref b7, .ref b8, .int 0, .int 0, .ref b6, .ref b9, .int 0, .ref b10])), (b6, .inl (ec E 0, 0, .inl (fun _ => 0))), (b7, .inr (9, [.int 0, .ref (es E 0), .int 0])), (b8, .inl (ec E 0, 64, .inl (fun _ => 0))), (b9, .inl (ec E 0, 0, .inl (fun _ => 0))), (b10, tc_ref (ec E 5) 4 (va_up (va_up (va_up (va_up (fun _ => none) (0 : Int32).toNatClampNeg (some b11)) (1 : Int32).toNatClampNeg (some b13)) (2 : Int32).toNatClampNeg (some b15)) (3 : Int32).toNatClampNeg (some b17))), (b11, .inr (3, [.int 0, .int 0, .int 0, .null, .null, .int 0, .int 0, .int 0, .int 0, .int 0, .long 0, .ref b12])), (b12, .inl (ec E 0, 3, .inl (fun _ => 0))), (b13, .inr (3, [.int 1, .int 0, .int 0, .null, .null, .int 0, .int 0, .int 0, .int 0, .int 0, .long 0, .ref b14])), (b14, .inl (ec E 0, 3, .inl (fun _ => 0))), (b15, .inr (3, [.int 2, .int 0, .int 0, .null, .null, .int 0, .int 0, .int 0, .int 0, .int 0, .long 0, .ref b16])), (b16, .inl (ec E 0, 3, .inl (fun _ => 0))), (b17, .inr (3, [.int 3, .int 0, .int 0, .null, .null, .int 0, .int 0, .int 0, .int 0, .int 0, .long 0, .ref b18])), (b18, .inl (ec E 0, 3, .inl (fun _ => 0)))] := hD
  refine lv_aload_n C.hx C.hb dX1_init_62 rfl (lv_at hl 0 rfl) ?_
  refine va_get (C := RX1) (T := TX1) (N := 13) C.hx C.hb C.hts in_X1 C.hown C.hK hP 0 rfl rfl 1 (by decide) (C.hts _ q317) (fun _ h => h) (v := .ref b1) rfl dX1_init_63 ?_
  refine lv_aload_n C.hx C.hb dX1_init_66 rfl (lv_at hl 0 rfl) ?_
  refine va_get (C := RX1) (T := TX1) (N := 13) C.hx C.hb C.hts in_X1 C.hown C.hK hP 0 rfl rfl 0 (by decide) (C.hts _ q316) (fun _ h => h) (v := .ref b5) rfl dX1_init_67 ?_
  refine tn_run (wr := [(a, .inr (0, [.ref b5, .ref b1, .ref b2, .null, .int 115, .ref b3, .ref b4, .int 0, .int 0, .int 0, .long 0, .long 0, .int 0])), (b2, .inr (9, [.int 0, .ref (es E 0), .int 0])), (b3, .inr (1, [.int 0, .int 0, .int 1000, .int 0])), (b4, .inl (ec E 0, 64, .inl (fun _ => 0))), (b6, .inl (ec E 0, 0, .inl (fun _ => 0))), (b7, .inr (9, [.int 0, .ref (es E 0), .int 0])), (b8, .inl (ec E 0, 64, .inl (fun _ => 0))), (b9, .inl (ec E 0, 0, .inl (fun _ => 0))), (b10, tc_ref (ec E 5) 4 (va_up (va_up (va_up (va_up (fun _ => none) (0 : Int32).toNatClampNeg (some b11)) (1 : Int32).toNatClampNeg (some b13)) (2 : Int32).toNatClampNeg (some b15)) (3 : Int32).toNatClampNeg (some b17))), (b11, .inr (3, [.int 0, .int 0, .int 0, .null, .null, .int 0, .int 0, .int 0, .int 0, .int 0, .long 0, .ref b12])), (b12, .inl (ec E 0, 3, .inl (fun _ => 0))), (b13, .inr (3, [.int 1, .int 0, .int 0, .null, .null, .int 0, .int 0, .int 0, .int 0, .int 0, .long 0, .ref b14])), (b14, .inl (ec E 0, 3, .inl (fun _ => 0))), (b15, .inr (3, [.int 2, .int 0, .int 0, .null, .null, .int 0, .int 0, .int 0, .int 0, .int 0, .long 0, .ref b16])), (b16, .inl (ec E 0, 3, .inl (fun _ => 0))), (b17, .inr (3, [.int 3, .int 0, .int 0, .null, .null, .int 0, .int 0, .int 0, .int 0, .int 0, .long 0, .ref b18])), (b18, .inl (ec E 0, 3, .inl (fun _ => 0)))]) (tn_rV (As := [.ref b5]) (rest := []) (wc := [(b1, .inr (9, [.int 0, .ref (es E 0), .int 0])), (b5, .inr (2, [.int 0, .int 118, .ref b7, .ref b8, .int 0, .int 0, .ref b6, .ref b9, .int 0, .ref b10]))]) (q0 := 1) (ci := 9) (q := (RJ2, TJ2, 3)) C hsz hbA hP hD hS [1, 5] rfl rfl (by decide) rfl rfl (t_J2_add_c2 l (a := b1) (mo := 0) (q := b5) (fs := [.int 0, .int 118, .ref b7, .ref b8, .int 0, .int 0, .ref b6, .ref b9, .int 0, .ref b10])) (cwV 1 C.hts (lw_V q251 q252 q253 q56 q254) rfl rfl rfl (by decide +kernel) ⟨Nat.le_of_ble_eq_true rfl, Nat.le_of_ble_eq_true rfl⟩) rfl hl.1 rfl (lv_room (Nat.le_of_ble_eq_true rfl)) dX1_init_70 ⟨Nat.le_of_ble_eq_true rfl, Nat.le_of_ble_eq_true rfl⟩) hsz hP hD hS [1, 5] [0, 2, 3, 4, 6, 7, 8, 9, 10, 11, 12, 13, 14, 15, 16, 17, 18] rfl rfl (by decide) (by decide) (fun r9 W9 H locs hk hP hD hS => ?_)
  obtain ⟨b19, rfl, rfl⟩ := hk
  have hP : va_P (eD E) gcl [(a, .inr (0, [.ref b5, .ref b1, .ref b2, .null, .int 115, .ref b3, .ref b4, .int 0, .int 0, .int 0, .long 0, .long 0, .int 0])), (b2, .inr (9, [.int 0, .ref (es E 0), .int 0])), (b3, .inr (1, [.int 0, .int 0, .int 1000, .int 0])), (b4, .inl (ec E 0, 64, .inl (fun _ => 0))), (b6, .inl (ec E 0, 0, .inl (fun _ => 0))), (b7, .inr (9, [.int 0, .ref (es E 0), .int 0])), (b8, .inl (ec E 0, 64, .inl (fun _ => 0))), (b9, .inl (ec E 0, 0, .inl (fun _ => 0))), (b10, tc_ref (ec E 5) 4 (va_up (va_up (va_up (va_up (fun _ => none) (0 : Int32).toNatClampNeg (some b11)) (1 : Int32).toNatClampNeg (some b13)) (2 : Int32).toNatClampNeg (some b15)) (3 : Int32).toNatClampNeg (some b17))), (b11, .inr (3, [.int 0, .int 0, .int 0, .null, .null, .int 0, .int 0, .int 0, .int 0, .int 0, .long 0, .ref b12])), (b12, .inl (ec E 0, 3, .inl (fun _ => 0))), (b13, .inr (3, [.int 1, .int 0, .int 0, .null, .null, .int 0, .int 0, .int 0, .int 0, .int 0, .long 0, .ref b14])), (b14, .inl (ec E 0, 3, .inl (fun _ => 0))), (b15, .inr (3, [.int 2, .int 0, .int 0, .null, .null, .int 0, .int 0, .int 0, .int 0, .int 0, .long 0, .ref b16])), (b16, .inl (ec E 0, 3, .inl (fun _ => 0))), (b17, .inr (3, [.int 3, .int 0, .int 0, .null, .null, .int 0, .int 0, .int 0, .int 0, .int 0, .long 0, .ref b18])), (b18, .inl (ec E 0, 3, .inl (fun _ => 0))), (b5, .inr (2, [.int 0, .int 118, .ref b7, .ref b8, .int 0, .int 0, .ref b6, .ref b9, .int 0, .ref b10])), (b1, .inr (9, [.int (0 + 1), .ref b19, .int 1])), (b19, tc_ref (ec E 4) 10 (va_up (fun _ => none) (0 : Int32).toNatClampNeg (some b5)))] H := hP
  have hD : va_D (va_A [(a, .inr (0, [.null, .null, .null, .null, .int 0, .null, .null, .int 0, .int 0, .int 0, .long 0, .long 0, .int 0]))] sz) [(a, .inr (0, [.ref b5, .ref b1, .ref b2, .null, .int 115, .ref b3, .ref b4, .int 0, .int 0, .int 0, .long 0, .long 0, .int 0])), (b2, .inr (9, [.int 0, .ref (es E 0), .int 0])), (b3, .inr (1, [.int 0, .int 0, .int 1000, .int 0])), (b4, .inl (ec E 0, 64, .inl (fun _ => 0))), (b6, .inl (ec E 0, 0, .inl (fun _ => 0))), (b7, .inr (9, [.int 0, .ref (es E 0), .int 0])), (b8, .inl (ec E 0, 64, .inl (fun _ => 0))), (b9, .inl (ec E 0, 0, .inl (fun _ => 0))), (b10, tc_ref (ec E 5) 4 (va_up (va_up (va_up (va_up (fun _ => none) (0 : Int32).toNatClampNeg (some b11)) (1 : Int32).toNatClampNeg (some b13)) (2 : Int32).toNatClampNeg (some b15)) (3 : Int32).toNatClampNeg (some b17))), (b11, .inr (3, [.int 0, .int 0, .int 0, .null, .null, .int 0, .int 0, .int 0, .int 0, .int 0, .long 0, .ref b12])), (b12, .inl (ec E 0, 3, .inl (fun _ => 0))), (b13, .inr (3, [.int 1, .int 0, .int 0, .null, .null, .int 0, .int 0, .int 0, .int 0, .int 0, .long 0, .ref b14])), (b14, .inl (ec E 0, 3, .inl (fun _ => 0))), (b15, .inr (3, [.int 2, .int 0, .int 0, .null, .null, .int 0, .int 0, .int 0, .int 0, .int 0, .long 0, .ref b16])), (b16, .inl (ec E 0, 3, .inl (fun _ => 0))), (b17, .inr (3, [.int 3, .int 0, .int 0, .null, .null, .int 0, .int 0, .int 0, .int 0, .int 0, .long 0, .ref b18])), (b18, .inl (ec E 0, 3, .inl (fun _ => 0))), (b5, .inr (2, [.int 0, .int 118, .ref b7, .ref b8, .int 0, .int 0, .ref b6, .ref b9, .int 0, .ref b10])), (b1, .inr (9, [.int (0 + 1), .ref b19, .int 1])), (b19, tc_ref (ec E 4) 10 (va_up (fun _ => none) (0 : Int32).toNatClampNeg (some b5)))] := hD
  refine W.eq (g2 := F0 m 73 ls [.int 1]) rfl ?_
  refine lv_pop C.hx C.hb dX1_init_73 rfl ?_
  refine lv_aload_n C.hx C.hb dX1_init_74 rfl (lv_at hl 0 rfl) ?_
  refine va_get (C := RX1) (T := TX1) (N := 13) C.hx C.hb C.hts in_X1 C.hown C.hK hP 0 rfl rfl 2 (by decide) (C.hts _ q318) (fun _ h => h) (v := .ref b2) rfl dX1_init_75 ?_
  refine lv_aload_n C.hx C.hb dX1_init_78 rfl (lv_at hl 0 rfl) ?_
  refine va_get (C := RX1) (T := TX1) (N := 13) C.hx C.hb C.hts in_X1 C.hown C.hK hP 0 rfl rfl 0 (by decide) (C.hts _ q316) (fun _ h => h) (v := .ref b5) rfl dX1_init_79 ?_
  refine tn_run (wr := [(a, .inr (0, [.ref b5, .ref b1, .ref b2, .null, .int 115, .ref b3, .ref b4, .int 0, .int 0, .int 0, .long 0, .long 0, .int 0])), (b3, .inr (1, [.int 0, .int 0, .int 1000, .int 0])), (b4, .inl (ec E 0, 64, .inl (fun _ => 0))), (b6, .inl (ec E 0, 0, .inl (fun _ => 0))), (b7, .inr (9, [.int 0, .ref (es E 0), .int 0])), (b8, .inl (ec E 0, 64, .inl (fun _ => 0))), (b9, .inl (ec E 0, 0, .inl (fun _ => 0))), (b10, tc_ref (ec E 5) 4 (va_up (va_up (va_up (va_up (fun _ => none) (0 : Int32).toNatClampNeg (some b11)) (1 : Int32).toNatClampNeg (some b13)) (2 : Int32).toNatClampNeg (some b15)) (3 : Int32).toNatClampNeg (some b17))), (b11, .inr (3, [.int 0, .int 0, .int 0, .null, .null, .int 0, .int 0, .int 0, .int 0, .int 0, .long 0, .ref b12])), (b12, .inl (ec E 0, 3, .inl (fun _ => 0))), (b13, .inr (3, [.int 1, .int 0, .int 0, .null, .null, .int 0, .int 0, .int 0, .int 0, .int 0, .long 0, .ref b14])), (b14, .inl (ec E 0, 3, .inl (fun _ => 0))), (b15, .inr (3, [.int 2, .int 0, .int 0, .null, .null, .int 0, .int 0, .int 0, .int 0, .int 0, .long 0, .ref b16])), (b16, .inl (ec E 0, 3, .inl (fun _ => 0))), (b17, .inr (3, [.int 3, .int 0, .int 0, .null, .null, .int 0, .int 0, .int 0, .int 0, .int 0, .long 0, .ref b18])), (b18, .inl (ec E 0, 3, .inl (fun _ => 0))), (b1, .inr (9, [.int (0 + 1), .ref b19, .int 1])), (b19, tc_ref (ec E 4) 10 (va_up (fun _ => none) (0 : Int32).toNatClampNeg (some b5)))]) (tn_rV (As := [.ref b5]) (rest := []) (wc := [(b2, .inr (9, [.int 0, .ref (es E 0), .int 0])), (b5, .inr (2, [.int 0, .int 118, .ref b7, .ref b8, .int 0, .int 0, .ref b6, .ref b9, .int 0, .ref b10]))]) (q0 := 1) (ci := 9) (q := (RJ2, TJ2, 3)) C hsz hbA hP hD hS [1, 17] rfl rfl (by decide) rfl rfl (t_J2_add_c2 l (a := b2) (mo := 0) (q := b5) (fs := [.int 0, .int 118, .ref b7, .ref b8, .int 0, .int 0, .ref b6, .ref b9, .int 0, .ref b10])) (cwV 1 C.hts (lw_V q251 q252 q253 q56 q254) rfl rfl rfl (by decide +kernel) ⟨Nat.le_of_ble_eq_true rfl, Nat.le_of_ble_eq_true rfl⟩) rfl hl.1 rfl (lv_room (Nat.le_of_ble_eq_true rfl)) dX1_init_82 ⟨Nat.le_of_ble_eq_true rfl, Nat.le_of_ble_eq_true rfl⟩) hsz hP hD hS [1, 17] [0, 2, 3, 4, 5, 6, 7, 8, 9, 10, 11, 12, 13, 14, 15, 16, 18, 19] rfl rfl (by decide) (by decide) (fun r9 W9 H locs hk hP hD hS => ?_)
  obtain ⟨b20, rfl, rfl⟩ := hk
  have hP : va_P (eD E) gcl [(a, .inr (0, [.ref b5, .ref b1, .ref b2, .null, .int 115, .ref b3, .ref b4, .int 0, .int 0, .int 0, .long 0, .long 0, .int 0])), (b3, .inr (1, [.int 0, .int 0, .int 1000, .int 0])), (b4, .inl (ec E 0, 64, .inl (fun _ => 0))), (b6, .inl (ec E 0, 0, .inl (fun _ => 0))), (b7, .inr (9, [.int 0, .ref (es E 0), .int 0])), (b8, .inl (ec E 0, 64, .inl (fun _ => 0))), (b9, .inl (ec E 0, 0, .inl (fun _ => 0))), (b10, tc_ref (ec E 5) 4 (va_up (va_up (va_up (va_up (fun _ => none) (0 : Int32).toNatClampNeg (some b11)) (1 : Int32).toNatClampNeg (some b13)) (2 : Int32).toNatClampNeg (some b15)) (3 : Int32).toNatClampNeg (some b17))), (b11, .inr (3, [.int 0, .int 0, .int 0, .null, .null, .int 0, .int 0, .int 0, .int 0, .int 0, .long 0, .ref b12])), (b12, .inl (ec E 0, 3, .inl (fun _ => 0))), (b13, .inr (3, [.int 1, .int 0, .int 0, .null, .null, .int 0, .int 0, .int 0, .int 0, .int 0, .long 0, .ref b14])), (b14, .inl (ec E 0, 3, .inl (fun _ => 0))), (b15, .inr (3, [.int 2, .int 0, .int 0, .null, .null, .int 0, .int 0, .int 0, .int 0, .int 0, .long 0, .ref b16])), (b16, .inl (ec E 0, 3, .inl (fun _ => 0))), (b17, .inr (3, [.int 3, .int 0, .int 0, .null, .null, .int 0, .int 0, .int 0, .int 0, .int 0, .long 0, .ref b18])), (b18, .inl (ec E 0, 3, .inl (fun _ => 0))), (b1, .inr (9, [.int (0 + 1), .ref b19, .int 1])), (b19, tc_ref (ec E 4) 10 (va_up (fun _ => none) (0 : Int32).toNatClampNeg (some b5))), (b5, .inr (2, [.int 0, .int 118, .ref b7, .ref b8, .int 0, .int 0, .ref b6, .ref b9, .int 0, .ref b10])), (b2, .inr (9, [.int (0 + 1), .ref b20, .int 1])), (b20, tc_ref (ec E 4) 10 (va_up (fun _ => none) (0 : Int32).toNatClampNeg (some b5)))] H := hP
  have hD : va_D (va_A [(a, .inr (0, [.null, .null, .null, .null, .int 0, .null, .null, .int 0, .int 0, .int 0, .long 0, .long 0, .int 0]))] sz) [(a, .inr (0, [.ref b5, .ref b1, .ref b2, .null, .int 115, .ref b3, .ref b4, .int 0, .int 0, .int 0, .long 0, .long 0, .int 0])), (b3, .inr (1, [.int 0, .int 0, .int 1000, .int 0])), (b4, .inl (ec E 0, 64, .inl (fun _ => 0))), (b6, .inl (ec E 0, 0, .inl (fun _ => 0))), (b7, .inr (9, [.int 0, .ref (es E 0), .int 0])), (b8, .inl (ec E 0, 64, .inl (fun _ => 0))), (b9, .inl (ec E 0, 0, .inl (fun _ => 0))), (b10, tc_ref (ec E 5) 4 (va_up (va_up (va_up (va_up (fun _ => none) (0 : Int32).toNatClampNeg (some b11)) (1 : Int32).toNatClampNeg (some b13)) (2 : Int32).toNatClampNeg (some b15)) (3 : Int32).toNatClampNeg (some b17))), (b11, .inr (3, [.int 0, .int 0, .int 0, .null, .null, .int 0, .int 0, .int 0, .int 0, .int 0, .long 0, .ref b12])), (b12, .inl (ec E 0, 3, .inl (fun _ => 0))), (b13, .inr (3, [.int 1, .int 0, .int 0, .null, .null, .int 0, .int 0, .int 0, .int 0, .int 0, .long 0, .ref b14])), (b14, .inl (ec E 0, 3, .inl (fun _ => 0))), (b15, .inr (3, [.int 2, .int 0, .int 0, .null, .null, .int 0, .int 0, .int 0, .int 0, .int 0, .long 0, .ref b16])), (b16, .inl (ec E 0, 3, .inl (fun _ => 0))), (b17, .inr (3, [.int 3, .int 0, .int 0, .null, .null, .int 0, .int 0, .int 0, .int 0, .int 0, .long 0, .ref b18])), (b18, .inl (ec E 0, 3, .inl (fun _ => 0))), (b1, .inr (9, [.int (0 + 1), .ref b19, .int 1])), (b19, tc_ref (ec E 4) 10 (va_up (fun _ => none) (0 : Int32).toNatClampNeg (some b5))), (b5, .inr (2, [.int 0, .int 118, .ref b7, .ref b8, .int 0, .int 0, .ref b6, .ref b9, .int 0, .ref b10])), (b2, .inr (9, [.int (0 + 1), .ref b20, .int 1])), (b20, tc_ref (ec E 4) 10 (va_up (fun _ => none) (0 : Int32).toNatClampNeg (some b5)))] := hD
  refine W.eq (g2 := F0 m 85 ls [.int 1]) rfl ?_
  refine lv_pop C.hx C.hb dX1_init_85 rfl ?_
  refine lv_aload_n C.hx C.hb dX1_init_86 rfl (lv_at hl 0 rfl) ?_
  refine lv_aload_n C.hx C.hb dX1_init_87 rfl (lv_at hl 0 rfl) ?_
  refine va_get (C := RX1) (T := TX1) (N := 13) C.hx C.hb C.hts in_X1 C.hown C.hK hP 0 rfl rfl 0 (by decide) (C.hts _ q316) (fun _ h => h) (v := .ref b5) rfl dX1_init_88 ?_
  refine va_put (C := RX1) (T := TX1) (N := 13) C.hx C.hb C.hts in_X1 tyX1 tyX1_ok nmX1 C.hown C.hK hP hD hS 0 rfl rfl 3 (by decide) (C.hts _ q319) (fun _ h => h) rfl (tyX1_ok 3 (by decide)) (v := .ref b5) rfl rfl (Nat.le_of_ble_eq_true rfl) dX1_init_91 (fun H locs hP hD hS => ?_)
  have hP : va_P (eD E) gcl [(a, .inr (0, [.ref b5, .ref b1, .ref b2, .ref b5, .int 115, .ref b3, .ref b4, .int 0, .int 0, .int 0, .long 0, .long 0, .int 0])), (b3, .inr (1, [.int 0, .int 0, .int 1000, .int 0])), (b4, .inl (ec E 0, 64, .inl (fun _ => 0))), (b6, .inl (ec E 0, 0, .inl (fun _ => 0))), (b7, .inr (9, [.int 0, .ref (es E 0), .int 0])), (b8, .inl (ec E 0, 64, .inl (fun _ => 0))), (b9, .inl (ec E 0, 0, .inl (fun _ => 0))), (b10, tc_ref (ec E 5) 4 (va_up (va_up (va_up (va_up (fun _ => none) (0 : Int32).toNatClampNeg (some b11)) (1 : Int32).toNatClampNeg (some b13)) (2 : Int32).toNatClampNeg (some b15)) (3 : Int32).toNatClampNeg (some b17))), (b11, .inr (3, [.int 0, .int 0, .int 0, .null, .null, .int 0, .int 0, .int 0, .int 0, .int 0, .long 0, .ref b12])), (b12, .inl (ec E 0, 3, .inl (fun _ => 0))), (b13, .inr (3, [.int 1, .int 0, .int 0, .null, .null, .int 0, .int 0, .int 0, .int 0, .int 0, .long 0, .ref b14])), (b14, .inl (ec E 0, 3, .inl (fun _ => 0))), (b15, .inr (3, [.int 2, .int 0, .int 0, .null, .null, .int 0, .int 0, .int 0, .int 0, .int 0, .long 0, .ref b16])), (b16, .inl (ec E 0, 3, .inl (fun _ => 0))), (b17, .inr (3, [.int 3, .int 0, .int 0, .null, .null, .int 0, .int 0, .int 0, .int 0, .int 0, .long 0, .ref b18])), (b18, .inl (ec E 0, 3, .inl (fun _ => 0))), (b1, .inr (9, [.int (0 + 1), .ref b19, .int 1])), (b19, tc_ref (ec E 4) 10 (va_up (fun _ => none) (0 : Int32).toNatClampNeg (some b5))), (b5, .inr (2, [.int 0, .int 118, .ref b7, .ref b8, .int 0, .int 0, .ref b6, .ref b9, .int 0, .ref b10])), (b2, .inr (9, [.int (0 + 1), .ref b20, .int 1])), (b20, tc_ref (ec E 4) 10 (va_up (fun _ => none) (0 : Int32).toNatClampNeg (some b5)))] H := hP
  have hD : va_D (va_A [(a, .inr (0, [.null, .null, .null, .null, .int 0, .null, .null, .int 0, .int 0, .int 0, .long 0, .long 0, .int 0]))] sz) [(a, .inr (0, [.ref b5, .ref b1, .ref b2, .ref b5, .int 115, .ref b3, .ref b4, .int 0, .int 0, .int 0, .long 0, .long 0, .int 0])), (b3, .inr (1, [.int 0, .int 0, .int 1000, .int 0])), (b4, .inl (ec E 0, 64, .inl (fun _ => 0))), (b6, .inl (ec E 0, 0, .inl (fun _ => 0))), (b7, .inr (9, [.int 0, .ref (es E 0), .int 0])), (b8, .inl (ec E 0, 64, .inl (fun _ => 0))), (b9, .inl (ec E 0, 0, .inl (fun _ => 0))), (b10, tc_ref (ec E 5) 4 (va_up (va_up (va_up (va_up (fun _ => none) (0 : Int32).toNatClampNeg (some b11)) (1 : Int32).toNatClampNeg (some b13)) (2 : Int32).toNatClampNeg (some b15)) (3 : Int32).toNatClampNeg (some b17))), (b11, .inr (3, [.int 0, .int 0, .int 0, .null, .null, .int 0, .int 0, .int 0, .int 0, .int 0, .long 0, .ref b12])), (b12, .inl (ec E 0, 3, .inl (fun _ => 0))), (b13, .inr (3, [.int 1, .int 0, .int 0, .null, .null, .int 0, .int 0, .int 0, .int 0, .int 0, .long 0, .ref b14])), (b14, .inl (ec E 0, 3, .inl (fun _ => 0))), (b15, .inr (3, [.int 2, .int 0, .int 0, .null, .null, .int 0, .int 0, .int 0, .int 0, .int 0, .long 0, .ref b16])), (b16, .inl (ec E 0, 3, .inl (fun _ => 0))), (b17, .inr (3, [.int 3, .int 0, .int 0, .null, .null, .int 0, .int 0, .int 0, .int 0, .int 0, .long 0, .ref b18])), (b18, .inl (ec E 0, 3, .inl (fun _ => 0))), (b1, .inr (9, [.int (0 + 1), .ref b19, .int 1])), (b19, tc_ref (ec E 4) 10 (va_up (fun _ => none) (0 : Int32).toNatClampNeg (some b5))), (b5, .inr (2, [.int 0, .int 118, .ref b7, .ref b8, .int 0, .int 0, .ref b6, .ref b9, .int 0, .ref b10])), (b2, .inr (9, [.int (0 + 1), .ref b20, .int 1])), (b20, tc_ref (ec E 4) 10 (va_up (fun _ => none) (0 : Int32).toNatClampNeg (some b5)))] := hD
  refine W.widen (k := 20) (n := 296) (Nat.le_of_ble_eq_true rfl) (Nat.le_of_ble_eq_true rfl) ?_
  exact tn_vret () rfl C hr hlk hP hD hS ⟨b1, b2, b3, b4, b5, b6, b7, b8, b9, b10, b11, b12, b13, b14, b15, b16, b17, b18, b19, b20, rfl⟩ dX1_init_94

/-! COMPONENT: more rows -/
set_option maxRecDepth 100000
theorem tc_e0 {E : tc_E} {S : tc_S} {i : Nat} (hk : ykd E i = 0) : tc_w E S (1, i) = .inr (2, tc_nfs E S i) := by
  show (.inr (tc_cls (ykd E i), tc_nfs E S i) : va_E) = _
  rw [hk]
  rfl
theorem tc_e1 {E : tc_E} {S : tc_S} {i : Nat} (hk : ykd E i = 1) : tc_w E S (1, i) = .inr (4, tc_nfs E S i) := by
  show (.inr (tc_cls (ykd E i), tc_nfs E S i) : va_E) = _
  rw [hk]
  rfl
theorem tc_e2 {E : tc_E} {S : tc_S} {i : Nat} (hk : ykd E i = 2) : tc_w E S (1, i) = .inr (5, tc_nfs E S i) := by
  show (.inr (tc_cls (ykd E i), tc_nfs E S i) : va_E) = _
  rw [hk]
  rfl
theorem tc_e3 {E : tc_E} {S : tc_S} {i : Nat} (hk : ykd E i = 3) : tc_w E S (1, i) = .inr (6, tc_nfs E S i) := by
  show (.inr (tc_cls (ykd E i), tc_nfs E S i) : va_E) = _
  rw [hk]
  rfl
theorem tc_e4 {E : tc_E} {S : tc_S} {i : Nat} (hk : ykd E i = 4) : tc_w E S (1, i) = .inr (7, tc_nfs E S i) := by
  show (.inr (tc_cls (ykd E i), tc_nfs E S i) : va_E) = _
  rw [hk]
  rfl
theorem tc_x0_9 {E : tc_E} {S : tc_S} {i : Nat} (hk : ykd E i = 0) : (tc_nfs E S i)[9]? = some (.ref (ea E (9, 0))) := by
  unfold tc_nfs
  rw [hk]
  rfl
theorem tc_x1_9 {E : tc_E} {S : tc_S} {i : Nat} (hk : ykd E i = 1) : (tc_nfs E S i)[9]? = some (.int (S.1 1 i 3)) := by
  unfold tc_nfs
  rw [hk]
  rfl
theorem tc_x2_9 {E : tc_E} {S : tc_S} {i : Nat} (hk : ykd E i = 2) : (tc_nfs E S i)[9]? = some (.int (yim E i 0)) := by
  unfold tc_nfs
  rw [hk]
  rfl
theorem tc_x2_10 {E : tc_E} {S : tc_S} {i : Nat} (hk : ykd E i = 2) : (tc_nfs E S i)[10]? = some (.int (yim E i 1)) := by
  unfold tc_nfs
  rw [hk]
  rfl
theorem tc_x3_9 {E : tc_E} {S : tc_S} {i : Nat} (hk : ykd E i = 3) : (tc_nfs E S i)[9]? = some (.ref (ea E (7, i))) := by
  unfold tc_nfs
  rw [hk]
  rfl
theorem tc_x4_9 {E : tc_E} {S : tc_S} {i : Nat} (hk : ykd E i = 4) : (tc_nfs E S i)[9]? = some (.int (yim E i 0)) := by
  unfold tc_nfs
  rw [hk]
  rfl
theorem tc_kinds {k : Nat} (h : k ≤ 4) : k = 0 ∨ k = 1 ∨ k = 2 ∨ k = 3 ∨ k = 4 := by omega
theorem tc_lt {i : Int32} {n : Nat} (h : vp_in i n) : i.toNatClampNeg < n := Nat.not_le.mp fun q => h (Or.inr q)
section TCR2
variable {p : Program} {l : Launch} {e : Env} {R : Room} {s : State} {m : MethodId} {args : Array Value} {below : List Frame} {meth : Method} {c : Code} {H : Heap} {locs : List Loc} {cells slots : Nat} {Q : State → Prop}
variable {cc bytes : ByteArray} {pc nL index maxL n : Nat} {ls : Array Slot} {st rest As : List Value} {y : MethodName} {ws : List Cond} {rm : Room} {ret : Option FieldType}
variable {E : tc_E} {S : tc_S} {own : String}

theorem tc_nrecv (C : tc_C p m c cc nL s args own E) (hH : tc_ok E S H) {i : Nat} (hi : i < yn E) : ∃ (cell : Cell) (k : Nat), k ≤ 4 ∧ ykd E i = k ∧ H[ea E (1, i)]? = some cell ∧ cell.vm.isStatics = false ∧ s.vm.findClass (match k with | 0 => RX4 | 1 => RX7 | 2 => RX8 | 3 => RX9 | _ => RX10) = some cell.cls := by
  have hk := hH.kd i hi
  rcases tc_kinds hk with h | h | h | h | h
  · obtain ⟨cell, h1, h2, h3⟩ := tc_recv (q := (RX4, TX4, 10)) C.hK hH (hH.n i hi) (tc_e0 h) rfl
    exact ⟨cell, 0, by omega, h, h1, h2, h3⟩
  · obtain ⟨cell, h1, h2, h3⟩ := tc_recv (q := (RX7, TX7, 10)) C.hK hH (hH.n i hi) (tc_e1 h) rfl
    exact ⟨cell, 1, by omega, h, h1, h2, h3⟩
  · obtain ⟨cell, h1, h2, h3⟩ := tc_recv (q := (RX8, TX8, 11)) C.hK hH (hH.n i hi) (tc_e2 h) rfl
    exact ⟨cell, 2, by omega, h, h1, h2, h3⟩
  · obtain ⟨cell, h1, h2, h3⟩ := tc_recv (q := (RX9, TX9, 10)) C.hK hH (hH.n i hi) (tc_e3 h) rfl
    exact ⟨cell, 3, by omega, h, h1, h2, h3⟩
  · obtain ⟨cell, h1, h2, h3⟩ := tc_recv (q := (RX10, TX10, 10)) C.hK hH (hH.n i hi) (tc_e4 h) rfl
    exact ⟨cell, 4, by omega, h, h1, h2, h3⟩

theorem tc_castN (C : tc_C p m c cc nL s args own E) (hH : tc_ok E S H) {i : Nat} (hi : i < yn E) (hlink : Cond.classLink own index "ToneGraph$Node" ∈ lw_all) (hdg : decode cc pc = .ok (.checkcast index, 3))
    (kk : W p l e R s m args below meth c H locs cells slots Q (F0 m (pc + 3) ls (.ref (ea E (1, i)) :: rest))) : W p l e R s m args below meth c H locs cells slots Q (F0 m pc ls (.ref (ea E (1, i)) :: rest)) := by
  have hk := hH.kd i hi
  rcases tc_kinds hk with h | h | h | h | h
  · exact va_castY C.hx C.hb C.hown (C.hts _ hlink) (C.nw 35 rfl) (tc_recv (q := (RX4, TX4, 10)) C.hK hH (hH.n i hi) (tc_e0 h) rfl) hdg kk
  · exact va_castY C.hx C.hb C.hown (C.hts _ hlink) (C.nw 42 rfl) (tc_recv (q := (RX7, TX7, 10)) C.hK hH (hH.n i hi) (tc_e1 h) rfl) hdg kk
  · exact va_castY C.hx C.hb C.hown (C.hts _ hlink) (C.nw 37 rfl) (tc_recv (q := (RX8, TX8, 11)) C.hK hH (hH.n i hi) (tc_e2 h) rfl) hdg kk
  · exact va_castY C.hx C.hb C.hown (C.hts _ hlink) (C.nw 40 rfl) (tc_recv (q := (RX9, TX9, 10)) C.hK hH (hH.n i hi) (tc_e3 h) rfl) hdg kk
  · exact va_castY C.hx C.hb C.hown (C.hts _ hlink) (C.nw 33 rfl) (tc_recv (q := (RX10, TX10, 10)) C.hK hH (hH.n i hi) (tc_e4 h) rfl) hdg kk

theorem tc_castW (C : tc_C p m c cc nL s args own E) (hH : tc_ok E S H) {i : Nat} (hi : i < ynw E) (hlink : Cond.classLink own index RX11 ∈ lw_all) (hdg : decode cc pc = .ok (.checkcast index, 3))
    (kk : W p l e R s m args below meth c H locs cells slots Q (F0 m (pc + 3) ls (.ref (ea E (13, i)) :: rest))) : W p l e R s m args below meth c H locs cells slots Q (F0 m pc ls (.ref (ea E (13, i)) :: rest)) :=
  va_castS C.hx C.hb C.hown (C.hts _ hlink) ((C.hK.1 8 _ rfl).2) (tc_recv (q := (RX11, TX11, 2)) (ci := 8) C.hK hH (hH.w i hi) rfl rfl) hdg kk
theorem tc_acmpN_eq (C : tc_C p m c cc nL s args own E) (hH : tc_ok E S H) {i j : Nat} (hi : i < yn E) (hj : j < yn E) {off : Int} {tgt : Nat} (hdg : decode cc pc = .ok (.if_acmp .eq off, 3)) (ht : (pc : Int) + off = (tgt : Int))
    (kt : i = j → W p l e R s m args below meth c H locs cells slots Q (F0 m tgt ls rest)) (kf : ¬ i = j → W p l e R s m args below meth c H locs cells slots Q (F0 m (pc + 3) ls rest)) : W p l e R s m args below meth c H locs cells slots Q (F0 m pc ls (.ref (ea E (1, j)) :: .ref (ea E (1, i)) :: rest)) := by
  have hinj : ea E (1, i) = ea E (1, j) ↔ i = j := (gb_inj hH.1 (hH.n i hi) (hH.n j hj)).trans ⟨fun q => (Prod.mk.inj q).2, fun q => by rw [q]⟩
  refine lv_acmp_eq (rx := some (ea E (1, i))) (ry := some (ea E (1, j))) C.hx C.hb hdg ht (fun h => ?_) (fun h => ?_)
  · exact kt (hinj.mp (Option.some.inj h))
  · exact kf (fun q => h (congrArg some (hinj.mpr q)))
theorem tc_acmpN_ne (C : tc_C p m c cc nL s args own E) (hH : tc_ok E S H) {i j : Nat} (hi : i < yn E) (hj : j < yn E) {off : Int} {tgt : Nat} (hdg : decode cc pc = .ok (.if_acmp .ne off, 3)) (ht : (pc : Int) + off = (tgt : Int))
    (kt : ¬ i = j → W p l e R s m args below meth c H locs cells slots Q (F0 m tgt ls rest)) (kf : i = j → W p l e R s m args below meth c H locs cells slots Q (F0 m (pc + 3) ls rest)) : W p l e R s m args below meth c H locs cells slots Q (F0 m pc ls (.ref (ea E (1, j)) :: .ref (ea E (1, i)) :: rest)) := by
  have hinj : ea E (1, i) = ea E (1, j) ↔ i = j := (gb_inj hH.1 (hH.n i hi) (hH.n j hj)).trans ⟨fun q => (Prod.mk.inj q).2, fun q => by rw [q]⟩
  refine lv_acmp_ne (rx := some (ea E (1, i))) (ry := some (ea E (1, j))) C.hx C.hb hdg ht (fun h => ?_) (fun h => ?_)
  · exact kt (fun q => h (congrArg some (hinj.mpr q)))
  · exact kf (hinj.mp (Option.some.inj h))
theorem tc_acmpW_eq (C : tc_C p m c cc nL s args own E) (hH : tc_ok E S H) {i j : Nat} (hi : i < ynw E) (hj : j < ynw E) {off : Int} {tgt : Nat} (hdg : decode cc pc = .ok (.if_acmp .eq off, 3)) (ht : (pc : Int) + off = (tgt : Int))
    (kt : i = j → W p l e R s m args below meth c H locs cells slots Q (F0 m tgt ls rest)) (kf : ¬ i = j → W p l e R s m args below meth c H locs cells slots Q (F0 m (pc + 3) ls rest)) : W p l e R s m args below meth c H locs cells slots Q (F0 m pc ls (.ref (ea E (13, j)) :: .ref (ea E (13, i)) :: rest)) := by
  have hinj : ea E (13, i) = ea E (13, j) ↔ i = j := (gb_inj hH.1 (hH.w i hi) (hH.w j hj)).trans ⟨fun q => (Prod.mk.inj q).2, fun q => by rw [q]⟩
  refine lv_acmp_eq (rx := some (ea E (13, i))) (ry := some (ea E (13, j))) C.hx C.hb hdg ht (fun h => ?_) (fun h => ?_)
  · exact kt (hinj.mp (Option.some.inj h))
  · exact kf (fun q => h (congrArg some (hinj.mpr q)))
theorem tc_acmpW_ne (C : tc_C p m c cc nL s args own E) (hH : tc_ok E S H) {i j : Nat} (hi : i < ynw E) (hj : j < ynw E) {off : Int} {tgt : Nat} (hdg : decode cc pc = .ok (.if_acmp .ne off, 3)) (ht : (pc : Int) + off = (tgt : Int))
    (kt : ¬ i = j → W p l e R s m args below meth c H locs cells slots Q (F0 m tgt ls rest)) (kf : i = j → W p l e R s m args below meth c H locs cells slots Q (F0 m (pc + 3) ls rest)) : W p l e R s m args below meth c H locs cells slots Q (F0 m pc ls (.ref (ea E (13, j)) :: .ref (ea E (13, i)) :: rest)) := by
  have hinj : ea E (13, i) = ea E (13, j) ↔ i = j := (gb_inj hH.1 (hH.w i hi) (hH.w j hj)).trans ⟨fun q => (Prod.mk.inj q).2, fun q => by rw [q]⟩
  refine lv_acmp_ne (rx := some (ea E (13, i))) (ry := some (ea E (13, j))) C.hx C.hb hdg ht (fun h => ?_) (fun h => ?_)
  · exact kt (fun q => h (congrArg some (hinj.mpr q)))
  · exact kf (hinj.mp (Option.some.inj h))
theorem tc_aaldL (C : tc_C p m c cc nL s args own E) (hH : tc_ok E S H) {x : Nat} (hx : x < yn E + 2) (hg : ygr E x = true) {i : Int32} (hin : vp_in i 10) {k : Nat} (hk : S.2.1 2 x i.toNatClampNeg = k + 1) (hdg : decode cc pc = .ok (.aaload, 1))
    (kk : W p l e R s m args below meth c H locs cells slots Q (F0 m (pc + 1) ls (.ref (ea E (tc_tk x, k)) :: rest))) : W p l e R s m args below meth c H locs cells slots Q (F0 m pc ls (.int i :: .ref (ea E (3, x)) :: rest)) := by
  obtain ⟨j, hi⟩ := List.getElem?_of_mem (hH.ld x hx hg)
  have hq := gb_at (ad := ea E) (w := tc_w E S) hi
  refine va_aldq C.hx C.hb C.hK hH.1.1 j 4 (cA := ec E 4) (n := 10) (f := tc_lf E S x) hq rfl hin hdg ?_
  have : tc_lf E S x i.toNatClampNeg = some (ea E (tc_tk x, k)) := by simp [tc_lf, hk, tc_on]
  rw [this]
  exact kk
theorem tc_aastLN (C : tc_C p m c cc nL s args own E) (hH : tc_ok E S H) (hS : va_S (fun q => eb E ≤ q) s.heap H locs) {x k : Nat} (hk : k < yn E) (hx2 : tc_tk x = 1) (hx : x < yn E + 2) (hg : ygr E x = true) {i : Int32} (hin : vp_in i 10) (hdg : decode cc pc = .ok (.aastore, 1))
    (kk : ∀ (S' : tc_S), S' = tP S 2 x i.toNatClampNeg (k + 1) → ∀ (H1 : Heap) (locs1 : List Loc), tc_ok E S' H1 → va_S (fun q => eb E ≤ q) s.heap H1 locs1 → W p l e R s m args below meth c H1 locs1 cells slots Q (F0 m (pc + 1) ls rest)) : W p l e R s m args below meth c H locs cells slots Q (F0 m pc ls (.ref (ea E (1, k)) :: .int i :: .ref (ea E (3, x)) :: rest)) := by
  obtain ⟨j, hi⟩ := List.getElem?_of_mem (hH.ld x hx hg)
  have hq := gb_at (ad := ea E) (w := tc_w E S) hi
  obtain ⟨jk, hjk⟩ := List.getElem?_of_mem (hH.n k hk)
  have hqk := gb_at (ad := ea E) (w := tc_w E S) hjk
  rcases tc_kinds (hH.kd k hk) with h | h | h | h | h
  · rw [tc_e0 h] at hqk
    refine va_astqO (E := "java/lang/Object") (r := (RX4, TX4, 10)) C.hx C.hb C.hK hH.1.1 hH.1.2.1 hS j 4 jk 2 (cA := ec E 4) (n := 10) (f := tc_lf E S x) hq rfl (C.nw 36 rfl) hqk rfl hin hdg (fun H1 locs1 h1 h2 h3 => ?_)
    have hE := tc_ul_elem E S x i.toNatClampNeg k
    rw [hx2] at hE
    unfold tc_ref at hE
    rw [gb_set hH.1.2.2 hi, hE] at h1 h2
    exact kk _ rfl H1 locs1 ⟨⟨h1, h2, hH.1.2.2⟩, hH.2⟩ h3
  · rw [tc_e1 h] at hqk
    refine va_astqO (E := "java/lang/Object") (r := (RX7, TX7, 10)) C.hx C.hb C.hK hH.1.1 hH.1.2.1 hS j 4 jk 4 (cA := ec E 4) (n := 10) (f := tc_lf E S x) hq rfl (C.nw 43 rfl) hqk rfl hin hdg (fun H1 locs1 h1 h2 h3 => ?_)
    have hE := tc_ul_elem E S x i.toNatClampNeg k
    rw [hx2] at hE
    unfold tc_ref at hE
    rw [gb_set hH.1.2.2 hi, hE] at h1 h2
    exact kk _ rfl H1 locs1 ⟨⟨h1, h2, hH.1.2.2⟩, hH.2⟩ h3
  · rw [tc_e2 h] at hqk
    refine va_astqO (E := "java/lang/Object") (r := (RX8, TX8, 11)) C.hx C.hb C.hK hH.1.1 hH.1.2.1 hS j 4 jk 5 (cA := ec E 4) (n := 10) (f := tc_lf E S x) hq rfl (C.nw 38 rfl) hqk rfl hin hdg (fun H1 locs1 h1 h2 h3 => ?_)
    have hE := tc_ul_elem E S x i.toNatClampNeg k
    rw [hx2] at hE
    unfold tc_ref at hE
    rw [gb_set hH.1.2.2 hi, hE] at h1 h2
    exact kk _ rfl H1 locs1 ⟨⟨h1, h2, hH.1.2.2⟩, hH.2⟩ h3
  · rw [tc_e3 h] at hqk
    refine va_astqO (E := "java/lang/Object") (r := (RX9, TX9, 10)) C.hx C.hb C.hK hH.1.1 hH.1.2.1 hS j 4 jk 6 (cA := ec E 4) (n := 10) (f := tc_lf E S x) hq rfl (C.nw 41 rfl) hqk rfl hin hdg (fun H1 locs1 h1 h2 h3 => ?_)
    have hE := tc_ul_elem E S x i.toNatClampNeg k
    rw [hx2] at hE
    unfold tc_ref at hE
    rw [gb_set hH.1.2.2 hi, hE] at h1 h2
    exact kk _ rfl H1 locs1 ⟨⟨h1, h2, hH.1.2.2⟩, hH.2⟩ h3
  · rw [tc_e4 h] at hqk
    refine va_astqO (E := "java/lang/Object") (r := (RX10, TX10, 10)) C.hx C.hb C.hK hH.1.1 hH.1.2.1 hS j 4 jk 7 (cA := ec E 4) (n := 10) (f := tc_lf E S x) hq rfl (C.nw 34 rfl) hqk rfl hin hdg (fun H1 locs1 h1 h2 h3 => ?_)
    have hE := tc_ul_elem E S x i.toNatClampNeg k
    rw [hx2] at hE
    unfold tc_ref at hE
    rw [gb_set hH.1.2.2 hi, hE] at h1 h2
    exact kk _ rfl H1 locs1 ⟨⟨h1, h2, hH.1.2.2⟩, hH.2⟩ h3
theorem tc_aastLW (C : tc_C p m c cc nL s args own E) (hH : tc_ok E S H) (hS : va_S (fun q => eb E ≤ q) s.heap H locs) {x k : Nat} (hk : k < ynw E) (hx2 : tc_tk x = 13) (hx : x < yn E + 2) (hg : ygr E x = true) {i : Int32} (hin : vp_in i 10) (hdg : decode cc pc = .ok (.aastore, 1))
    (kk : ∀ (S' : tc_S), S' = tP S 2 x i.toNatClampNeg (k + 1) → ∀ (H1 : Heap) (locs1 : List Loc), tc_ok E S' H1 → va_S (fun q => eb E ≤ q) s.heap H1 locs1 → W p l e R s m args below meth c H1 locs1 cells slots Q (F0 m (pc + 1) ls rest)) : W p l e R s m args below meth c H locs cells slots Q (F0 m pc ls (.ref (ea E (13, k)) :: .int i :: .ref (ea E (3, x)) :: rest)) := by
  obtain ⟨j, hi⟩ := List.getElem?_of_mem (hH.ld x hx hg)
  have hq := gb_at (ad := ea E) (w := tc_w E S) hi
  obtain ⟨jk, hjk⟩ := List.getElem?_of_mem (hH.w k hk)
  have hqk := gb_at (ad := ea E) (w := tc_w E S) hjk
  refine va_astqO (E := "java/lang/Object") (r := (RX11, TX11, 2)) C.hx C.hb C.hK hH.1.1 hH.1.2.1 hS j 4 jk 8 (cA := ec E 4) (n := 10) (f := tc_lf E S x) hq rfl (C.nw 45 rfl) hqk rfl hin hdg (fun H1 locs1 h1 h2 h3 => ?_)
  have hE := tc_ul_elem E S x i.toNatClampNeg k
  rw [hx2] at hE
  unfold tc_ref at hE
  rw [gb_set hH.1.2.2 hi, hE] at h1 h2
  exact kk _ rfl H1 locs1 ⟨⟨h1, h2, hH.1.2.2⟩, hH.2⟩ h3
theorem tc_aastL0 (C : tc_C p m c cc nL s args own E) (hH : tc_ok E S H) (hS : va_S (fun q => eb E ≤ q) s.heap H locs) {x : Nat} (hx : x < yn E + 2) (hg : ygr E x = true) {i : Int32} (hin : vp_in i 10) (hdg : decode cc pc = .ok (.aastore, 1))
    (kk : ∀ (S' : tc_S), S' = tP S 2 x i.toNatClampNeg 0 → ∀ (H1 : Heap) (locs1 : List Loc), tc_ok E S' H1 → va_S (fun q => eb E ≤ q) s.heap H1 locs1 → W p l e R s m args below meth c H1 locs1 cells slots Q (F0 m (pc + 1) ls rest)) : W p l e R s m args below meth c H locs cells slots Q (F0 m pc ls (.null :: .int i :: .ref (ea E (3, x)) :: rest)) := by
  obtain ⟨j, hi⟩ := List.getElem?_of_mem (hH.ld x hx hg)
  have hq := gb_at (ad := ea E) (w := tc_w E S) hi
  refine va_astqN (C := "java/lang/Object") C.hx C.hb C.hK hH.1.1 hH.1.2.1 hS j 4 (cA := ec E 4) (n := 10) (f := tc_lf E S x) hq rfl hin hdg (fun H1 locs1 h1 h2 h3 => ?_)
  have hE := tc_ul_null E S x i.toNatClampNeg
  unfold tc_ref at hE
  rw [gb_set hH.1.2.2 hi, hE] at h1 h2
  exact kk _ rfl H1 locs1 ⟨⟨h1, h2, hH.1.2.2⟩, hH.2⟩ h3
theorem tc_alenL (C : tc_C p m c cc nL s args own E) (hH : tc_ok E S H) {x : Nat} (hx : x < yn E + 2) (hg : ygr E x = true) (hdg : decode cc pc = .ok (.arraylength, 1))
    (kk : W p l e R s m args below meth c H locs cells slots Q (F0 m (pc + 1) ls (.int 10 :: rest))) : W p l e R s m args below meth c H locs cells slots Q (F0 m pc ls (.ref (ea E (3, x)) :: rest)) :=
  gb_alen C.hx C.hb C.hK hH.1 4 (3, x) (hH.ld x hx hg) (cA := ec E 4) (x := (10, .inr (.inr (.inr (.inr (tc_lf E S x)))))) rfl rfl rfl hdg kk
theorem tc_lg {E : tc_E} {S : tc_S} {x : Nat} (hg : ygr E x = true) : (tc_lfs E S x)[1]? = some (.ref (ea E (3, x))) := by
  simp [tc_lfs, hg]
/-- removing from a list of wires: the places behind move down -/
theorem tc_copyL (C : tc_C p m c cc nL s args own E) (hH : tc_ok E S H) (hS : va_S (fun q => eb E ≤ q) s.heap H locs) (hml : nL = ls.size) {z : Nat} (hz : z < yn E) (hg : ygr E (z + 2) = true) (hlink : Cond.methodLink own index arraycopyName ∈ lw_all) {sp dp n : Int32} (h1 : ¬ sp < 0) (h2 : ¬ dp < 0) (h3 : ¬ n < 0) (h4 : sp.toNatClampNeg + n.toNatClampNeg ≤ 10) (h5 : dp.toNatClampNeg + n.toNatClampNeg ≤ 10) (hel : ∀ i : Nat, i < n.toNatClampNeg → ∀ k : Nat, S.2.1 2 (z + 2) (sp.toNatClampNeg + i) = k + 1 → k < ynw E) (hframes : 1 ≤ R.frames) (hlocals : (rest.map fun v => v.category).sum + (nativeFrameWords "java/lang/System" "arraycopy" 5 + 11) ≤ R.locals) (hdg : decode cc pc = .ok (.invokestatic index, 3))
    (kk : ∀ (S' : tc_S), S' = tQ S 2 (z + 2) (va_cpy (S.2.1 2 (z + 2)) (S.2.1 2 (z + 2)) sp.toNatClampNeg dp.toNatClampNeg n.toNatClampNeg) → ∀ (H1 : Heap) (locs1 : List Loc), tc_ok E S' H1 → va_S (fun q => eb E ≤ q) s.heap H1 locs1 → W p l e R s m args below meth c H1 locs1 cells slots Q (F0 m (pc + 3) ls rest)) : W p l e R s m args below meth c H locs cells slots Q (F0 m pc ls (.int n :: .int dp :: .ref (ea E (3, z + 2)) :: .int sp :: .ref (ea E (3, z + 2)) :: rest)) := by
  obtain ⟨j, hi⟩ := List.getElem?_of_mem (hH.ld (z + 2) (by omega) hg)
  have hq := gb_at (ad := ea E) (w := tc_w E S) hi
  refine va_copyq (C := RX11) (E0 := "java/lang/Object") (E1 := "java/lang/Object") C.hx C.hb (C.hml.trans hml) C.hown (C.hts _ hlink) (C.hts _ q313) (C.hts _ q312) (C.hts _ q64) C.hK hH.1.1 hH.1.2.1 hS j j 4 4 (c0 := ec E 4) (c1 := ec E 4) (n0 := 10) (n1 := 10) (f := tc_lf E S (z + 2)) (g := tc_lf E S (z + 2)) hq hq rfl rfl h1 h2 h3 h4 h5 ?_ ?_ hframes hlocals hdg (fun H1 locs1 p1 p2 p3 => ?_)
  · intro i hi2 y hy
    unfold tc_lf at hy
    cases hk : S.2.1 2 (z + 2) (sp.toNatClampNeg + i) with
    | zero => rw [hk] at hy; cases hy
    | succ k =>
      rw [hk] at hy
      cases hy
      exact tc_recv (q := (RX11, TX11, 2)) (ci := 8) C.hK hH (hH.w k (hel i hi2 k hk)) rfl rfl
  · intro comp c0 e1 e2
    obtain ⟨c1, t1, f1, f2, f3⟩ := Cond.castable_spec (va_Nw.use (A := args) rfl (C.nw 45 rfl))
    cases f1.symm.trans e2
    cases f2.symm.trans e1
    exact f3
  · have hE : gb_up (tc_w E S) (3, z + 2) (tc_ref (ec E 4) 10 (va_cpy (tc_lf E S (z + 2)) (tc_lf E S (z + 2)) sp.toNatClampNeg dp.toNatClampNeg n.toNatClampNeg)) = tc_w E (tQ S 2 (z + 2) (va_cpy (S.2.1 2 (z + 2)) (S.2.1 2 (z + 2)) sp.toNatClampNeg dp.toNatClampNeg n.toNatClampNeg)) := by
      funext L
      obtain ⟨a, b⟩ := L
      unfold gb_up
      by_cases ha : a = 3
      · subst ha
        by_cases hb : b = z + 2
        · subst hb
          rw [if_pos rfl]
          simp only [tc_w, tc_ref, tQ]
          congr 7
          funext q
          simp only [va_cpy, tc_lf]
          by_cases hq : dp.toNatClampNeg ≤ q ∧ q < dp.toNatClampNeg + n.toNatClampNeg
          · simp [hq, va_cpy]
          · simp [hq, va_cpy]
        · rw [if_neg (fun q => hb (Prod.mk.inj q).2)]
          simp only [tc_w, tc_ref, tQ]
          congr 7
          funext q
          simp [tc_lf, hb]
      · rw [if_neg (fun q => ha (Prod.mk.inj q).1)]
        match a, ha with
        | 0, ha => cases b <;> rfl
        | 1, ha => rfl
        | 2, ha => rfl
        | 3, ha => exact absurd rfl ha
        | 4, ha => rfl
        | 5, ha => rfl
        | 6, ha => rfl
        | 7, ha => rfl
        | 8, ha => cases b <;> rfl
        | 9, ha => cases b <;> rfl
        | 10, ha => rfl
        | 11, ha => rfl
        | 12, ha => rfl
        | 13, ha => rfl
        | k + 14, ha => rfl
    unfold tc_ref at hE
    rw [gb_set hH.1.2.2 hi, hE] at p1 p2
    exact kk _ rfl H1 locs1 ⟨⟨p1, p2, hH.1.2.2⟩, hH.2⟩ p3
theorem tc_copy_keep (C : tc_C p m c cc nL s args own E) (hH : tc_ok E S H) (hS : va_S (fun q => eb E ≤ q) s.heap H locs) (hml : nL = ls.size) {i : Nat} (hi : i < yn E) (hlink : Cond.methodLink own index arraycopyName ∈ lw_all) (hn : ynl E i < 2 ^ 31) (hframes : 1 ≤ R.frames) (hlocals : (rest.map fun v => v.category).sum + (nativeFrameWords "java/lang/System" "arraycopy" 5 + 11) ≤ R.locals) (hdg : decode cc pc = .ok (.invokestatic index, 3))
    (kk : ∀ (S' : tc_S), S' = tA S 4 i (va_cpy (S.1 3 i) (S.1 4 i) 0 0 (ynl E i)) → ∀ (H1 : Heap) (locs1 : List Loc), tc_ok E S' H1 → va_S (fun q => eb E ≤ q) s.heap H1 locs1 → W p l e R s m args below meth c H1 locs1 cells slots Q (F0 m (pc + 3) ls rest)) : W p l e R s m args below meth c H locs cells slots Q (F0 m pc ls (.int (nI (ynl E i)) :: .int 0 :: .ref (ea E (6, i)) :: .int 0 :: .ref (ea E (5, i)) :: rest)) := by
  obtain ⟨j0, hi0⟩ := List.getElem?_of_mem (hH.num i hi)
  have hq0 := gb_at (ad := ea E) (w := tc_w E S) hi0
  obtain ⟨j1, hi1⟩ := List.getElem?_of_mem (hH.numK i hi)
  have hq1 := gb_at (ad := ea E) (w := tc_w E S) hi1
  have e0 : (0 : Int32).toNatClampNeg = 0 := by decide
  have en : (nI (ynl E i)).toNatClampNeg = ynl E i := nI_clamp hn
  refine va_copyi (ty := .int) C.hx C.hb (C.hml.trans hml) C.hown (C.hts _ hlink) (C.hts _ q313) (C.hts _ q312) (C.hts _ q64) C.hK hH.1.1 hH.1.2.1 hS j0 j1 0 0 (c0 := ec E 0) (c1 := ec E 0) (n0 := ynl E i) (n1 := ynl E i) (f := S.1 3 i) (g := S.1 4 i) hq0 hq1 rfl rfl rfl (by decide) (by decide) (nI_pos hn) (by rw [e0, en]; omega) (by rw [e0, en]; omega) (fun _ _ => rfl) hframes hlocals hdg (fun H1 locs1 h1 h2 h3 => ?_)
  have hE := tc_ub_numK E S i (va_cpy (S.1 3 i) (S.1 4 i) 0 0 (ynl E i))
  rw [e0, en, gb_set hH.1.2.2 hi1, hE] at h1 h2
  exact kk _ rfl H1 locs1 ⟨⟨h1, h2, hH.1.2.2⟩, hH.2⟩ h3
theorem tc_copy_back (C : tc_C p m c cc nL s args own E) (hH : tc_ok E S H) (hS : va_S (fun q => eb E ≤ q) s.heap H locs) (hml : nL = ls.size) {i : Nat} (hi : i < yn E) (hlink : Cond.methodLink own index arraycopyName ∈ lw_all) (hn : ynl E i < 2 ^ 31) (hframes : 1 ≤ R.frames) (hlocals : (rest.map fun v => v.category).sum + (nativeFrameWords "java/lang/System" "arraycopy" 5 + 11) ≤ R.locals) (hdg : decode cc pc = .ok (.invokestatic index, 3))
    (kk : ∀ (S' : tc_S), S' = tA S 3 i (va_cpy (S.1 4 i) (S.1 3 i) 0 0 (ynl E i)) → ∀ (H1 : Heap) (locs1 : List Loc), tc_ok E S' H1 → va_S (fun q => eb E ≤ q) s.heap H1 locs1 → W p l e R s m args below meth c H1 locs1 cells slots Q (F0 m (pc + 3) ls rest)) : W p l e R s m args below meth c H locs cells slots Q (F0 m pc ls (.int (nI (ynl E i)) :: .int 0 :: .ref (ea E (5, i)) :: .int 0 :: .ref (ea E (6, i)) :: rest)) := by
  obtain ⟨j0, hi0⟩ := List.getElem?_of_mem (hH.numK i hi)
  have hq0 := gb_at (ad := ea E) (w := tc_w E S) hi0
  obtain ⟨j1, hi1⟩ := List.getElem?_of_mem (hH.num i hi)
  have hq1 := gb_at (ad := ea E) (w := tc_w E S) hi1
  have e0 : (0 : Int32).toNatClampNeg = 0 := by decide
  have en : (nI (ynl E i)).toNatClampNeg = ynl E i := nI_clamp hn
  refine va_copyi (ty := .int) C.hx C.hb (C.hml.trans hml) C.hown (C.hts _ hlink) (C.hts _ q313) (C.hts _ q312) (C.hts _ q64) C.hK hH.1.1 hH.1.2.1 hS j0 j1 0 0 (c0 := ec E 0) (c1 := ec E 0) (n0 := ynl E i) (n1 := ynl E i) (f := S.1 4 i) (g := S.1 3 i) hq0 hq1 rfl rfl rfl (by decide) (by decide) (nI_pos hn) (by rw [e0, en]; omega) (by rw [e0, en]; omega) (fun _ _ => rfl) hframes hlocals hdg (fun H1 locs1 h1 h2 h3 => ?_)
  have hE := tc_ub_num E S i (va_cpy (S.1 4 i) (S.1 3 i) 0 0 (ynl E i))
  rw [e0, en, gb_set hH.1.2.2 hi1, hE] at h1 h2
  exact kk _ rfl H1 locs1 ⟨⟨h1, h2, hH.1.2.2⟩, hH.2⟩ h3
theorem tc_aaldV (C : tc_C p m c cc nL s args own E) (hH : tc_ok E S H) {i : Int32} (hin : vp_in i 4) (hdg : decode cc pc = .ok (.aaload, 1))
    (kk : W p l e R s m args below meth c H locs cells slots Q (F0 m (pc + 1) ls (.ref (ea E (10, i.toNatClampNeg)) :: rest))) : W p l e R s m args below meth c H locs cells slots Q (F0 m pc ls (.int i :: .ref (ea E (9, 0)) :: rest)) := by
  obtain ⟨j, hi⟩ := List.getElem?_of_mem hH.vs
  have hq := gb_at (ad := ea E) (w := tc_w E S) hi
  exact va_aldq C.hx C.hb C.hK hH.1.1 j 5 (cA := ec E 5) (n := 4) (f := fun j => some (ea E (10, j))) hq rfl hin hdg kk
theorem tc_steps (C : tc_C p m c cc nL s args own E) (hS : va_S (fun q => eb E ≤ q) s.heap H locs) {host : String} (i : Nat) (hi : tc_words[i]? = some (.fieldLinkNest own index "ToneGraph" "STEPS" "[I" host)) (hdg : decode cc pc = .ok (.getstatic index, 3))
    (kk : W p l e R s m args below meth c H locs cells slots Q (F0 m (pc + 3) ls (.ref (es E 1) :: rest))) : W p l e R s m args below meth c H locs cells slots Q (F0 m pc ls rest) :=
  va_getsN C.hx C.hb C.hZ.2.2.2.1 hS C.hown (va_Nw.use rfl (C.nw i hi)) (fun _ h => h) hdg kk
theorem tc_stepsAt (C : tc_C p m c cc nL s args own E) (hS : va_S (fun q => eb E ≤ q) s.heap H locs) {i : Int32} (hin : vp_in i 60) (hdg : decode cc pc = .ok (.iaload, 1))
    (kk : W p l e R s m args below meth c H locs cells slots Q (F0 m (pc + 1) ls (.int (tc_step i.toNatClampNeg) :: rest))) : W p l e R s m args below meth c H locs cells slots Q (F0 m pc ls (.int i :: .ref (es E 1) :: rest)) :=
  va_ti C.hx C.hb C.hZ.2.2.2.2.1 hS hin rfl hdg kk
theorem tc_fitz {ty : FieldType} {x : Int32} (ht : ty = .boolean ∨ ty = .char) (h : narrow ty (.int x) = .int x) : fits ty (.int x) = true := by
  rcases ht with rfl | rfl
  · simp [narrow] at h
    obtain ⟨j, hj, e⟩ := pk_andE x (m := 1) 1 (by decide)
    rw [h] at e
    subst e
    have : j = 0 ∨ j = 1 := by omega
    rcases this with rfl | rfl <;> rfl
  · simp [narrow] at h
    rw [pk_char] at h
    have hlt : x.toBitVec.toNat % 65536 < 65536 := Nat.mod_lt _ (by decide)
    generalize x.toBitVec.toNat % 65536 = j at h hlt
    subst h
    simp only [fits, decide_eq_true_eq, Bool.and_eq_true]
    exact ⟨nI_pos' (by omega), (nI_le (a := j) (b := 65535) (by omega) (by decide))⟩
theorem tc_rSU {α : Type} {val : α → Option Value} {post : α → tc_S → Prop} {cC : ClassId} {Cn : String} {L : gb_L} {ci : Nat} {fs : List Value} {q : vw_C} (hat : ClassAt s Cn cC) (hq : q.1 = Cn) (C : tc_C p m c cc nL s args own E) (hL : L ∈ eL E) (he : tc_w E S L = .inr (ci, fs)) (hc : gcl[ci]? = some q) (hM : tc_M l y ws rm E (.ref (ea E L) :: As) S val post) (cw : va_CS R s args own index y bytes maxL ret ws rm 0 0 n) (hH : tc_ok E S H) (hS : va_S (fun q => eb E ≤ q) s.heap H locs) (hn : As.length = n) (hsize : ls.size = nL) (hst : st = As.reverse ++ .ref (ea E L) :: rest) (hW : 2 * (F0 m pc ls st).monitorRoom + (rest.map fun v => v.category).sum ≤ 8) (hdg : decode cc pc = .ok (.invokespecial index, 3)) (hf : cells ≤ R.cells ∧ slots ≤ R.slots) : va_Run p l e R s m args below meth c H locs cells slots 0 0 (F0 m pc ls st) rest (tc_Qg E val post (Value.ref (ea E L) :: As).toArray) (fun q => eb E ≤ q) :=
  va_runSU (g := F0 m pc ls st) hat C.1 hM cw ⟨tc_blind, hq ▸ tc_recv C.hK hH hL he hc, fun U hU hW => ⟨rfl, C.preAt hH hS hU hW⟩⟩ rfl hn hsize hst hW hdg hf
end TCR2
theorem lw_Uw {own : String} {idx : Nat} {C owner : String} {x y : MethodName} {b : ByteArray} {L : Nat} {r : Option FieldType} (h1 : Cond.methodLink own idx x ∈ lw_all) (h2 : Cond.sameMethod x.cls owner x.name x.desc ∈ lw_all) (h3 : Cond.selects C x y ∈ lw_all) (h4 : Cond.instanceMethod y ∈ lw_all) (h5 : Cond.initialized y.cls ∈ lw_all) (h6 : Cond.code y b L r ∈ lw_all) : GoodIn lw_all (va_wsU own idx C owner x y (ws_ y b L r)) := by
  refine lw_app ?_ (lw_meth h6)
  intro w hw
  simp only [List.mem_cons, List.not_mem_nil, or_false] at hw
  rcases hw with e | e | e | e | e
  · rw [e]; exact h1
  · rw [e]; exact h2
  · rw [e]; exact h3
  · rw [e]; exact h4
  · rw [e]; exact h5
theorem lw_Ow {own : String} {idx : Nat} {C owner : String} {x y : MethodName} {b : ByteArray} {L : Nat} {r : Option FieldType} (h1 : Cond.methodLink own idx x ∈ lw_all) (h2 : Cond.sameMethod x.cls owner x.name x.desc ∈ lw_all) (h0 : Cond.instanceMethod ⟨owner, x.name, x.desc⟩ ∈ lw_all) (h3 : Cond.selects C x y ∈ lw_all) (h4 : Cond.instanceMethod y ∈ lw_all) (h5 : Cond.initialized y.cls ∈ lw_all) (h6 : Cond.code y b L r ∈ lw_all) : GoodIn lw_all (va_wsO own idx C owner x y (ws_ y b L r)) := by
  refine lw_app ?_ (lw_meth h6)
  intro w hw
  simp only [List.mem_cons, List.not_mem_nil, or_false] at hw
  rcases hw with e | e | e | e | e | e
  · rw [e]; exact h1
  · rw [e]; exact h2
  · rw [e]; exact h0
  · rw [e]; exact h3
  · rw [e]; exact h4
  · rw [e]; exact h5
theorem lw_SUw {own : String} {idx : Nat} {y : MethodName} {b : ByteArray} {L : Nat} {r : Option FieldType} (h1 : Cond.methodLink own idx y ∈ lw_all) (h2 : Cond.sameMethod y.cls y.cls y.name y.desc ∈ lw_all) (h3 : Cond.superclass own y.cls ∈ lw_all) (h4 : Cond.instanceMethod y ∈ lw_all) (h5 : Cond.initialized y.cls ∈ lw_all) (h6 : Cond.code y b L r ∈ lw_all) : GoodIn lw_all (va_wsSU own idx y (ws_ y b L r)) := by
  refine lw_app ?_ (lw_meth h6)
  intro w hw
  simp only [List.mem_cons, List.not_mem_nil, or_false] at hw
  rcases hw with e | e | e | e | e
  · rw [e]; exact h1
  · rw [e]; exact h2
  · rw [e]; exact h3
  · rw [e]; exact h4
  · rw [e]; exact h5

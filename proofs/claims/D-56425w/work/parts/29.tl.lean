/-! THE LAW's LEVEL: component, reference and the places for answers in one world -/
set_option maxRecDepth 100000
/-- the world E with the reference's object holding M -/
def tm (E : tc_E) (M : mm_S) : tc_E := (E.1, E.2.1, E.2.2.1, E.2.2.2.1, E.2.2.2.2.1, (fun L => if L.1 = 20 then .inr (10, mm_fs (ea E) M) else if L.1 = 21 then mm_arr (ec E) M L.2 else ew E L), E.2.2.2.2.2.2.1, E.2.2.2.2.2.2.2)
theorem tm_sim (E : tc_E) (M : mm_S) : tc_sim E (tm E M) := ⟨rfl, rfl, rfl, rfl⟩
theorem tm_w (E : tc_E) (S : tc_S) (M : mm_S) : tc_w (tm E M) S = mm_w (ec E) (ea E) (tc_w E S) M := by
  funext L
  obtain ⟨x, y⟩ := L
  unfold mm_w
  match x with
  | 0 => cases y with | zero => rfl | succ y => rfl
  | 1 => rfl
  | 2 => rfl
  | 3 => rfl
  | 4 => rfl
  | 5 => rfl
  | 6 => rfl
  | 7 => rfl
  | 8 => cases y with | zero => rfl | succ y => rfl
  | 9 => cases y with | zero => rfl | succ y => rfl
  | 10 => rfl
  | 11 => rfl
  | 12 => rfl
  | 13 => rfl
  | k + 14 => rfl
def tl_m (E : tc_E) : Prop := (∀ L ∈ eL E, L.1 = 20 → L = (20, 0)) ∧ (20, 0) ∈ eL E ∧ ∀ k, k < 12 → (21, k) ∈ eL E
theorem tl_mm {E : tc_E} {S : tc_S} {M : mm_S} {H : Heap} (hH : tc_ok (tm E M) S H) (hm : tl_m E) : mm_ok (eb E) (eD E) (ec E) (eL E) (ea E) (tc_w E S) M H := by
  have h := hH.1
  rw [tm_w] at h
  exact ⟨h, hm⟩
theorem tl_tc {E : tc_E} {S : tc_S} {M : mm_S} {H : Heap} (h : mm_ok (eb E) (eD E) (ec E) (eL E) (ea E) (tc_w E S) M H) (hd : tc_dm E) : tc_ok (tm E M) S H := by
  refine ⟨?_, hd⟩
  show gb_W (eD E) gcl (fun q => eb E ≤ q) (eL E) (ea E) (tc_w (tm E M) S) H
  rw [tm_w]
  exact h.1
section TL
variable {p : Program} {l : Launch} {e : Env} {R : Room} {s : State} {m : MethodId} {args : Array Value} {below : List Frame} {meth : Method} {c : Code} {H : Heap} {locs : List Loc} {cells slots : Nat} {Q : State → Prop}
variable {cc bytes : ByteArray} {pc nL index maxL n : Nat} {ls : Array Slot} {st rest As : List Value} {y : MethodName} {wy : List Cond} {rm : Room} {ret : Option FieldType}
variable {E : tc_E} {S : tc_S} {M : mm_S} {own : String}
theorem tl_blind : FrameBlind (va_Pc (.ref (ea E (20, 0)) :: As) (mm_pre (eb E) (eD E) (ec E) (eL E) (ea E) (tc_w E S) M)) := fun a U g mk q => ⟨q.1, q.2.1, q.2.2.1, va_K.moved (u := U) (U := U.calling g mk a) (Vm.Alike.refl U.vm) q.2.2.2⟩
theorem tl_recv (C : tc_C p m c cc nL s args own E) (hH : tc_ok (tm E M) S H) (hm : tl_m E) : ∃ cell : Cell, H[ea E (20, 0)]? = some cell ∧ cell.vm.isStatics = false ∧ s.vm.findClass RX6 = some cell.cls := by
  have h := hH.1
  rw [tm_w] at h
  exact va_recv (ws := [(ea E (20, 0), .inr (10, mm_fs (ea E) M))]) (ci := 10) (q0 := 0) (q := (RX6, TX6, 26)) C.hK (gb_one h hm.2.1 rfl) rfl rfl
theorem tl_i {post : Int32 → mm_S → Prop} (C : tc_C p m c cc nL s args own E) (hH : tc_ok (tm E M) S H) (hm : tl_m E) (hS : va_S (fun q => eb E ≤ q) s.heap H locs) (hM : mm_Mi l y wy rm (eb E) (eD E) (ec E) (eL E) (ea E) (tc_w E S) As M post) (cw : CallW R s args own RX6 index y bytes maxL ret wy rm 0 0 n) (hlen : As.length = n) (hsize : ls.size = nL) (hst : st = As.reverse ++ .ref (ea E (20, 0)) :: rest) (hW : 2 * (F0 m pc ls st).monitorRoom + (rest.map fun v => v.category).sum ≤ 8) (hdg : decode cc pc = .ok (.invokevirtual index, 3)) (hf : cells ≤ R.cells ∧ slots ≤ R.slots)
    (kk : ∀ (r : Int32) (M' : mm_S) (H1 : Heap) (locs1 : List Loc), post r M' → tc_ok (tm E M') S H1 → va_S (fun q => eb E ≤ q) s.heap H1 locs1 → W p l e R s m args below meth c H1 locs1 cells slots Q (F0 m (pc + 3) ls (.int r :: rest))) : W p l e R s m args below meth c H locs cells slots Q (F0 m pc ls st) := by
  have hd : tc_dm E := hH.2
  intro T hT X
  obtain ⟨v, st₀, t, T', L, h0, X', hL, e1, e2, ⟨⟨r, M', hv, hp, hb⟩, hz, hk⟩, g⟩ := va_runV (g := F0 m pc ls st) C.1 hM cw ⟨tl_blind, tl_recv C hH hm, fun U hU hW => ⟨rfl, by rw [hU]; exact Nat.le_trans C.2.2.1 hS.1, by rw [hU]; exact tl_mm hH hm, va_K.moved hW.alike C.hK⟩⟩ rfl hlen hsize hst hW hdg hf T hT X
  cases hv
  rw [h0] at hz hk
  obtain ⟨t2, a1, b1⟩ := kk r M' T'.heap (locs ++ L) hp (by rw [e1]; exact tl_tc hb hd)
    ⟨Nat.le_trans hS.1 (by rw [e1]; exact hz), fun q h1 h2 => by rw [e1, hk q (Nat.lt_of_lt_of_le h1 hS.1) h2]; exact hS.2.1 q h1 h2, fun q hq => by
      rcases List.mem_append.mp hq with h | h
      · exact hS.2.2 q h
      · exact hL q h⟩ T' rfl X'
  exact ⟨t2, g t2 a1, b1⟩
theorem tl_l {post : Int64 → mm_S → Prop} (C : tc_C p m c cc nL s args own E) (hH : tc_ok (tm E M) S H) (hm : tl_m E) (hS : va_S (fun q => eb E ≤ q) s.heap H locs) (hM : mm_Ml l y wy rm (eb E) (eD E) (ec E) (eL E) (ea E) (tc_w E S) As M post) (cw : CallW R s args own RX6 index y bytes maxL ret wy rm 0 0 n) (hlen : As.length = n) (hsize : ls.size = nL) (hst : st = As.reverse ++ .ref (ea E (20, 0)) :: rest) (hW : 2 * (F0 m pc ls st).monitorRoom + (rest.map fun v => v.category).sum ≤ 8) (hdg : decode cc pc = .ok (.invokevirtual index, 3)) (hf : cells ≤ R.cells ∧ slots ≤ R.slots)
    (kk : ∀ (r : Int64) (M' : mm_S) (H1 : Heap) (locs1 : List Loc), post r M' → tc_ok (tm E M') S H1 → va_S (fun q => eb E ≤ q) s.heap H1 locs1 → W p l e R s m args below meth c H1 locs1 cells slots Q (F0 m (pc + 3) ls (.long r :: rest))) : W p l e R s m args below meth c H locs cells slots Q (F0 m pc ls st) := by
  have hd : tc_dm E := hH.2
  intro T hT X
  obtain ⟨v, st₀, t, T', L, h0, X', hL, e1, e2, ⟨⟨r, M', hv, hp, hb⟩, hz, hk⟩, g⟩ := va_runV (g := F0 m pc ls st) C.1 hM cw ⟨tl_blind, tl_recv C hH hm, fun U hU hW => ⟨rfl, by rw [hU]; exact Nat.le_trans C.2.2.1 hS.1, by rw [hU]; exact tl_mm hH hm, va_K.moved hW.alike C.hK⟩⟩ rfl hlen hsize hst hW hdg hf T hT X
  cases hv
  rw [h0] at hz hk
  obtain ⟨t2, a1, b1⟩ := kk r M' T'.heap (locs ++ L) hp (by rw [e1]; exact tl_tc hb hd)
    ⟨Nat.le_trans hS.1 (by rw [e1]; exact hz), fun q h1 h2 => by rw [e1, hk q (Nat.lt_of_lt_of_le h1 hS.1) h2]; exact hS.2.1 q h1 h2, fun q hq => by
      rcases List.mem_append.mp hq with h | h
      · exact hS.2.2 q h
      · exact hL q h⟩ T' rfl X'
  exact ⟨t2, g t2 a1, b1⟩
theorem tl_d {post : UInt64 → mm_S → Prop} (C : tc_C p m c cc nL s args own E) (hH : tc_ok (tm E M) S H) (hm : tl_m E) (hS : va_S (fun q => eb E ≤ q) s.heap H locs) (hM : mm_Md l y wy rm (eb E) (eD E) (ec E) (eL E) (ea E) (tc_w E S) As M post) (cw : CallW R s args own RX6 index y bytes maxL ret wy rm 0 0 n) (hlen : As.length = n) (hsize : ls.size = nL) (hst : st = As.reverse ++ .ref (ea E (20, 0)) :: rest) (hW : 2 * (F0 m pc ls st).monitorRoom + (rest.map fun v => v.category).sum ≤ 8) (hdg : decode cc pc = .ok (.invokevirtual index, 3)) (hf : cells ≤ R.cells ∧ slots ≤ R.slots)
    (kk : ∀ (r : UInt64) (M' : mm_S) (H1 : Heap) (locs1 : List Loc), post r M' → tc_ok (tm E M') S H1 → va_S (fun q => eb E ≤ q) s.heap H1 locs1 → W p l e R s m args below meth c H1 locs1 cells slots Q (F0 m (pc + 3) ls (.double r :: rest))) : W p l e R s m args below meth c H locs cells slots Q (F0 m pc ls st) := by
  have hd : tc_dm E := hH.2
  intro T hT X
  obtain ⟨v, st₀, t, T', L, h0, X', hL, e1, e2, ⟨⟨r, M', hv, hp, hb⟩, hz, hk⟩, g⟩ := va_runV (g := F0 m pc ls st) C.1 hM cw ⟨tl_blind, tl_recv C hH hm, fun U hU hW => ⟨rfl, by rw [hU]; exact Nat.le_trans C.2.2.1 hS.1, by rw [hU]; exact tl_mm hH hm, va_K.moved hW.alike C.hK⟩⟩ rfl hlen hsize hst hW hdg hf T hT X
  cases hv
  rw [h0] at hz hk
  obtain ⟨t2, a1, b1⟩ := kk r M' T'.heap (locs ++ L) hp (by rw [e1]; exact tl_tc hb hd)
    ⟨Nat.le_trans hS.1 (by rw [e1]; exact hz), fun q h1 h2 => by rw [e1, hk q (Nat.lt_of_lt_of_le h1 hS.1) h2]; exact hS.2.1 q h1 h2, fun q hq => by
      rcases List.mem_append.mp hq with h | h
      · exact hS.2.2 q h
      · exact hL q h⟩ T' rfl X'
  exact ⟨t2, g t2 a1, b1⟩
theorem tl_f {post : UInt32 → mm_S → Prop} (C : tc_C p m c cc nL s args own E) (hH : tc_ok (tm E M) S H) (hm : tl_m E) (hS : va_S (fun q => eb E ≤ q) s.heap H locs) (hM : mm_Mf l y wy rm (eb E) (eD E) (ec E) (eL E) (ea E) (tc_w E S) As M post) (cw : CallW R s args own RX6 index y bytes maxL ret wy rm 0 0 n) (hlen : As.length = n) (hsize : ls.size = nL) (hst : st = As.reverse ++ .ref (ea E (20, 0)) :: rest) (hW : 2 * (F0 m pc ls st).monitorRoom + (rest.map fun v => v.category).sum ≤ 8) (hdg : decode cc pc = .ok (.invokevirtual index, 3)) (hf : cells ≤ R.cells ∧ slots ≤ R.slots)
    (kk : ∀ (r : UInt32) (M' : mm_S) (H1 : Heap) (locs1 : List Loc), post r M' → tc_ok (tm E M') S H1 → va_S (fun q => eb E ≤ q) s.heap H1 locs1 → W p l e R s m args below meth c H1 locs1 cells slots Q (F0 m (pc + 3) ls (.float r :: rest))) : W p l e R s m args below meth c H locs cells slots Q (F0 m pc ls st) := by
  have hd : tc_dm E := hH.2
  intro T hT X
  obtain ⟨v, st₀, t, T', L, h0, X', hL, e1, e2, ⟨⟨r, M', hv, hp, hb⟩, hz, hk⟩, g⟩ := va_runV (g := F0 m pc ls st) C.1 hM cw ⟨tl_blind, tl_recv C hH hm, fun U hU hW => ⟨rfl, by rw [hU]; exact Nat.le_trans C.2.2.1 hS.1, by rw [hU]; exact tl_mm hH hm, va_K.moved hW.alike C.hK⟩⟩ rfl hlen hsize hst hW hdg hf T hT X
  cases hv
  rw [h0] at hz hk
  obtain ⟨t2, a1, b1⟩ := kk r M' T'.heap (locs ++ L) hp (by rw [e1]; exact tl_tc hb hd)
    ⟨Nat.le_trans hS.1 (by rw [e1]; exact hz), fun q h1 h2 => by rw [e1, hk q (Nat.lt_of_lt_of_le h1 hS.1) h2]; exact hS.2.1 q h1 h2, fun q hq => by
      rcases List.mem_append.mp hq with h | h
      · exact hS.2.2 q h
      · exact hL q h⟩ T' rfl X'
  exact ⟨t2, g t2 a1, b1⟩
/-- a wrapper called -/
theorem tl_w {post : Int32 → tc_E → tc_S → Prop} {kc ks : Nat} {hh : List (Nat × Nat × Nat × Nat)} (C : tc_C p m c cc nL s args own E) (hH : tc_ok (tm E M) S H) (hS : va_S (fun q => eb E ≤ q) s.heap H locs) (hM : tw_M l y wy rm (tm E M) As S post kc ks) (cw : vx_CSW R s args own index y bytes maxL ret hh wy rm kc ks n) (hlen : As.length = n) (hsize : ls.size = nL) (hst : st = As.reverse ++ rest) (hW : 2 * (F0 m pc ls st).monitorRoom + (rest.map fun v => v.category).sum ≤ 8) (hdg : decode cc pc = .ok (.invokestatic index, 3)) (hf : cells + kc ≤ R.cells ∧ slots + ks ≤ R.slots)
    (kk : ∀ (r : Int32) (E' : tc_E) (S' : tc_S) (H1 : Heap) (locs1 : List Loc), post r E' S' → tc_sim (tm E M) E' → tc_ok E' S' H1 → va_S (fun q => eb E ≤ q) s.heap H1 locs1 → W p l e R s m args below meth c H1 locs1 (cells + kc) (slots + ks) Q (F0 m (pc + 3) ls (.int r :: rest))) : W p l e R s m args below meth c H locs cells slots Q (F0 m pc ls st) := by
  have C2 := C.sim (tm_sim E M)
  intro T hT X
  have hA : ∀ q, q < H.size → eb E ≤ q → eb E ≤ q := fun _ _ h => h
  have hf2 : ∀ q, eb E ≤ q → eb E ≤ q := fun _ h => h
  rcases vx_runSX (g := F0 m pc ls st) C2.1 hM cw ⟨tc_blind, fun U hU hW => ⟨rfl, C2.preAt hH hS hU hW⟩⟩ rfl hlen hsize hst hW hdg hf T hT X with ⟨v, st₀, t, T', L, h0, X', hL, e1, e2, ⟨⟨r, E', S', hv, hp, hsm, hb⟩, hF⟩, g⟩ | ⟨q, st₀, t, T', L, E9, ce, h0, X', hL, e1, e2, hx, hce, hcv, hcl, g⟩
  · cases hv
    obtain ⟨k1, k2, k3⟩ := vx_keep h0 e1 hS hA hf2 hL hF
    obtain ⟨t2, a1, b1⟩ := kk r E' S' T'.heap (locs ++ L) hp hsm (by rw [e1]; exact hb) k3 T' rfl X'
    exact ⟨t2, g t2 a1, b1⟩
  · exact hx.elim
theorem tl_lald (C : tc_C p m c cc nL s args own E) (hH : tc_ok (tm E M) S H) (hL : (22, 0) ∈ eL E) {f : Nat → Int64} (he : ew E (22, 0) = .inl (ec E 2, 1, .inr (.inl f))) (hdg : decode cc pc = .ok (.laload, 1))
    (kk : W p l e R s m args below meth c H locs cells slots Q (F0 m (pc + 1) ls (.long (f (0 : Int32).toNatClampNeg) :: rest))) : W p l e R s m args below meth c H locs cells slots Q (F0 m pc ls (.int 0 :: .ref (ea E (22, 0)) :: rest)) :=
  gb_lald C.hx C.hb C.hK hH.1 2 (22, 0) hL (show tc_w (tm E M) S (22, 0) = _ from he) rfl (by unfold vp_in; decide) hdg kk
theorem tl_dald (C : tc_C p m c cc nL s args own E) (hH : tc_ok (tm E M) S H) (hL : (23, 0) ∈ eL E) {f : Nat → UInt64} (he : ew E (23, 0) = .inl (ec E 3, 1, .inr (.inr (.inr (.inl f))))) (hdg : decode cc pc = .ok (.daload, 1))
    (kk : W p l e R s m args below meth c H locs cells slots Q (F0 m (pc + 1) ls (.double (f (0 : Int32).toNatClampNeg) :: rest))) : W p l e R s m args below meth c H locs cells slots Q (F0 m pc ls (.int 0 :: .ref (ea E (23, 0)) :: rest)) := by
  obtain ⟨j, hi⟩ := List.getElem?_of_mem hL
  have hq := gb_at (ad := ea E) (w := tc_w (tm E M) S) hi
  rw [show tc_w (tm E M) S (23, 0) = ew E (23, 0) from rfl, he] at hq
  exact va_dald C.hx C.hb C.hK hH.1.1 j 3 hq rfl (by unfold vp_in; decide) hdg kk
/-- the four things that the law holds keep their places -/
def tl_same (E E2 : tc_E) : Prop := ea E2 (0, 0) = ea E (0, 0) ∧ ea E2 (20, 0) = ea E (20, 0) ∧ ea E2 (22, 0) = ea E (22, 0) ∧ ea E2 (23, 0) = ea E (23, 0)
theorem tl_sim2 {E E2 : tc_E} {M : mm_S} (h : tc_sim (tm E M) (tm E2 M)) : tc_sim E E2 := h
end TL

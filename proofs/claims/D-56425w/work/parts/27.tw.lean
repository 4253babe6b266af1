/-! THE LAW's WRAPPERS -/
set_option maxRecDepth 100000
/-- the place for an answer: a world that differs in what (22, 0) (longs), (23, 0) (doubles) hold -/
def tw_set (E : tc_E) (L : gb_L) (e : va_E) : tc_E := (E.1, E.2.1, E.2.2.1, E.2.2.2.1, E.2.2.2.2.1, gb_up E.2.2.2.2.2.1 L e, E.2.2.2.2.2.2.1, E.2.2.2.2.2.2.2)
def tw_L (e : va_E) (v : Int64) : va_E := match e with
  | .inl (c, n, .inr (.inl f)) => .inl (c, n, .inr (.inl (vp_updL f (0 : Int32).toNatClampNeg v)))
  | x => x
def tw_D (e : va_E) (v : UInt64) : va_E := match e with
  | .inl (c, n, .inr (.inr (.inr (.inl f)))) => .inl (c, n, .inr (.inr (.inr (.inl (vf_upd f (0 : Int32).toNatClampNeg v)))))
  | x => x
def tc_out (E : tc_E) (v : Int64) : tc_E := tw_set E (22, 0) (tw_L (ew E (22, 0)) v)
def tc_outD (E : tc_E) (v : UInt64) : tc_E := tw_set E (23, 0) (tw_D (ew E (23, 0)) v)
def tw_o (E E1 : tc_E) : Prop := (22, 0) ∈ eL E1 ∧ ea E1 (22, 0) = ea E (22, 0) ∧ ∃ f, ew E1 (22, 0) = .inl (ec E1 2, 1, .inr (.inl f))
def tw_oD (E E1 : tc_E) : Prop := (23, 0) ∈ eL E1 ∧ ea E1 (23, 0) = ea E (23, 0) ∧ ∃ f, ew E1 (23, 0) = .inl (ec E1 3, 1, .inr (.inr (.inr (.inl f))))
theorem tw_w (E : tc_E) (S : tc_S) (a b : Nat) (ha : 14 ≤ a) (e : va_E) : gb_up (tc_w E S) (a, b) e = tc_w (tw_set E (a, b) e) S := by
  funext L
  obtain ⟨x, y⟩ := L
  unfold gb_up
  match x with
  | 0 => rw [if_neg (fun q => by have := (Prod.mk.inj q).1; omega)]; cases y with | zero => rfl | succ y => simp only [tc_w, tw_set, ew, gb_up]; rw [if_neg (fun q => by have := (Prod.mk.inj q).1; omega)]
  | 1 => rw [if_neg (fun q => by have := (Prod.mk.inj q).1; omega)]; rfl
  | 2 => rw [if_neg (fun q => by have := (Prod.mk.inj q).1; omega)]; rfl
  | 3 => rw [if_neg (fun q => by have := (Prod.mk.inj q).1; omega)]; rfl
  | 4 => rw [if_neg (fun q => by have := (Prod.mk.inj q).1; omega)]; rfl
  | 5 => rw [if_neg (fun q => by have := (Prod.mk.inj q).1; omega)]; rfl
  | 6 => rw [if_neg (fun q => by have := (Prod.mk.inj q).1; omega)]; rfl
  | 7 => rw [if_neg (fun q => by have := (Prod.mk.inj q).1; omega)]; rfl
  | 8 => rw [if_neg (fun q => by have := (Prod.mk.inj q).1; omega)]; cases y with | zero => rfl | succ y => simp only [tc_w, tw_set, ew, gb_up]; rw [if_neg (fun q => by have := (Prod.mk.inj q).1; omega)]
  | 9 => rw [if_neg (fun q => by have := (Prod.mk.inj q).1; omega)]; cases y with | zero => rfl | succ y => simp only [tc_w, tw_set, ew, gb_up]; rw [if_neg (fun q => by have := (Prod.mk.inj q).1; omega)]
  | 10 => rw [if_neg (fun q => by have := (Prod.mk.inj q).1; omega)]; rfl
  | 11 => rw [if_neg (fun q => by have := (Prod.mk.inj q).1; omega)]; rfl
  | 12 => rw [if_neg (fun q => by have := (Prod.mk.inj q).1; omega)]; rfl
  | 13 => rw [if_neg (fun q => by have := (Prod.mk.inj q).1; omega)]; rfl
  | k + 14 => rfl
theorem tw_sim (E : tc_E) (L : gb_L) (e : va_E) : tc_sim E (tw_set E L e) := ⟨rfl, rfl, rfl, rfl⟩
theorem tw_ok {E : tc_E} {S : tc_S} {H : Heap} {a b : Nat} (ha : 14 ≤ a) {e : va_E} (hG : gb_W (eD E) gcl (fun q => eb E ≤ q) (eL E) (ea E) (gb_up (tc_w E S) (a, b) e) H) (hd : tc_dm E) : tc_ok (tw_set E (a, b) e) S H := by
  rw [tw_w E S a b ha e] at hG
  exact ⟨hG, hd⟩
section TW
variable {p : Program} {l : Launch} {e : Env} {R : Room} {s : State} {m : MethodId} {args : Array Value} {below : List Frame} {meth : Method} {c : Code} {H : Heap} {locs : List Loc} {cells slots mc ms kc ks : Nat} {Q : State → Prop}
variable {cc bytes : ByteArray} {pc nL index maxL n : Nat} {ls : Array Slot} {st rest As : List Value} {y : MethodName} {wy : List Cond} {rm : Room} {ret : Option FieldType}
variable {E E0 : tc_E} {S : tc_S} {own : String} {ex : String → tc_S → Prop} {a : Array Value} {hh : List (Nat × Nat × Nat × Nat)}
def tw_M (l : Launch) (y : MethodName) (ws : List Cond) (rm : Room) (E : tc_E) (As : List Value) (S : tc_S) (post : Int32 → tc_E → tc_S → Prop) (mc ms : Nat) : Prop := vx_Met l y ws rm (va_Pc As (tc_pre E S)) (ty_Q E (fun r : Int32 => some (.int r)) post) (fun _ _ _ => False) mc ms (fun q => eb E ≤ q)
theorem tw_start {post : Int32 → tc_E → tc_S → Prop} (cc : ByteArray) (maxL : Nat) (ret : Option FieldType) (hh : List (Nat × Nat × Nat × Nat)) (own : String) (hy : plainName y.cls = true) (hyc : y.cls = own) (hw : wy = Cond.codeWith y cc maxL ret hh :: lw_all) (hsz : (lg_sl As).length ≤ maxL)
    (body : ∀ (p : Program) (e : Env) (s : State) (m : MethodId) (args : Array Value) (below : List Frame) (meth : Method) (c : Code) (ls : Array Slot), tc_C p m c cc maxL s args own E → c.exceptionTable.toList = tableOf hh → meth.sig.returnType = ret → meth.locks = false → tc_ok E S s.heap → va_S (fun q => eb E ≤ q) s.heap s.heap [] → lv_has ls maxL (lv_args 0 As) → W p l e rm s m args below meth c s.heap [] 0 0 (vx_MQ below (ty_Q E (fun r : Int32 => some (.int r)) post) (fun _ _ _ => False) args s mc ms (fun q => eb E ≤ q)) (F0 m 0 ls [])) : tw_M l y wy rm E As S post mc ms := by
  refine vx_ofWH (cc := cc) (maxL := maxL) (ret := ret) (hh := hh) hy hw ?_
  intro p e s m args below meth c s₁ B hml hv
  obtain ⟨rfl, hb0, hH, hK, hZ⟩ := hv
  have hts := atoms_spec (ws := wy) B.pre
  have hts2 : ∀ w ∈ lw_all, w.before As.toArray s = true := fun w h => hts w (by rw [hw]; exact List.mem_cons_of_mem _ h)
  have htab := vx_table (x := y) B (hts (Cond.codeWith y cc maxL ret hh) (by rw [hw]; exact List.mem_cons_self))
  rw [lg_entry_eq]
  exact body p e s m _ below meth c _ ⟨⟨B.exec, B.bytes, hml, hyc ▸ findClass_of_methodNamed B.named, hts2⟩, hK, hb0, hZ⟩ htab B.returns B.notSynchronized hH va_S.rf (lv_entry _ hsz)
theorem ty_rV {α : Type} {val : α → Option Value} {post : α → tc_E → tc_S → Prop} {L : gb_L} {ci : Nat} {fs : List Value} {q : vw_C} (C : tc_C p m c cc nL s args own E) (hL : L ∈ eL E) (he : tc_w E S L = .inr (ci, fs)) (hc : gcl[ci]? = some q) (hM : ty_M l y wy rm E (.ref (ea E L) :: As) S val post ex kc ks) (cw : CallW R s args own q.1 index y bytes maxL ret wy rm kc ks n) (hH : tc_ok E S H) (hS : va_S (fun q => eb E ≤ q) s.heap H locs) (hn : As.length = n) (hsize : ls.size = nL) (hst : st = As.reverse ++ .ref (ea E L) :: rest) (hW : 2 * (F0 m pc ls st).monitorRoom + (rest.map fun v => v.category).sum ≤ 8) (hdg : decode cc pc = .ok (.invokevirtual index, 3)) (hf : cells + kc ≤ R.cells ∧ slots + ks ≤ R.slots) : vx_Run p l e R s m args below meth c H locs cells slots kc ks (F0 m pc ls st) rest (ty_Q E val post (Value.ref (ea E L) :: As).toArray) (tx_X E ex) (fun q => eb E ≤ q) :=
  vx_runV (g := F0 m pc ls st) C.1 hM cw ⟨tc_blind, tc_recv C.hK hH hL he hc, fun U hU hW => ⟨rfl, C.preAt hH hS hU hW⟩⟩ rfl hn hsize hst hW hdg hf
theorem ty_run {α : Type} {val : α → Option Value} {post : α → tc_E → tc_S → Prop} (hr : vx_Run p l e R s m args below meth c H locs cells slots kc ks (F0 m pc ls st) rest (ty_Q E val post a) (tx_X E ex) (fun q => eb E ≤ q)) (hS : va_S (fun q => eb E ≤ q) s.heap H locs)
    (kx : ∀ (X : String) (ce : Cell) (q9 : Addr) (S' : tc_S) (H1 : Heap) (locs1 : List Loc), ex X S' → tc_ok E S' H1 → va_S (fun q => eb E ≤ q) s.heap H1 locs1 → H1[q9]? = some ce → ce.vm = .none → s.vm.findClass X = some ce.cls → vx_W p l e R s m args below meth c H1 locs1 (cells + kc) (slots + ks) Q (F0 m pc ls rest) q9)
    (kk : ∀ (r : α) (E' : tc_E) (S' : tc_S) (H1 : Heap) (locs1 : List Loc), post r E' S' → tc_sim E E' → tc_ok E' S' H1 → va_S (fun q => eb E ≤ q) s.heap H1 locs1 → W p l e R s m args below meth c H1 locs1 (cells + kc) (slots + ks) Q (F0 m (pc + 3) ls ((val r).toList ++ rest))) : W p l e R s m args below meth c H locs cells slots Q (F0 m pc ls st) := by
  intro T hT X
  have hA : ∀ q, q < H.size → eb E ≤ q → eb E ≤ q := fun _ _ h => h
  have hf : ∀ q, eb E ≤ q → eb E ≤ q := fun _ h => h
  rcases hr T hT X with ⟨v, st₀, t, T', L, h0, X', hL, e1, e2, ⟨⟨r, E', S', hv, hp, hsm, hb⟩, hF⟩, g⟩ | ⟨q, st₀, t, T', L, E9, ce, h0, X', hL, e1, e2, ⟨⟨S', hp, hb⟩, hF⟩, hce, hcv, hcl, g⟩
  · cases hv
    obtain ⟨k1, k2, k3⟩ := vx_keep h0 e1 hS hA hf hL hF
    obtain ⟨t2, a1, b1⟩ := kk r E' S' T'.heap (locs ++ L) hp hsm (by rw [e1]; exact hb) k3 T' rfl X'
    exact ⟨t2, g t2 a1, b1⟩
  · obtain ⟨k1, k2, k3⟩ := vx_keep h0 e1 hS hA hf hL hF
    obtain ⟨t2, a1, b1⟩ := kx E9 ce q S' T'.heap (locs ++ L) hp (by rw [e1]; exact hb) k3 (by rw [e1]; exact hce) hcv hcl T' rfl X'
    exact ⟨t2, g.trans a1, b1⟩
theorem tw_last (C : tc_C p m c cc nL s args own E) (hH : tc_ok E S H) (hS : va_S (fun q => eb E ≤ q) s.heap H locs) (ho : tw_o E0 E) {x : Int64} (hdg : decode cc pc = .ok (.lastore, 1))
    (kk : ∀ (H1 : Heap) (locs1 : List Loc), tc_ok (tc_out E x) S H1 → va_S (fun q => eb E ≤ q) s.heap H1 locs1 → W p l e R s m args below meth c H1 locs1 cells slots Q (F0 m (pc + 1) ls rest)) : W p l e R s m args below meth c H locs cells slots Q (F0 m pc ls (.long x :: .int 0 :: .ref (ea E0 (22, 0)) :: rest)) := by
  obtain ⟨h1, h2, f, h3⟩ := ho
  rw [← h2]
  refine gb_last C.hx C.hb C.hK hH.1 hS 2 (22, 0) h1 h3 rfl (by unfold vp_in; decide) hdg (fun H1 locs1 g1 g2 => kk H1 locs1 ?_ g2)
  unfold tc_out
  rw [h3]
  exact tw_ok (by decide) g1 hH.2
theorem tw_dast (C : tc_C p m c cc nL s args own E) (hH : tc_ok E S H) (hS : va_S (fun q => eb E ≤ q) s.heap H locs) (ho : tw_oD E0 E) {x : UInt64} (hdg : decode cc pc = .ok (.dastore, 1))
    (kk : ∀ (H1 : Heap) (locs1 : List Loc), tc_ok (tc_outD E x) S H1 → va_S (fun q => eb E ≤ q) s.heap H1 locs1 → W p l e R s m args below meth c H1 locs1 cells slots Q (F0 m (pc + 1) ls rest)) : W p l e R s m args below meth c H locs cells slots Q (F0 m pc ls (.double x :: .int 0 :: .ref (ea E0 (23, 0)) :: rest)) := by
  obtain ⟨h1, h2, f, h3⟩ := ho
  rw [← h2]
  obtain ⟨j, hi⟩ := List.getElem?_of_mem h1
  have hq := gb_at (ad := ea E) (w := tc_w E S) hi
  rw [show tc_w E S (23, 0) = ew E (23, 0) from rfl, h3] at hq
  refine va_dast C.hx C.hb C.hK hH.1.1 hH.1.2.1 hS j 3 hq rfl (by unfold vp_in; decide) hdg (fun H1 locs1 g1 g2 g3 => kk H1 locs1 ?_ g3)
  rw [gb_set hH.1.2.2 hi] at g1 g2
  unfold tc_outD
  rw [h3]
  exact tw_ok (by decide) ⟨g1, g2, hH.1.2.2⟩ hH.2
end TW

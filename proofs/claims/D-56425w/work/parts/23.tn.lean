/-! CONSTRUCTORS: explicit worlds -/
set_option maxRecDepth 100000
def tn_pre (E : tc_E) (W0 : va_W) (sz : Nat) (U : State) : Prop := U.heap.size = sz ∧ eb E ≤ U.heap.size ∧ va_P (eD E) gcl W0 U.heap ∧ va_D (va_A W0 sz) W0 ∧ (∀ q, va_A W0 sz q → eb E ≤ q) ∧ va_K (eD E) gcl (gtys (ec E)) U ∧ tc_Z E U U.heap
def tn_Q {α : Type} (E : tc_E) (W0 : va_W) (sz : Nat) (val : α → Option Value) (post : α → va_W → Prop) : Array Value → State → Outcome → State → Prop := fun _ st oc t => (∃ (r : α) (W' : va_W), oc = .returned (val r) ∧ post r W' ∧ va_P (eD E) gcl W' t.heap ∧ va_D (va_A W0 sz) W') ∧ va_F (va_A W0 sz) st t
def tn_M {α : Type} (l : Launch) (y : MethodName) (ws : List Cond) (rm : Room) (E : tc_E) (As : List Value) (W0 : va_W) (sz : Nat) (val : α → Option Value) (post : α → va_W → Prop) (mc ms : Nat) : Prop := Met l y ws rm (va_Pc As (tn_pre E W0 sz)) (tn_Q E W0 sz val post) mc ms (va_A W0 sz)
section TN
variable {p : Program} {l : Launch} {e : Env} {R : Room} {s : State} {m : MethodId} {args : Array Value} {below : List Frame} {meth : Method} {c : Code} {H : Heap} {locs : List Loc} {cells slots mc ms : Nat} {Q : State → Prop}
variable {cc bytes : ByteArray} {pc nL index maxL n sz : Nat} {ls : Array Slot} {st rest As : List Value} {y : MethodName} {wy : List Cond} {rm : Room} {ret : Option FieldType}
variable {E : tc_E} {own : String} {W0 ws wc wr : va_W} {b : Addr}
theorem tn_blind {av : List Value} : FrameBlind (va_Pc av (tn_pre E W0 sz)) := fun a U g mk q => ⟨q.1, q.2.1, q.2.2.1, q.2.2.2.1, q.2.2.2.2.1, q.2.2.2.2.2.1, va_K.moved (u := U) (U := U.calling g mk a) (Vm.Alike.refl U.vm) q.2.2.2.2.2.2.1, tc_Z.same (s := U) (U := U.calling g mk a) rfl q.2.2.2.2.2.2.2⟩
theorem tn_start {α : Type} {val : α → Option Value} {post : α → va_W → Prop} (cc : ByteArray) (maxL : Nat) (ret : Option FieldType) (own : String) (hy : plainName y.cls = true) (hyc : y.cls = own) (hw : wy = Cond.code y cc maxL ret :: lw_all) (hsz : (lg_sl As).length ≤ maxL)
    (body : ∀ (p : Program) (e : Env) (s : State) (m : MethodId) (args : Array Value) (below : List Frame) (meth : Method) (c : Code) (ls : Array Slot), tc_C p m c cc maxL s args own E → (∃ x : MethodId, s.methodNamed? y = some x ∧ s.vm.method? x = some meth) → s.heap.size = sz → (∀ q, va_A W0 sz q → eb E ≤ q) → meth.sig.returnType = ret → meth.locks = false → va_P (eD E) gcl W0 s.heap → va_D (va_A W0 sz) W0 → va_S (va_A W0 sz) s.heap s.heap [] → lv_has ls maxL (lv_args 0 As) → W p l e rm s m args below meth c s.heap [] 0 0 (MQ below (tn_Q E W0 sz val post) args s mc ms (va_A W0 sz)) (F0 m 0 ls [])) : tn_M l y wy rm E As W0 sz val post mc ms := by
  refine Met.ofW (cc := cc) (maxL := maxL) (ret := ret) hy hw ?_
  intro p e s m args below meth c s₁ B hml hv
  obtain ⟨rfl, h1, h2, h3, h4, h5, h6, h7⟩ := hv
  have hts := atoms_spec (ws := wy) B.pre
  have hts2 : ∀ w ∈ lw_all, w.before As.toArray s = true := fun w h => hts w (by rw [hw]; exact List.mem_cons_of_mem _ h)
  rw [lg_entry_eq]
  exact body p e s m _ below meth c _ ⟨⟨B.exec, B.bytes, hml, hyc ▸ findClass_of_methodNamed B.named, hts2⟩, h6, h2, h7⟩ ⟨m, B.named, B.method⟩ h1 h5 B.returns B.notSynchronized h3 h4 va_S.rf (lv_entry _ hsz)
theorem tn_vret {α : Type} {val : α → Option Value} {post : α → va_W → Prop} (r : α) (hv : val r = none) (C : tc_C p m c cc nL s args own E) (hr : meth.sig.returnType = none) (hlk : meth.locks = false) (hP : va_P (eD E) gcl ws H) (hD : va_D (va_A W0 sz) ws) (hS : va_S (va_A W0 sz) s.heap H locs) (hk : post r ws) (hdg : decode cc pc = .ok (.return_, 1)) : W p l e R s m args below meth c H locs cells slots (MQ below (tn_Q E W0 sz val post) args s cells slots (va_A W0 sz)) (F0 m pc ls []) :=
  W.vret C.hx C.hb hr (fun t ht hW => ⟨⟨r, ws, by rw [hv], hk, by rw [ht]; exact hP, hD⟩, hS.F ht⟩) hS.2.2 hdg hlk
theorem tn_zret {α : Type} {val : α → Option Value} {post : α → va_W → Prop} {v : Int32} {ty : FieldType} (r : α) (hv : val r = some (.int v)) (C : tc_C p m c cc nL s args own E) (hr : meth.sig.returnType = some ty) (hlk : meth.locks = false) (hn : narrow ty (.int v) = .int v) (hP : va_P (eD E) gcl ws H) (hD : va_D (va_A W0 sz) ws) (hS : va_S (va_A W0 sz) s.heap H locs) (hk : post r ws) (hdg : decode cc pc = .ok (.ireturn, 1)) : W p l e R s m args below meth c H locs cells slots (MQ below (tn_Q E W0 sz val post) args s cells slots (va_A W0 sz)) (F0 m pc ls [.int v]) :=
  W.zret C.hx C.hb hr hn (fun t ht hW => ⟨⟨r, ws, by rw [hv], hk, by rw [ht]; exact hP, hD⟩, hS.F ht⟩) hS.2.2 hdg hlk
theorem tn_aret {α : Type} {val : α → Option Value} {post : α → va_W → Prop} {q : Nat} {t : FieldType} (r : α) (hv : val r = some (.ref q)) (C : tc_C p m c cc nL s args own E) (hr : meth.sig.returnType = some (.array t)) (hlk : meth.locks = false) (hP : va_P (eD E) gcl ws H) (hD : va_D (va_A W0 sz) ws) (hS : va_S (va_A W0 sz) s.heap H locs) (hk : post r ws) (hdg : decode cc pc = .ok (.areturn, 1)) : W p l e R s m args below meth c H locs cells slots (MQ below (tn_Q E W0 sz val post) args s cells slots (va_A W0 sz)) (F0 m pc ls [.ref q]) :=
  W.aret C.hx C.hb hr (Or.inr ⟨t, rfl⟩) (Or.inr ⟨q, rfl⟩) (fun t ht hW => ⟨⟨r, ws, by rw [hv], hk, by rw [ht]; exact hP, hD⟩, hS.F ht⟩) hS.2.2 hdg hlk
/-- the statics stay known -/
theorem tn_hq (hS : va_S (va_A W0 sz) s.heap H locs) (hbA : ∀ q, va_A W0 sz q → eb E ≤ q) : ∀ a : Nat, a < s.heap.size → ¬ eb E ≤ a → H[a]? = s.heap[a]? := fun a ha hb => hS.2.1 a ha (fun z => hb (hbA a z))
theorem tn_preAt {U : State} (C : tc_C p m c cc nL s args own E) (hsz : s.heap.size = sz) (hbA : ∀ q, va_A W0 sz q → eb E ≤ q) (hP : va_P (eD E) gcl ws H) (hD : va_D (va_A W0 sz) ws) (hS : va_S (va_A W0 sz) s.heap H locs) (isC : List Nat) (hC : isC.map (fun i => ws[i]?) = wc.map some) (hCf : isC.filterMap (fun i => ws[i]?) = wc) (hn : va_nd isC = true) (hU : U.heap = H) (hW : s.WarmedH U.vm) : tn_pre E wc H.size U := by
  have hF : ∀ q, va_A wc H.size q → va_A W0 sz q := va_free hD hS (fun q h => Or.inr (by rw [← hsz]; exact h)) isC hC
  refine ⟨by rw [hU], by rw [hU]; exact Nat.le_trans C.2.2.1 hS.1, by rw [hU]; exact hP.sub isC hCf, (hD.sub isC hn hC).self, fun q h => hbA q (hF q h), va_K.moved hW.alike C.hK, ?_⟩
  rw [hU]
  exact C.hZ.at hW (tn_hq hS hbA)
theorem tn_rI {α : Type} {val : α → Option Value} {post : α → va_W → Prop} (C : tc_C p m c cc nL s args own E) (hsz : s.heap.size = sz) (hbA : ∀ q, va_A W0 sz q → eb E ≤ q) (hP : va_P (eD E) gcl ws H) (hD : va_D (va_A W0 sz) ws) (hS : va_S (va_A W0 sz) s.heap H locs) (isC : List Nat) (hC : isC.map (fun i => ws[i]?) = wc.map some) (hCf : isC.filterMap (fun i => ws[i]?) = wc) (hn : va_nd isC = true) (hM : tn_M l y wy rm E (.ref b :: As) wc H.size val post mc ms) (cw : CallB R s args own index y bytes maxL none wy rm mc ms n ∧ y.name = "<init>" ∧ (Cond.instanceMethod y).before args s = true) (hlen : As.length = n) (hsize : ls.size = nL) (hst : st = As.reverse ++ .ref b :: rest) (hW : 2 * (F0 m pc ls st).monitorRoom + (rest.map fun v => v.category).sum ≤ 8) (hdg : decode cc pc = .ok (.invokespecial index, 3)) (hf : cells + mc ≤ R.cells ∧ slots + ms ≤ R.slots) : va_Run p l e R s m args below meth c H locs cells slots mc ms (F0 m pc ls st) rest (tn_Q E wc H.size val post (Value.ref b :: As).toArray) (va_A wc H.size) :=
  va_runI (g := F0 m pc ls st) C.1 hM cw ⟨tn_blind, fun U hU hW => ⟨rfl, tn_preAt C hsz hbA hP hD hS isC hC hCf hn hU hW⟩⟩ rfl hlen hsize hst hW hdg hf
theorem tn_rV {α : Type} {val : α → Option Value} {post : α → va_W → Prop} (C : tc_C p m c cc nL s args own E) (hsz : s.heap.size = sz) (hbA : ∀ q, va_A W0 sz q → eb E ≤ q) (hP : va_P (eD E) gcl ws H) (hD : va_D (va_A W0 sz) ws) (hS : va_S (va_A W0 sz) s.heap H locs) (isC : List Nat) (hC : isC.map (fun i => ws[i]?) = wc.map some) (hCf : isC.filterMap (fun i => ws[i]?) = wc) (hn : va_nd isC = true) {ci q0 : Nat} {fs : List Value} {q : vw_C} (he : ws[q0]? = some (b, .inr (ci, fs))) (hc : gcl[ci]? = some q) (hM : tn_M l y wy rm E (.ref b :: As) wc H.size val post mc ms) (cw : CallW R s args own q.1 index y bytes maxL ret wy rm mc ms n) (hlen : As.length = n) (hsize : ls.size = nL) (hst : st = As.reverse ++ .ref b :: rest) (hW : 2 * (F0 m pc ls st).monitorRoom + (rest.map fun v => v.category).sum ≤ 8) (hdg : decode cc pc = .ok (.invokevirtual index, 3)) (hf : cells + mc ≤ R.cells ∧ slots + ms ≤ R.slots) : va_Run p l e R s m args below meth c H locs cells slots mc ms (F0 m pc ls st) rest (tn_Q E wc H.size val post (Value.ref b :: As).toArray) (va_A wc H.size) :=
  va_runV (g := F0 m pc ls st) C.1 hM cw ⟨tn_blind, va_recv C.hK hP hc he, fun U hU hW => ⟨rfl, tn_preAt C hsz hbA hP hD hS isC hC hCf hn hU hW⟩⟩ rfl hlen hsize hst hW hdg hf
theorem tn_run {α : Type} {val : α → Option Value} {post : α → va_W → Prop} {a : Array Value} (hr : va_Run p l e R s m args below meth c H locs cells slots mc ms (F0 m pc ls st) rest (tn_Q E wc H.size val post a) (va_A wc H.size)) (hsz : s.heap.size = sz) (hP : va_P (eD E) gcl ws H) (hD : va_D (va_A W0 sz) ws) (hS : va_S (va_A W0 sz) s.heap H locs) (isC isR : List Nat) (hC : isC.map (fun i => ws[i]?) = wc.map some) (hR : isR.map (fun i => ws[i]?) = wr.map some) (hnR : va_nd isR = true) (hdis : ∀ i ∈ isR, i ∉ isC)
    (kk : ∀ (r : α) (W' : va_W) (H1 : Heap) (locs1 : List Loc), post r W' → va_P (eD E) gcl (wr ++ W') H1 → va_D (va_A W0 sz) (wr ++ W') → va_S (va_A W0 sz) s.heap H1 locs1 → W p l e R s m args below meth c H1 locs1 (cells + mc) (slots + ms) Q (F0 m (pc + 3) ls ((val r).toList ++ rest))) : W p l e R s m args below meth c H locs cells slots Q (F0 m pc ls st) := by
  intro T hT X
  obtain ⟨v, st₀, t, T', L, h0, X', hL, e1, e2, ⟨⟨r, W', hv, hp, hP1, hD1⟩, hz, hk⟩, g⟩ := hr T hT X
  cases hv
  rw [h0] at hz hk
  have hF : ∀ q, va_A wc H.size q → va_A W0 sz q := va_free hD hS (fun q h => Or.inr (by rw [← hsz]; exact h)) isC hC
  have hj := va_join hP hD isC isR hC hR hnR hdis (H1 := T'.heap) (w1 := W') (fun q h1 h2 => by rw [e1]; exact hk q h1 h2) hF (by rw [e1]; exact hP1) hD1
  obtain ⟨t2, a1, b1⟩ := kk r W' T'.heap (locs ++ L) hp hj.1 hj.2
    ⟨Nat.le_trans hS.1 (by rw [e1]; exact hz), fun q h1 h2 => by rw [e1, hk q (Nat.lt_of_lt_of_le h1 hS.1) (fun z => h2 (hF q z))]; exact hS.2.1 q h1 h2, fun q hq => by
      rcases List.mem_append.mp hq with h | h
      · exact hS.2.2 q h
      · exact hF _ (hL q h)⟩ T' rfl X'
  exact ⟨t2, g t2 a1, b1⟩
/-- a new array of ints -/
theorem tn_newI (C : tc_C p m c cc nL s args own E) (hsz : s.heap.size = sz) (hP : va_P (eD E) gcl ws H) (hD : va_D (va_A W0 sz) ws) (hS : va_S (va_A W0 sz) s.heap H locs) {n : Int32} {N' : Nat} (hn : ¬ n < 0) (hN : n.toNatClampNeg = N') (hb : N' ≤ 1000) (hcells : cells + 1 ≤ R.cells) (hslots : slots + N' ≤ R.slots) (hdg : decode cc pc = .ok (.newarray .int, 2))
    (kk : ∀ (q : Nat) (H1 : Heap), va_P (eD E) gcl (ws ++ [(q, .inl (ec E 0, N', .inl (fun _ => 0)))]) H1 → va_D (va_A W0 sz) (ws ++ [(q, .inl (ec E 0, N', .inl (fun _ => 0)))]) → va_S (va_A W0 sz) s.heap H1 locs → W p l e R s m args below meth c H1 locs (cells + 1) (slots + N') Q (F0 m (pc + 2) ls (.ref q :: rest))) : W p l e R s m args below meth c H locs cells slots Q (F0 m pc ls (.int n :: rest)) := by
  refine va_newa C.hx C.hb (atype := .int) (ty := .int) (a0 := (N', .inl (fun _ => 0))) (C.hts _ q207) rfl C.hK hP hD hS (fun q h => Or.inr (by rw [← hsz]; exact h)) (fun cA => rfl) hn hN (by show N' * 4 ≤ _; omega) hcells hslots hdg (fun q cA H1 hK h1 h2 h3 => ?_)
  have e1 : s.vm.findClass ("[" ++ (FieldType.int).toString) = some cA := (hK.2 6 _ rfl).2
  have e2 : s.vm.findClass ("[" ++ (FieldType.int).toString) = some (ec E 0) := (C.hK.2 0 _ rfl).2
  cases e1.symm.trans e2
  exact kk q H1 h1 h2 h3
/-- a new array of references -/
theorem tn_newQ (C : tc_C p m c cc nL s args own E) (hsz : s.heap.size = sz) (hP : va_P (eD E) gcl ws H) (hD : va_D (va_A W0 sz) ws) (hS : va_S (va_A W0 sz) s.heap H locs) (k : Nat) {Cn : String} (hk : (gtys (ec E))[k]? = some (ec E k, .object Cn)) (hlink : Cond.classLink own index Cn ∈ lw_all) (hover : va_AO Cn s) {n : Int32} {N' : Nat} (hn : ¬ n < 0) (hN : n.toNatClampNeg = N') (hb : N' ≤ 1000) (hcells : cells + 1 ≤ R.cells) (hslots : slots + N' ≤ R.slots) (hdg : decode cc pc = .ok (.anewarray index, 3))
    (kk : ∀ (q : Nat) (H1 : Heap), va_P (eD E) gcl (ws ++ [(q, tc_ref (ec E k) N' (fun _ => none))]) H1 → va_D (va_A W0 sz) (ws ++ [(q, tc_ref (ec E k) N' (fun _ => none))]) → va_S (va_A W0 sz) s.heap H1 locs → W p l e R s m args below meth c H1 locs (cells + 1) (slots + N') Q (F0 m (pc + 3) ls (.ref q :: rest))) : W p l e R s m args below meth c H locs cells slots Q (F0 m pc ls (.int n :: rest)) := by
  refine va_newq C.hx C.hb C.hown (C.hts _ hlink) hover C.hK hP hD hS (fun q h => Or.inr (by rw [← hsz]; exact h)) hn hN (by omega) hcells hslots hdg (fun q cA H1 hK h1 h2 h3 => ?_)
  obtain ⟨kA, comp, -, -, -, e1⟩ : va_RA s cA (.object Cn) := (hK.2 6 _ rfl).2
  obtain ⟨kA2, comp2, -, -, -, e2⟩ : va_RA s (ec E k) (.object Cn) := (C.hK.2 k _ hk).2
  cases e1.symm.trans e2
  exact kk q H1 h1 h2 h3
/-- a new object, its fields at their first values -/
theorem tn_new (C : tc_C p m c cc nL s args own E) (hsz : s.heap.size = sz) (hP : va_P (eD E) gcl ws H) (hD : va_D (va_A W0 sz) ws) (hS : va_S (va_A W0 sz) s.heap H locs) {Cn : String} {T : u_T} {N ci : Nat} (hin : ∀ w ∈ u_ws Cn T N, w ∈ lw_all) (ty : Nat → FieldType) (hty : ∀ k, k < N → parseFieldDescriptor (T k).2.2.1 = some (ty k)) (hcl : Cond.classLink own index Cn ∈ lw_all) (hinst : Cond.instantiable Cn N ∈ lw_all) (hini : Cond.initialized Cn ∈ lw_all) (hc : gcl[ci]? = some (Cn, T, N)) {fs : List Value} (hfs : ∀ j, j < N → defaultValue (ty j) = vp_V fs j) (hcells : cells + 1 ≤ R.cells) (hslots : slots + N ≤ R.slots) (hdg : decode cc pc = .ok (.new index, 3))
    (kk : ∀ (q : Nat) (H1 : Heap), va_P (eD E) gcl (ws ++ [(q, .inr (ci, fs))]) H1 → va_D (va_A W0 sz) (ws ++ [(q, .inr (ci, fs))]) → va_S (va_A W0 sz) s.heap H1 locs → W p l e R s m args below meth c H1 locs (cells + 1) (slots + N) Q (F0 m (pc + 3) ls (.ref q :: rest))) : W p l e R s m args below meth c H locs cells slots Q (F0 m pc ls rest) :=
  va_new C.hx C.hb C.hts hin ty hty C.hown (C.hts _ hcl) (C.hts _ hinst) (C.hts _ hini) C.hK hP hD hS (fun q h => Or.inr (by rw [← hsz]; exact h)) hc hfs hcells hslots hdg kk
theorem tn_empty (C : tc_C p m c cc nL s args own E) (hS : va_S (va_A W0 sz) s.heap H locs) (hbA : ∀ q, va_A W0 sz q → eb E ≤ q) (hlink : Cond.fieldLink own index "java/util/ArrayList" "DEFAULTCAPACITY_EMPTY_ELEMENTDATA" "[Ljava/lang/Object;" ∈ lw_all) (hdg : decode cc pc = .ok (.getstatic index, 3))
    (kk : W p l e R s m args below meth c H locs cells slots Q (F0 m (pc + 3) ls (.ref (es E 0) :: rest))) : W p l e R s m args below meth c H locs cells slots Q (F0 m pc ls rest) :=
  va_gets C.hx C.hb (C.hZ.2.1.narrow hbA) hS C.hown (C.hts _ hlink) (fun _ h => h) hdg kk
theorem tn_emptyLen (C : tc_C p m c cc nL s args own E) (hS : va_S (va_A W0 sz) s.heap H locs) (hbA : ∀ q, va_A W0 sz q → eb E ≤ q) (hdg : decode cc pc = .ok (.arraylength, 1))
    (kk : W p l e R s m args below meth c H locs cells slots Q (F0 m (pc + 1) ls (.int 0 :: rest))) : W p l e R s m args below meth c H locs cells slots Q (F0 m pc ls (.ref (es E 0) :: rest)) :=
  va_tlen C.hx C.hb (C.hZ.2.2.1.narrow hbA) hS rfl hdg kk
end TN

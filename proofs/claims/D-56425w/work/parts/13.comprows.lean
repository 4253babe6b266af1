/-! COMPONENT: contracts, calls, rows -/
set_option maxRecDepth 100000
def tc_base : Nat → Int32
  | 0 => 64
  | 1 => 68
  | 2 => 72
  | 3 => 76
  | 4 => 81
  | 5 => 85
  | 6 => 90
  | 7 => 96
  | 8 => 102
  | 9 => 108
  | 10 => 114
  | _ => 121
/-- the steps of the keys -/
def tc_step (k : Nat) : Int32 := tc_base (k % 12) * nI (2 ^ (k / 12))
def tc_Z (E : tc_E) (U : State) (H : Heap) : Prop := tc_N U ∧ va_Z "java/util/ArrayList" "DEFAULTCAPACITY_EMPTY_ELEMENTDATA" "[Ljava/lang/Object;" (.ref (es E 0)) (fun q => eb E ≤ q) U H ∧ va_T (.object "java/lang/Object") (es E 0) 0 (fun _ => .null) (fun q => eb E ≤ q) U H ∧ va_Z "ToneGraph" "STEPS" "[I" (.ref (es E 1)) (fun q => eb E ≤ q) U H ∧ va_T .int (es E 1) 60 (fun j => .int (tc_step j)) (fun q => eb E ≤ q) U H ∧ vx_Zq Bundle.tN "UNASSIGNED_STACK" Bundle.steD (fun q => eb E ≤ q) U H ∧ vx_Zq Bundle.tN "SUPPRESSED_SENTINEL" Bundle.listD (fun q => eb E ≤ q) U H ∧ tc_LF E U H
theorem tc_Z.at {E : tc_E} {s U : State} {H : Heap} (hW : s.WarmedH U.vm) (hq : ∀ a : Nat, a < s.heap.size → ¬ eb E ≤ a → H[a]? = s.heap[a]?) (h : tc_Z E s s.heap) : tc_Z E U H := by
  obtain ⟨h1, h2, h3, h4, h5, h6, h7, h8⟩ := h
  exact ⟨h1.warm hW, (h2.kept hq).moved hW.alike, (h3.kept hq).moved hW.alike, (h4.kept hq).moved hW.alike, (h5.kept hq).moved hW.alike, (h6.kept hq).moved hW.alike, (h7.kept hq).moved hW.alike, h8.at hW hq⟩
theorem tc_Z.same {E : tc_E} {s U : State} {H : Heap} (hv : s.vm = U.vm) (h : tc_Z E s H) : tc_Z E U H := by
  obtain ⟨h1, h2, h3, h4, h5, h6, h7, h8⟩ := h
  have hA : s.vm.Alike U.vm := by rw [hv]; exact Vm.Alike.refl _
  exact ⟨h1.same hv, h2.moved hA, h3.moved hA, h4.moved hA, h5.moved hA, h6.moved hA, h7.moved hA, h8.same hv⟩
def tc_pre (E : tc_E) (S : tc_S) (U : State) : Prop := eb E ≤ U.heap.size ∧ tc_ok E S U.heap ∧ va_K (eD E) gcl (gtys (ec E)) U ∧ tc_Z E U U.heap
def tc_Qg {α : Type} (E : tc_E) (val : α → Option Value) (post : α → tc_S → Prop) : Array Value → State → Outcome → State → Prop := fun _ st oc t => (∃ (r : α) (S' : tc_S), oc = .returned (val r) ∧ post r S' ∧ tc_ok E S' t.heap) ∧ va_F (fun q => eb E ≤ q) st t
def tc_M {α : Type} (l : Launch) (y : MethodName) (ws : List Cond) (rm : Room) (E : tc_E) (As : List Value) (S : tc_S) (val : α → Option Value) (post : α → tc_S → Prop) : Prop := Met l y ws rm (va_Pc As (tc_pre E S)) (tc_Qg E val post) 0 0 (fun q => eb E ≤ q)
def tc_C (p : Program) (m : MethodId) (c : Code) (cc : ByteArray) (nL : Nat) (s : State) (args : Array Value) (own : String) (E : tc_E) : Prop := CallFix p m c cc nL s args lw_all own ∧ va_K (eD E) gcl (gtys (ec E)) s ∧ eb E ≤ s.heap.size ∧ tc_Z E s s.heap
/-- a field's link, a nest mate's or not -/
def tc_lk (own : String) (index : Nat) (ref n d : String) (args : Array Value) (s : State) : Prop := (Cond.fieldLink own index ref n d).before args s = true ∨ ∃ host : String, (Cond.fieldLinkNest own index ref n d host).before args s = true
section TCR
variable {p : Program} {l : Launch} {e : Env} {R : Room} {s : State} {m : MethodId} {args : Array Value} {below : List Frame} {meth : Method} {c : Code} {H : Heap} {locs : List Loc} {cells slots : Nat} {Q : State → Prop}
variable {cc bytes : ByteArray} {pc nL index maxL n : Nat} {ls : Array Slot} {st rest As : List Value} {y : MethodName} {ws : List Cond} {rm : Room} {ret : Option FieldType}
variable {E : tc_E} {S : tc_S} {own : String}
theorem tc_C.hx (C : tc_C p m c cc nL s args own E) : p.tables.exec = Jvm.exec := C.1.1
theorem tc_C.hb (C : tc_C p m c cc nL s args own E) : c.code = cc := C.1.2.1
theorem tc_C.hml (C : tc_C p m c cc nL s args own E) : c.maxLocals = nL := C.1.2.2.1
theorem tc_C.hown (C : tc_C p m c cc nL s args own E) : s.vm.findClass own = some m.cls := C.1.2.2.2.1
theorem tc_C.hts (C : tc_C p m c cc nL s args own E) : ∀ w ∈ lw_all, w.before args s = true := C.1.2.2.2.2
theorem tc_C.hK (C : tc_C p m c cc nL s args own E) : va_K (eD E) gcl (gtys (ec E)) s := C.2.1
theorem tc_C.hZ (C : tc_C p m c cc nL s args own E) : tc_Z E s s.heap := C.2.2.2
theorem tc_C.nw (C : tc_C p m c cc nL s args own E) (i : Nat) {w : Cond} (hi : tc_words[i]? = some w) : va_Nw w s := C.2.2.2.1.at i hi
theorem tc_C.L {ref n d : String} (C : tc_C p m c cc nL s args own E) (h : Cond.fieldLink own index ref n d ∈ lw_all) : tc_lk own index ref n d args s := Or.inl (C.hts _ h)
theorem tc_C.N {ref n d host : String} (C : tc_C p m c cc nL s args own E) (i : Nat) (hi : tc_words[i]? = some (.fieldLinkNest own index ref n d host)) : tc_lk own index ref n d args s := Or.inr ⟨host, va_Nw.use rfl (C.nw i hi)⟩
theorem tc_C.preAt {U : State} (C : tc_C p m c cc nL s args own E) (hH : tc_ok E S H) (hS : va_S (fun q => eb E ≤ q) s.heap H locs) (hU : U.heap = H) (hW : s.WarmedH U.vm) : tc_pre E S U := by
  refine ⟨by rw [hU]; exact Nat.le_trans C.2.2.1 hS.1, by rw [hU]; exact hH, va_K.moved hW.alike C.hK, ?_⟩
  rw [hU]
  exact C.hZ.at hW hS.2.1
theorem tc_blind {av : List Value} : FrameBlind (va_Pc av (tc_pre E S)) := fun a U g mk q => ⟨q.1, q.2.1, q.2.2.1, va_K.moved (u := U) (U := U.calling g mk a) (Vm.Alike.refl U.vm) q.2.2.2.1, tc_Z.same (s := U) (U := U.calling g mk a) rfl q.2.2.2.2⟩
theorem tc_recv {L : gb_L} {ci : Nat} {fs : List Value} {q : vw_C} (hK : va_K (eD E) gcl (gtys (ec E)) s) (hH : tc_ok E S H) (hL : L ∈ eL E) (he : tc_w E S L = .inr (ci, fs)) (hc : gcl[ci]? = some q) : ∃ cell : Cell, H[ea E L]? = some cell ∧ cell.vm.isStatics = false ∧ s.vm.findClass q.1 = some cell.cls :=
  va_recv (ws := [(ea E L, .inr (ci, fs))]) (ci := ci) (q0 := 0) hK (gb_one hH.1 hL he) hc rfl
/-- the call goes on -/
theorem tc_run {α : Type} {val : α → Option Value} {post : α → tc_S → Prop} {a : Array Value} {mc ms : Nat} (hr : va_Run p l e R s m args below meth c H locs cells slots mc ms (F0 m pc ls st) rest (tc_Qg E val post a) (fun q => eb E ≤ q)) (hS : va_S (fun q => eb E ≤ q) s.heap H locs)
    (kk : ∀ (r : α) (S' : tc_S) (H1 : Heap) (locs1 : List Loc), post r S' → tc_ok E S' H1 → va_S (fun q => eb E ≤ q) s.heap H1 locs1 → W p l e R s m args below meth c H1 locs1 (cells + mc) (slots + ms) Q (F0 m (pc + 3) ls ((val r).toList ++ rest))) : W p l e R s m args below meth c H locs cells slots Q (F0 m pc ls st) := by
  intro T hT X
  obtain ⟨v, st₀, t, T', L, h0, X', hL, e1, e2, ⟨⟨r, S', hv, hp, hb⟩, hz, hk⟩, st⟩ := hr T hT X
  cases hv
  rw [h0] at hz hk
  obtain ⟨t2, a1, b1⟩ := kk r S' T'.heap (locs ++ L) hp (by rw [e1]; exact hb)
    ⟨Nat.le_trans hS.1 (by rw [e1]; exact hz), fun q h1 h2 => by rw [e1, hk q (Nat.lt_of_lt_of_le h1 hS.1) h2]; exact hS.2.1 q h1 h2, fun q hq => by
      rcases List.mem_append.mp hq with h | h
      · exact hS.2.2 q h
      · exact hL q h⟩ T' rfl X'
  exact ⟨t2, st t2 a1, b1⟩
theorem tc_rV {α : Type} {val : α → Option Value} {post : α → tc_S → Prop} {L : gb_L} {ci : Nat} {fs : List Value} {q : vw_C} (C : tc_C p m c cc nL s args own E) (hL : L ∈ eL E) (he : tc_w E S L = .inr (ci, fs)) (hc : gcl[ci]? = some q) (hM : tc_M l y ws rm E (.ref (ea E L) :: As) S val post) (cw : CallW R s args own q.1 index y bytes maxL ret ws rm 0 0 n) (hH : tc_ok E S H) (hS : va_S (fun q => eb E ≤ q) s.heap H locs) (hn : As.length = n) (hsize : ls.size = nL) (hst : st = As.reverse ++ .ref (ea E L) :: rest) (hW : 2 * (F0 m pc ls st).monitorRoom + (rest.map fun v => v.category).sum ≤ 8) (hdg : decode cc pc = .ok (.invokevirtual index, 3)) (hf : cells ≤ R.cells ∧ slots ≤ R.slots) : va_Run p l e R s m args below meth c H locs cells slots 0 0 (F0 m pc ls st) rest (tc_Qg E val post (Value.ref (ea E L) :: As).toArray) (fun q => eb E ≤ q) :=
  va_runV (g := F0 m pc ls st) C.1 hM cw ⟨tc_blind, tc_recv C.hK hH hL he hc, fun U hU hW => ⟨rfl, C.preAt hH hS hU hW⟩⟩ rfl hn hsize hst hW hdg hf
theorem tc_rU {α : Type} {val : α → Option Value} {post : α → tc_S → Prop} {L : gb_L} {ci : Nat} {fs : List Value} {q : vw_C} {owner : String} {x : MethodName} (C : tc_C p m c cc nL s args own E) (hL : L ∈ eL E) (he : tc_w E S L = .inr (ci, fs)) (hc : gcl[ci]? = some q) (hM : tc_M l y ws rm E (.ref (ea E L) :: As) S val post) (cw : va_CU R s args own q.1 owner index x y bytes maxL ret ws rm 0 0 n) (hH : tc_ok E S H) (hS : va_S (fun q => eb E ≤ q) s.heap H locs) (hn : As.length = n) (hsize : ls.size = nL) (hst : st = As.reverse ++ .ref (ea E L) :: rest) (hW : 2 * (F0 m pc ls st).monitorRoom + (rest.map fun v => v.category).sum ≤ 8) (hdg : decode cc pc = .ok (.invokevirtual index, 3)) (hf : cells ≤ R.cells ∧ slots ≤ R.slots) : va_Run p l e R s m args below meth c H locs cells slots 0 0 (F0 m pc ls st) rest (tc_Qg E val post (Value.ref (ea E L) :: As).toArray) (fun q => eb E ≤ q) :=
  va_runU (g := F0 m pc ls st) C.1 hM cw ⟨tc_blind, tc_recv C.hK hH hL he hc, fun U hU hW => ⟨rfl, C.preAt hH hS hU hW⟩⟩ rfl hn hsize hst hW hdg hf
theorem tc_rS {α : Type} {val : α → Option Value} {post : α → tc_S → Prop} (C : tc_C p m c cc nL s args own E) (hM : tc_M l y ws rm E As S val post) (cw : CallB R s args own index y bytes maxL ret ws rm 0 0 n ∧ (Cond.static y).before args s = true) (hH : tc_ok E S H) (hS : va_S (fun q => eb E ≤ q) s.heap H locs) (hn : As.length = n) (hsize : ls.size = nL) (hst : st = As.reverse ++ rest) (hW : 2 * (F0 m pc ls st).monitorRoom + (rest.map fun v => v.category).sum ≤ 8) (hdg : decode cc pc = .ok (.invokestatic index, 3)) (hf : cells ≤ R.cells ∧ slots ≤ R.slots) : va_Run p l e R s m args below meth c H locs cells slots 0 0 (F0 m pc ls st) rest (tc_Qg E val post As.toArray) (fun q => eb E ≤ q) :=
  va_runS (g := F0 m pc ls st) C.1 hM cw ⟨tc_blind, fun U hU hW => ⟨rfl, C.preAt hH hS hU hW⟩⟩ rfl hn hsize hst hW hdg hf
theorem gb_callN {post : Int32 → Prop} {host : String} (S : CallFix p m c cc nL s args lw_all own) (hM : gb_Ps l y ws rm As post) (cw : va_CN R s args own index y host bytes maxL ret ws rm 0 0 n ∧ (Cond.static y).before args s = true ∧ True) (hn : As.length = n) (hsize : ls.size = nL) (hst : st = As.reverse ++ rest) (hW : 2 * (F0 m pc ls st).monitorRoom + (rest.map fun v => v.category).sum ≤ 8) (hdg : decode cc pc = .ok (.invokestatic index, 3)) (hf : cells ≤ R.cells ∧ slots ≤ R.slots)
    (kk : ∀ r : Int32, post r → W p l e R s m args below meth c H locs cells slots Q (F0 m (pc + 3) ls (.int r :: rest))) : W p l e R s m args below meth c H locs cells slots Q (F0 m pc ls st) := by
  intro T hT X
  obtain ⟨v, st₀, t, T', L, h0, X', hL, e1, -, ⟨r, hv, hp, hh⟩, st⟩ := va_runSN (g := F0 m pc ls st) S hM cw ⟨fun a U g mk q => q, fun U hU hW => ⟨rfl, trivial⟩⟩ rfl hn hsize hst hW hdg hf T hT X
  cases hv
  obtain ⟨t2, a1, b1⟩ := kk r hp T' (by rw [e1, hh, h0]) (Stand.forget X' (fun q h => (hL q h).elim))
  exact ⟨t2, st t2 a1, b1⟩
theorem tc_start {α : Type} {val : α → Option Value} {post : α → tc_S → Prop} (cc : ByteArray) (maxL : Nat) (ret : Option FieldType) (own : String) (hy : plainName y.cls = true) (hyc : y.cls = own) (hw : ws = Cond.code y cc maxL ret :: lw_all) (hsz : (lg_sl As).length ≤ maxL)
    (body : ∀ (p : Program) (e : Env) (s : State) (m : MethodId) (args : Array Value) (below : List Frame) (meth : Method) (c : Code) (ls : Array Slot), tc_C p m c cc maxL s args own E → s.methodNamed? y = some m → meth.sig.returnType = ret → meth.locks = false → tc_ok E S s.heap → va_S (fun q => eb E ≤ q) s.heap s.heap [] → lv_has ls maxL (lv_args 0 As) → W p l e rm s m args below meth c s.heap [] 0 0 (MQ below (tc_Qg E val post) args s 0 0 (fun q => eb E ≤ q)) (F0 m 0 ls [])) : tc_M l y ws rm E As S val post := by
  refine Met.ofW (cc := cc) (maxL := maxL) (ret := ret) hy hw ?_
  intro p e s m args below meth c s₁ B hml hv
  obtain ⟨rfl, hb0, hH, hK, hZ⟩ := hv
  have hts := atoms_spec (ws := ws) B.pre
  have hts2 : ∀ w ∈ lw_all, w.before As.toArray s = true := fun w h => hts w (by rw [hw]; exact List.mem_cons_of_mem _ h)
  rw [lg_entry_eq]
  exact body p e s m _ below meth c _ ⟨⟨B.exec, B.bytes, hml, hyc ▸ findClass_of_methodNamed B.named, hts2⟩, hK, hb0, hZ⟩ B.named B.returns B.notSynchronized hH va_S.rf (lv_entry _ hsz)
theorem tc_iret {α : Type} {val : α → Option Value} {post : α → tc_S → Prop} {v : Int32} (r : α) (hv : val r = some (.int v)) (C : tc_C p m c cc nL s args own E) (hr : meth.sig.returnType = some .int) (hlk : meth.locks = false) (hH : tc_ok E S H) (hS : va_S (fun q => eb E ≤ q) s.heap H locs) (hk : post r S) (hdg : decode cc pc = .ok (.ireturn, 1)) : W p l e R s m args below meth c H locs cells slots (MQ below (tc_Qg E val post) args s cells slots (fun q => eb E ≤ q)) (F0 m pc ls [.int v]) :=
  W.iret C.hx C.hb hr (fun t ht hW => ⟨⟨r, S, by rw [hv], hk, by rw [ht]; exact hH⟩, hS.F ht⟩) hS.2.2 hdg hlk
theorem tc_zret {α : Type} {val : α → Option Value} {post : α → tc_S → Prop} {v : Int32} {ty : FieldType} (r : α) (hv : val r = some (.int v)) (C : tc_C p m c cc nL s args own E) (hr : meth.sig.returnType = some ty) (hlk : meth.locks = false) (hn : narrow ty (.int v) = .int v) (hH : tc_ok E S H) (hS : va_S (fun q => eb E ≤ q) s.heap H locs) (hk : post r S) (hdg : decode cc pc = .ok (.ireturn, 1)) : W p l e R s m args below meth c H locs cells slots (MQ below (tc_Qg E val post) args s cells slots (fun q => eb E ≤ q)) (F0 m pc ls [.int v]) :=
  W.zret C.hx C.hb hr hn (fun t ht hW => ⟨⟨r, S, by rw [hv], hk, by rw [ht]; exact hH⟩, hS.F ht⟩) hS.2.2 hdg hlk
theorem tc_lret {α : Type} {val : α → Option Value} {post : α → tc_S → Prop} {v : Int64} (r : α) (hv : val r = some (.long v)) (C : tc_C p m c cc nL s args own E) (hr : meth.sig.returnType = some .long) (hlk : meth.locks = false) (hH : tc_ok E S H) (hS : va_S (fun q => eb E ≤ q) s.heap H locs) (hk : post r S) (hdg : decode cc pc = .ok (.lreturn, 1)) : W p l e R s m args below meth c H locs cells slots (MQ below (tc_Qg E val post) args s cells slots (fun q => eb E ≤ q)) (F0 m pc ls [.long v]) :=
  W.lret C.hx C.hb hr (fun t ht hW => ⟨⟨r, S, by rw [hv], hk, by rw [ht]; exact hH⟩, hS.F ht⟩) hS.2.2 hdg hlk
theorem tc_vret {α : Type} {val : α → Option Value} {post : α → tc_S → Prop} (r : α) (hv : val r = none) (C : tc_C p m c cc nL s args own E) (hr : meth.sig.returnType = none) (hlk : meth.locks = false) (hH : tc_ok E S H) (hS : va_S (fun q => eb E ≤ q) s.heap H locs) (hk : post r S) (hdg : decode cc pc = .ok (.return_, 1)) : W p l e R s m args below meth c H locs cells slots (MQ below (tc_Qg E val post) args s cells slots (fun q => eb E ≤ q)) (F0 m pc ls []) :=
  W.vret C.hx C.hb hr (fun t ht hW => ⟨⟨r, S, by rw [hv], hk, by rw [ht]; exact hH⟩, hS.F ht⟩) hS.2.2 hdg hlk
theorem tc_aret {α : Type} {val : α → Option Value} {post : α → tc_S → Prop} {v : Value} {nm : String} (r : α) (hv : val r = some v) (hv2 : v = .null ∨ ∃ a, v = .ref a) (C : tc_C p m c cc nL s args own E) (hr : meth.sig.returnType = some (.object nm)) (hlk : meth.locks = false) (hH : tc_ok E S H) (hS : va_S (fun q => eb E ≤ q) s.heap H locs) (hk : post r S) (hdg : decode cc pc = .ok (.areturn, 1)) : W p l e R s m args below meth c H locs cells slots (MQ below (tc_Qg E val post) args s cells slots (fun q => eb E ≤ q)) (F0 m pc ls [v]) :=
  W.aret C.hx C.hb hr (Or.inl ⟨nm, rfl⟩) hv2 (fun t ht hW => ⟨⟨r, S, by rw [hv], hk, by rw [ht]; exact hH⟩, hS.F ht⟩) hS.2.2 hdg hlk
/-! fields -/
theorem tc_get (C : tc_C p m c cc nL s args own E) (hH : tc_ok E S H) {L : gb_L} (hL : L ∈ eL E) {ref Cn : String} {T : u_T} {N ci : Nat} {fs : List Value} (hin : ∀ w ∈ u_ws Cn T N, w ∈ lw_all) (he : tc_w E S L = .inr (ci, fs)) (hc : gcl[ci]? = some (Cn, T, N)) (k : Nat) (hk : k < N) (hlk : tc_lk own index ref (T k).2.1 (T k).2.2.1 args s) (hsame : ∀ x, s.fieldFound? (T k).1 (T k).2.1 (T k).2.2.1 = some x → s.fieldFound? ref (T k).2.1 (T k).2.2.1 = some x) {v : Value} (hv : fs[k]? = some v) (hdg : decode cc pc = .ok (.getfield index, 3))
    (kk : W p l e R s m args below meth c H locs cells slots Q (F0 m (pc + 3) ls (v :: rest))) : W p l e R s m args below meth c H locs cells slots Q (F0 m pc ls (.ref (ea E L) :: rest)) := by
  obtain ⟨i, hi⟩ := List.getElem?_of_mem hL
  have hq := gb_at (ad := ea E) (w := tc_w E S) hi
  rw [he] at hq
  rcases hlk with h | ⟨host, h⟩
  · exact va_get C.hx C.hb C.hts hin C.hown C.hK hH.1.1 i hq hc k hk h hsame hv hdg kk
  · exact va_getN C.hx C.hb C.hts hin C.hown C.hK hH.1.1 i hq hc k hk h hsame hv hdg kk
theorem tc_put (C : tc_C p m c cc nL s args own E) (hH : tc_ok E S H) (hS : va_S (fun q => eb E ≤ q) s.heap H locs) {L : gb_L} (hL : L ∈ eL E) {ref Cn : String} {T : u_T} {N ci : Nat} {fs : List Value} (hin : ∀ w ∈ u_ws Cn T N, w ∈ lw_all) (ty0 : Nat → FieldType) (hty : ∀ k, k < N → parseFieldDescriptor (T k).2.2.1 = some (ty0 k)) (hnm : ∀ a, a < N → ∀ b, b < N → a ≠ b → (T a).2.1 ≠ (T b).2.1) (he : tc_w E S L = .inr (ci, fs)) (hc : gcl[ci]? = some (Cn, T, N)) (k : Nat) (hk : k < N) (hlk : tc_lk own index ref (T k).2.1 (T k).2.2.1 args s) (hsame : ∀ x, s.fieldFound? (T k).1 (T k).2.1 (T k).2.2.1 = some x → s.fieldFound? ref (T k).2.1 (T k).2.2.1 = some x) (hfin : (T k).2.2.2 = false) {v : Value} (hn : narrow (ty0 k) v = v) (hfit : fits (ty0 k) v = true) (hl : k < fs.length) {S1 : tc_S} (hE : gb_up (tc_w E S) L (.inr (ci, fs.set k v)) = tc_w E S1) (hdg : decode cc pc = .ok (.putfield index, 3))
    (kk : ∀ (S' : tc_S), S' = S1 → ∀ (H1 : Heap) (locs1 : List Loc), tc_ok E S' H1 → va_S (fun q => eb E ≤ q) s.heap H1 locs1 → W p l e R s m args below meth c H1 locs1 cells slots Q (F0 m (pc + 3) ls rest)) : W p l e R s m args below meth c H locs cells slots Q (F0 m pc ls (v :: .ref (ea E L) :: rest)) := by
  obtain ⟨i, hi⟩ := List.getElem?_of_mem hL
  have hq := gb_at (ad := ea E) (w := tc_w E S) hi
  rw [he] at hq
  have fin : ∀ (H1 : Heap) (locs1 : List Loc), va_P (eD E) gcl ((gb_wl (eL E) (ea E) (tc_w E S)).set i (ea E L, .inr (ci, fs.set k v))) H1 → va_D (fun q => eb E ≤ q) ((gb_wl (eL E) (ea E) (tc_w E S)).set i (ea E L, .inr (ci, fs.set k v))) → va_S (fun q => eb E ≤ q) s.heap H1 locs1 → W p l e R s m args below meth c H1 locs1 cells slots Q (F0 m (pc + 3) ls rest) := by
    intro H1 locs1 h1 h2 h3
    rw [gb_set hH.1.2.2 hi, hE] at h1 h2
    exact kk S1 rfl H1 locs1 ⟨⟨h1, h2, hH.1.2.2⟩, hH.2⟩ h3
  rcases hlk with h | ⟨host, h⟩
  · exact va_put C.hx C.hb C.hts hin ty0 hty hnm C.hown C.hK hH.1.1 hH.1.2.1 hS i hq hc k hk h hsame hfin (hty k hk) hn hfit hl hdg fin
  · exact va_putN C.hx C.hb C.hts hin ty0 hty hnm C.hown C.hK hH.1.1 hH.1.2.1 hS i hq hc k hk h hsame hfin (hty k hk) hn hfit hl hdg fin
/-! arrays of numbers -/
theorem tc_ald (C : tc_C p m c cc nL s args own E) (hH : tc_ok E S H) {L : gb_L} (hL : L ∈ eL E) {N : Nat} {f : Nat → Int32} (he : tc_w E S L = .inl (ec E 0, N, .inl f)) {i : Int32} (hin : vp_in i N) (hdg : decode cc pc = .ok (.iaload, 1))
    (kk : W p l e R s m args below meth c H locs cells slots Q (F0 m (pc + 1) ls (.int (f i.toNatClampNeg) :: rest))) : W p l e R s m args below meth c H locs cells slots Q (F0 m pc ls (.int i :: .ref (ea E L) :: rest)) :=
  gb_iald C.hx C.hb C.hK hH.1 0 L hL he rfl hin hdg kk
theorem tc_ast (C : tc_C p m c cc nL s args own E) (hH : tc_ok E S H) (hS : va_S (fun q => eb E ≤ q) s.heap H locs) {L : gb_L} (hL : L ∈ eL E) {N : Nat} {f : Nat → Int32} (he : tc_w E S L = .inl (ec E 0, N, .inl f)) {i x : Int32} (hin : vp_in i N) {S1 : tc_S} (hE : gb_up (tc_w E S) L (.inl (ec E 0, N, .inl (upd f i.toNatClampNeg x))) = tc_w E S1) (hdg : decode cc pc = .ok (.iastore, 1))
    (kk : ∀ (S' : tc_S), S' = S1 → ∀ (H1 : Heap) (locs1 : List Loc), tc_ok E S' H1 → va_S (fun q => eb E ≤ q) s.heap H1 locs1 → W p l e R s m args below meth c H1 locs1 cells slots Q (F0 m (pc + 1) ls rest)) : W p l e R s m args below meth c H locs cells slots Q (F0 m pc ls (.int x :: .int i :: .ref (ea E L) :: rest)) := by
  refine gb_iast C.hx C.hb C.hK hH.1 hS 0 L hL he rfl hin hdg (fun H1 locs1 h1 h2 => ?_)
  rw [hE] at h1
  exact kk S1 rfl H1 locs1 ⟨h1, hH.2⟩ h2
theorem tc_alen (C : tc_C p m c cc nL s args own E) (hH : tc_ok E S H) {L : gb_L} (hL : L ∈ eL E) {N : Nat} {f : Nat → Int32} (he : tc_w E S L = .inl (ec E 0, N, .inl f)) (hdg : decode cc pc = .ok (.arraylength, 1))
    (kk : W p l e R s m args below meth c H locs cells slots Q (F0 m (pc + 1) ls (.int (nI N) :: rest))) : W p l e R s m args below meth c H locs cells slots Q (F0 m pc ls (.ref (ea E L) :: rest)) :=
  gb_alen C.hx C.hb C.hK hH.1 0 L hL he rfl rfl hdg kk
/-! a node's fields, of any kind -/
theorem tc_T7 : ∀ j, j < 9 → TX4 j = TX7 j ∧ TX8 j = TX7 j ∧ TX9 j = TX7 j ∧ TX10 j = TX7 j ∧ (TX7 j).1 = RX3 := by
  intro j hj
  match j, hj with
  | 0, _ => exact ⟨rfl, rfl, rfl, rfl, rfl⟩
  | 1, _ => exact ⟨rfl, rfl, rfl, rfl, rfl⟩
  | 2, _ => exact ⟨rfl, rfl, rfl, rfl, rfl⟩
  | 3, _ => exact ⟨rfl, rfl, rfl, rfl, rfl⟩
  | 4, _ => exact ⟨rfl, rfl, rfl, rfl, rfl⟩
  | 5, _ => exact ⟨rfl, rfl, rfl, rfl, rfl⟩
  | 6, _ => exact ⟨rfl, rfl, rfl, rfl, rfl⟩
  | 7, _ => exact ⟨rfl, rfl, rfl, rfl, rfl⟩
  | 8, _ => exact ⟨rfl, rfl, rfl, rfl, rfl⟩
theorem tc_ty7 : ∀ j, j < 9 → tyX4 j = tyX7 j ∧ tyX8 j = tyX7 j ∧ tyX9 j = tyX7 j ∧ tyX10 j = tyX7 j := by
  intro j hj
  match j, hj with
  | 0, _ => exact ⟨rfl, rfl, rfl, rfl⟩
  | 1, _ => exact ⟨rfl, rfl, rfl, rfl⟩
  | 2, _ => exact ⟨rfl, rfl, rfl, rfl⟩
  | 3, _ => exact ⟨rfl, rfl, rfl, rfl⟩
  | 4, _ => exact ⟨rfl, rfl, rfl, rfl⟩
  | 5, _ => exact ⟨rfl, rfl, rfl, rfl⟩
  | 6, _ => exact ⟨rfl, rfl, rfl, rfl⟩
  | 7, _ => exact ⟨rfl, rfl, rfl, rfl⟩
  | 8, _ => exact ⟨rfl, rfl, rfl, rfl⟩
theorem tc_kd5 {P : Nat → Prop} {k : Nat} (hk : k ≤ 4) (h0 : k = 0 → P 2) (h1 : k = 1 → P 4) (h2 : k = 2 → P 5) (h3 : k = 3 → P 6) (h4 : k = 4 → P 7) : P (tc_cls k) := by
  match k, hk with
  | 0, _ => exact h0 rfl
  | 1, _ => exact h1 rfl
  | 2, _ => exact h2 rfl
  | 3, _ => exact h3 rfl
  | 4, _ => exact h4 rfl
theorem tc_getn (C : tc_C p m c cc nL s args own E) (hH : tc_ok E S H) {i : Nat} (hi : i < yn E) {ref : String} (j : Nat) (hj : j < 9) (href : ref = RX3) (hlk : tc_lk own index ref (TX7 j).2.1 (TX7 j).2.2.1 args s) {v : Value} (hv : (tc_nfs E S i)[j]? = some v) (hdg : decode cc pc = .ok (.getfield index, 3))
    (kk : W p l e R s m args below meth c H locs cells slots Q (F0 m (pc + 3) ls (v :: rest))) : W p l e R s m args below meth c H locs cells slots Q (F0 m pc ls (.ref (ea E (1, i)) :: rest)) := by
  subst href
  obtain ⟨e4, e8, e9, e10, e1⟩ := tc_T7 j hj
  have hs : ∀ x, s.fieldFound? (TX7 j).1 (TX7 j).2.1 (TX7 j).2.2.1 = some x → s.fieldFound? RX3 (TX7 j).2.1 (TX7 j).2.2.1 = some x := fun x h => by rw [e1] at h; exact h
  have he : tc_w E S (1, i) = .inr (tc_cls (ykd E i), tc_nfs E S i) := rfl
  have hkd := hH.kd i hi
  revert he
  refine tc_kd5 (P := fun z => tc_w E S (1, i) = .inr (z, tc_nfs E S i) → _) hkd ?_ ?_ ?_ ?_ ?_ <;> intro _ he
  · exact tc_get C hH (hH.n i hi) (Cn := RX4) (T := TX4) (N := 10) in_X4 he rfl j (by omega) (by rw [e4]; exact hlk) (by rw [e4]; exact hs) hv hdg kk
  · exact tc_get C hH (hH.n i hi) (Cn := RX7) (T := TX7) (N := 10) in_X7 he rfl j (by omega) hlk hs hv hdg kk
  · exact tc_get C hH (hH.n i hi) (Cn := RX8) (T := TX8) (N := 11) in_X8 he rfl j (by omega) (by rw [e8]; exact hlk) (by rw [e8]; exact hs) hv hdg kk
  · exact tc_get C hH (hH.n i hi) (Cn := RX9) (T := TX9) (N := 10) in_X9 he rfl j (by omega) (by rw [e9]; exact hlk) (by rw [e9]; exact hs) hv hdg kk
  · exact tc_get C hH (hH.n i hi) (Cn := RX10) (T := TX10) (N := 10) in_X10 he rfl j (by omega) (by rw [e10]; exact hlk) (by rw [e10]; exact hs) hv hdg kk
theorem tc_nlen (E : tc_E) (S : tc_S) (i : Nat) : 9 < (tc_nfs E S i).length := by
  unfold tc_nfs
  match ykd E i with
  | 0 => exact Nat.le_of_ble_eq_true rfl
  | 1 => exact Nat.le_of_ble_eq_true rfl
  | 2 => exact Nat.le_of_ble_eq_true rfl
  | 3 => exact Nat.le_of_ble_eq_true rfl
  | k + 4 => exact Nat.le_of_ble_eq_true rfl
theorem tc_putn (C : tc_C p m c cc nL s args own E) (hH : tc_ok E S H) (hS : va_S (fun q => eb E ≤ q) s.heap H locs) {i : Nat} (hi : i < yn E) {ref : String} (j : Nat) (hj : j < 9) (href : ref = RX3) (hlk : tc_lk own index ref (TX7 j).2.1 (TX7 j).2.2.1 args s) (hfin : (TX7 j).2.2.2 = false) {v : Value} (hn : narrow (tyX7 j) v = v) (hfit : fits (tyX7 j) v = true) {S1 : tc_S} (hE : gb_up (tc_w E S) (1, i) (.inr (tc_cls (ykd E i), (tc_nfs E S i).set j v)) = tc_w E S1) (hdg : decode cc pc = .ok (.putfield index, 3))
    (kk : ∀ (S' : tc_S), S' = S1 → ∀ (H1 : Heap) (locs1 : List Loc), tc_ok E S' H1 → va_S (fun q => eb E ≤ q) s.heap H1 locs1 → W p l e R s m args below meth c H1 locs1 cells slots Q (F0 m (pc + 3) ls rest)) : W p l e R s m args below meth c H locs cells slots Q (F0 m pc ls (v :: .ref (ea E (1, i)) :: rest)) := by
  subst href
  obtain ⟨e4, e8, e9, e10, e1⟩ := tc_T7 j hj
  obtain ⟨f4, f8, f9, f10⟩ := tc_ty7 j hj
  have hs : ∀ x, s.fieldFound? (TX7 j).1 (TX7 j).2.1 (TX7 j).2.2.1 = some x → s.fieldFound? RX3 (TX7 j).2.1 (TX7 j).2.2.1 = some x := fun x h => by rw [e1] at h; exact h
  have hlen := tc_nlen E S i
  have he : tc_w E S (1, i) = .inr (tc_cls (ykd E i), tc_nfs E S i) := rfl
  have hkd := hH.kd i hi
  revert he hE
  refine tc_kd5 (P := fun z => gb_up (tc_w E S) (1, i) (.inr (z, (tc_nfs E S i).set j v)) = tc_w E S1 → tc_w E S (1, i) = .inr (z, tc_nfs E S i) → _) hkd ?_ ?_ ?_ ?_ ?_ <;> intro _ hE he
  · exact tc_put C hH hS (hH.n i hi) (Cn := RX4) (T := TX4) (N := 10) in_X4 tyX4 tyX4_ok nmX4 he rfl j (by omega) (by rw [e4]; exact hlk) (by rw [e4]; exact hs) (by rw [e4]; exact hfin) (by rw [f4]; exact hn) (by rw [f4]; exact hfit) (by omega) hE hdg kk
  · exact tc_put C hH hS (hH.n i hi) (Cn := RX7) (T := TX7) (N := 10) in_X7 tyX7 tyX7_ok nmX7 he rfl j (by omega) hlk hs hfin hn hfit (by omega) hE hdg kk
  · exact tc_put C hH hS (hH.n i hi) (Cn := RX8) (T := TX8) (N := 11) in_X8 tyX8 tyX8_ok nmX8 he rfl j (by omega) (by rw [e8]; exact hlk) (by rw [e8]; exact hs) (by rw [e8]; exact hfin) (by rw [f8]; exact hn) (by rw [f8]; exact hfit) (by omega) hE hdg kk
  · exact tc_put C hH hS (hH.n i hi) (Cn := RX9) (T := TX9) (N := 10) in_X9 tyX9 tyX9_ok nmX9 he rfl j (by omega) (by rw [e9]; exact hlk) (by rw [e9]; exact hs) (by rw [e9]; exact hfin) (by rw [f9]; exact hn) (by rw [f9]; exact hfit) (by omega) hE hdg kk
  · exact tc_put C hH hS (hH.n i hi) (Cn := RX10) (T := TX10) (N := 10) in_X10 tyX10 tyX10_ok nmX10 he rfl j (by omega) (by rw [e10]; exact hlk) (by rw [e10]; exact hs) (by rw [e10]; exact hfin) (by rw [f10]; exact hn) (by rw [f10]; exact hfit) (by omega) hE hdg kk
end TCR

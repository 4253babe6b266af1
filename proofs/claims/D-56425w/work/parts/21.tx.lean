/-! COMPONENT: methods that throw -/
set_option maxRecDepth 100000
def tx_N : List String := ["java/lang/RuntimeException", "java/lang/Exception"]
def tx_ok (ic : Nat) (X : String) : Prop := (∀ w ∈ vx_at0 "ToneGraph" ic X tx_N, w ∈ lw_all ∨ w ∈ tc_words) ∧ ∀ w ∈ vx_at0 "ToneGraph" ic X tx_N, vx_ot w = true
theorem tx_in (ws : List Cond) (ps : List Nat) (hp : ws = ps.filterMap (fun i => lw_tbl[i]?)) (hg : (ws.all fun w => goodWord w || tc_words.any fun z => decide (z = w)) = true) (ho : (ws.all vx_ot) = true) : (∀ w ∈ ws, w ∈ lw_all ∨ w ∈ tc_words) ∧ ∀ w ∈ ws, vx_ot w = true := by
  refine ⟨fun w h => ?_, fun w h => List.all_eq_true.mp ho w h⟩
  have h1 := List.all_eq_true.mp hg w h
  rw [hp] at h
  obtain ⟨i, -, hi⟩ := List.mem_filterMap.mp h
  rcases Bool.or_eq_true _ _ ▸ h1 with h1 | h1
  · exact Or.inl (lw_w i hi h1)
  · obtain ⟨z, hz, e⟩ := List.any_eq_true.mp h1
    rw [← of_decide_eq_true e]
    exact Or.inr hz
theorem tx_ok_66 : tx_ok 66 "java/lang/IllegalArgumentException" := tx_in _ [66,574,583,591,594,596,575,576,90,91,577,582,592,609,564,610,566,611,568,578,580,570,598,599,600,601,555,601,602,603,604,557,604,605,606,575,559,597,553,554,561,562,563,565,567,569,573,572,571] (by decide +kernel) (by decide +kernel) (by decide +kernel)
theorem tx_ok_69 : tx_ok 69 "java/lang/IllegalStateException" := tx_in _ [66,574,583,591,594,596,575,576,90,91,577,582,592,609,564,610,566,611,568,578,580,570,745,746,747,601,555,601,602,603,604,557,604,605,606,575,559,744,736,737,738,587,739,740,741,742,573,572,743] (by decide +kernel) (by decide +kernel) (by decide +kernel)
theorem tx_ok_80 : tx_ok 80 "java/lang/IndexOutOfBoundsException" := tx_in _ [66,574,583,591,594,596,575,576,90,91,577,582,592,609,564,610,566,611,568,578,580,570,920,921,922,601,555,601,602,603,604,557,604,605,606,575,559,919,911,912,913,588,914,915,916,917,573,572,918] (by decide +kernel) (by decide +kernel) (by decide +kernel)
theorem tx_ok_166 : tx_ok 166 "java/lang/UnsupportedOperationException" := tx_in _ [66,574,583,591,594,596,575,576,90,91,577,582,592,609,564,610,566,611,568,578,580,570,955,956,957,601,555,601,602,603,604,557,604,605,606,575,559,954,946,947,948,589,949,950,951,952,573,572,953] (by decide +kernel) (by decide +kernel) (by decide +kernel)
theorem tx_ok_172 : tx_ok 172 "java/util/NoSuchElementException" := tx_in _ [66,574,583,591,594,596,575,576,90,91,577,582,592,609,564,610,566,611,568,578,580,570,994,995,996,601,555,601,602,603,604,557,604,605,606,575,559,993,985,986,987,590,988,989,990,991,573,572,992] (by decide +kernel) (by decide +kernel) (by decide +kernel)
theorem tx_ok_321 : tx_ok 321 "java/lang/ArithmeticException" := tx_in _ [66,574,583,591,594,596,575,576,90,91,577,582,592,609,564,610,566,611,568,578,580,570,1217,1218,1219,601,555,601,602,603,604,557,604,605,606,575,559,1216,1194,1205,1206,585,1200,1201,1203,1199,573,572,1198] (by decide +kernel) (by decide +kernel) (by decide +kernel)
theorem tx_tw : ∀ w ∈ tc_words, w.onTables = true := by
  unfold tc_words
  simp only [List.forall_mem_cons]
  exact ⟨rfl, rfl, rfl, rfl, rfl, rfl, rfl, rfl, rfl, rfl, rfl, rfl, rfl, rfl, rfl, rfl, rfl, rfl, rfl, rfl, rfl, rfl, rfl, rfl, rfl, rfl, rfl, rfl, rfl, rfl, rfl, rfl, rfl, rfl, rfl, rfl, rfl, rfl, rfl, rfl, rfl, rfl, rfl, rfl, rfl, rfl, rfl, rfl, rfl, rfl, rfl, rfl, rfl, rfl, rfl, rfl, rfl, rfl, rfl, rfl, rfl, rfl, rfl, rfl, rfl, rfl, rfl, rfl, rfl, rfl, rfl, rfl, rfl, rfl, rfl, rfl, rfl, rfl, rfl, rfl, rfl, rfl, rfl, rfl, rfl, rfl, rfl, rfl, fun _ h => by cases h⟩
/-- the world behind a throw: old cells as they were -/
theorem gb_W.more {D : va_G} {cl : List vw_C} {A : Nat → Prop} {Ls : List gb_L} {ad : gb_L → Nat} {w : gb_L → va_E} {H H1 : Heap} (h : gb_W D cl A Ls ad w H) (hq : ∀ q : Nat, q < H.size → H1[q]? = H[q]?) : gb_W D cl A Ls ad w H1 :=
  ⟨h.1.kept (fun k q hk => hq q.1 (vx_lt h.1 hk)), h.2⟩
theorem tc_ok.more {E : tc_E} {S : tc_S} {H H1 : Heap} (h : tc_ok E S H) (hq : ∀ q : Nat, q < H.size → H1[q]? = H[q]?) : tc_ok E S H1 := ⟨h.1.more hq, h.2⟩
def tx_X (E : tc_E) (ex : String → tc_S → Prop) : String → State → State → Prop := fun X st t => (∃ S' : tc_S, ex X S' ∧ tc_ok E S' t.heap) ∧ va_F (fun q => eb E ≤ q) st t
def tx_M {α : Type} (l : Launch) (y : MethodName) (ws : List Cond) (rm : Room) (E : tc_E) (As : List Value) (S : tc_S) (val : α → Option Value) (post : α → tc_S → Prop) (ex : String → tc_S → Prop) (mc ms : Nat) : Prop := vx_Met l y ws rm (va_Pc As (tc_pre E S)) (tc_Qg E val post) (tx_X E ex) mc ms (fun q => eb E ≤ q)
section TX
variable {p : Program} {l : Launch} {e : Env} {R : Room} {s : State} {m : MethodId} {args : Array Value} {below : List Frame} {meth : Method} {c : Code} {H : Heap} {locs : List Loc} {cells slots mc ms kc ks : Nat} {Q : State → Prop}
variable {cc bytes : ByteArray} {pc nL index maxL n : Nat} {ls : Array Slot} {st rest As : List Value} {y : MethodName} {ws : List Cond} {rm : Room} {ret : Option FieldType}
variable {E : tc_E} {S : tc_S} {own : String} {ex : String → tc_S → Prop} {a : Array Value}
theorem tx_start {α : Type} {val : α → Option Value} {post : α → tc_S → Prop} (cc : ByteArray) (maxL : Nat) (ret : Option FieldType) (own : String) (hy : plainName y.cls = true) (hyc : y.cls = own) (hw : ws = Cond.code y cc maxL ret :: lw_all) (hsz : (lg_sl As).length ≤ maxL)
    (body : ∀ (p : Program) (e : Env) (s : State) (m : MethodId) (args : Array Value) (below : List Frame) (meth : Method) (c : Code) (ls : Array Slot), tc_C p m c cc maxL s args own E → s.methodNamed? y = some m → (∀ x ∈ c.exceptionTable.toList, False) → meth.sig.returnType = ret → meth.locks = false → tc_ok E S s.heap → va_S (fun q => eb E ≤ q) s.heap s.heap [] → lv_has ls maxL (lv_args 0 As) → W p l e rm s m args below meth c s.heap [] 0 0 (vx_MQ below (tc_Qg E val post) (tx_X E ex) args s mc ms (fun q => eb E ≤ q)) (F0 m 0 ls [])) : tx_M l y ws rm E As S val post ex mc ms := by
  refine vx_ofW (cc := cc) (maxL := maxL) (ret := ret) hy hw ?_
  intro p e s m args below meth c s₁ B hml hnt hv
  obtain ⟨rfl, hb0, hH, hK, hZ⟩ := hv
  have hts := atoms_spec (ws := ws) B.pre
  have hts2 : ∀ w ∈ lw_all, w.before As.toArray s = true := fun w h => hts w (by rw [hw]; exact List.mem_cons_of_mem _ h)
  rw [lg_entry_eq]
  exact body p e s m _ below meth c _ ⟨⟨B.exec, B.bytes, hml, hyc ▸ findClass_of_methodNamed B.named, hts2⟩, hK, hb0, hZ⟩ B.named hnt B.returns B.notSynchronized hH va_S.rf (lv_entry _ hsz)
/-- out of the method: what it made is within what its contract says -/
theorem tx_ret {α : Type} {val : α → Option Value} {post : α → tc_S → Prop} {g : JFrame} (h1 : cells ≤ mc) (h2 : slots ≤ ms) (k : W p l e R s m args below meth c H locs mc ms (MQ below (tc_Qg E val post) args s mc ms (fun q => eb E ≤ q)) g) : W p l e R s m args below meth c H locs cells slots (vx_MQ below (tc_Qg E val post) (tx_X E ex) args s mc ms (fun q => eb E ≤ q)) g := vx_ret (W.widen h1 h2 k)
theorem tx_out {Qc : Array Value → State → Outcome → State → Prop} (hnt : ∀ x ∈ c.exceptionTable.toList, False) (hlk : meth.locks = false) {X : String} {ce : Cell} {q9 : Addr} {S' : tc_S} (hk : ex X S') (hH : tc_ok E S' H) (hS : va_S (fun q => eb E ≤ q) s.heap H locs) (h1 : H[q9]? = some ce) (h2 : ce.vm = .none) (h3 : s.vm.findClass X = some ce.cls) (hc : cells ≤ mc) (hs : slots ≤ ms) :
    vx_W p l e R s m args below meth c H locs cells slots (vx_MQ below Qc (tx_X E ex) args s mc ms (fun q => eb E ≤ q)) (F0 m pc ls rest) q9 :=
  vx_out (fun x hx => (hnt x hx).elim) hlk h1 h2 h3 (fun t ht hA => ⟨⟨S', hk, by rw [ht]; exact hH⟩, hS.F ht⟩) hS.2.2 hc hs
theorem tx_run {α : Type} {val : α → Option Value} {post : α → tc_S → Prop} (hr : vx_Run p l e R s m args below meth c H locs cells slots kc ks (F0 m pc ls st) rest (tc_Qg E val post a) (tx_X E ex) (fun q => eb E ≤ q)) (hS : va_S (fun q => eb E ≤ q) s.heap H locs)
    (kx : ∀ (X : String) (ce : Cell) (q9 : Addr) (S' : tc_S) (H1 : Heap) (locs1 : List Loc), ex X S' → tc_ok E S' H1 → va_S (fun q => eb E ≤ q) s.heap H1 locs1 → H1[q9]? = some ce → ce.vm = .none → s.vm.findClass X = some ce.cls → vx_W p l e R s m args below meth c H1 locs1 (cells + kc) (slots + ks) Q (F0 m pc ls rest) q9)
    (kk : ∀ (r : α) (S' : tc_S) (H1 : Heap) (locs1 : List Loc), post r S' → tc_ok E S' H1 → va_S (fun q => eb E ≤ q) s.heap H1 locs1 → W p l e R s m args below meth c H1 locs1 (cells + kc) (slots + ks) Q (F0 m (pc + 3) ls ((val r).toList ++ rest))) : W p l e R s m args below meth c H locs cells slots Q (F0 m pc ls st) := by
  intro T hT X
  have hA : ∀ q, q < H.size → eb E ≤ q → eb E ≤ q := fun _ _ h => h
  have hf : ∀ q, eb E ≤ q → eb E ≤ q := fun _ h => h
  rcases hr T hT X with ⟨v, st₀, t, T', L, h0, X', hL, e1, e2, ⟨⟨r, S', hv, hp, hb⟩, hF⟩, g⟩ | ⟨q, st₀, t, T', L, E9, ce, h0, X', hL, e1, e2, ⟨⟨S', hp, hb⟩, hF⟩, hce, hcv, hcl, g⟩
  · cases hv
    obtain ⟨k1, k2, k3⟩ := vx_keep h0 e1 hS hA hf hL hF
    obtain ⟨t2, a1, b1⟩ := kk r S' T'.heap (locs ++ L) hp (by rw [e1]; exact hb) k3 T' rfl X'
    exact ⟨t2, g t2 a1, b1⟩
  · obtain ⟨k1, k2, k3⟩ := vx_keep h0 e1 hS hA hf hL hF
    obtain ⟨t2, a1, b1⟩ := kx E9 ce q S' T'.heap (locs ++ L) hp (by rw [e1]; exact hb) k3 (by rw [e1]; exact hce) hcv hcl T' rfl X'
    exact ⟨t2, g.trans a1, b1⟩
theorem tx_rV {α : Type} {val : α → Option Value} {post : α → tc_S → Prop} {L : gb_L} {ci : Nat} {fs : List Value} {q : vw_C} (C : tc_C p m c cc nL s args own E) (hL : L ∈ eL E) (he : tc_w E S L = .inr (ci, fs)) (hc : gcl[ci]? = some q) (hM : tx_M l y ws rm E (.ref (ea E L) :: As) S val post ex kc ks) (cw : CallW R s args own q.1 index y bytes maxL ret ws rm kc ks n) (hH : tc_ok E S H) (hS : va_S (fun q => eb E ≤ q) s.heap H locs) (hn : As.length = n) (hsize : ls.size = nL) (hst : st = As.reverse ++ .ref (ea E L) :: rest) (hW : 2 * (F0 m pc ls st).monitorRoom + (rest.map fun v => v.category).sum ≤ 8) (hdg : decode cc pc = .ok (.invokevirtual index, 3)) (hf : cells + kc ≤ R.cells ∧ slots + ks ≤ R.slots) : vx_Run p l e R s m args below meth c H locs cells slots kc ks (F0 m pc ls st) rest (tc_Qg E val post (Value.ref (ea E L) :: As).toArray) (tx_X E ex) (fun q => eb E ≤ q) :=
  vx_runV (g := F0 m pc ls st) C.1 hM cw ⟨tc_blind, tc_recv C.hK hH hL he hc, fun U hU hW => ⟨rfl, C.preAt hH hS hU hW⟩⟩ rfl hn hsize hst hW hdg hf
theorem tx_rS {α : Type} {val : α → Option Value} {post : α → tc_S → Prop} (C : tc_C p m c cc nL s args own E) (hM : tx_M l y ws rm E As S val post ex kc ks) (cw : CallB R s args own index y bytes maxL ret ws rm kc ks n ∧ (Cond.static y).before args s = true) (hH : tc_ok E S H) (hS : va_S (fun q => eb E ≤ q) s.heap H locs) (hn : As.length = n) (hsize : ls.size = nL) (hst : st = As.reverse ++ rest) (hW : 2 * (F0 m pc ls st).monitorRoom + (rest.map fun v => v.category).sum ≤ 8) (hdg : decode cc pc = .ok (.invokestatic index, 3)) (hf : cells + kc ≤ R.cells ∧ slots + ks ≤ R.slots) : vx_Run p l e R s m args below meth c H locs cells slots kc ks (F0 m pc ls st) rest (tc_Qg E val post As.toArray) (tx_X E ex) (fun q => eb E ≤ q) :=
  vx_runS (g := F0 m pc ls st) C.1 hM cw ⟨tc_blind, fun U hU hW => ⟨rfl, C.preAt hH hS hU hW⟩⟩ rfl hn hsize hst hW hdg hf
theorem tx_throw {Qc : Array Value → State → Outcome → State → Prop} (C : tc_C p m c cc nL s args "ToneGraph" E) (hl0 : l.stackTraces = false) {X : String} {ik ic : Nat} (hok : tx_ok ic X) (hfit : Bundle.fit X = true) (hlink : Cond.classLink "ToneGraph" ik X ∈ lw_all) (hini : Cond.initialized X ∈ lw_all) (hg : vx_ot (Cond.classLink "ToneGraph" ik X) = true ∧ vx_ot (Cond.initialized X) = true) (hnt : ∀ x ∈ c.exceptionTable.toList, False) (hlk : meth.locks = false) (hH : tc_ok E S H) (hS : va_S (fun q => eb E ≤ q) s.heap H locs) (hk : ex X S) (hsize : ls.size = nL)
    (d0 : decode cc pc = .ok (.new ik, 3)) (d3 : decode cc (pc + 3) = .ok (.dup, 1)) (d4 : decode cc (pc + 4) = .ok (.invokespecial ic, 3)) (d7 : decode cc (pc + 7) = .ok (.athrow, 1)) (hR : 6 ≤ R.frames ∧ (rest.map fun v => v.category).sum + 81 ≤ R.locals) (hRc : cells + 1 ≤ R.cells ∧ slots + 6 ≤ R.slots) (hc : cells + 1 ≤ mc ∧ slots + 6 ≤ ms) :
    W p l e R s m args below meth c H locs cells slots (vx_MQ below Qc (tx_X E ex) args s mc ms (fun q => eb E ≤ q)) (F0 m pc ls rest) := by
  have hZ := C.hZ
  have hat : ∀ w ∈ vx_at0 "ToneGraph" ic X tx_N, w.before args s = true := fun w hw => (hok.1 w hw).elim (fun h => C.hts w h) (fun h => va_Nw.use (tx_tw w h) (hZ.1 w h))
  refine vx_throw0 (A := fun q => eb E ≤ q) (names := tx_N) C.hx C.hb hl0 C.hown hfit (by decide +kernel) (C.hts _ hlink) (C.hts _ hini) hat (fun w hw => ?_) hZ.2.2.2.2.2.1 hZ.2.2.2.2.2.2.1 hS (hsize.trans C.hml.symm) d0 d3 d4 d7 (fun x hx => (hnt x hx).elim) hR.1 hR.2 hRc.1 hRc.2 hlk (fun t hA hz hq => ⟨⟨S, hk, hH.more hq⟩, Nat.le_trans hS.1 hz, fun q h1 h2 => ?_⟩) hS.2.2 hc.1 hc.2
  · rcases List.mem_cons.mp hw with e | hw
    · rw [e]; exact hg.1
    · rcases List.mem_cons.mp hw with e | hw
      · rw [e]; exact hg.2
      · exact hok.2 w hw
  · rw [hq q (Nat.lt_of_lt_of_le h1 hS.1)]
    exact hS.2.1 q h1 h2
theorem tc_Z.nc {U : State} (h : tc_Z E U H) : tc_NC U := h.lf.2.2.2.2.2.1
theorem tc_instG (C : tc_C p m c cc nL s args own E) (hH : tc_ok E S H) {i : Nat} (hi : i < yn E) {v : Int32} (hv : v = (if ykd E i = 1 then 1 else 0)) (hlink : Cond.classLink own index RX7 ∈ lw_all) (hdg : decode cc pc = .ok (.instanceof index, 3))
    (kk : W p l e R s m args below meth c H locs cells slots Q (F0 m (pc + 3) ls (.int v :: rest))) : W p l e R s m args below meth c H locs cells slots Q (F0 m pc ls (.ref (ea E (1, i)) :: rest)) := by
  have hk := hH.kd i hi
  rcases tc_kinds hk with h | h | h | h | h
  · rw [hv, h] at kk
    exact va_instNo (nm := "ToneGraph$Gain") C.hx C.hb C.hown (C.hts _ hlink) (C.hZ.nc.at 25 rfl) (tc_recv (q := (RX4, TX4, 10)) C.hK hH (hH.n i hi) (tc_e0 h) rfl) hdg kk
  · rw [hv, h] at kk
    exact va_instS C.hx C.hb C.hown (C.hts _ hlink) ((C.hK.1 4 _ rfl).2) (tc_recv (q := (RX7, TX7, 10)) C.hK hH (hH.n i hi) (tc_e1 h) rfl) hdg kk
  · rw [hv, h] at kk
    exact va_instNo (nm := "ToneGraph$Gain") C.hx C.hb C.hown (C.hts _ hlink) (C.hZ.nc.at 26 rfl) (tc_recv (q := (RX8, TX8, 11)) C.hK hH (hH.n i hi) (tc_e2 h) rfl) hdg kk
  · rw [hv, h] at kk
    exact va_instNo (nm := "ToneGraph$Gain") C.hx C.hb C.hown (C.hts _ hlink) (C.hZ.nc.at 27 rfl) (tc_recv (q := (RX9, TX9, 10)) C.hK hH (hH.n i hi) (tc_e3 h) rfl) hdg kk
  · rw [hv, h] at kk
    exact va_instNo (nm := "ToneGraph$Gain") C.hx C.hb C.hown (C.hts _ hlink) (C.hZ.nc.at 28 rfl) (tc_recv (q := (RX10, TX10, 10)) C.hK hH (hH.n i hi) (tc_e4 h) rfl) hdg kk
theorem tc_dret {α : Type} {val : α → Option Value} {post : α → tc_S → Prop} {v : UInt64} (r : α) (hv : val r = some (.double v)) (C : tc_C p m c cc nL s args own E) (hr : meth.sig.returnType = some .double) (hlk : meth.locks = false) (hH : tc_ok E S H) (hS : va_S (fun q => eb E ≤ q) s.heap H locs) (hk : post r S) (hdg : decode cc pc = .ok (.dreturn, 1)) : W p l e R s m args below meth c H locs cells slots (MQ below (tc_Qg E val post) args s cells slots (fun q => eb E ≤ q)) (F0 m pc ls [.double v]) :=
  W.dret C.hx C.hb hr (fun t ht hW => ⟨⟨r, S, by rw [hv], hk, by rw [ht]; exact hH⟩, hS.F ht⟩) hS.2.2 hdg hlk
theorem tc_fret {α : Type} {val : α → Option Value} {post : α → tc_S → Prop} {v : UInt32} (r : α) (hv : val r = some (.float v)) (C : tc_C p m c cc nL s args own E) (hr : meth.sig.returnType = some .float) (hlk : meth.locks = false) (hH : tc_ok E S H) (hS : va_S (fun q => eb E ≤ q) s.heap H locs) (hk : post r S) (hdg : decode cc pc = .ok (.freturn, 1)) : W p l e R s m args below meth c H locs cells slots (MQ below (tc_Qg E val post) args s cells slots (fun q => eb E ≤ q)) (F0 m pc ls [.float v]) :=
  W.fret C.hx C.hb hr (fun t ht hW => ⟨⟨r, S, by rw [hv], hk, by rw [ht]; exact hH⟩, hS.F ht⟩) hS.2.2 hdg hlk
/-- a lambda's object out of a linked site -/
theorem lam_const (C : tc_C p m c cc nL s args own E) {x : MethodName} {pcs ob : Nat} {σ : Jvm.Lambda.Shape} (hA : lam_A x pcs σ ob (eb E) s s.heap) (hnm : s.methodNamed? x = some m) (hpc : pc = pcs) (hsize : ls.size = nL) (hW : 2 * (F0 m pc ls rest).monitorRoom + (rest.map fun v => v.category).sum ≤ 8) (hR : 3080 ≤ R.locals) (hdg : decode cc pc = .ok (.invokedynamic index, 5))
    (kk : W p l e R s m args below meth c H locs cells slots Q (F0 m (pc + 5) ls (.ref ob :: rest))) : W p l e R s m args below meth c H locs cells slots Q (F0 m pc ls rest) := by
  obtain ⟨-, cK, hF, -⟩ := hA
  obtain ⟨mD, kD, i0, p0, hmD, hkD, hfind, -⟩ := hF
  cases hmD.symm.trans hnm
  subst hpc
  intro T hT X
  have hpl : e.platform.lambdaLinkWords = 3072 := by rw [X.admits.platform]
  obtain ⟨t, a1, b1⟩ := kk T hT X
  exact ⟨t, X.lambdaConstant C.hx (g := F0 m pc ls rest) rfl (hsize.trans C.hml.symm) (by rw [C.hb]; exact hdg) hkD hfind (by rw [hpl]; have : 2 * (F0 m pc ls rest).monitorRoom + (rest.map fun v => v.category).sum ≤ 8 := hW; show 2 * (F0 m pc ls rest).monitorRoom + (rest.map fun v => v.category).sum + 3072 ≤ R.locals; omega) a1, b1⟩
/-- a lambda's object made at a site: it holds the key -/
theorem lam_makes (C : tc_C p m c cc nL s args own E) (hH : tc_ok E S H) (hS : va_S (fun q => eb E ≤ q) s.heap H locs) (hnm : s.methodNamed? lam_yE = some m) {key : Int32} (hsize : ls.size = nL) (hW : 2 * (F0 m 12 ls (.int key :: rest)).monitorRoom + ((Value.int key :: rest).map fun v => v.category).sum ≤ 8) (hR : 3080 ≤ R.locals ∧ cells + 1 ≤ R.cells ∧ slots + 1 ≤ R.slots) (hdg : decode cc 12 = .ok (.invokedynamic 241, 5))
    (kk : ∀ (z : Nat) (H1 : Heap), lam_Z 2 key z E s H1 → tc_ok E S H1 → va_S (fun q => eb E ≤ q) s.heap H1 locs → W p l e R s m args below meth c H1 locs (cells + 1) (slots + 1) Q (F0 m 17 ls (.ref z :: rest))) : W p l e R s m args below meth c H locs cells slots Q (F0 m 12 ls (.int key :: rest)) := by
  obtain ⟨-, -, -, -, -, -, cK, hF, hP⟩ := C.hZ.lf
  obtain ⟨mD, kD, i0, p0, hmD, hkD, hfind, hmade, hcan⟩ := id hF
  cases hmD.symm.trans hnm
  obtain ⟨mP, kP, cf, hmP, hkP, hcf, hsh⟩ := hP
  cases hmP.symm.trans hnm
  cases hkP.symm.trans hkD
  obtain ⟨b, nt, name, desc, site, hc1, hc2, hc3, hc4⟩ := lam_site hsh
  obtain ⟨kD', hkD', hnameD⟩ := className_of_methodNamed hmD
  cases hkD.symm.trans hkD'
  obtain ⟨f0, kK, -, -, -, hkK, hty⟩ := lam_madeF hkD hnameD hmade (lam_obj (State.WarmedH.refl s) (C.hts _ q1648))
  obtain ⟨z1, kK2, z3, z4, z5, z6, z7, z8, z9, z10, z11, z12, z13, -, hkK', -, -, -, -, -, -, -, -, -, -, -, hrec, -⟩ := Jvm.Lambda.isMade_spec hmade
  cases hkK.symm.trans hkK'
  have hslotsE : ((kK.instanceTypes.toList.zip [Value.int key]).map fun (t, v) => narrow t v) = [.int key] := by rw [hty]; rfl
  intro T hT X
  have hpl : e.platform.lambdaLinkWords = 3072 := by rw [X.admits.platform]
  obtain ⟨X₁, st1⟩ := X.lambdaMakes C.hx (g := F0 m 12 ls (.int key :: rest)) rfl (hsize.trans C.hml.symm) (by rw [C.hb]; exact hdg) (vals := [.int key]) (rest := rest) hkD hfind hcf hc1 hc2 (parseLong_of_parse hc3) (by rw [hc4]; rfl) rfl hkK
    (by rw [hpl]; show 2 * (F0 m 12 ls (.int key :: rest)).monitorRoom + ((Value.int key :: rest).map fun v => v.category).sum + 3072 ≤ R.locals; omega) hR.2.1 (by rw [hslotsE]; exact hR.2.2)
    (fun i v hv => by
      rw [hslotsE] at hv
      cases i with
      | zero => simp at hv; subst hv; simp [State.fitsSlot, State.slotType?, hkK, hrec.2.1, hty, fits]
      | succ j => simp at hv)
  rw [hslotsE] at X₁ st1
  have hold : ∀ q : Nat, q < H.size → (T.pushCell { cls := cK, slots := [Value.int key].toArray, vm := .none }).heap[q]? = H[q]? := fun q hq => by
    rw [State.heap_pushCell_of_lt _ _ (by rw [hT]; exact hq), hT]
  have hnew : (T.pushCell { cls := cK, slots := [Value.int key].toArray, vm := .none }).heap[T.heap.size]? = some { cls := cK, slots := [Value.int key].toArray, vm := .none } := State.heap_pushCell_size _ _
  obtain ⟨t, a1, b1⟩ := kk T.heap.size _ (Or.inr (Or.inr ⟨rfl, cK, _, hF, hnew, rfl, rfl, rfl⟩)) (hH.more hold) ⟨Nat.le_trans hS.1 (by rw [← hT, size_pushCell]; exact Nat.le_succ _), fun q h1 h2 => by rw [hold q (Nat.lt_of_lt_of_le h1 hS.1)]; exact hS.2.1 q h1 h2, hS.2.2⟩ _ rfl X₁
  exact ⟨t, st1 t a1, b1⟩
/-- a call of 'first', which only reads -/
theorem lam_Z.same {k z : Nat} {key : Int32} {U V : State} (hv : U.vm = V.vm) (h : lam_Z k key z E U H) : lam_Z k key z E V H := by
  rcases h with h | h | ⟨h1, c, cell, h2, h3⟩
  · exact Or.inl h
  · exact Or.inr (Or.inl h)
  · exact Or.inr (Or.inr ⟨h1, c, cell, h2.same hv, h3⟩)
theorem lam_Z.warm {k z : Nat} {key : Int32} {U V : State} (hW : U.WarmedH V.vm) (h : lam_Z k key z E U H) : lam_Z k key z E V H := by
  rcases h with h | h | ⟨h1, c, cell, h2, h3⟩
  · exact Or.inl h
  · exact Or.inr (Or.inl h)
  · exact Or.inr (Or.inr ⟨h1, c, cell, h2.warm hW, h3⟩)
theorem tx_first {α : Type} {val : α → Option Value} {post : α → tc_S → Prop} {k z : Nat} {key : Int32} (C : tc_C p m c cc nL s args own E) (hz : lam_Z k key z E s H) (hM : tc_R l y ws rm E [.ref (ea E (0, 0)), .ref z] S (lam_Z k key z E) val post) (cw : CallW R s args own RX1 index y bytes maxL ret ws rm 0 0 1) (hH : tc_ok E S H) (hS : va_S (fun q => eb E ≤ q) s.heap H locs) (hsize : ls.size = nL) (hW : 2 * (F0 m pc ls rest).monitorRoom + (rest.map fun v => v.category).sum ≤ 8) (hdg : decode cc pc = .ok (.invokevirtual index, 3)) (hf : cells ≤ R.cells ∧ slots ≤ R.slots)
    (kk : ∀ (r : α) (S' : tc_S), post r S' → tc_ok E S' H → W p l e R s m args below meth c H locs cells slots Q (F0 m (pc + 3) ls ((val r).toList ++ rest))) : W p l e R s m args below meth c H locs cells slots Q (F0 m pc ls (.ref z :: .ref (ea E (0, 0)) :: rest)) := by
  intro T hT X
  obtain ⟨v, st₀, t, T', L, h0, X', hL, e1, -, ⟨⟨r, S', hv, hp, hb⟩, hh⟩, g⟩ := va_runV (g := F0 m pc ls (.ref z :: .ref (ea E (0, 0)) :: rest)) (As := [.ref z]) C.1 hM cw ⟨fun a U g mk q => ⟨q.1, (tc_blind a U g mk ⟨q.1, q.2.1⟩).2, lam_Z.same rfl q.2.2⟩, tc_recv (q := (RX1, TX1, 13)) (ci := 0) (fs := tc_gfs E S) C.hK hH hH.g rfl rfl, fun U hU hW => ⟨rfl, C.preAt hH hS hU hW, by rw [hU]; exact hz.warm hW⟩⟩ rfl rfl hsize rfl hW hdg hf T hT X
  cases hv
  have hhp : t.heap = H := hh.trans h0
  obtain ⟨t2, a1, b1⟩ := kk r S' hp (by rw [← hhp]; exact hb) T' (by rw [e1]; exact hhp) (Stand.forget X' (fun q h => (hL q h).elim))
  exact ⟨t2, g t2 a1, b1⟩
end TX

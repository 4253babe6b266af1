/-! COMPONENT: methods that only read: the heap stays as it is -/
set_option maxRecDepth 100000
def tc_HR (H0 H : Heap) (locs : List Loc) : Prop := H = H0 ∧ locs = []
def tc_QR {α : Type} (E : tc_E) (val : α → Option Value) (post : α → tc_S → Prop) : Array Value → State → Outcome → State → Prop := fun _ st oc t => (∃ (r : α) (S' : tc_S), oc = .returned (val r) ∧ post r S' ∧ tc_ok E S' t.heap) ∧ t.heap = st.heap
def tc_R {α : Type} (l : Launch) (y : MethodName) (ws : List Cond) (rm : Room) (E : tc_E) (As : List Value) (S : tc_S) (Z : State → Heap → Prop) (val : α → Option Value) (post : α → tc_S → Prop) : Prop := Met l y ws rm (va_Pc As (fun U => tc_pre E S U ∧ Z U U.heap)) (tc_QR E val post) 0 0 (fun _ => False)
section TRO
variable {p : Program} {l : Launch} {e : Env} {R : Room} {s : State} {m : MethodId} {args : Array Value} {below : List Frame} {meth : Method} {c : Code} {H : Heap} {locs : List Loc} {cells slots : Nat} {Q : State → Prop}
variable {cc : ByteArray} {pc nL : Nat} {ls : Array Slot} {As : List Value} {E : tc_E} {S : tc_S} {own : String} {y : MethodName} {ws : List Cond} {rm : Room} {Z : State → Heap → Prop}
theorem tc_HR.toS {A : Nat → Prop} (h : tc_HR s.heap H locs) : va_S A s.heap H locs := by
  obtain ⟨rfl, rfl⟩ := h
  exact va_S.rf
theorem tc_startR {α : Type} {val : α → Option Value} {post : α → tc_S → Prop} (cc : ByteArray) (maxL : Nat) (ret : Option FieldType) (own : String) (hy : plainName y.cls = true) (hyc : y.cls = own) (hw : ws = Cond.code y cc maxL ret :: lw_all) (hsz : (lg_sl As).length ≤ maxL)
    (body : ∀ (p : Program) (e : Env) (s : State) (m : MethodId) (args : Array Value) (below : List Frame) (meth : Method) (c : Code) (ls : Array Slot), tc_C p m c cc maxL s args own E → Z s s.heap → s.methodNamed? y = some m → meth.sig.returnType = ret → meth.locks = false → tc_ok E S s.heap → tc_HR s.heap s.heap [] → lv_has ls maxL (lv_args 0 As) → W p l e rm s m args below meth c s.heap [] 0 0 (MQ below (tc_QR E val post) args s 0 0 (fun _ => False)) (F0 m 0 ls [])) : tc_R l y ws rm E As S Z val post := by
  refine Met.ofW (cc := cc) (maxL := maxL) (ret := ret) hy hw ?_
  intro p e s m args below meth c s₁ B hml hv
  obtain ⟨rfl, ⟨hb0, hH, hK, hZ⟩, hz⟩ := hv
  have hts := atoms_spec (ws := ws) B.pre
  have hts2 : ∀ w ∈ lw_all, w.before As.toArray s = true := fun w h => hts w (by rw [hw]; exact List.mem_cons_of_mem _ h)
  rw [lg_entry_eq]
  exact body p e s m _ below meth c _ ⟨⟨B.exec, B.bytes, hml, hyc ▸ findClass_of_methodNamed B.named, hts2⟩, hK, hb0, hZ⟩ hz B.named B.returns B.notSynchronized hH ⟨rfl, rfl⟩ (lv_entry _ hsz)
theorem tc_zretR {α : Type} {val : α → Option Value} {post : α → tc_S → Prop} {v : Int32} {ty : FieldType} (r : α) (hv : val r = some (.int v)) (C : tc_C p m c cc nL s args own E) (hr : meth.sig.returnType = some ty) (hlk : meth.locks = false) (hn : narrow ty (.int v) = .int v) (hH : tc_ok E S H) (hS : tc_HR s.heap H locs) (hk : post r S) (hdg : decode cc pc = .ok (.ireturn, 1)) : W p l e R s m args below meth c H locs cells slots (MQ below (tc_QR E val post) args s cells slots (fun _ => False)) (F0 m pc ls [.int v]) :=
  W.zret C.hx C.hb hr hn (fun t ht hW => ⟨⟨r, S, by rw [hv], hk, by rw [ht]; exact hH⟩, by rw [ht]; exact hS.1⟩) (by rw [hS.2]; intro q h; cases h) hdg hlk
theorem tc_iretR {α : Type} {val : α → Option Value} {post : α → tc_S → Prop} {v : Int32} (r : α) (hv : val r = some (.int v)) (C : tc_C p m c cc nL s args own E) (hr : meth.sig.returnType = some .int) (hlk : meth.locks = false) (hH : tc_ok E S H) (hS : tc_HR s.heap H locs) (hk : post r S) (hdg : decode cc pc = .ok (.ireturn, 1)) : W p l e R s m args below meth c H locs cells slots (MQ below (tc_QR E val post) args s cells slots (fun _ => False)) (F0 m pc ls [.int v]) :=
  W.iret C.hx C.hb hr (fun t ht hW => ⟨⟨r, S, by rw [hv], hk, by rw [ht]; exact hH⟩, by rw [ht]; exact hS.1⟩) (by rw [hS.2]; intro q h; cases h) hdg hlk
theorem tc_aretR {α : Type} {val : α → Option Value} {post : α → tc_S → Prop} {v : Value} {nm : String} (r : α) (hv : val r = some v) (hv2 : v = .null ∨ ∃ a, v = .ref a) (C : tc_C p m c cc nL s args own E) (hr : meth.sig.returnType = some (.object nm)) (hlk : meth.locks = false) (hH : tc_ok E S H) (hS : tc_HR s.heap H locs) (hk : post r S) (hdg : decode cc pc = .ok (.areturn, 1)) : W p l e R s m args below meth c H locs cells slots (MQ below (tc_QR E val post) args s cells slots (fun _ => False)) (F0 m pc ls [v]) :=
  W.aret C.hx C.hb hr (Or.inl ⟨nm, rfl⟩) hv2 (fun t ht hW => ⟨⟨r, S, by rw [hv], hk, by rw [ht]; exact hH⟩, by rw [ht]; exact hS.1⟩) (by rw [hS.2]; intro q h; cases h) hdg hlk
end TRO

/-! LAMBDAS: what a linked site is, and that it stays so -/
def lam_F (x : MethodName) (pcc : Nat) (σ : Jvm.Lambda.Shape) (c : ClassId) (lnk : Linked) (U : State) : Prop :=
  ∃ (m : MethodId) (kc : Class) (i0 p0 : Nat), U.methodNamed? x = some m ∧ U.vm.classes[m.cls]? = some kc ∧ (kc.callSites.find? fun y => y.1 == m.idx && y.2.1 == pcc) = some (i0, p0, lnk) ∧ Jvm.Lambda.isMade { classPath := fun _ => none } U.vm m.cls σ c = true ∧ U.lambdaCallable σ c = true
def lam_O (a : Nat) (c : ClassId) (H : Heap) : Prop := ∃ cell : Cell, H[a]? = some cell ∧ cell.cls = c ∧ cell.vm = .none
theorem lam_F.warm {x : MethodName} {pcc : Nat} {σ : Jvm.Lambda.Shape} {c : ClassId} {lnk : Linked} {s U : State} (hW : s.WarmedH U.vm) (h : lam_F x pcc σ c lnk s) : lam_F x pcc σ c lnk U := by
  obtain ⟨m, kc, i0, p0, h1, h2, h3, h4, h5⟩ := h
  have hA := hW.alike
  obtain ⟨kc', h2', he⟩ := hA.2.2 _ _ h2
  have h1' : U.methodNamed? x = some m := by
    have := State.methodNamed?_setVm (s := s) hA x
    rw [h1] at this
    exact this
  refine ⟨m, kc', i0, p0, h1', h2', by rw [he]; exact h3, Jvm.Lambda.isMade_warmer hW h4, ?_⟩
  unfold State.lambdaCallable at h5 ⊢
  simp only [hA.findClass, hA.assignable, hA.superclasses, hA.declaredIn] at h5 ⊢
  exact h5
theorem va_Nw.warmI {C n d : String} {s U : State} (hW : s.WarmedH U.vm) (hZ : va_Nw (.interfaceMethod C C n d) s) : va_Nw (.interfaceMethod C C n d) U := by
  have h2 : (Cond.interfaceMethod C C n d).before #[] (s.setVm U.vm) = true := by
    have h1 : (Cond.interfaceMethod C C n d).before #[] (s.setVm U.vm) = (Cond.interfaceMethod C C n d).before #[] s := by
      simp only [Cond.before, Cond.holds, Cond.value, State.vm_setVm, hW.alike.findClass, State.methodFound?_setVm hW.alike, State.methodNamed?_setVm hW.alike, arm_isInterface_setVm hW.alike]
    rw [h1]
    exact hZ
  exact va_tabs rfl (rfl : (s.setVm U.vm).vm = U.vm) h2
/-! a lambda's class, a call of its object -/
set_option maxRecDepth 100000
def lam_okb (σ : Jvm.Lambda.Shape) (host : String) (B : ByteArray) (rt : FieldType) (mi ci nt cn : Nat) : Bool :=
  match σ.file host with
  | none => false
  | some D => match (layoutMethods D).bind (·[1]?) with
    | none => false
    | some fw => decide ((fw.code.map fun c => (c.code.data, c.maxLocals)) = some (B.data, 2)) && (decide (fw.accessFlags = 0x0001) && (decide (fw.sig.returnType = some rt) && (decide (D.constantPool[mi]? = some (.methodref ci nt)) && (decide (D.constantPool.className? ci = some σ.implClass) && (decide (D.constantPool.nameAndType? nt = some (σ.implName, σ.implDesc.toString)) && (decide (D.constantPool[ci]? = some (.class_ cn)) && (decide (D.constantPool.string? cn = some σ.implClass) && decide (ci ≠ D.thisClass))))))))
theorem lam_okb_spec {σ : Jvm.Lambda.Shape} {host : String} {B : ByteArray} {rt : FieldType} {mi ci nt cn : Nat} (h : lam_okb σ host B rt mi ci nt cn = true) :
    ∃ D fw, σ.file host = some D ∧ (layoutMethods D).bind (·[1]?) = some fw ∧ (fw.code.map fun c => (c.code.data, c.maxLocals)) = some (B.data, 2) ∧ fw.accessFlags = 0x0001 ∧ fw.sig.returnType = some rt ∧ D.constantPool[mi]? = some (.methodref ci nt) ∧ D.constantPool.className? ci = some σ.implClass ∧ D.constantPool.nameAndType? nt = some (σ.implName, σ.implDesc.toString) ∧ D.constantPool[ci]? = some (.class_ cn) ∧ D.constantPool.string? cn = some σ.implClass ∧ ci ≠ D.thisClass := by
  unfold lam_okb at h
  cases hD : σ.file host with
  | none => rw [hD] at h; cases h
  | some D =>
    rw [hD] at h
    dsimp only at h
    cases hf : (layoutMethods D).bind (·[1]?) with
    | none => rw [hf] at h; cases h
    | some fw =>
      rw [hf] at h
      simp only [Bool.and_eq_true, decide_eq_true_eq] at h
      obtain ⟨h1, h2, h3, h4, h5, h6, h7, h8, h9⟩ := h
      exact ⟨D, fw, rfl, hf, h1, h2, h3, h4, h5, h6, h7, h8, h9⟩
theorem lam_made {e : Setting} {vm : Vm} {d c : ClassId} {dk : Class} {σ : Jvm.Lambda.Shape} {host : String} {B : ByteArray} {rt : FieldType} {mi ci nt cn : Nat} (hok : lam_okb σ host B rt mi ci nt cn = true) (hd : vm.classes[d]? = some dk) (hname : dk.name = host) (h : Jvm.Lambda.isMade e vm d σ c = true) :
    ∃ (k tk : Class) (file : ClassFile) (methk : Method) (ck : Code) (toy : ClassId) (t : MethodId),
      vm.classes[c]? = some k ∧ k.name = host ++ "$$Lambda" ∧ k.cf = some file ∧ file.constantPool[mi]? = some (.methodref ci nt) ∧ file.constantPool.nameAndType? nt = some (σ.implName, σ.implDesc.toString) ∧
      vm.method? ⟨c, 1⟩ = some methk ∧ methk.code = some ck ∧ ck.code = B ∧ ck.maxLocals = 2 ∧ methk.locks = false ∧ methk.accessFlags = 0x0001 ∧ methk.sig.returnType = some rt ∧
      vm.findClass σ.implClass = some toy ∧ vm.classes[toy]? = some tk ∧ ((methodIn toy σ.implName σ.implDesc.toString tk.isInterface none).ask e vm).1 = .ok t ∧
      vm.methodReady c mi t ∧ vm.classReady c ci toy := by
  obtain ⟨D, fw, hD, hfw, fc, hfl1, hrt1, g1, g2, g3, g4, g5, g6⟩ := lam_okb_spec hok
  obtain ⟨dk', k, ok, tk, file, cf, object, iface, toy, lay, methods, target, found, hd', hk, hfile, hcf, -, -, -, -, hms, ht, htk, hg, -, hrec, -, -, -, -, hpool, hmeth, -, -, hres, -⟩ := Jvm.Lambda.isMade_spec h
  cases hd.symm.trans hd'
  rw [hname, hD] at hcf
  cases hcf
  rw [hms] at hfw
  obtain ⟨b, hb, hsame⟩ := hmeth 1 fw hfw
  simp only [Jvm.Lambda.sameMethod, Bool.and_eq_true, decide_eq_true_eq] at hsame
  obtain ⟨⟨hn, -, hsig, hfl⟩, hcode⟩ := hsame
  cases hfc : fw.code with
  | none => rw [hfc] at fc; cases fc
  | some x =>
    cases hbc : b.code with
    | none => simp [hfc, hbc] at hcode
    | some y =>
      simp only [hfc, hbc, Bool.and_eq_true, decide_eq_true_eq] at hcode
      simp only [hfc, Option.map_some, Option.some.injEq, Prod.mk.injEq] at fc
      refine ⟨k, tk, file, b, y, toy, target, hk, by rw [hrec.1, hname], hfile, by rw [hpool.2.1]; exact g1, by rw [hpool.2.1]; exact g3, by simp [Vm.method?, hk, hb], hbc, ?_, by rw [← hcode.1.1.1.1.2.1]; exact fc.2, ?_, by rw [← hfl]; exact hfl1, by rw [← hsig]; exact hrt1, ht, htk, hg,
        ⟨k, hk, hres mi _ (Jvm.Lambda.resolvedOf_method g1 g2 ht htk g3 hg)⟩, ⟨k, hk, hres ci _ (Jvm.Lambda.resolvedOf_class g4 g6 g5 ht)⟩⟩
      · rw [← hcode.1.1.1.1.2.2]
        exact ByteArray.ext fc.1
      · simp [Method.locks, Method.isSynchronized, ← hfl, hfl1, hasFlag, Acc.synchronized]
def lam_sW (n : String) : Jvm.Lambda.Shape := { iface := "ToneGraph$Wave", name := "at", sam := ⟨[.int], some .int⟩, captured := [], kind := 6, implClass := "ToneGraph", implName := n, implDesc := ⟨[.int], some .int⟩, implItf := false, inst := ⟨[.int], some .int⟩ }
abbrev lam_tV : FieldType := .object "ToneGraph$Voice"
def lam_sC (n : String) : Jvm.Lambda.Shape := { iface := "ToneGraph$Choice", name := "means", sam := ⟨[lam_tV], some .boolean⟩, captured := [], kind := 6, implClass := "ToneGraph", implName := n, implDesc := ⟨[lam_tV], some .boolean⟩, implItf := false, inst := ⟨[lam_tV], some .boolean⟩ }
def lam_sE : Jvm.Lambda.Shape := { iface := "ToneGraph$Choice", name := "means", sam := ⟨[lam_tV], some .boolean⟩, captured := [.int], kind := 6, implClass := "ToneGraph", implName := "lambda$end$5", implDesc := ⟨[.int, lam_tV], some .boolean⟩, implItf := false, inst := ⟨[lam_tV], some .boolean⟩ }
def lam_bI : ByteArray := ⟨#[27, 184, 0, 17, 172]⟩
def lam_bA : ByteArray := ⟨#[43, 184, 0, 17, 172]⟩
def lam_bE : ByteArray := ⟨#[42, 180, 0, 15, 43, 184, 0, 23, 172]⟩
theorem lam_okW0 : lam_okb (lam_sW "lambda$waveOf$0") "ToneGraph" lam_bI .int 17 14 16 13 = true := by decide +kernel
theorem lam_okW1 : lam_okb (lam_sW "lambda$waveOf$1") "ToneGraph" lam_bI .int 17 14 16 13 = true := by decide +kernel
theorem lam_okW2 : lam_okb (lam_sW "lambda$waveOf$2") "ToneGraph" lam_bI .int 17 14 16 13 = true := by decide +kernel
theorem lam_okC3 : lam_okb (lam_sC "lambda$voiceForNote$3") "ToneGraph" lam_bA .boolean 17 14 16 13 = true := by decide +kernel
theorem lam_okC4 : lam_okb (lam_sC "lambda$voiceForNote$4") "ToneGraph" lam_bA .boolean 17 14 16 13 = true := by decide +kernel
theorem lam_okE : lam_okb lam_sE "ToneGraph" lam_bE .boolean 23 19 22 18 = true := by decide +kernel
def lam_Run (p : Program) (l : Launch) (e : Env) (R : Room) (s : State) (m : MethodId) (args : Array Value) (below : List Frame) (meth : Method) (c : Code) (H : Heap) (locs : List Loc) (cells slots : Nat) (g : JFrame) (rest : List Value) (Qa : State → Outcome → State → Prop) (free : Addr → Prop) : Prop :=
  ∀ T : State, T.heap = H → Stand p l e R s m args below meth c T locs cells slots → ∃ (v : Option Value) (st₀ t T' : State) (L : List Loc), st₀.heap = H ∧ Stand p l e R s m args below meth c T' (locs ++ L) (cells + 0) (slots + 0) ∧ (∀ q ∈ L, free q.base) ∧ T'.heap = t.heap ∧ Qa st₀ (.returned v) t ∧
    Goes p e below T g T' { g with pc := g.pc + 5, stack := v.toList ++ rest }
theorem lam_core {p : Program} {l : Launch} {e : Env} {R' : Room} {s' : State} {mk : MethodId} {a' : Array Value} {below' : List Frame} {methk : Method} {ck : Code} {U : State} (Y : Stand p l e R' s' mk a' below' methk ck U [] 0 0) (hexec : p.tables.exec = Jvm.exec) {mi : Nat}
    {y : MethodName} {t : MethodId} {kt : Class} {metht : Method} {bytes : ByteArray} {maxL : Nat} {ret : Option FieldType} {ws : List Cond} {rm : Room} {Pc : Array Value → State → Prop} {Qc : Array Value → State → Outcome → State → Prop} {free : Addr → Prop}
    (hM : Met l y ws rm Pc Qc 0 0 free) (hbl : FrameBlind Pc) (hrc : rm.cells = 0) (hrs : rm.slots = 0) (hfr : rm.frames + 1 ≤ R'.frames) (hlo : 8 + (maxL + 11) + rm.locals ≤ R'.locals) (hws : ∀ w ∈ ws, ∀ (a' : Array Value) (U : State), s'.WarmedH U.vm → w.before a' U = true) (hcw : Cond.code y bytes maxL ret ∈ ws) (hini : ∀ (a' : Array Value) (U : State), s'.WarmedH U.vm → (Cond.initialized y.cls).before a' U = true)
    (href : plainRef U e mk.cls mi) (hready : U.vm.methodReady mk.cls mi t) (hkt : U.vm.classes[t.cls]? = some kt) (hmt : U.vm.method? t = some metht) (hpoly : signaturePolymorphic kt metht = false) (hstatic : metht.isStatic = true) (hinit : kt.init = .initialized) {As : List Value} (hpar : As.length = metht.sig.parameters.length) (hnamed : U.methodNamed? y = some t)
    {g0 : JFrame} (hg0 : g0.method = mk) (hsz : g0.locals.size = ck.maxLocals) (hmon : 2 * g0.monitorRoom = 0) (hdI : decode ck.code g0.pc = .ok (.invokestatic mi, 3)) (hst : g0.stack = As.reverse) (hPre : Pc As.toArray U) :
    ∃ (v : Option Value) (Bp : Pt), Stand p l e R' s' mk a' below' methk ck Bp.U Bp.locs Bp.cells Bp.slots ∧ PostOf Qc 0 0 free ⟨U, [], 0, 0⟩ As.toArray v Bp ∧ ∀ tg, Steps p.tables e below' (Bp.U.setTop { g0 with pc := g0.pc + 3, stack := v.toList }) tg → Steps p.tables e below' (U.setTop g0) tg := by
  have hK : Back l R' p e below' s' a' y 3 8 (PreOf R' 0 0 Pc) (PostOf Qc 0 0 free) := back_of (bytes := bytes) (maxL := maxL) (ret := ret) hM hbl hrc hrs hfr hlo hws hcw hini
  obtain ⟨v, B, X', hpost, hsteps⟩ := hK mk methk ck ⟨U, [], 0, 0⟩ { g0 with stack := [] } (.invokestatic mi) t As.toArray Y hg0 hsz hdI (by show 2 * g0.monitorRoom + 0 ≤ 8; omega) hnamed ⟨Nat.zero_le _, Nat.zero_le _, hPre⟩
  refine ⟨v, B, X', hpost, fun tg h => ?_⟩
  subst hg0
  have hs : U.topJava?.isSome := Y.here.top
  jvm_step Y.here [hexec, hdI, invokestatic.wp_ready (e := e) (s := U) (m := t) (k := kt) (meth := metht) (args := As) (rest := []) (f := g0) hs href hready hkt hmt hpoly hstatic hinit hpar (by rw [hst]; simp)]
  intro acts
  rw [doInvoke_state]
  refine hsteps.trans ?_
  simpa using h
section LAMR
variable {p : Program} {l : Launch} {e : Env} {R : Room} {s : State} {m : MethodId} {args : Array Value} {below : List Frame} {meth : Method} {c : Code} {H : Heap} {locs : List Loc} {cells slots : Nat}
variable {cc bytes : ByteArray} {pc nL index maxL : Nat} {ls : Array Slot} {rest As : List Value} {own : String}
theorem lam_run (S : CallFix p m c cc nL s args lw_all own) {σ : Jvm.Lambda.Shape} {B : ByteArray} {rt : FieldType} {mi ci nt cn pcs cnt : Nat} {xs xi y : MethodName} {cK : ClassId} {lnk : Linked} (hok : lam_okb σ xs.cls B rt mi ci nt cn = true) (hF : lam_F xs pcs σ cK lnk s)
    {a : Nat} {cell : Cell} (hcell : H[a]? = some cell) (hcls : cell.cls = cK) (hvm : cell.vm = .none)
    (hxi : xi = ⟨σ.iface, σ.name, σ.sam.toString⟩) (hl : (Cond.methodLink own index xi).before args s = true) (hdecl : va_Nw (.declares xi) s) (hface : va_Nw (.interfaceMethod σ.iface σ.iface σ.name σ.sam.toString) s) (hxm : xi.cls ≠ "java/lang/invoke/MethodHandle" ∧ xi.cls ≠ "java/lang/invoke/VarHandle" ∧ (parseMethodDescriptor xi.desc).map (fun d => d.parameters.length) = some 1)
    (hy : y = ⟨σ.implClass, σ.implName, σ.implDesc.toString⟩) {ws ws' : List Cond} {rm : Room} {ret : Option FieldType} {Pc : Array Value → State → Prop} {Qc : Array Value → State → Outcome → State → Prop} {free : Addr → Prop} (hM : Met l y ws rm Pc Qc 0 0 free) (hbl : FrameBlind Pc) (hw : ws = Cond.code y bytes maxL ret :: ws') (hG : GoodIn lw_all ws) (hrc : rm.cells = 0) (hrs : rm.slots = 0)
    (hstat : Cond.static y ∈ lw_all) (hini : Cond.initialized y.cls ∈ lw_all) (hym : y.cls ≠ "java/lang/invoke/MethodHandle" ∧ y.cls ≠ "java/lang/invoke/VarHandle" ∧ (parseMethodDescriptor y.desc).map (fun d => d.parameters.length) = some As.length) (hlam : xs.cls = "ToneGraph")
    (hret : ∀ (a : Array Value) (st : State) (v : Option Value) (t : State), Qc a st (.returned v) t → ∃ r : Int32, v = some (.int r) ∧ narrow rt (.int r) = .int r) (hrt : rt = .int ∨ rt = .boolean)
    {v : Value} {pc0 : Nat} (hdI : decode B pc0 = .ok (.invokestatic mi, 3)) (hdR : decode B (pc0 + 3) = .ok (.ireturn, 1))
    (hin0 : ∀ (U : State) (mk : MethodId) (methk : Method) (ck : Code) (R' : Room) (s' : State) (a' : Array Value) (fs : List Frame), U.heap = H → s.WarmedH U.vm → mk = ⟨cK, 1⟩ → ck.code = B → Stand p l e R' s' mk a' fs methk ck U [] 0 0 → ∀ tg, Steps p.tables e fs (U.setTop { method := mk, pc := pc0, locals := #[.val (.ref a), .val v], stack := As.reverse, locked := none }) tg → Steps p.tables e fs (U.setTop { method := mk, pc := 0, locals := #[.val (.ref a), .val v], stack := [], locked := none }) tg)
    (hPc : ∀ U : State, U.heap = H → s.WarmedH U.vm → Pc As.toArray U) (hsize : ls.size = nL) (hW : 2 * (F0 m pc ls (v :: .ref a :: rest)).monitorRoom + (rest.map fun v => v.category).sum ≤ 8) (hdg : decode cc pc = .ok (.invokeinterface index cnt, 5)) (hf : cells ≤ R.cells ∧ slots ≤ R.slots) (hR : rm.frames + 2 ≤ R.frames ∧ 8 + 13 + (8 + (maxL + 11) + rm.locals) ≤ R.locals) (hcat : (∃ q, v = .int q) ∨ ∃ b, v = .ref b) :
    lam_Run p l e R s m args below meth c H locs cells slots (F0 m pc ls (v :: .ref a :: rest)) rest (Qc As.toArray) free := by
  intro T hT X
  obtain ⟨hx, hb, hml, ho, hts⟩ := S
  obtain ⟨mD, kD, i0, p0, hmD, hkD, hfind, hmade, hcan⟩ := hF
  obtain ⟨kD', hkD', hnameD⟩ := className_of_methodNamed hmD
  cases hkD.symm.trans hkD'
  subst hcls
  have hdecl' : (Cond.declares xi).before args s = true := va_Nw.use rfl hdecl
  have hface' : (Cond.interfaceMethod σ.iface σ.iface σ.name σ.sam.toString).before args s = true := va_Nw.use rfl hface
  obtain ⟨r0, r, hn, hrm, hstR, hsigR⟩ := Cond.declares_spec hdecl'
  obtain ⟨cL, kL, r1, hcL, hkL, hiL, hfoundL, hn1⟩ := Cond.interfaceMethod_spec hface'
  rw [← hxi] at hn1
  cases hn.symm.trans hn1
  have hcls0 : xi.cls = σ.iface := by rw [hxi]
  have hr0cls : r0.cls = cL := Option.some.inj ((findClass_of_methodNamed hn).symm.trans (by rw [hcls0]; exact hcL))
  obtain ⟨hnameR, hdescR⟩ := name_of_methodNamed hn hrm
  obtain ⟨-, -, -, -, -, -, -, iface', -, -, -, -, found, -, hkK0, -, -, -, hi', -, -, -, -, -, -, hfound', -, -, -, -, -, -, -, -, -, -, hsel⟩ := Jvm.Lambda.isMade_spec hmade
  cases hcL.symm.trans hi'
  have hfr : found = r0 := by
    have h1 := hfoundL
    simp only [State.methodFound?, hcL, hkL, hiL, Option.bind_eq_bind, Option.bind_some] at h1
    rw [hfound'] at h1
    exact Option.some.inj h1
  subst hfr
  obtain ⟨i2, hi2, hasg, hway⟩ := State.lambdaCallable_spec hcan
  cases hcL.symm.trans hi2
  have hcode : (Cond.code y bytes maxL ret).before args s = true := hts _ (hG _ (by rw [hw]; exact List.mem_cons_self)).1
  obtain ⟨mT, hmT⟩ := Cond.code_named hcode
  obtain ⟨methT, cT, hmethT, hcT, hbytesT, hlocT, hretT, hlocksT, -, hsigT⟩ := Cond.code_spec hmT hcode
  have hstaticT : methT.isStatic = true := Cond.static_spec hmT hmethT (hts _ hstat)
  obtain ⟨kT, hkT, hnameT⟩ := className_of_methodNamed hmT
  have hfT : s.vm.findClass y.cls = some mT.cls := findClass_of_methodNamed hmT
  have hinitK : kT.init = .initialized := Cond.initialized_spec hfT hkT (hts _ hini)
  obtain ⟨kK, tk, file, methk, ckK, toy, t, hkK, hkn, hfile, hpoolI, hpoolN, hmk, hckK, hbytes, hml2, hlk, hfl, hretk, htoy, htk, hlook, hready, hclsR⟩ := lam_made hok hkD hnameD hmade
  obtain ⟨vm₁, X₁, hstep₁⟩ := X.invokeinterface hx ho hl hn hrm hstR (by rw [hr0cls]; exact hkL) hiL ⟨hxm.1, hxm.2.1⟩ (a := a) (cell := cell) (kcell := kK) (by rw [hT]; exact hcell) (fun z h => by rw [hvm] at h; cases h) hkK (by rw [hr0cls]; exact hasg)
    (m' := ⟨cell.cls, 1⟩) (meth' := methk) (by rw [Launch.admits_selectMethod X.admits]; exact hsel) hmk (by rw [hnameR, hdescR, hxi]; exact hway) (by rw [hfl]; decide) (by simp [Method.isAbstract, hfl, hasFlag, Acc.abstract])
    (g := F0 m pc ls (v :: .ref a :: rest)) rfl (argsL := [v]) (rest := rest) (by
      have h2 := hxm.2.2
      rw [hsigR] at h2
      exact (Option.some.inj h2).symm) rfl (by rw [hb]; exact hdg)
  have hW₁ : s.WarmedH vm₁ := X₁.warmed
  obtain ⟨kD₁, hkD₁, heD₁⟩ := hW₁.alike.2.2 _ _ hkD
  have hnameD₁ : kD₁.name = xs.cls := by rw [heD₁]; exact hnameD
  obtain ⟨kK₁, tk₁, file₁, methk₁, ckK₁, toy₁, t₁, hkK₁, hkn₁, hfile₁, hpoolI₁, hpoolN₁, hmk₁, hckK₁, hbytes₁, hml₁, hlk₁, hfl₁, hretk₁, htoy₁, htk₁, hlook₁, hready₁, hclsR₁⟩ := lam_made hok hkD₁ hnameD₁ (Jvm.Lambda.isMade_warmer hW₁ hmade)
  have hfT₁ : vm₁.findClass σ.implClass = some mT.cls := by rw [hW₁.alike.findClass]; rw [hy] at hfT; exact hfT
  cases htoy₁.symm.trans hfT₁
  have hym' : (σ.implClass ≠ "java/lang/invoke/MethodHandle" ∧ σ.implClass ≠ "java/lang/invoke/VarHandle") := by
    have := hym
    rw [hy] at this
    exact ⟨this.1, this.2.1⟩
  have hmT' : s.methodNamed? ⟨σ.implClass, σ.implName, σ.implDesc.toString⟩ = some mT := by rw [← hy]; exact hmT
  have ht₁ : t₁ = mT := by
    have h1 : (s.setVm vm₁).methodFound? σ.implClass σ.implName σ.implDesc.toString = some mT := by rw [State.methodFound?_setVm hW₁.alike]; exact State.methodFound?_of_named hmT' hym'
    simp only [State.methodFound?, State.vm_setVm, hfT₁, htk₁, Option.bind_eq_bind, Option.bind_some] at h1
    rw [hlook₁] at h1
    exact Option.some.inj h1
  subst ht₁
  have hmethT₁ : vm₁.method? t₁ = some methT := by rw [hW₁.alike.method?]; exact hmethT
  obtain ⟨kT₁, hkT₁, heT₁⟩ := hW₁.alike.2.2 _ _ hkT
  cases htk₁.symm.trans hkT₁
  have hnm : tk₁.name ≠ "java/lang/invoke/MethodHandle" ∧ tk₁.name ≠ "java/lang/invoke/VarHandle" := by
    have : tk₁.name = y.cls := by rw [heT₁]; exact hnameT
    rw [this]; exact ⟨hym.1, hym.2.1⟩
  have hsp : ∀ y : Method, signaturePolymorphic tk₁ y = false := fun y => by simp [signaturePolymorphic, hnm.1, hnm.2]
  obtain ⟨b, hmem⟩ := memberRef_ask' (e := e) (vm := vm₁) (d := cell.cls) (index := mi) hkK₁ hfile₁ (Or.inl hpoolI₁) hpoolN₁
  have hpk : (T.setVm vm₁).plainMethod ⟨cell.cls, 1⟩ := State.plainMethod.of_name (fun k' hk' => by cases hkK₁.symm.trans hk'; rw [hkn₁, hlam]; decide)
  have hdg2 : decode c.code pc = .ok (.invokeinterface index cnt, 5) := by rw [hb]; exact hdg
  have hcatS : (rest.map fun v => v.category).sum ≤ 8 := by omega
  obtain ⟨Y₀, hin⟩ := X₁.into (g := F0 m pc ls rest) rfl (hsize.trans hml.symm) hdg2 #[.ref a, v] (R' := { frames := rm.frames + 1, locals := 8 + (maxL + 11) + rm.locals }) hmk₁ hckK₁ hlk₁ hpk
    (by show rm.frames + 1 + 1 ≤ R.frames; omega) (by rw [hml₁]; have : 2 * (F0 m pc ls rest).monitorRoom + (rest.map fun v => v.category).sum ≤ 8 := hW; show 2 * (F0 m pc ls rest).monitorRoom + (rest.map fun v => v.category).sum + (2 + 11) + (8 + (maxL + 11) + rm.locals) ≤ R.locals; omega) (by show cells + 0 ≤ R.cells; omega) (by show slots + 0 ≤ R.slots; omega)
  generalize hU : ((T.setVm vm₁).setTop (F0 m pc ls rest)).pushFrame (.java (entryFrame ⟨cell.cls, 1⟩ #[.ref a, v] ckK₁.maxLocals)) = U at Y₀ hin
  have hvmU : U.vm = vm₁ := by rw [← hU]; rfl
  have hheap : U.heap = H := by rw [← hU, ← hT]; rfl
  have hloc : entryFrame ⟨cell.cls, 1⟩ #[.ref a, v] ckK₁.maxLocals = { method := ⟨cell.cls, 1⟩, pc := 0, locals := #[.val (.ref a), .val v], stack := [], locked := none } := by
    rw [hml₁]
    rcases hcat with ⟨b, h⟩ | ⟨b, h⟩ <;> (subst h; rfl)
  have hsW : ∀ V : State, ((T.setVm vm₁).calling (F0 m pc ls rest) ⟨cell.cls, 1⟩ #[.ref a, v]).WarmedH V.vm → s.WarmedH V.vm := fun V h => State.WarmedH.trans hW₁ h
  obtain ⟨rv, Bp, Y₁, ⟨g', mk', t', L, e1, e2, hq, h1, hL, h2, h3⟩, hsteps⟩ := lam_core (y := y) (t := t₁) (kt := tk₁) (metht := methT) (As := As) (mi := mi) Y₀ hx hM hbl hrc hrs (by show rm.frames + 1 ≤ rm.frames + 1; omega) (by show 8 + (maxL + 11) + rm.locals ≤ 8 + (maxL + 11) + rm.locals; omega)
    (fun w hw2 a' V hWV => pay_in hts hG w hw2 a' V (hsW V hWV)) (bytes := bytes) (maxL := maxL) (ret := ret) (by rw [hw]; exact List.mem_cons_self) (fun a' V hWV => word_at (hsW V hWV) (Or.inl (by simp [Cond.onTables, Cond.keeps, Cond.steady])) (hts _ hini))
    (by rw [← hU]; exact ⟨ci, _, _, b, t₁.cls, tk₁, hmem, hclsR₁, htk₁, by simp [hsp]⟩) (by rw [hvmU]; exact hready₁) (by rw [hvmU]; exact htk₁) (by rw [hvmU]; exact hmethT₁) (hsp _) hstaticT (by rw [heT₁]; exact hinitK)
    (by
      have h2 := hym.2.2
      rw [hsigT] at h2
      exact (Option.some.inj h2).symm)
    (by
      have h0 : (s.setVm vm₁).methodNamed? y = some t₁ := by rw [State.methodNamed?_setVm hW₁.alike]; exact hmT
      rw [← hU]
      exact h0)
    (g0 := { method := ⟨cell.cls, 1⟩, pc := pc0, locals := #[.val (.ref a), .val v], stack := As.reverse, locked := none }) rfl (by rw [hml₁]; rfl) rfl (by rw [hbytes₁]; exact hdI) rfl (hPc U hheap (by rw [hvmU]; exact hW₁))
  dsimp only [Pt.U, Pt.locs, Pt.cells, Pt.slots] at Y₁ e1 e2 h1 h2 h3 hsteps
  obtain ⟨rr, rfl, hnar⟩ := hret _ _ _ _ hq
  obtain ⟨fs, hleave, -, hended, hWe, hsame⟩ := Y₁.leave (v := some (.int rr)) (fun h => by rw [hretk₁] at h; cases h) hlk₁
  obtain ⟨T', X', hW', hBn, ht⟩ := X₁.outOf (g := F0 m pc ls rest) rfl hdg2 hended hWe hsame
  refine ⟨some (.int rr), _, t', T', L, ?_, ?_, hL, ?_, hq, ?_⟩
  · exact hheap
  · rw [h1, h2, h3] at X'
    simpa using X'
  · rw [← e1]
    have := congrArg State.heap ht
    exact this.symm
  · intro tg htg
    refine hstep₁ tg (fun acts => ?_)
    show Steps p.tables e below (doInvoke e ((T.setVm vm₁).setTop (F0 m pc ls rest)) acts ⟨cell.cls, 1⟩ #[.ref a, v]).1 tg
    rw [hin acts]
    refine Steps.trans (s₂ := T'.setTop { method := m, pc := pc + 5, locals := ls, stack := (some (Value.int rr)).toList ++ rest, locked := none }) ?_ htg
    rw [← ht]
    refine Steps.weaken (mid := [.java (F0 m pc ls rest)]) ?_
    rw [hloc]
    refine hin0 U ⟨cell.cls, 1⟩ methk₁ ckK₁ _ _ _ _ hheap (by rw [hvmU]; exact hW₁) rfl hbytes₁ Y₀ _ (hsteps _ ?_)
    have hs : Bp.1.topJava?.isSome := Y₁.here.top
    have hmk' : Bp.1.vm.method? ⟨cell.cls, 1⟩ = some methk₁ := Y₁.method'
    rcases hrt with hrt | hrt
    · subst hrt
      jvm_step Y₁.here [hs, hx, hbytes₁, hdR, hmk', hretk₁, narrow]
      intro acts''
      rw [hleave { method := ⟨cell.cls, 1⟩, pc := pc0 + 3, locals := #[.val (.ref a), .val v], stack := [], locked := none } acts'' rfl rfl rfl]
      exact Steps.refl _
    · subst hrt
      jvm_step Y₁.here [hs, hx, hbytes₁, hdR, hmk', hretk₁, hnar]
      intro acts''
      rw [hleave { method := ⟨cell.cls, 1⟩, pc := pc0 + 3, locals := #[.val (.ref a), .val v], stack := [], locked := none } acts'' rfl rfl rfl]
      exact Steps.refl _
end LAMR
def lam_okf : Bool :=
  match lam_sE.file "ToneGraph" with
  | none => false
  | some D => match layoutFields D 0 with
    | none => false
    | some lay => decide (D.constantPool[15]? = some (.fieldref 2 14)) && (decide (D.constantPool.nameAndType? 14 = some ("arg$1", "I")) && (decide (lay.1.findIdx? (·.name == "arg$1") = some 0) && (decide ((lay.1[0]?).map (fun f => (f.isStatic, f.slot)) = some (false, 0)) && decide (lay.2.1 = #[.int]))))
theorem lam_okf_ok : lam_okf = true := by decide +kernel
theorem lam_madeF {e : Setting} {vm : Vm} {d c : ClassId} {dk : Class} (hd : vm.classes[d]? = some dk) (hname : dk.name = "ToneGraph") (h : Jvm.Lambda.isMade e vm d lam_sE c = true) (hO : ∀ o ok, vm.findClass "java/lang/Object" = some o → vm.classes[o]? = some ok → ok.instanceTypes.size = 0) :
    ∃ (f0 : Field) (k : Class), vm.fieldReady c 15 c f0 ∧ f0.isStatic = false ∧ f0.slot = 0 ∧ vm.classes[c]? = some k ∧ k.instanceTypes = #[.int] := by
  have hok := lam_okf_ok
  obtain ⟨dk', k, ok, tk, file, cf, object, iface, toy, lay, methods, target, found, hd', hk, hfile, hcf, hobj, -, hok2, hlay, hms, ht, htk, hg, -, hrec, -, -, -, hitf, hpool, hmeth, hfields, hty, hres, -⟩ := Jvm.Lambda.isMade_spec h
  cases hd.symm.trans hd'
  rw [hname] at hcf
  unfold lam_okf at hok
  rw [hcf] at hok
  dsimp only at hok
  have h0 := hO object ok hobj hok2
  rw [h0] at hlay
  rw [hlay] at hok
  simp only [Bool.and_eq_true, decide_eq_true_eq] at hok
  obtain ⟨g1, g2, g3, g4, g5⟩ := hok
  obtain ⟨f0, hf0, hp0⟩ := Option.map_eq_some_iff.mp g4
  simp only [Prod.mk.injEq] at hp0
  refine ⟨f0, k, ⟨k, 0, k, hk, hres 15 _ (Jvm.Lambda.resolvedOf_field g1 g2 g3), hk, hfields 0 _ hf0⟩, hp0.1, hp0.2, hk, ?_⟩
  rw [hty.1, g5, Array.eq_empty_of_size_eq_zero h0]
  rfl
theorem lam_obj {s U : State} (hW : s.WarmedH U.vm) {args : Array Value} (hi : (Cond.instantiable "java/lang/Object" 0).before args s = true) : ∀ o ok, U.vm.findClass "java/lang/Object" = some o → U.vm.classes[o]? = some ok → ok.instanceTypes.size = 0 := by
  intro o ok ho hok
  obtain ⟨c, k, hc, hk, -, -, -, hn⟩ := Cond.instantiable_spec hi
  rw [hW.alike.findClass] at ho
  cases hc.symm.trans ho
  obtain ⟨k', hk', he⟩ := hW.alike.2.2 _ _ hk
  cases hok.symm.trans hk'
  rw [he]
  exact hn

/-! a call of a wave's object -/
set_option maxRecDepth 100000
def wd_wave (k : Nat) (post : Int32 → Prop) (x : Int32) : Prop := (k = 0 → wp_X1_lambda_waveOf_0 post x) ∧ (k = 1 → wp_X1_lambda_waveOf_1 post x) ∧ (k = 2 → wp_X1_lambda_waveOf_2 post x)
section LAMC
variable {p : Program} {l : Launch} {e : Env} {R : Room} {s : State} {m : MethodId} {args : Array Value} {below : List Frame} {meth : Method} {c : Code} {H : Heap} {locs : List Loc} {cells slots : Nat} {Q : State → Prop}
variable {cc : ByteArray} {pc nL maxL : Nat} {ls : Array Slot} {rest : List Value} {E : tc_E} {S : tc_S} {bytes : ByteArray}
theorem lam_dI : decode lam_bI 0 = .ok (.iload_n 1, 1) := by decide +kernel
theorem lam_dI1 : decode lam_bI 1 = .ok (.invokestatic 17, 3) := by decide +kernel
theorem lam_dI4 : decode lam_bI 4 = .ok (.ireturn, 1) := by decide +kernel
theorem lam_dA : decode lam_bA 0 = .ok (.aload_n 1, 1) := by decide +kernel
theorem lam_dA1 : decode lam_bA 1 = .ok (.invokestatic 17, 3) := by decide +kernel
theorem lam_dA4 : decode lam_bA 4 = .ok (.ireturn, 1) := by decide +kernel
theorem lam_dE0 : decode lam_bE 0 = .ok (.aload_n 0, 1) := by decide +kernel
theorem lam_dE1 : decode lam_bE 1 = .ok (.getfield 15, 3) := by decide +kernel
theorem lam_dE4 : decode lam_bE 4 = .ok (.aload_n 1, 1) := by decide +kernel
theorem lam_dE5 : decode lam_bE 5 = .ok (.invokestatic 23, 3) := by decide +kernel
theorem lam_dE8 : decode lam_bE 8 = .ok (.ireturn, 1) := by decide +kernel
theorem tc_Z.lf {U : State} (h : tc_Z E U H) : tc_LF E U H := h.2.2.2.2.2.2.2
theorem lam_wv (C : tc_C p m c cc nL s args RX5 E) {n : String} (hok : lam_okb (lam_sW n) "ToneGraph" lam_bI .int 17 14 16 13 = true) {pcs a : Nat} (hA : lam_A lam_yW pcs (lam_sW n) a (eb E) s H) {y : MethodName} (hy : y = ⟨"ToneGraph", n, "(I)I"⟩) (hcode : Cond.code y bytes maxL (some .int) ∈ lw_all) (hstat : Cond.static y ∈ lw_all) (hini : Cond.initialized y.cls ∈ lw_all) (hm : maxL ≤ 20) (hym : y.cls ≠ "java/lang/invoke/MethodHandle" ∧ y.cls ≠ "java/lang/invoke/VarHandle" ∧ (parseMethodDescriptor y.desc).map (fun d => d.parameters.length) = some 1) {x : Int32} {post : Int32 → Prop} (hM : gb_Ps l y (ws_ y bytes maxL (some .int)) ({ frames := 0, cells := 0, slots := 0, locals := 0 } : Room) [.int x] post)
    (hsize : ls.size = nL) (hW : 2 * (F0 m pc ls rest).monitorRoom + (rest.map fun v => v.category).sum ≤ 8) (hdg : decode cc pc = .ok (.invokeinterface 70 2, 5)) (hR : 2 ≤ R.frames ∧ 60 ≤ R.locals) (hf : cells ≤ R.cells ∧ slots ≤ R.slots)
    (kk : ∀ r : Int32, post r → W p l e R s m args below meth c H locs cells slots Q (F0 m (pc + 5) ls (.int r :: rest))) : W p l e R s m args below meth c H locs cells slots Q (F0 m pc ls (.int x :: .ref a :: rest)) := by
  obtain ⟨-, cK, hF, cell, hcell, hcls, hvm⟩ := hA
  have hx := C.hx
  intro T hT X
  obtain ⟨v, st₀, t, T', L, h0, X', hL, e1, ⟨r, hv, hp, hh⟩, st⟩ := lam_run (l := l) (xs := lam_yW) (xi := ⟨"ToneGraph$Wave", "at", "(I)I"⟩) (y := y) (rt := .int) (v := .int x) (pc0 := 1) (cnt := 2) (ls := ls) (pc := pc) (rest := rest) (As := [.int x]) C.1 hok hF hcell hcls hvm rfl (C.hts _ q470) (C.nw 76 rfl) (C.nw 87 rfl) ⟨by decide, by decide, by decide +kernel⟩ (by rw [hy]; rfl) hM (fun a U g mk q => q) rfl (lw_meth hcode) rfl rfl hstat hini
    hym rfl (fun a st v t h => by obtain ⟨r, hv, -, -⟩ := h; exact ⟨r, Outcome.returned.inj hv, rfl⟩) (Or.inl rfl) lam_dI1 lam_dI4
    (fun U mk methk ck R' s' a' fs hU hWU hmk hck Y tg h => by
      jvm_step Y.here [hx, hck, lam_dI]
      exact h)
    (fun U hU hW => ⟨rfl, trivial⟩) hsize hW hdg hf (by show 0 + 2 ≤ R.frames ∧ 8 + 13 + (8 + (maxL + 11) + 0) ≤ R.locals; omega) (Or.inl ⟨_, rfl⟩) T hT X
  cases hv
  obtain ⟨t2, a1, b1⟩ := kk r hp T' (by rw [e1, hh, h0]) (Stand.forget X' (fun q h => (hL q h).elim))
  exact ⟨t2, st t2 a1, b1⟩
theorem lam_wave (C : tc_C p m c cc nL s args RX5 E) (hS : va_S (fun q => eb E ≤ q) s.heap H locs) {k : Nat} (hk3 : k < 3) {x : Int32} {post : Int32 → Prop} (hk : wd_wave k post x) (hsize : ls.size = nL) (hW : 2 * (F0 m pc ls rest).monitorRoom + (rest.map fun v => v.category).sum ≤ 8) (hdg : decode cc pc = .ok (.invokeinterface 70 2, 5)) (hR : 2 ≤ R.frames ∧ 60 ≤ R.locals) (hf : cells ≤ R.cells ∧ slots ≤ R.slots)
    (kk : ∀ r : Int32, post r → W p l e R s m args below meth c H locs cells slots Q (F0 m (pc + 5) ls (.int r :: rest))) : W p l e R s m args below meth c H locs cells slots Q (F0 m pc ls (.int x :: .ref (es E (k + 2)) :: rest)) := by
  obtain ⟨h0, h1, h2, -⟩ := C.hZ.lf.at (State.WarmedH.refl s) hS.2.1
  match k, hk3 with
  | 0, _ => exact lam_wv C lam_okW0 h0 rfl q1104 q1103 q53 (by decide) (by decide +kernel) (t_X1_lambda_waveOf_0 l (hk.1 rfl)) hsize hW hdg hR hf kk
  | 1, _ => exact lam_wv C lam_okW1 h1 rfl q1107 q1106 q53 (by decide) (by decide +kernel) (t_X1_lambda_waveOf_1 l (hk.2.1 rfl)) hsize hW hdg hR hf kk
  | 2, _ => exact lam_wv C lam_okW2 h2 rfl q1110 q1109 q53 (by decide) (by decide +kernel) (t_X1_lambda_waveOf_2 l (hk.2.2 rfl)) hsize hW hdg hR hf kk
end LAMC
/-! a call of a choice's object -/
def lam_Z (k : Nat) (key : Int32) (z : Nat) (E : tc_E) (U : State) (H : Heap) : Prop := (k = 0 ∧ z = es E 5) ∨ (k = 1 ∧ z = es E 6) ∨ (k = 2 ∧ ∃ (c : ClassId) (cell : Cell), lam_F lam_yE 12 lam_sE c (.makes c) U ∧ H[z]? = some cell ∧ cell.cls = c ∧ cell.vm = .none ∧ cell.slots = #[.int key])
def wd_choice (E : tc_E) (post : Int32 → Prop) (k : Nat) (key : Int32) (v : Nat) (S : tc_S) : Prop := (k = 0 → wp_X1_lambda_voiceForNote_3 E (fun r _ => post r) v S) ∧ (k = 1 → wp_X1_lambda_voiceForNote_4 E (fun r _ => post r) v S) ∧ (k = 2 → wp_X1_lambda_end_5 E (fun r _ => post r) v key S)
def lam_nar (post : Int32 → Prop) : Int32 → tc_S → Prop := fun r _ => post r ∧ narrow .boolean (.int r) = .int r
theorem lam_n0 : narrow .boolean (.int 0) = .int 0 := by decide
theorem lam_n1 : narrow .boolean (.int 1) = .int 1 := by decide
theorem lam_m3 {E : tc_E} {post : Int32 → Prop} {v : Nat} {S : tc_S} (h : wp_X1_lambda_voiceForNote_3 E (fun r _ => post r) v S) : wp_X1_lambda_voiceForNote_3 E (lam_nar post) v S := ⟨h.1, h.2, h.1⟩
theorem lam_m4 {E : tc_E} {post : Int32 → Prop} {v : Nat} {S : tc_S} (h : wp_X1_lambda_voiceForNote_4 E (fun r _ => post r) v S) : wp_X1_lambda_voiceForNote_4 E (lam_nar post) v S := ⟨h, lam_n1⟩
theorem lam_m5 {E : tc_E} {post : Int32 → Prop} {v : Nat} {key : Int32} {S : tc_S} (h : wp_X1_lambda_end_5 E (fun r _ => post r) v key S) : wp_X1_lambda_end_5 E (lam_nar post) v key S :=
  ⟨fun a => ⟨h.1 a, lam_n0⟩, fun a => ⟨fun b => ⟨(h.2 a).1 b, lam_n0⟩, fun b => ⟨fun d => ⟨((h.2 a).2 b).1 d, lam_n0⟩, fun d => ⟨((h.2 a).2 b).2 d, lam_n1⟩⟩⟩⟩
section LAMD
variable {p : Program} {l : Launch} {e : Env} {R : Room} {s : State} {m : MethodId} {args : Array Value} {below : List Frame} {meth : Method} {c : Code} {H : Heap} {locs : List Loc} {cells slots : Nat} {Q : State → Prop}
variable {cc : ByteArray} {pc nL maxL : Nat} {ls : Array Slot} {rest As : List Value} {E : tc_E} {S : tc_S} {bytes : ByteArray}
theorem lam_ch (C : tc_C p m c cc nL s args RX1 E) (hH : tc_ok E S H) (hS : tc_HR s.heap H locs) {σ : Jvm.Lambda.Shape} {B : ByteArray} {mi ci nt cn pcs cnt pc0 a : Nat} {xs y : MethodName} {cK : ClassId} {lnk : Linked} (hok : lam_okb σ xs.cls B .boolean mi ci nt cn = true) (hlam : xs.cls = "ToneGraph") (hF : lam_F xs pcs σ cK lnk s) {cell : Cell} (hcell : H[a]? = some cell) (hcls : cell.cls = cK) (hvm : cell.vm = .none)
    (hxi : (⟨"ToneGraph$Choice", "means", "(LToneGraph$Voice;)Z"⟩ : MethodName) = ⟨σ.iface, σ.name, σ.sam.toString⟩) (hface : Cond.interfaceMethod σ.iface σ.iface σ.name σ.sam.toString = Cond.interfaceMethod "ToneGraph$Choice" "ToneGraph$Choice" "means" "(LToneGraph$Voice;)Z") (hy : y = ⟨σ.implClass, σ.implName, σ.implDesc.toString⟩) (hcode : Cond.code y bytes maxL (some .boolean) ∈ lw_all) (hstat : Cond.static y ∈ lw_all) (hini : Cond.initialized y.cls ∈ lw_all) (hm : maxL ≤ 20) (hym : y.cls ≠ "java/lang/invoke/MethodHandle" ∧ y.cls ≠ "java/lang/invoke/VarHandle" ∧ (parseMethodDescriptor y.desc).map (fun d => d.parameters.length) = some As.length) {v : Nat} {post : Int32 → Prop} (hM : tc_R l y (ws_ y bytes maxL (some .boolean)) ({ frames := 0, cells := 0, slots := 0, locals := 0 } : Room) E As S (fun _ _ => True) (fun r : Int32 => some (.int r)) (lam_nar post))
    (hdI : decode B pc0 = .ok (.invokestatic mi, 3)) (hdR : decode B (pc0 + 3) = .ok (.ireturn, 1))
    (hin0 : ∀ (U : State) (mk : MethodId) (methk : Method) (ck : Code) (R' : Room) (s' : State) (a' : Array Value) (fs : List Frame), U.heap = H → s.WarmedH U.vm → mk = ⟨cK, 1⟩ → ck.code = B → Stand p l e R' s' mk a' fs methk ck U [] 0 0 → ∀ tg, Steps p.tables e fs (U.setTop { method := mk, pc := pc0, locals := #[.val (.ref a), .val (.ref (ea E (10, v)))], stack := As.reverse, locked := none }) tg → Steps p.tables e fs (U.setTop { method := mk, pc := 0, locals := #[.val (.ref a), .val (.ref (ea E (10, v)))], stack := [], locked := none }) tg)
    (hsize : ls.size = nL) (hW : 2 * (F0 m pc ls rest).monitorRoom + (rest.map fun v => v.category).sum ≤ 8) (hdg : decode cc pc = .ok (.invokeinterface 199 cnt, 5)) (hR : 2 ≤ R.frames ∧ 60 ≤ R.locals) (hf : cells ≤ R.cells ∧ slots ≤ R.slots)
    (kk : ∀ r : Int32, post r → W p l e R s m args below meth c H locs cells slots Q (F0 m (pc + 5) ls (.int r :: rest))) : W p l e R s m args below meth c H locs cells slots Q (F0 m pc ls (.ref (ea E (10, v)) :: .ref a :: rest)) := by
  intro T hT X
  obtain ⟨rv, st₀, t, T', L, h0, X', hL, e1, ⟨⟨r, S', hv, ⟨hp, hnr⟩, -⟩, hh⟩, st⟩ := lam_run (l := l) (xs := xs) (xi := ⟨"ToneGraph$Choice", "means", "(LToneGraph$Voice;)Z"⟩) (y := y) (rt := .boolean) (v := .ref (ea E (10, v))) (pc0 := pc0) (cnt := cnt) (ls := ls) (pc := pc) (rest := rest) (As := As) C.1 hok hF hcell hcls hvm hxi (C.hts _ q1095) (C.nw 72 rfl) (by rw [hface]; exact C.nw 86 rfl) ⟨by decide, by decide, by decide +kernel⟩ hy hM (fun a U g mk q => ⟨q.1, (tc_blind a U g mk ⟨q.1, q.2.1⟩).2, trivial⟩) rfl (lw_meth hcode) rfl rfl hstat hini
    hym hlam (fun a st v t h => by obtain ⟨⟨r, S', hv, hp, -⟩, -⟩ := h; exact ⟨r, Outcome.returned.inj hv, hp.2⟩) (Or.inr rfl) hdI hdR hin0
    (fun U hU hW => ⟨rfl, C.preAt hH hS.toS hU hW, trivial⟩) hsize hW hdg hf (by show 0 + 2 ≤ R.frames ∧ 8 + 13 + (8 + (maxL + 11) + 0) ≤ R.locals; omega) (Or.inr ⟨_, rfl⟩) T hT X
  cases hv
  obtain ⟨t2, a1, b1⟩ := kk r hp T' (by rw [e1, hh, h0]) (Stand.forget X' (fun q h => (hL q h).elim))
  exact ⟨t2, st t2 a1, b1⟩
theorem lam_choice (C : tc_C p m c cc nL s args RX1 E) {k z : Nat} {key : Int32} (hz : lam_Z k key z E s s.heap) (hH : tc_ok E S H) (hS : tc_HR s.heap H locs) {v : Nat} (hv : v < 4) {post : Int32 → Prop} (hk : wd_choice E post k key v S) (hsize : ls.size = nL) (hW : 2 * (F0 m pc ls rest).monitorRoom + (rest.map fun v => v.category).sum ≤ 8) (hdg : decode cc pc = .ok (.invokeinterface 199 2, 5)) (hR : 2 ≤ R.frames ∧ 60 ≤ R.locals) (hf : cells ≤ R.cells ∧ slots ≤ R.slots)
    (kk : ∀ r : Int32, post r → W p l e R s m args below meth c H locs cells slots Q (F0 m (pc + 5) ls (.int r :: rest))) : W p l e R s m args below meth c H locs cells slots Q (F0 m pc ls (.ref (ea E (10, v)) :: .ref z :: rest)) := by
  have hx := C.hx
  have hHs : H = s.heap := hS.1
  obtain ⟨-, -, -, h3, h4, -⟩ := C.hZ.lf
  rcases hz with ⟨rfl, rfl⟩ | ⟨rfl, rfl⟩ | ⟨rfl, cK, cell, hF, hcell, hcls, hvm, hsl⟩
  · obtain ⟨-, cK, hF, cell, hcell, hcls, hvm⟩ := h3
    exact lam_ch C hH hS (As := [.ref (ea E (10, v))]) (xs := lam_yV) lam_okC3 rfl hF (by rw [hHs]; exact hcell) hcls hvm (by decide +kernel) (by decide +kernel) (by decide +kernel) q1089 q1088 q53 (by decide) ⟨by decide, by decide, (by decide +kernel : (parseMethodDescriptor "(LToneGraph$Voice;)Z").map (fun d => d.parameters.length) = some 1)⟩ (t_X1_lambda_voiceForNote_3 l hv (lam_m3 (hk.1 rfl))) lam_dA1 lam_dA4
      (fun U mk methk ck R' s' a' fs hU hWU hmk hck Y tg h => by
        jvm_step Y.here [hx, hck, lam_dA, Value.isRef]
        exact h) hsize hW hdg hR hf kk
  · obtain ⟨-, cK, hF, cell, hcell, hcls, hvm⟩ := h4
    exact lam_ch C hH hS (As := [.ref (ea E (10, v))]) (xs := lam_yV) lam_okC4 rfl hF (by rw [hHs]; exact hcell) hcls hvm (by decide +kernel) (by decide +kernel) (by decide +kernel) q1099 q1098 q53 (by decide) ⟨by decide, by decide, (by decide +kernel : (parseMethodDescriptor "(LToneGraph$Voice;)Z").map (fun d => d.parameters.length) = some 1)⟩ (t_X1_lambda_voiceForNote_4 l hv (lam_m4 (hk.2.1 rfl))) lam_dA1 lam_dA4
      (fun U mk methk ck R' s' a' fs hU hWU hmk hck Y tg h => by
        jvm_step Y.here [hx, hck, lam_dA, Value.isRef]
        exact h) hsize hW hdg hR hf kk
  · exact lam_ch C hH hS (As := [.int key, .ref (ea E (10, v))]) (xs := lam_yE) lam_okE rfl hF (by rw [hHs]; exact hcell) hcls hvm (by decide +kernel) (by decide +kernel) (by decide +kernel) q1123 q1122 q53 (by decide) ⟨by decide, by decide, (by decide +kernel : (parseMethodDescriptor "(ILToneGraph$Voice;)Z").map (fun d => d.parameters.length) = some 2)⟩ (t_X1_lambda_end_5 l hv (lam_m5 (hk.2.2 rfl))) lam_dE5 lam_dE8
      (fun U mk methk ck R' s' a' fs hU hWU hmk hck Y tg h => by
        obtain ⟨mD, kD, i0, p0, hmD, hkD, hfind, hmade, hcan⟩ := hF
        obtain ⟨kD', hkD', hnameD⟩ := className_of_methodNamed hmD
        cases hkD.symm.trans hkD'
        obtain ⟨kD₁, hkD₁, heD₁⟩ := hWU.alike.2.2 _ _ hkD
        obtain ⟨f0, kK, hf1, hf2, hf3, -, -⟩ := lam_madeF hkD₁ (by rw [heD₁]; exact hnameD) (Jvm.Lambda.isMade_warmer hWU hmade) (lam_obj hWU (C.hts _ q1648))
        have hs : U.topJava?.isSome := Y.here.top
        subst hmk
        jvm_step Y.here [hx, hck, lam_dE0, Value.isRef]
        jvm_step Y.here [hx, hck, lam_dE1, getfield.wp_ready (e := e) (s := U) (c := cK) (field := f0) (a := z) (rest := []) (cell := cell) (v := .int key)
          (f := { method := ⟨cK, 1⟩, pc := 1, locals := #[.val (.ref z), .val (.ref (ea E (10, v)))], stack := [.ref z], locked := none }) hs hf1 hf2 rfl (by rw [hU, hHs]; exact hcell) (by rw [hvm]; intro h; cases h) (by rw [hsl, hf3]; rfl)]
        jvm_step Y.here [hx, hck, lam_dE4, Value.isRef]
        exact h) hsize hW hdg hR hf kk
end LAMD
/-! locals that hold a cell or null -/
section LVQ
variable {p : Program} {l : Launch} {e : Env} {R : Room} {s : State} {m : MethodId} {args : Array Value} {below : List Frame} {meth : Method} {c : Code} {H : Heap} {locs : List Loc} {cells slots : Nat} {Q : State → Prop}
variable {cc : ByteArray} {pc : Nat} {ls : Array Slot} {rest : List Value}
theorem lv_aload_nQ (hexec : p.tables.exec = Jvm.exec) (hb : c.code = cc) {k : Fin 4} {i : Nat} {r : Option Nat} (hdg : decode cc pc = .ok (.aload_n k, 1)) (hi : (k : Nat) = i) (hl : ls[i]? = some (.val (va_rf r)))
    (kk : W p l e R s m args below meth c H locs cells slots Q (F0 m (pc + 1) ls (va_rf r :: rest))) : W p l e R s m args below meth c H locs cells slots Q (F0 m pc ls rest) := by
  cases r with
  | none => exact lv_aload_nN hexec hb hdg hi hl kk
  | some a => exact lv_aload_n hexec hb hdg hi hl kk
theorem lv_aloadQ (hexec : p.tables.exec = Jvm.exec) (hb : c.code = cc) {i : Nat} {r : Option Nat} (hdg : decode cc pc = .ok (.aload i, 2)) (hl : ls[i]? = some (.val (va_rf r)))
    (kk : W p l e R s m args below meth c H locs cells slots Q (F0 m (pc + 2) ls (va_rf r :: rest))) : W p l e R s m args below meth c H locs cells slots Q (F0 m pc ls rest) := by
  cases r with
  | none => exact lv_aloadN hexec hb hdg hl kk
  | some a => exact lv_aload hexec hb hdg hl kk
theorem lv_astore_nQ (hexec : p.tables.exec = Jvm.exec) (hb : c.code = cc) {k : Fin 4} {i nL : Nat} {r : Option Nat} {lv lv' : List (Nat × Value)} (hdg : decode cc pc = .ok (.astore_n k, 1)) (hi : (k : Nat) = i) (h : lv_has ls nL lv) (hn : i < nL) (hl : (i, va_rf r) :: lv.filter (fun q => !(q.1 == i) && !(q.1 + 1 == i && q.2.category == 2)) = lv')
    (kk : ∀ ls', lv_has ls' nL lv' → W p l e R s m args below meth c H locs cells slots Q (F0 m (pc + 1) ls' rest)) : W p l e R s m args below meth c H locs cells slots Q (F0 m pc ls (va_rf r :: rest)) := by
  cases r with
  | none => exact lv_astore_nN hexec hb hdg hi h hn hl kk
  | some a => exact lv_astore_n hexec hb hdg hi h hn hl kk
theorem lv_astoreQ (hexec : p.tables.exec = Jvm.exec) (hb : c.code = cc) {i nL : Nat} {r : Option Nat} {lv lv' : List (Nat × Value)} (hdg : decode cc pc = .ok (.astore i, 2)) (h : lv_has ls nL lv) (hn : i < nL) (hl : (i, va_rf r) :: lv.filter (fun q => !(q.1 == i) && !(q.1 + 1 == i && q.2.category == 2)) = lv')
    (kk : ∀ ls', lv_has ls' nL lv' → W p l e R s m args below meth c H locs cells slots Q (F0 m (pc + 2) ls' rest)) : W p l e R s m args below meth c H locs cells slots Q (F0 m pc ls (va_rf r :: rest)) := by
  cases r with
  | none => exact lv_astoreN hexec hb hdg h hn hl kk
  | some a => exact lv_astore hexec hb hdg h hn hl kk
end LVQ

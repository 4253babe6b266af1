/-! BASE: the logical heap: cells by labels. A world is a list of labels Ls, their addresses ad, their contents w. -/
set_option maxRecDepth 100000
abbrev gb_L : Type := Nat × Nat
def gb_wl (Ls : List gb_L) (ad : gb_L → Nat) (w : gb_L → va_E) : va_W := Ls.map (fun L => (ad L, w L))
def gb_up {α : Type} (f : gb_L → α) (L : gb_L) (v : α) : gb_L → α := fun X => if X = L then v else f X
def gb_W (D : va_G) (cl : List vw_C) (A : Nat → Prop) (Ls : List gb_L) (ad : gb_L → Nat) (w : gb_L → va_E) (H : Heap) : Prop := va_P D cl (gb_wl Ls ad w) H ∧ va_D A (gb_wl Ls ad w) ∧ Ls.Nodup
theorem gb_at {Ls : List gb_L} {ad : gb_L → Nat} {w : gb_L → va_E} {L : gb_L} {i : Nat} (h : Ls[i]? = some L) : (gb_wl Ls ad w)[i]? = some (ad L, w L) := by
  simp [gb_wl, h]
theorem gb_set {Ls : List gb_L} {ad : gb_L → Nat} {w : gb_L → va_E} {L : gb_L} {e : va_E} {i : Nat} (hn : Ls.Nodup) (hi : Ls[i]? = some L) : (gb_wl Ls ad w).set i (ad L, e) = gb_wl Ls ad (gb_up w L e) := by
  apply List.ext_getElem?
  intro j
  have hil : i < Ls.length := (List.getElem?_eq_some_iff.mp hi).1
  by_cases hj : i = j
  · subst hj
    rw [List.getElem?_set_self (by simpa [gb_wl] using hil)]
    simp [gb_wl, hi, gb_up]
  · rw [List.getElem?_set_ne hj]
    simp only [gb_wl, List.getElem?_map]
    cases hq : Ls[j]? with
    | none => rfl
    | some L2 =>
      have hne : L2 ≠ L := by
        intro h
        subst h
        exact hj ((List.getElem?_inj hil hn).mp (hi.trans hq.symm))
      simp [gb_up, hne]
theorem gb_inj {D : va_G} {cl : List vw_C} {A : Nat → Prop} {Ls : List gb_L} {ad : gb_L → Nat} {w : gb_L → va_E} {H : Heap} (h : gb_W D cl A Ls ad w H) {L L2 : gb_L} (h1 : L ∈ Ls) (h2 : L2 ∈ Ls) : ad L = ad L2 ↔ L = L2 := by
  constructor
  · intro e
    obtain ⟨i, hi⟩ := List.getElem?_of_mem h1
    obtain ⟨j, hj⟩ := List.getElem?_of_mem h2
    have := h.2.1.1 i j _ _ (gb_at hi) (gb_at hj) e
    subst this
    exact Option.some.inj (hi.symm.trans hj)
  · intro e
    rw [e]
theorem gb_one {D : va_G} {cl : List vw_C} {A : Nat → Prop} {Ls : List gb_L} {ad : gb_L → Nat} {w : gb_L → va_E} {H : Heap} (h : gb_W D cl A Ls ad w H) {L : gb_L} (hL : L ∈ Ls) {e : va_E} (he : w L = e) : va_P D cl [(ad L, e)] H := by
  obtain ⟨i, hi⟩ := List.getElem?_of_mem hL
  have := gb_at (ad := ad) (w := w) hi
  rw [he] at this
  exact h.1.sub [i] (by simp [this])
section GBR
variable {p : Program} {l : Launch} {e : Env} {R : Room} {s : State} {m : MethodId} {args : Array Value} {below : List Frame} {meth : Method} {c : Code} {H : Heap} {locs : List Loc} {cells slots : Nat} {Q : State → Prop}
variable {cc : ByteArray} {pc : Nat} {ls : Array Slot} {rest : List Value} {D : va_G} {cl : List vw_C} {A : Nat → Prop} {tys : List (ClassId × FieldType)} {H0 : Heap} {Ls : List gb_L} {ad : gb_L → Nat} {w : gb_L → va_E}
theorem gb_get (hexec : p.tables.exec = Jvm.exec) (hb : c.code = cc) {own ref C : String} {T : u_T} {N ci index : Nat} {Ts : List Cond} (hts : ∀ w ∈ Ts, w.before args s = true) (hin : ∀ w ∈ u_ws C T N, w ∈ Ts) (hown : s.vm.findClass own = some m.cls) (hK : va_K D cl tys s) (hW : gb_W D cl A Ls ad w H) (L : gb_L) (hL : L ∈ Ls) {fs : List Value} (he : w L = .inr (ci, fs)) (hc : cl[ci]? = some (C, T, N)) (k : Nat) (hk : k < N) (hlink : (Cond.fieldLink own index ref (T k).2.1 (T k).2.2.1).before args s = true) (hsame : ∀ x, s.fieldFound? (T k).1 (T k).2.1 (T k).2.2.1 = some x → s.fieldFound? ref (T k).2.1 (T k).2.2.1 = some x) {v : Value} (hv : fs[k]? = some v) (hdg : decode cc pc = .ok (.getfield index, 3))
    (kk : W p l e R s m args below meth c H locs cells slots Q (F0 m (pc + 3) ls (v :: rest))) : W p l e R s m args below meth c H locs cells slots Q (F0 m pc ls (.ref (ad L) :: rest)) := by
  obtain ⟨i, hi⟩ := List.getElem?_of_mem hL
  have hq := gb_at (ad := ad) (w := w) hi
  rw [he] at hq
  exact va_get hexec hb hts hin hown hK hW.1 i hq hc k hk hlink hsame hv hdg kk
theorem gb_put (hexec : p.tables.exec = Jvm.exec) (hb : c.code = cc) {own ref C : String} {T : u_T} {N ci index : Nat} {Ts : List Cond} (hts : ∀ w ∈ Ts, w.before args s = true) (hin : ∀ w ∈ u_ws C T N, w ∈ Ts) (ty0 : Nat → FieldType) (hty : ∀ k, k < N → parseFieldDescriptor (T k).2.2.1 = some (ty0 k)) (hnm : ∀ a, a < N → ∀ b, b < N → a ≠ b → (T a).2.1 ≠ (T b).2.1) (hown : s.vm.findClass own = some m.cls) (hK : va_K D cl tys s) (hW : gb_W D cl A Ls ad w H) (hS0 : va_S A H0 H locs) (L : gb_L) (hL : L ∈ Ls) {fs : List Value} (he : w L = .inr (ci, fs)) (hc : cl[ci]? = some (C, T, N)) (k : Nat) (hk : k < N) (hlink : (Cond.fieldLink own index ref (T k).2.1 (T k).2.2.1).before args s = true) (hsame : ∀ x, s.fieldFound? (T k).1 (T k).2.1 (T k).2.2.1 = some x → s.fieldFound? ref (T k).2.1 (T k).2.2.1 = some x) (hfin : (T k).2.2.2 = false) {ty : FieldType} {v : Value} (hd : parseFieldDescriptor (T k).2.2.1 = some ty) (hn : narrow ty v = v) (hfit : fits ty v = true) (hl : k < fs.length)
    (hdg : decode cc pc = .ok (.putfield index, 3)) (kk : ∀ (H1 : Heap) (locs1 : List Loc), gb_W D cl A Ls ad (gb_up w L (.inr (ci, fs.set k v))) H1 → va_S A H0 H1 locs1 → W p l e R s m args below meth c H1 locs1 cells slots Q (F0 m (pc + 3) ls rest)) : W p l e R s m args below meth c H locs cells slots Q (F0 m pc ls (v :: .ref (ad L) :: rest)) := by
  obtain ⟨i, hi⟩ := List.getElem?_of_mem hL
  have hq := gb_at (ad := ad) (w := w) hi
  rw [he] at hq
  refine va_put hexec hb hts hin ty0 hty hnm hown hK hW.1 hW.2.1 hS0 i hq hc k hk hlink hsame hfin hd hn hfit hl hdg (fun H1 locs1 h1 h2 h3 => ?_)
  rw [gb_set hW.2.2 hi] at h1 h2
  exact kk H1 locs1 ⟨h1, h2, hW.2.2⟩ h3
theorem gb_putF (hexec : p.tables.exec = Jvm.exec) (hb : c.code = cc) {own ref C : String} {T : u_T} {N ci index : Nat} {Ts : List Cond} (hts : ∀ w ∈ Ts, w.before args s = true) (hin : ∀ w ∈ u_ws C T N, w ∈ Ts) (ty0 : Nat → FieldType) (hty : ∀ k, k < N → parseFieldDescriptor (T k).2.2.1 = some (ty0 k)) (hnm : ∀ a, a < N → ∀ b, b < N → a ≠ b → (T a).2.1 ≠ (T b).2.1) (hown : s.vm.findClass own = some m.cls) (hK : va_K D cl tys s) (hW : gb_W D cl A Ls ad w H) (hS0 : va_S A H0 H locs) (L : gb_L) (hL : L ∈ Ls) {fs : List Value} (he : w L = .inr (ci, fs)) (hc : cl[ci]? = some (C, T, N)) (k : Nat) (hk : k < N) (hlink : (Cond.fieldLink own index ref (T k).2.1 (T k).2.2.1).before args s = true) (hsame : ∀ x, s.fieldFound? (T k).1 (T k).2.1 (T k).2.2.1 = some x → s.fieldFound? ref (T k).2.1 (T k).2.2.1 = some x) (hfin : (T k).2.2.2 = true) (hin2 : meth.name = "<init>") (hdecl : (T k).1 = own) {ty : FieldType} {v : Value} (hd : parseFieldDescriptor (T k).2.2.1 = some ty) (hn : narrow ty v = v) (hfit : fits ty v = true) (hl : k < fs.length)
    (hdg : decode cc pc = .ok (.putfield index, 3)) (kk : ∀ (H1 : Heap) (locs1 : List Loc), gb_W D cl A Ls ad (gb_up w L (.inr (ci, fs.set k v))) H1 → va_S A H0 H1 locs1 → W p l e R s m args below meth c H1 locs1 cells slots Q (F0 m (pc + 3) ls rest)) : W p l e R s m args below meth c H locs cells slots Q (F0 m pc ls (v :: .ref (ad L) :: rest)) := by
  obtain ⟨i, hi⟩ := List.getElem?_of_mem hL
  have hq := gb_at (ad := ad) (w := w) hi
  rw [he] at hq
  refine va_putF hexec hb hts hin ty0 hty hnm hown hK hW.1 hW.2.1 hS0 i hq hc k hk hlink hsame hfin hin2 hdecl hd hn hfit hl hdg (fun H1 locs1 h1 h2 h3 => ?_)
  rw [gb_set hW.2.2 hi] at h1 h2
  exact kk H1 locs1 ⟨h1, h2, hW.2.2⟩ h3
theorem gb_iald (hexec : p.tables.exec = Jvm.exec) (hb : c.code = cc) (hK : va_K D cl tys s) (hW : gb_W D cl A Ls ad w H) (t0 : Nat) (L : gb_L) (hL : L ∈ Ls) {cA : ClassId} {n : Nat} {f : Nat → Int32} (he : w L = .inl (cA, n, .inl f)) (ht : tys[t0]? = some (cA, .int)) {i : Int32} (hin : vp_in i n) (hdg : decode cc pc = .ok (.iaload, 1))
    (kk : W p l e R s m args below meth c H locs cells slots Q (F0 m (pc + 1) ls (.int (f i.toNatClampNeg) :: rest))) : W p l e R s m args below meth c H locs cells slots Q (F0 m pc ls (.int i :: .ref (ad L) :: rest)) := by
  obtain ⟨j, hi⟩ := List.getElem?_of_mem hL
  have hq := gb_at (ad := ad) (w := w) hi
  rw [he] at hq
  exact va_iald hexec hb hK hW.1 j t0 hq ht hin hdg kk
theorem gb_iast (hexec : p.tables.exec = Jvm.exec) (hb : c.code = cc) (hK : va_K D cl tys s) (hW : gb_W D cl A Ls ad w H) (hS : va_S A H0 H locs) (t0 : Nat) (L : gb_L) (hL : L ∈ Ls) {cA : ClassId} {n : Nat} {f : Nat → Int32} (he : w L = .inl (cA, n, .inl f)) (ht : tys[t0]? = some (cA, .int)) {i x : Int32} (hin : vp_in i n) (hdg : decode cc pc = .ok (.iastore, 1))
    (kk : ∀ (H1 : Heap) (locs1 : List Loc), gb_W D cl A Ls ad (gb_up w L (.inl (cA, n, .inl (upd f i.toNatClampNeg x)))) H1 → va_S A H0 H1 locs1 → W p l e R s m args below meth c H1 locs1 cells slots Q (F0 m (pc + 1) ls rest)) : W p l e R s m args below meth c H locs cells slots Q (F0 m pc ls (.int x :: .int i :: .ref (ad L) :: rest)) := by
  obtain ⟨j, hi⟩ := List.getElem?_of_mem hL
  have hq := gb_at (ad := ad) (w := w) hi
  rw [he] at hq
  refine va_iast hexec hb hK hW.1 hW.2.1 hS j t0 hq ht hin hdg (fun H1 locs1 h1 h2 h3 => ?_)
  rw [gb_set hW.2.2 hi] at h1 h2
  exact kk H1 locs1 ⟨h1, h2, hW.2.2⟩ h3
theorem gb_zald (hexec : p.tables.exec = Jvm.exec) (hb : c.code = cc) (hK : va_K D cl tys s) (hW : gb_W D cl A Ls ad w H) (t0 : Nat) (L : gb_L) (hL : L ∈ Ls) {cA : ClassId} {n : Nat} {f : Nat → Int32} (he : w L = .inl (cA, n, .inl f)) (ht : tys[t0]? = some (cA, .boolean)) {i : Int32} (hin : vp_in i n) (hdg : decode cc pc = .ok (.baload, 1))
    (kk : W p l e R s m args below meth c H locs cells slots Q (F0 m (pc + 1) ls (.int (f i.toNatClampNeg) :: rest))) : W p l e R s m args below meth c H locs cells slots Q (F0 m pc ls (.int i :: .ref (ad L) :: rest)) := by
  obtain ⟨j, hi⟩ := List.getElem?_of_mem hL
  have hq := gb_at (ad := ad) (w := w) hi
  rw [he] at hq
  exact va_zald hexec hb hK hW.1 j t0 hq ht hin hdg kk
theorem gb_zast (hexec : p.tables.exec = Jvm.exec) (hb : c.code = cc) (hK : va_K D cl tys s) (hW : gb_W D cl A Ls ad w H) (hS : va_S A H0 H locs) (t0 : Nat) (L : gb_L) (hL : L ∈ Ls) {cA : ClassId} {n : Nat} {f : Nat → Int32} (he : w L = .inl (cA, n, .inl f)) (ht : tys[t0]? = some (cA, .boolean)) {i x : Int32} (hin : vp_in i n) (hdg : decode cc pc = .ok (.bastore, 1))
    (kk : ∀ (H1 : Heap) (locs1 : List Loc), gb_W D cl A Ls ad (gb_up w L (.inl (cA, n, .inl (upd f i.toNatClampNeg (vp_nar .boolean x))))) H1 → va_S A H0 H1 locs1 → W p l e R s m args below meth c H1 locs1 cells slots Q (F0 m (pc + 1) ls rest)) : W p l e R s m args below meth c H locs cells slots Q (F0 m pc ls (.int x :: .int i :: .ref (ad L) :: rest)) := by
  obtain ⟨j, hi⟩ := List.getElem?_of_mem hL
  have hq := gb_at (ad := ad) (w := w) hi
  rw [he] at hq
  refine va_zast hexec hb hK hW.1 hW.2.1 hS j t0 hq ht hin hdg (fun H1 locs1 h1 h2 h3 => ?_)
  rw [gb_set hW.2.2 hi] at h1 h2
  exact kk H1 locs1 ⟨h1, h2, hW.2.2⟩ h3
theorem gb_lald (hexec : p.tables.exec = Jvm.exec) (hb : c.code = cc) (hK : va_K D cl tys s) (hW : gb_W D cl A Ls ad w H) (t0 : Nat) (L : gb_L) (hL : L ∈ Ls) {cA : ClassId} {n : Nat} {f : Nat → Int64} (he : w L = .inl (cA, n, .inr (.inl f))) (ht : tys[t0]? = some (cA, .long)) {i : Int32} (hin : vp_in i n) (hdg : decode cc pc = .ok (.laload, 1))
    (kk : W p l e R s m args below meth c H locs cells slots Q (F0 m (pc + 1) ls (.long (f i.toNatClampNeg) :: rest))) : W p l e R s m args below meth c H locs cells slots Q (F0 m pc ls (.int i :: .ref (ad L) :: rest)) := by
  obtain ⟨j, hi⟩ := List.getElem?_of_mem hL
  have hq := gb_at (ad := ad) (w := w) hi
  rw [he] at hq
  exact va_lald hexec hb hK hW.1 j t0 hq ht hin hdg kk
theorem gb_last (hexec : p.tables.exec = Jvm.exec) (hb : c.code = cc) (hK : va_K D cl tys s) (hW : gb_W D cl A Ls ad w H) (hS : va_S A H0 H locs) (t0 : Nat) (L : gb_L) (hL : L ∈ Ls) {cA : ClassId} {n : Nat} {f : Nat → Int64} (he : w L = .inl (cA, n, .inr (.inl f))) (ht : tys[t0]? = some (cA, .long)) {i : Int32} {x : Int64} (hin : vp_in i n) (hdg : decode cc pc = .ok (.lastore, 1))
    (kk : ∀ (H1 : Heap) (locs1 : List Loc), gb_W D cl A Ls ad (gb_up w L (.inl (cA, n, .inr (.inl (vp_updL f i.toNatClampNeg x))))) H1 → va_S A H0 H1 locs1 → W p l e R s m args below meth c H1 locs1 cells slots Q (F0 m (pc + 1) ls rest)) : W p l e R s m args below meth c H locs cells slots Q (F0 m pc ls (.long x :: .int i :: .ref (ad L) :: rest)) := by
  obtain ⟨j, hi⟩ := List.getElem?_of_mem hL
  have hq := gb_at (ad := ad) (w := w) hi
  rw [he] at hq
  refine va_last hexec hb hK hW.1 hW.2.1 hS j t0 hq ht hin hdg (fun H1 locs1 h1 h2 h3 => ?_)
  rw [gb_set hW.2.2 hi] at h1 h2
  exact kk H1 locs1 ⟨h1, h2, hW.2.2⟩ h3
theorem gb_alen (hexec : p.tables.exec = Jvm.exec) (hb : c.code = cc) (hK : va_K D cl tys s) (hW : gb_W D cl A Ls ad w H) (t0 : Nat) (L : gb_L) (hL : L ∈ Ls) {cA : ClassId} {x : vp_A} (he : w L = .inl (cA, x)) {ty : FieldType} (ht : tys[t0]? = some (cA, ty)) {v : Int32} (hv : Int32.ofNat x.1 = v) (hdg : decode cc pc = .ok (.arraylength, 1))
    (kk : W p l e R s m args below meth c H locs cells slots Q (F0 m (pc + 1) ls (.int v :: rest))) : W p l e R s m args below meth c H locs cells slots Q (F0 m pc ls (.ref (ad L) :: rest)) := by
  obtain ⟨j, hi⟩ := List.getElem?_of_mem hL
  have hq := gb_at (ad := ad) (w := w) hi
  rw [he] at hq
  exact va_alen hexec hb hK hW.1 j t0 hq ht hv hdg kk
end GBR
/-! the claim's classes, by number; the arrays' classes, by number -/
abbrev gcl : List vw_C := [(RX1, TX1, 13), (RX2, TX2, 4), (RX4, TX4, 10), (RX5, TX5, 12), (RX7, TX7, 10), (RX8, TX8, 11), (RX9, TX9, 10), (RX10, TX10, 10), (RX11, TX11, 2), (RJ2, TJ2, 3), (RX6, TX6, 26)]
abbrev gtys (ca : Nat → ClassId) : List (ClassId × FieldType) := [(ca 0, .int), (ca 1, .boolean), (ca 2, .long), (ca 3, .double), (ca 4, .object "java/lang/Object"), (ca 5, .object "ToneGraph$Voice")]
/-- what a method's walk knows of its frame and of the tables -/
def gb_C (p : Program) (m : MethodId) (c : Code) (cc : ByteArray) (nL : Nat) (s : State) (args : Array Value) (own : String) (base : Nat) (D : va_G) (ca : Nat → ClassId) : Prop := CallFix p m c cc nL s args lw_all own ∧ va_K D gcl (gtys ca) s ∧ base ≤ s.heap.size
theorem gb_C.hx {p : Program} {m : MethodId} {c : Code} {cc : ByteArray} {nL : Nat} {s : State} {args : Array Value} {own : String} {base : Nat} {D : va_G} {ca : Nat → ClassId} (C : gb_C p m c cc nL s args own base D ca) : p.tables.exec = Jvm.exec := C.1.1
theorem gb_C.hb {p : Program} {m : MethodId} {c : Code} {cc : ByteArray} {nL : Nat} {s : State} {args : Array Value} {own : String} {base : Nat} {D : va_G} {ca : Nat → ClassId} (C : gb_C p m c cc nL s args own base D ca) : c.code = cc := C.1.2.1
theorem gb_C.hml {p : Program} {m : MethodId} {c : Code} {cc : ByteArray} {nL : Nat} {s : State} {args : Array Value} {own : String} {base : Nat} {D : va_G} {ca : Nat → ClassId} (C : gb_C p m c cc nL s args own base D ca) : c.maxLocals = nL := C.1.2.2.1
theorem gb_C.hown {p : Program} {m : MethodId} {c : Code} {cc : ByteArray} {nL : Nat} {s : State} {args : Array Value} {own : String} {base : Nat} {D : va_G} {ca : Nat → ClassId} (C : gb_C p m c cc nL s args own base D ca) : s.vm.findClass own = some m.cls := C.1.2.2.2.1
theorem gb_C.hts {p : Program} {m : MethodId} {c : Code} {cc : ByteArray} {nL : Nat} {s : State} {args : Array Value} {own : String} {base : Nat} {D : va_G} {ca : Nat → ClassId} (C : gb_C p m c cc nL s args own base D ca) : ∀ w ∈ lw_all, w.before args s = true := C.1.2.2.2.2
theorem gb_C.hK {p : Program} {m : MethodId} {c : Code} {cc : ByteArray} {nL : Nat} {s : State} {args : Array Value} {own : String} {base : Nat} {D : va_G} {ca : Nat → ClassId} (C : gb_C p m c cc nL s args own base D ca) : va_K D gcl (gtys ca) s := C.2.1
/-! a static method that only computes -/
def gb_Ps (l : Launch) (y : MethodName) (ws : List Cond) (rm : Room) (As : List Value) (post : Int32 → Prop) : Prop := Met l y ws rm (va_Pc As (fun _ => True)) (vp_Si post) 0 0 (fun _ => False)
section GBS
variable {p : Program} {l : Launch} {e : Env} {R : Room} {s : State} {m : MethodId} {args : Array Value} {below : List Frame} {meth : Method} {c : Code} {H : Heap} {locs : List Loc} {cells slots : Nat} {Q : State → Prop}
variable {cc bytes : ByteArray} {pc nL index maxL n : Nat} {ls : Array Slot} {st rest As : List Value} {own : String} {y : MethodName} {ws : List Cond} {rm : Room} {ret : Option FieldType} {post : Int32 → Prop}
theorem gb_call (S : CallFix p m c cc nL s args lw_all own) (hM : gb_Ps l y ws rm As post) (cw : CallB R s args own index y bytes maxL ret ws rm 0 0 n ∧ (Cond.static y).before args s = true) (hn : As.length = n) (hsize : ls.size = nL) (hst : st = As.reverse ++ rest) (hW : 2 * (F0 m pc ls st).monitorRoom + (rest.map fun v => v.category).sum ≤ 8) (hdg : decode cc pc = .ok (.invokestatic index, 3)) (hf : cells ≤ R.cells ∧ slots ≤ R.slots)
    (kk : ∀ r : Int32, post r → W p l e R s m args below meth c H locs cells slots Q (F0 m (pc + 3) ls (.int r :: rest))) : W p l e R s m args below meth c H locs cells slots Q (F0 m pc ls st) := by
  intro T hT X
  obtain ⟨v, st₀, t, T', L, h0, X', hL, e1, -, ⟨r, hv, hp, hh⟩, st⟩ := va_runS (g := F0 m pc ls st) S hM cw ⟨fun a U g mk q => q, fun U hU hW => ⟨rfl, trivial⟩⟩ rfl hn hsize hst hW hdg hf T hT X
  cases hv
  obtain ⟨t2, a1, b1⟩ := kk r hp T' (by rw [e1, hh, h0]) (Stand.forget X' (fun q h => (hL q h).elim))
  exact ⟨t2, st t2 a1, b1⟩
theorem gb_start (cc : ByteArray) (maxL : Nat) (ret : Option FieldType) (hy : plainName y.cls = true) (hw : ws = Cond.code y cc maxL ret :: lw_all) (hsz : (lg_sl As).length ≤ maxL)
    (body : ∀ (p : Program) (e : Env) (s : State) (m : MethodId) (args : Array Value) (below : List Frame) (meth : Method) (c : Code) (ls : Array Slot), CallFix p m c cc maxL s args lw_all y.cls → meth.sig.returnType = ret → meth.locks = false → lv_has ls maxL (lv_args 0 As) → W p l e rm s m args below meth c s.heap [] 0 0 (MQ below (vp_Si post) args s 0 0 (fun _ => False)) (F0 m 0 ls [])) : gb_Ps l y ws rm As post := by
  refine Met.ofW (cc := cc) (maxL := maxL) (ret := ret) hy hw ?_
  intro p e s m args below meth c s₁ B hml hv
  obtain ⟨rfl, -⟩ := hv
  have hts := atoms_spec (ws := ws) B.pre
  have hts2 : ∀ w ∈ lw_all, w.before As.toArray s = true := fun w h => hts w (by rw [hw]; exact List.mem_cons_of_mem _ h)
  rw [lg_entry_eq]
  exact body p e s m _ below meth c _ ⟨B.exec, B.bytes, hml, findClass_of_methodNamed B.named, hts2⟩ B.returns B.notSynchronized (lv_entry As hsz)
theorem gb_iret {v : Int32} (S : CallFix p m c cc nL s args lw_all own) (hr : meth.sig.returnType = some .int) (hlk : meth.locks = false) (hk : post v) (hdg : decode cc pc = .ok (.ireturn, 1)) : W p l e R s m args below meth c s.heap [] 0 0 (MQ below (vp_Si post) args s 0 0 (fun _ => False)) (F0 m pc ls [.int v]) :=
  W.iret S.1 S.2.1 hr (fun t ht hW => ⟨v, rfl, hk, ht⟩) (fun q h => by cases h) hdg hlk
theorem gb_zret {v : Int32} {ty : FieldType} (S : CallFix p m c cc nL s args lw_all own) (hr : meth.sig.returnType = some ty) (hlk : meth.locks = false) (hn : narrow ty (.int v) = .int v) (hk : post v) (hdg : decode cc pc = .ok (.ireturn, 1)) : W p l e R s m args below meth c s.heap [] 0 0 (MQ below (vp_Si post) args s 0 0 (fun _ => False)) (F0 m pc ls [.int v]) :=
  W.zret S.1 S.2.1 hr hn (fun t ht hW => ⟨v, rfl, hk, ht⟩) (fun q h => by cases h) hdg hlk
end GBS

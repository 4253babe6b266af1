/-! COMPONENT: objects made: the world E together with a list of new things N -/
set_option maxRecDepth 100000
def xn_wl (E : tc_E) (S : tc_S) : va_W := gb_wl (eL E) (ea E) (tc_w E S)
def xn_ok (E : tc_E) (S : tc_S) (N : va_W) (H : Heap) : Prop := va_P (eD E) gcl (xn_wl E S ++ N) H ∧ va_D (fun q => eb E ≤ q) (xn_wl E S ++ N) ∧ (eL E).Nodup ∧ tc_dm E
theorem va_P.left {D : va_G} {cl : List vw_C} {a b : va_W} {H : Heap} (h : va_P D cl (a ++ b) H) : va_P D cl a H := fun k q hk => h k q (by rw [List.getElem?_append_left (List.getElem?_eq_some_iff.mp hk).1]; exact hk)
theorem va_P.right {D : va_G} {cl : List vw_C} {a b : va_W} {H : Heap} (h : va_P D cl (a ++ b) H) : va_P D cl b H := fun k q hk => h (a.length + k) q (by rw [List.getElem?_append_right (by omega), Nat.add_sub_cancel_left]; exact hk)
theorem va_D.left {A : Nat → Prop} {a b : va_W} (h : va_D A (a ++ b)) : va_D A a := ⟨fun i j p q hi hj e => h.1 i j p q (by rw [List.getElem?_append_left (List.getElem?_eq_some_iff.mp hi).1]; exact hi) (by rw [List.getElem?_append_left (List.getElem?_eq_some_iff.mp hj).1]; exact hj) e, fun k q hk => h.2 k q (by rw [List.getElem?_append_left (List.getElem?_eq_some_iff.mp hk).1]; exact hk)⟩
theorem xn_ok.tc {E : tc_E} {S : tc_S} {N : va_W} {H : Heap} (h : xn_ok E S N H) : tc_ok E S H := ⟨⟨h.1.left, h.2.1.left, h.2.2.1⟩, h.2.2.2⟩
theorem xn_ok.of {E : tc_E} {S : tc_S} {H : Heap} (h : tc_ok E S H) : xn_ok E S [] H := ⟨by rw [List.append_nil]; exact h.1.1, by rw [List.append_nil]; exact h.1.2.1, h.1.2.2, h.2⟩
def tc_sim (E E' : tc_E) : Prop := eb E' = eb E ∧ eD E' = eD E ∧ ec E' = ec E ∧ es E' = es E
theorem tc_sim.rf (E : tc_E) : tc_sim E E := ⟨rfl, rfl, rfl, rfl⟩
/-- what is known of every world's things, by labels -/
theorem gb_of {D : va_G} {cl : List vw_C} {A : Nat → Prop} {ws : va_W} {H : Heap} (hP : va_P D cl ws H) (hD : va_D A ws) {Ls : List gb_L} {ad : gb_L → Nat} {w : gb_L → va_E} (hn : Ls.Nodup) (hm : ∀ L ∈ Ls, (ad L, w L) ∈ ws) (hi : ∀ L ∈ Ls, ∀ L2 ∈ Ls, ad L = ad L2 → L = L2) : gb_W D cl A Ls ad w H := by
  have key : ∀ (k : Nat) (q : Nat × va_E), (gb_wl Ls ad w)[k]? = some q → ∃ L, Ls[k]? = some L ∧ q = (ad L, w L) := by
    intro k q hk
    simp only [gb_wl, List.getElem?_map, Option.map_eq_some_iff] at hk
    obtain ⟨L, h1, h2⟩ := hk
    exact ⟨L, h1, h2.symm⟩
  refine ⟨fun k q hk => ?_, ⟨fun i j p q hp hq e => ?_, fun k q hk => ?_⟩, hn⟩
  · obtain ⟨L, h1, rfl⟩ := key k q hk
    obtain ⟨j, hj⟩ := List.getElem?_of_mem (hm L (List.mem_of_getElem? h1))
    exact hP j _ hj
  · obtain ⟨L, h1, rfl⟩ := key i p hp
    obtain ⟨L2, h2, rfl⟩ := key j q hq
    have := hi L (List.mem_of_getElem? h1) L2 (List.mem_of_getElem? h2) e
    subst this
    exact (List.getElem?_inj (List.getElem?_eq_some_iff.mp h1).1 hn).mp (h1.trans h2.symm)
  · obtain ⟨L, h1, rfl⟩ := key k q hk
    obtain ⟨j, hj⟩ := List.getElem?_of_mem (hm L (List.mem_of_getElem? h1))
    exact hD.2 j _ hj
theorem va_D.addr {A : Nat → Prop} {ws : va_W} (hD : va_D A ws) {p q : Nat × va_E} (hp : p ∈ ws) (hq : q ∈ ws) (e : p.1 = q.1) : p = q := by
  obtain ⟨i, hi⟩ := List.getElem?_of_mem hp
  obtain ⟨j, hj⟩ := List.getElem?_of_mem hq
  have := hD.1 i j p q hi hj e
  subst this
  exact Option.some.inj (hi.symm.trans hj)
theorem gb_wl_mem {Ls : List gb_L} {ad : gb_L → Nat} {w : gb_L → va_E} {L : gb_L} (h : L ∈ Ls) : (ad L, w L) ∈ gb_wl Ls ad w := List.mem_map.mpr ⟨L, h, rfl⟩
/-- the new world's terms: NL are the labels of N's things, in N's order; the other labels are old, and as they were -/
def xn_cl (E : tc_E) (S : tc_S) (N : va_W) (NL : List gb_L) (E' : tc_E) (S' : tc_S) : Prop := (∀ L ∈ eL E', L ∈ NL ∨ (L ∈ eL E ∧ ea E' L = ea E L ∧ tc_w E' S' L = tc_w E S L)) ∧ gb_wl NL (ea E') (tc_w E' S') = N ∧ NL.Nodup ∧ (eL E').Nodup ∧ tc_sim E E' ∧ tc_dm E'
/-- a world W' in place of some of the old things (those of LC) and beside the others -/
theorem xn_join {E E' : tc_E} {S S' : tc_S} {H H1 : Heap} {W' : va_W} {LC NL : List gb_L} (hH : tc_ok E S H) (hLC : ∀ L ∈ LC, L ∈ eL E) (h : xn_cl E S W' NL E' S') (hnew : ∀ L ∈ LC, L ∈ NL ∨ L ∉ eL E') (hk : ∀ q : Nat, q < H.size → ¬ va_A (gb_wl LC (ea E) (tc_w E S)) H.size q → H1[q]? = H[q]?) (hF : ∀ q, va_A (gb_wl LC (ea E) (tc_w E S)) H.size q → eb E ≤ q) (hP1 : va_P (eD E) gcl W' H1) (hD1 : va_D (va_A (gb_wl LC (ea E) (tc_w E S)) H.size) W') : tc_ok E' S' H1 := by
  obtain ⟨h1, h2, hnl, h3, ⟨e1, e2, e3, e4⟩, h5⟩ := h
  have hG := hH.1
  have old : ∀ L, L ∈ eL E' → L ∉ NL → L ∈ eL E ∧ ea E' L = ea E L ∧ tc_w E' S' L = tc_w E S L := fun L hL hn => (h1 L hL).elim (fun z => absurd z hn) id
  have lt : ∀ L ∈ eL E, ea E L < H.size := fun L hL => by
    obtain ⟨i, hi⟩ := List.getElem?_of_mem (gb_wl_mem (ad := ea E) (w := tc_w E S) hL)
    exact vx_lt hG.1 hi
  have apart : ∀ L, L ∈ eL E' → L ∉ NL → ¬ va_A (gb_wl LC (ea E) (tc_w E S)) H.size (ea E L) := by
    intro L hL hn hz
    obtain ⟨a1, -, -⟩ := old L hL hn
    rcases hz with ⟨k, e, hke⟩ | hz
    · have hm := List.mem_of_getElem? hke
      obtain ⟨L2, hL2, he⟩ := List.mem_map.mp hm
      have ea2 : ea E L2 = ea E L := congrArg Prod.fst he
      have := (gb_inj hG (hLC L2 hL2) a1).mp ea2
      subst this
      rcases hnew L2 hL2 with z | z
      · exact hn z
      · exact z hL
    · exact absurd (lt L a1) (by omega)
  have new : ∀ L, L ∈ NL → (ea E' L, tc_w E' S' L) ∈ W' := fun L hL => by rw [← h2]; exact gb_wl_mem hL
  have newA : ∀ L, L ∈ NL → va_A (gb_wl LC (ea E) (tc_w E S)) H.size (ea E' L) := fun L hL => by
    obtain ⟨i, hi⟩ := List.getElem?_of_mem (new L hL)
    exact hD1.2 i _ hi
  refine ⟨?_, h5⟩
  show gb_W (eD E') gcl (fun q => eb E' ≤ q) (eL E') (ea E') (tc_w E' S') H1
  rw [e1, e2]
  have key : ∀ (k : Nat) (q : Nat × va_E), (gb_wl (eL E') (ea E') (tc_w E' S'))[k]? = some q → ∃ L, (eL E')[k]? = some L ∧ q = (ea E' L, tc_w E' S' L) := by
    intro k q hk
    simp only [gb_wl, List.getElem?_map, Option.map_eq_some_iff] at hk
    obtain ⟨L, z1, z2⟩ := hk
    exact ⟨L, z1, z2.symm⟩
  refine ⟨fun k q hq => ?_, ⟨fun i j p q hp hq e => ?_, fun k q hq => ?_⟩, h3⟩
  · obtain ⟨L, z1, rfl⟩ := key k q hq
    have hL := List.mem_of_getElem? z1
    by_cases hn : L ∈ NL
    · obtain ⟨j, hj⟩ := List.getElem?_of_mem (new L hn)
      exact hP1 j _ hj
    · obtain ⟨a1, a2, a3⟩ := old L hL hn
      rw [a2, a3]
      obtain ⟨j, hj⟩ := List.getElem?_of_mem (gb_wl_mem (ad := ea E) (w := tc_w E S) a1)
      exact (hG.1 j _ hj).kept (hk _ (lt L a1) (apart L hL hn))
  · obtain ⟨L, z1, rfl⟩ := key i p hp
    obtain ⟨L2, z2, rfl⟩ := key j q hq
    have hL := List.mem_of_getElem? z1
    have hL2 := List.mem_of_getElem? z2
    have e : ea E' L = ea E' L2 := e
    have : L = L2 := by
      by_cases hn : L ∈ NL <;> by_cases hn2 : L2 ∈ NL
      · obtain ⟨i1, hi1⟩ := List.getElem?_of_mem hn
        obtain ⟨j1, hj1⟩ := List.getElem?_of_mem hn2
        have g1 : W'[i1]? = some (ea E' L, tc_w E' S' L) := by rw [← h2]; exact gb_at hi1
        have g2 : W'[j1]? = some (ea E' L2, tc_w E' S' L2) := by rw [← h2]; exact gb_at hj1
        have := hD1.1 i1 j1 _ _ g1 g2 e
        subst this
        exact Option.some.inj (hi1.symm.trans hj1)
      · obtain ⟨b1, b2, -⟩ := old L2 hL2 hn2
        exact absurd (by rw [← b2, ← e]; exact newA L hn) (apart L2 hL2 hn2)
      · obtain ⟨a1, a2, -⟩ := old L hL hn
        exact absurd (by rw [← a2, e]; exact newA L2 hn2) (apart L hL hn)
      · obtain ⟨a1, a2, -⟩ := old L hL hn
        obtain ⟨b1, b2, -⟩ := old L2 hL2 hn2
        rw [a2, b2] at e
        exact (gb_inj hG a1 b1).mp e
    subst this
    exact (List.getElem?_inj (List.getElem?_eq_some_iff.mp z1).1 h3).mp (z1.trans z2.symm)
  · obtain ⟨L, z1, rfl⟩ := key k q hq
    have hL := List.mem_of_getElem? z1
    by_cases hn : L ∈ NL
    · exact hF _ (newA L hn)
    · obtain ⟨a1, a2, -⟩ := old L hL hn
      show eb E ≤ ea E' L
      rw [a2]
      obtain ⟨j, hj⟩ := List.getElem?_of_mem (gb_wl_mem (ad := ea E) (w := tc_w E S) a1)
      exact hG.2.1.2 j _ hj
theorem xn_close {E E' : tc_E} {S S' : tc_S} {N : va_W} {NL : List gb_L} {H : Heap} (hX : xn_ok E S N H) (h : xn_cl E S N NL E' S') : tc_ok E' S' H := by
  obtain ⟨h1, h2, hnl, h3, ⟨e1, e2, e3, e4⟩, h5⟩ := h
  have hG := hX.tc.1
  have old : ∀ L, L ∈ eL E' → L ∉ NL → L ∈ eL E ∧ ea E' L = ea E L ∧ tc_w E' S' L = tc_w E S L := fun L hL hn => (h1 L hL).elim (fun z => absurd z hn) id
  have at1 : ∀ L ∈ eL E, ∃ i, i < (xn_wl E S).length ∧ (xn_wl E S ++ N)[i]? = some (ea E L, tc_w E S L) := fun L hL => by
    obtain ⟨i, hi⟩ := List.getElem?_of_mem (gb_wl_mem (ad := ea E) (w := tc_w E S) hL)
    have hi : (xn_wl E S)[i]? = some (ea E L, tc_w E S L) := hi
    have hl : i < (xn_wl E S).length := (List.getElem?_eq_some_iff.mp hi).1
    exact ⟨i, hl, by rw [List.getElem?_append_left hl]; exact hi⟩
  have at2 : ∀ (L : gb_L) (i : Nat), NL[i]? = some L → (xn_wl E S ++ N)[(xn_wl E S).length + i]? = some (ea E' L, tc_w E' S' L) := fun L i hi => by
    rw [List.getElem?_append_right (by omega), Nat.add_sub_cancel_left, ← h2]
    exact gb_at hi
  have at3 : ∀ L ∈ eL E', ∃ i, (xn_wl E S ++ N)[i]? = some (ea E' L, tc_w E' S' L) := fun L hL => by
    by_cases hn : L ∈ NL
    · obtain ⟨i, hi⟩ := List.getElem?_of_mem hn
      exact ⟨_, at2 L i hi⟩
    · obtain ⟨a1, a2, a3⟩ := old L hL hn
      obtain ⟨i, -, hi⟩ := at1 L a1
      exact ⟨i, by rw [a2, a3]; exact hi⟩
  refine ⟨?_, h5⟩
  show gb_W (eD E') gcl (fun q => eb E' ≤ q) (eL E') (ea E') (tc_w E' S') H
  rw [e1, e2]
  refine gb_of hX.1 hX.2.1 h3 (fun L hL => ?_) (fun L hL L2 hL2 e => ?_)
  · obtain ⟨i, hi⟩ := at3 L hL
    exact List.mem_of_getElem? hi
  · by_cases hn : L ∈ NL <;> by_cases hn2 : L2 ∈ NL
    · obtain ⟨i1, hi1⟩ := List.getElem?_of_mem hn
      obtain ⟨j1, hj1⟩ := List.getElem?_of_mem hn2
      have := hX.2.1.1 _ _ _ _ (at2 L i1 hi1) (at2 L2 j1 hj1) e
      have : i1 = j1 := by omega
      subst this
      exact Option.some.inj (hi1.symm.trans hj1)
    · obtain ⟨i1, hi1⟩ := List.getElem?_of_mem hn
      obtain ⟨b1, b2, -⟩ := old L2 hL2 hn2
      obtain ⟨j1, hj, hj1⟩ := at1 L2 b1
      have := hX.2.1.1 _ _ _ _ (at2 L i1 hi1) hj1 (by rw [← b2]; exact e)
      omega
    · obtain ⟨j1, hj1⟩ := List.getElem?_of_mem hn2
      obtain ⟨a1, a2, -⟩ := old L hL hn
      obtain ⟨i1, hi, hi1⟩ := at1 L a1
      have := hX.2.1.1 _ _ _ _ hi1 (at2 L2 j1 hj1) (by rw [← a2]; exact e)
      omega
    · obtain ⟨a1, a2, -⟩ := old L hL hn
      obtain ⟨b1, b2, -⟩ := old L2 hL2 hn2
      rw [a2, b2] at e
      exact (gb_inj hG a1 b1).mp e
def ty_Q {α : Type} (E : tc_E) (val : α → Option Value) (post : α → tc_E → tc_S → Prop) : Array Value → State → Outcome → State → Prop := fun _ st oc t => (∃ (r : α) (E' : tc_E) (S' : tc_S), oc = .returned (val r) ∧ post r E' S' ∧ tc_sim E E' ∧ tc_ok E' S' t.heap) ∧ va_F (fun q => eb E ≤ q) st t
def ty_M {α : Type} (l : Launch) (y : MethodName) (ws : List Cond) (rm : Room) (E : tc_E) (As : List Value) (S : tc_S) (val : α → Option Value) (post : α → tc_E → tc_S → Prop) (ex : String → tc_S → Prop) (mc ms : Nat) : Prop := vx_Met l y ws rm (va_Pc As (tc_pre E S)) (ty_Q E val post) (tx_X E ex) mc ms (fun q => eb E ≤ q)
section XN
variable {p : Program} {l : Launch} {e : Env} {R : Room} {s : State} {m : MethodId} {args : Array Value} {below : List Frame} {meth : Method} {c : Code} {H : Heap} {locs : List Loc} {cells slots mc ms kc ks : Nat} {Q : State → Prop}
variable {cc bytes : ByteArray} {pc nL index maxL n : Nat} {ls : Array Slot} {st rest As : List Value} {y : MethodName} {wy : List Cond} {rm : Room} {ret : Option FieldType}
variable {E E0 : tc_E} {S : tc_S} {own : String} {N N2 : va_W} {ex : String → tc_S → Prop} {a : Array Value} {b : Addr} {x0 : Nat × va_E}
theorem tc_C.sim {E' : tc_E} (C : tc_C p m c cc nL s args own E) (h : tc_sim E E') : tc_C p m c cc nL s args own E' := by
  obtain ⟨e1, e2, e3, e4⟩ := h
  obtain ⟨h1, h2, h3, h4⟩ := C
  refine ⟨h1, by rw [e2, e3]; exact h2, by rw [e1]; exact h3, ?_⟩
  unfold tc_Z tc_LF at h4 ⊢
  rw [e1, e4]
  exact h4
theorem ty_start {α : Type} {val : α → Option Value} {post : α → tc_E → tc_S → Prop} (cc : ByteArray) (maxL : Nat) (ret : Option FieldType) (own : String) (hy : plainName y.cls = true) (hyc : y.cls = own) (hw : wy = Cond.code y cc maxL ret :: lw_all) (hsz : (lg_sl As).length ≤ maxL)
    (body : ∀ (p : Program) (e : Env) (s : State) (m : MethodId) (args : Array Value) (below : List Frame) (meth : Method) (c : Code) (ls : Array Slot), tc_C p m c cc maxL s args own E → s.methodNamed? y = some m → (∀ x ∈ c.exceptionTable.toList, False) → meth.sig.returnType = ret → meth.locks = false → tc_ok E S s.heap → va_S (fun q => eb E ≤ q) s.heap s.heap [] → lv_has ls maxL (lv_args 0 As) → W p l e rm s m args below meth c s.heap [] 0 0 (vx_MQ below (ty_Q E val post) (tx_X E ex) args s mc ms (fun q => eb E ≤ q)) (F0 m 0 ls [])) : ty_M l y wy rm E As S val post ex mc ms := by
  refine vx_ofW (cc := cc) (maxL := maxL) (ret := ret) hy hw ?_
  intro p e s m args below meth c s₁ B hml hnt hv
  obtain ⟨rfl, hb0, hH, hK, hZ⟩ := hv
  have hts := atoms_spec (ws := wy) B.pre
  have hts2 : ∀ w ∈ lw_all, w.before As.toArray s = true := fun w h => hts w (by rw [hw]; exact List.mem_cons_of_mem _ h)
  rw [lg_entry_eq]
  exact body p e s m _ below meth c _ ⟨⟨B.exec, B.bytes, hml, hyc ▸ findClass_of_methodNamed B.named, hts2⟩, hK, hb0, hZ⟩ B.named hnt B.returns B.notSynchronized hH va_S.rf (lv_entry _ hsz)
theorem ty_iret {XC : String → State → State → Prop} {α : Type} {val : α → Option Value} {post : α → tc_E → tc_S → Prop} {v : Int32} (r : α) (hv : val r = some (.int v)) (C : tc_C p m c cc nL s args own E) (hsim : tc_sim E0 E) (hr : meth.sig.returnType = some .int) (hlk : meth.locks = false) (hH : tc_ok E S H) (hS : va_S (fun q => eb E ≤ q) s.heap H locs) (hk : post r E S) (hdg : decode cc pc = .ok (.ireturn, 1)) (h1 : cells ≤ mc) (h2 : slots ≤ ms) : W p l e R s m args below meth c H locs cells slots (vx_MQ below (ty_Q E0 val post) XC args s mc ms (fun q => eb E0 ≤ q)) (F0 m pc ls [.int v]) := by
  have e1 := hsim.1
  rw [e1] at hS
  exact vx_ret (W.widen h1 h2 (W.iret C.hx C.hb hr (fun t ht hW => ⟨⟨r, E, S, by rw [hv], hk, hsim, by rw [ht]; exact hH⟩, hS.F ht⟩) hS.2.2 hdg hlk))
theorem xn_new (C : tc_C p m c cc nL s args own E) (hX : xn_ok E S N H) (hS : va_S (fun q => eb E ≤ q) s.heap H locs) {Cn : String} {T : u_T} {N9 ci : Nat} (hin : ∀ w ∈ u_ws Cn T N9, w ∈ lw_all) (ty : Nat → FieldType) (hty : ∀ k, k < N9 → parseFieldDescriptor (T k).2.2.1 = some (ty k)) (hcl : Cond.classLink own index Cn ∈ lw_all) (hinst : Cond.instantiable Cn N9 ∈ lw_all) (hini : Cond.initialized Cn ∈ lw_all) (hc : gcl[ci]? = some (Cn, T, N9)) {fs : List Value} (hfs : ∀ j, j < N9 → defaultValue (ty j) = vp_V fs j) (hcells : cells + 1 ≤ R.cells) (hslots : slots + N9 ≤ R.slots) (hdg : decode cc pc = .ok (.new index, 3))
    (kk : ∀ (q : Nat) (H1 : Heap), xn_ok E S (N ++ [(q, .inr (ci, fs))]) H1 → va_S (fun q => eb E ≤ q) s.heap H1 locs → W p l e R s m args below meth c H1 locs (cells + 1) (slots + N9) Q (F0 m (pc + 3) ls (.ref q :: rest))) : W p l e R s m args below meth c H locs cells slots Q (F0 m pc ls rest) :=
  va_new C.hx C.hb C.hts hin ty hty C.hown (C.hts _ hcl) (C.hts _ hinst) (C.hts _ hini) C.hK hX.1 hX.2.1 hS (fun q h => Nat.le_trans C.2.2.1 h) hc hfs hcells hslots hdg (fun q H1 h1 h2 h3 => kk q H1 ⟨by rw [← List.append_assoc]; exact h1, by rw [← List.append_assoc]; exact h2, hX.2.2⟩ h3)
theorem xn_newI (C : tc_C p m c cc nL s args own E) (hX : xn_ok E S N H) (hS : va_S (fun q => eb E ≤ q) s.heap H locs) {n : Int32} {N' : Nat} (hn : ¬ n < 0) (hN : n.toNatClampNeg = N') (hb : N' ≤ 1000) (hcells : cells + 1 ≤ R.cells) (hslots : slots + N' ≤ R.slots) (hdg : decode cc pc = .ok (.newarray .int, 2))
    (kk : ∀ (q : Nat) (H1 : Heap), xn_ok E S (N ++ [(q, .inl (ec E 0, N', .inl (fun _ => 0)))]) H1 → va_S (fun q => eb E ≤ q) s.heap H1 locs → W p l e R s m args below meth c H1 locs (cells + 1) (slots + N') Q (F0 m (pc + 2) ls (.ref q :: rest))) : W p l e R s m args below meth c H locs cells slots Q (F0 m pc ls (.int n :: rest)) := by
  refine va_newa C.hx C.hb (atype := .int) (ty := .int) (a0 := (N', .inl (fun _ => 0))) (C.hts _ q207) rfl C.hK hX.1 hX.2.1 hS (fun q h => Nat.le_trans C.2.2.1 h) (fun cA => rfl) hn hN (by show N' * 4 ≤ _; omega) hcells hslots hdg (fun q cA H1 hK h1 h2 h3 => ?_)
  have e1 : s.vm.findClass ("[" ++ (FieldType.int).toString) = some cA := (hK.2 6 _ rfl).2
  have e2 : s.vm.findClass ("[" ++ (FieldType.int).toString) = some (ec E 0) := (C.hK.2 0 _ rfl).2
  cases e1.symm.trans e2
  exact kk q H1 ⟨by rw [← List.append_assoc]; exact h1, by rw [← List.append_assoc]; exact h2, hX.2.2⟩ h3
theorem xn_iast (C : tc_C p m c cc nL s args own E) (hX : xn_ok E S N H) (hS : va_S (fun q => eb E ≤ q) s.heap H locs) (k : Nat) {q N' : Nat} {f : Nat → Int32} (hk : N[k]? = some (q, .inl (ec E 0, N', .inl f))) {i x : Int32} (hin : vp_in i N') (hdg : decode cc pc = .ok (.iastore, 1))
    (kk : ∀ (H1 : Heap) (locs1 : List Loc), xn_ok E S (N.set k (q, .inl (ec E 0, N', .inl (upd f i.toNatClampNeg x)))) H1 → va_S (fun q => eb E ≤ q) s.heap H1 locs1 → W p l e R s m args below meth c H1 locs1 cells slots Q (F0 m (pc + 1) ls rest)) : W p l e R s m args below meth c H locs cells slots Q (F0 m pc ls (.int x :: .int i :: .ref q :: rest)) := by
  refine va_iast C.hx C.hb C.hK hX.1 hX.2.1 hS ((xn_wl E S).length + k) 0 (by rw [List.getElem?_append_right (by omega), Nat.add_sub_cancel_left]; exact hk) rfl hin hdg (fun H1 locs1 h1 h2 h3 => ?_)
  rw [List.set_append_right _ _ (by omega), Nat.add_sub_cancel_left] at h1 h2
  exact kk H1 locs1 ⟨h1, h2, hX.2.2⟩ h3
theorem va_nd_of : ∀ {l : List Nat}, l.Nodup → va_nd l = true
  | [], _ => rfl
  | a :: l, h => by
    obtain ⟨h1, h2⟩ := List.nodup_cons.mp h
    simp [va_nd, h1, va_nd_of h2]
theorem nodup_map {α β : Type} {f : α → β} {l : List α} (hf : ∀ a b, f a = f b → a = b) (h : l.Nodup) : (l.map f).Nodup := by
  induction l with
  | nil => exact List.nodup_nil
  | cons x l ih =>
    obtain ⟨h1, h2⟩ := List.nodup_cons.mp h
    refine List.nodup_cons.mpr ⟨fun hm => ?_, ih h2⟩
    obtain ⟨y, hy, e⟩ := List.mem_map.mp hm
    rw [hf _ _ e] at hy
    exact h1 hy
/-- a constructor called on the first of the new things -/
theorem xn_ctor {post : Unit → va_W → Prop} (C : tc_C p m c cc nL s args own E) (hX : xn_ok E S ((b, x0.2) :: N2) H) (hS : va_S (fun q => eb E ≤ q) s.heap H locs) (hM : tn_M l y wy rm E (.ref b :: As) [(b, x0.2)] H.size (fun _ : Unit => none) post mc ms) (cw : CallB R s args own index y bytes maxL none wy rm mc ms n ∧ y.name = "<init>" ∧ (Cond.instanceMethod y).before args s = true) (hlen : As.length = n) (hsize : ls.size = nL) (hst : st = As.reverse ++ .ref b :: rest) (hW : 2 * (F0 m pc ls st).monitorRoom + (rest.map fun v => v.category).sum ≤ 8) (hdg : decode cc pc = .ok (.invokespecial index, 3)) (hf : cells + mc ≤ R.cells ∧ slots + ms ≤ R.slots)
    (kk : ∀ (W' : va_W) (H1 : Heap) (locs1 : List Loc), post () W' → xn_ok E S (N2 ++ W') H1 → va_S (fun q => eb E ≤ q) s.heap H1 locs1 → W p l e R s m args below meth c H1 locs1 (cells + mc) (slots + ms) Q (F0 m (pc + 3) ls rest)) : W p l e R s m args below meth c H locs cells slots Q (F0 m pc ls st) := by
  have hlen0 : ∀ k, (xn_wl E S ++ (b, x0.2) :: N2)[(xn_wl E S).length + k]? = ((b, x0.2) :: N2)[k]? := fun k => by rw [List.getElem?_append_right (by omega), Nat.add_sub_cancel_left]
  have hC : [(xn_wl E S).length].map (fun i => (xn_wl E S ++ (b, x0.2) :: N2)[i]?) = [(b, x0.2)].map some := by
    have := hlen0 0
    simp only [List.map_cons, List.map_nil]
    rw [Nat.add_zero] at this
    rw [this]
    rfl
  have hCf : [(xn_wl E S).length].filterMap (fun i => (xn_wl E S ++ (b, x0.2) :: N2)[i]?) = [(b, x0.2)] := by
    have := hlen0 0
    rw [Nat.add_zero] at this
    simp [this]
  have hF : ∀ q, va_A [(b, x0.2)] H.size q → eb E ≤ q := va_free (A0 := fun q => eb E ≤ q) hX.2.1 hS (fun q h => Nat.le_trans C.2.2.1 h) _ hC
  have hr : va_Run p l e R s m args below meth c H locs cells slots mc ms (F0 m pc ls st) rest (tn_Q E [(b, x0.2)] H.size (fun _ : Unit => none) post (Value.ref b :: As).toArray) (va_A [(b, x0.2)] H.size) :=
    va_runI (g := F0 m pc ls st) C.1 hM cw ⟨tn_blind, fun U hU hW => ⟨rfl, by rw [hU], by rw [hU]; exact Nat.le_trans C.2.2.1 hS.1, by rw [hU]; exact hX.1.sub _ hCf, (hX.2.1.sub _ rfl hC).self, hF, va_K.moved hW.alike C.hK, by rw [hU]; exact C.hZ.at hW hS.2.1⟩⟩ rfl hlen hsize hst hW hdg hf
  intro T hT X
  obtain ⟨v, st₀, t, T', L, h0, X', hL, e1, e2, ⟨⟨r, W', hv, hp, hP1, hD1⟩, hz, hk⟩, g⟩ := hr T hT X
  cases hv
  rw [h0] at hz hk
  have hR : (List.range (xn_wl E S).length ++ (List.range N2.length).map (fun k => (xn_wl E S).length + 1 + k)).map (fun i => (xn_wl E S ++ (b, x0.2) :: N2)[i]?) = (xn_wl E S ++ N2).map some := by
    apply List.ext_getElem?
    intro j
    simp only [List.map_append, List.map_map, List.getElem?_map, List.getElem?_append, List.length_map, List.length_range, List.getElem?_range]
    by_cases hj : j < (xn_wl E S).length
    · simp [hj]
    · have : (xn_wl E S).length ≤ j := by omega
      simp only [hj, if_false]
      by_cases hj2 : j - (xn_wl E S).length < N2.length
      · have h9 : (xn_wl E S).length + 1 + (j - (xn_wl E S).length) - (xn_wl E S).length = (j - (xn_wl E S).length) + 1 := by omega
        have h10 : ¬ (xn_wl E S).length + 1 + (j - (xn_wl E S).length) < (xn_wl E S).length := by omega
        simp [hj2, h9, h10]
      · have h11 : N2[j - (xn_wl E S).length]? = none := List.getElem?_eq_none (by omega)
        simp [hj2, h11]
  have hnd : va_nd (List.range (xn_wl E S).length ++ (List.range N2.length).map (fun k => (xn_wl E S).length + 1 + k)) = true := by
    refine va_nd_of (List.nodup_append.mpr ⟨List.nodup_range, ?_, ?_⟩)
    · exact nodup_map (fun a b e => by omega) List.nodup_range
    · intro i hi j hj e
      simp only [List.mem_range, List.mem_map] at hi hj
      obtain ⟨k, -, rfl⟩ := hj
      omega
  have hj := va_join (A0 := fun q => eb E ≤ q) hX.1 hX.2.1 [(xn_wl E S).length] _ hC hR hnd (fun i hi => by
    simp only [List.mem_append, List.mem_range, List.mem_map, List.mem_singleton] at hi ⊢
    rcases hi with h | ⟨k, h, rfl⟩ <;> omega) (H1 := T'.heap) (w1 := W') (fun q h1 h2 => by rw [e1]; exact hk q h1 h2) hF (by rw [e1]; exact hP1) hD1
  obtain ⟨t2, a1, b1⟩ := kk W' T'.heap (locs ++ L) hp ⟨by rw [← List.append_assoc]; exact hj.1, by rw [← List.append_assoc]; exact hj.2, hX.2.2⟩
    ⟨Nat.le_trans hS.1 (by rw [e1]; exact hz), fun q h1 h2 => by rw [e1, hk q (Nat.lt_of_lt_of_le h1 hS.1) (fun z => h2 (hF q z))]; exact hS.2.1 q h1 h2, fun q hq => by
      rcases List.mem_append.mp hq with h | h
      · exact hS.2.2 q h
      · exact hF _ (hL q h)⟩ T' rfl X'
  exact ⟨t2, g t2 a1, b1⟩
theorem tc_sim.trans {E1 E2 E3 : tc_E} (h : tc_sim E1 E2) (g : tc_sim E2 E3) : tc_sim E1 E3 := ⟨g.1.trans h.1, g.2.1.trans h.2.1, g.2.2.1.trans h.2.2.1, g.2.2.2.trans h.2.2.2⟩
/-- old things keep their addresses -/
def xn_ea (E E' : tc_E) : Prop := ∀ L, L ∈ eL E → ea E' L = ea E L
/-- a first wire into a list that has no places yet -/
theorem xn_add (C : tc_C p m c cc nL s args own E) (hH : tc_ok E S H) (hS : va_S (fun q => eb E ≤ q) s.heap H locs) {x k : Nat} (hx : x < yn E + 2) (hg : ¬ ygr E x = true) (hk : k < ynw E) (hs0 : S.1 11 x 1 = 0) (cw : CallW R s args own RJ2 index yJ2_add cJ2_add 2 (some .boolean) (ws_ yJ2_add cJ2_add 2 (some .boolean)) ({ frames := 4, cells := 1, slots := 10, locals := 96 } : Room) 1 10 1) (hsize : ls.size = nL) (hW : 2 * (F0 m pc ls rest).monitorRoom + (rest.map fun v => v.category).sum ≤ 8) (hdg : decode cc pc = .ok (.invokevirtual index, 3)) (hf : cells + 1 ≤ R.cells ∧ slots + 10 ≤ R.slots)
    (kk : ∀ b : Nat, ∃ (E' : tc_E) (S' : tc_S), xn_cl E S [(ea E (13, k), tc_w E S (13, k)), (ea E (2, x), .inr (9, [.int (S.1 11 x 0 + 1), .ref b, .int 1])), (b, tc_ref (ec E 4) 10 (va_up (fun _ => none) (0 : Int32).toNatClampNeg (some (ea E (13, k)))))] [(13, k), (2, x), (3, x)] E' S' ∧ ∀ (H1 : Heap) (locs1 : List Loc), tc_ok E' S' H1 → va_S (fun q => eb E ≤ q) s.heap H1 locs1 → W p l e R s m args below meth c H1 locs1 (cells + 1) (slots + 10) Q (F0 m (pc + 3) ls (.int 1 :: rest))) : W p l e R s m args below meth c H locs cells slots Q (F0 m pc ls (.ref (ea E (13, k)) :: .ref (ea E (2, x)) :: rest)) := by
  have hL1 := hH.l x hx
  have hL2 := hH.w k hk
  have hwx : tc_w E S (2, x) = .inr (9, [.int (S.1 11 x 0), .ref (es E 0), .int 0]) := by
    show Sum.inr (9, tc_lfs E S x) = _
    unfold tc_lfs
    rw [if_neg hg, hs0]
  have hLC : ∀ L ∈ [((2, x) : gb_L), (13, k)], L ∈ eL E := fun L hL => by
    simp only [List.mem_cons, List.not_mem_nil, or_false] at hL
    rcases hL with rfl | rfl
    · exact hL1
    · exact hL2
  have hwc : gb_wl [((2, x) : gb_L), (13, k)] (ea E) (tc_w E S) = [(ea E (2, x), .inr (9, [.int (S.1 11 x 0), .ref (es E 0), .int 0])), (ea E (13, k), tc_w E S (13, k))] := by
    simp only [gb_wl, List.map_cons, List.map_nil, hwx]
  have hG := hH.1
  have hPc : va_P (eD E) gcl (gb_wl [((2, x) : gb_L), (13, k)] (ea E) (tc_w E S)) H := fun j q hj => by
    obtain ⟨L, hL, rfl⟩ := List.mem_map.mp (List.mem_of_getElem? hj)
    obtain ⟨i, hi⟩ := List.getElem?_of_mem (gb_wl_mem (ad := ea E) (w := tc_w E S) (hLC L hL))
    exact hG.1 i _ hi
  have hne : ea E (2, x) ≠ ea E (13, k) := fun e => by
    have := (gb_inj hG hL1 hL2).mp e
    simp at this
  have hA : ∀ q, va_A (gb_wl [((2, x) : gb_L), (13, k)] (ea E) (tc_w E S)) H.size q → eb E ≤ q := by
    rintro q (⟨j, z, hj⟩ | hj)
    · obtain ⟨L, hL, e⟩ := List.mem_map.mp (List.mem_of_getElem? hj)
      obtain ⟨i, hi⟩ := List.getElem?_of_mem (gb_wl_mem (ad := ea E) (w := tc_w E S) (hLC L hL))
      have := hG.2.1.2 i _ hi
      rw [e] at this
      exact this
    · exact Nat.le_trans C.2.2.1 (Nat.le_trans hS.1 hj)
  have hDc : va_D (va_A (gb_wl [((2, x) : gb_L), (13, k)] (ea E) (tc_w E S)) H.size) (gb_wl [((2, x) : gb_L), (13, k)] (ea E) (tc_w E S)) := by
    refine ⟨fun i j p q hi hj e => ?_, fun i q hi => va_A.in hi⟩
    have hli := (List.getElem?_eq_some_iff.mp hi).1
    have hlj := (List.getElem?_eq_some_iff.mp hj).1
    simp only [gb_wl, List.length_map, List.length_cons, List.length_nil] at hli hlj
    match i, j, hli, hlj with
    | 0, 0, _, _ => rfl
    | 1, 1, _, _ => rfl
    | 0, 1, _, _ => cases hi; cases hj; exact absurd e hne
    | 1, 0, _, _ => cases hi; cases hj; exact absurd e.symm hne
  have hM : tn_M l yJ2_add (ws_ yJ2_add cJ2_add 2 (some .boolean)) ({ frames := 4, cells := 1, slots := 10, locals := 96 } : Room) E [.ref (ea E (2, x)), .ref (ea E (13, k))] (gb_wl [((2, x) : gb_L), (13, k)] (ea E) (tc_w E S)) H.size (fun r : Int32 => some (.int r)) (fun (r9 : Int32) (W9 : va_W) => ∃ b1 : Nat, r9 = 1 ∧ W9 = [(ea E (13, k), tc_w E S (13, k)), (ea E (2, x), .inr (9, [.int (S.1 11 x 0 + 1), .ref b1, .int 1])), (b1, tc_ref (ec E 4) 10 (va_up (fun _ => none) (0 : Int32).toNatClampNeg (some (ea E (13, k)))))]) 1 10 := by
    rw [hwc]
    exact t_J2_add_c8 l (fs := [.ref (ea E (1, ywf E k)), .int (ywq E k)])
  have hr := va_runV (g := F0 m pc ls (.ref (ea E (13, k)) :: .ref (ea E (2, x)) :: rest)) (As := [.ref (ea E (13, k))]) (rest := rest) (H := H) (locs := locs) (cells := cells) (slots := slots) (below := below) (e := e) (meth := meth) C.1 hM cw ⟨tn_blind, tc_recv (q := (RJ2, TJ2, 3)) C.hK hH hL1 rfl rfl, fun U hU hW => ⟨rfl, by rw [hU], by rw [hU]; exact Nat.le_trans C.2.2.1 hS.1, by rw [hU]; exact hPc, hDc, hA, va_K.moved hW.alike C.hK, by rw [hU]; exact C.hZ.at hW hS.2.1⟩⟩ rfl rfl hsize rfl hW hdg hf
  intro T hT X
  obtain ⟨v, st₀, t, T', L, h0, X', hL, e1, e2, ⟨⟨r, W', hv, ⟨b, hr1, hp⟩, hP1, hD1⟩, hz, hk2⟩, g⟩ := hr T hT X
  cases hv
  subst hr1 hp
  rw [h0] at hz hk2
  obtain ⟨E', S', hcl, hkk⟩ := kk b
  have hH1 : tc_ok E' S' T'.heap := by
    refine xn_join hH hLC hcl (fun L hL => Or.inl ?_) (fun q h1 h2 => by rw [e1]; exact hk2 q h1 h2) hA (by rw [e1]; exact hP1) hD1
    simp only [List.mem_cons, List.not_mem_nil, or_false] at hL ⊢
    rcases hL with rfl | rfl
    · exact Or.inr (Or.inl rfl)
    · exact Or.inl rfl
  obtain ⟨t2, a1, b1⟩ := hkk T'.heap (locs ++ L) hH1
    ⟨Nat.le_trans hS.1 (by rw [e1]; exact hz), fun q h1 h2 => by rw [e1, hk2 q (Nat.lt_of_lt_of_le h1 hS.1) (fun z => h2 (hA q z))]; exact hS.2.1 q h1 h2, fun q hq => by
      rcases List.mem_append.mp hq with h | h
      · exact hS.2.2 q h
      · exact hA _ (hL q h)⟩ T' rfl X'
  exact ⟨t2, g t2 a1, b1⟩
/-- a call that only reads -/
theorem xn_read {α : Type} {val : α → Option Value} {post : α → tc_S → Prop} {L : gb_L} {ci : Nat} {fs : List Value} {q : vw_C} (C : tc_C p m c cc nL s args own E) (hH : tc_ok E S H) (hS : va_S (fun q => eb E ≤ q) s.heap H locs) (hL : L ∈ eL E) (he : tc_w E S L = .inr (ci, fs)) (hc : gcl[ci]? = some q) (hM : tc_R l y wy rm E (.ref (ea E L) :: As) S (fun _ _ => True) val post) (cw : CallW R s args own q.1 index y bytes maxL ret wy rm 0 0 n) (hlen : As.length = n) (hsize : ls.size = nL) (hst : st = As.reverse ++ .ref (ea E L) :: rest) (hW : 2 * (F0 m pc ls st).monitorRoom + (rest.map fun v => v.category).sum ≤ 8) (hdg : decode cc pc = .ok (.invokevirtual index, 3)) (hf : cells ≤ R.cells ∧ slots ≤ R.slots)
    (kk : ∀ (r : α) (S' : tc_S), post r S' → W p l e R s m args below meth c H locs cells slots Q (F0 m (pc + 3) ls ((val r).toList ++ rest))) : W p l e R s m args below meth c H locs cells slots Q (F0 m pc ls st) := by
  intro T hT X
  obtain ⟨v, st₀, t, T', L9, h0, X', hL9, e1, -, ⟨⟨r, S', hv, hp, hb⟩, hh⟩, g⟩ := va_runV (g := F0 m pc ls st) (As := As) C.1 hM cw ⟨fun a U g mk q => ⟨q.1, (tc_blind a U g mk ⟨q.1, q.2.1⟩).2, trivial⟩, tc_recv C.hK hH hL he hc, fun U hU hW => ⟨rfl, C.preAt hH hS hU hW, trivial⟩⟩ rfl hlen hsize hst hW hdg hf T hT X
  cases hv
  have hhp : t.heap = H := hh.trans h0
  obtain ⟨t2, a1, b1⟩ := kk r S' hp T' (by rw [e1]; exact hhp) (Stand.forget X' (fun q h => (hL9 q h).elim))
  exact ⟨t2, g t2 a1, b1⟩
end XN

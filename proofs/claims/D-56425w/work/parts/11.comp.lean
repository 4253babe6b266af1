/-! COMPONENT: its world as one value. E: what stays while no object is made; S: what changes -/
set_option maxRecDepth 100000
abbrev tc_Y : Type := Nat × (Nat → Nat) × (Nat → Nat) × Nat × Nat × (Nat → Bool) × (Nat → Nat → Int32) × (Nat → Nat → Int32) × (Nat → Nat → Int32) × (Nat → Nat) × (Nat → Int32)
abbrev tc_E : Type := Nat × va_G × (Nat → ClassId) × List gb_L × (gb_L → Nat) × (gb_L → va_E) × (Nat → Nat) × tc_Y
abbrev tc_S : Type := (Nat → Nat → Nat → Int32) × (Nat → Nat → Nat → Nat) × (Nat → Int64)
def eb (E : tc_E) : Nat := E.1
def eD (E : tc_E) : va_G := E.2.1
def ec (E : tc_E) : Nat → ClassId := E.2.2.1
def eL (E : tc_E) : List gb_L := E.2.2.2.1
def ea (E : tc_E) : gb_L → Nat := E.2.2.2.2.1
def ew (E : tc_E) : gb_L → va_E := E.2.2.2.2.2.1
def es (E : tc_E) : Nat → Nat := E.2.2.2.2.2.2.1
def eY (E : tc_E) : tc_Y := E.2.2.2.2.2.2.2
/-- how many nodes; their kinds (0 chorus, 1 gain, 2 delay, 3 filter, 4 bus); how many numbers each has; how many envelopes, wires; which lists have places of their own; unchanging numbers of nodes; coefficients; envelopes; wires -/
def yn (E : tc_E) : Nat := (eY E).1
def ykd (E : tc_E) : Nat → Nat := (eY E).2.1
def ynl (E : tc_E) : Nat → Nat := (eY E).2.2.1
def yne (E : tc_E) : Nat := (eY E).2.2.2.1
def ynw (E : tc_E) : Nat := (eY E).2.2.2.2.1
def ygr (E : tc_E) : Nat → Bool := (eY E).2.2.2.2.2.1
def yim (E : tc_E) : Nat → Nat → Int32 := (eY E).2.2.2.2.2.2.1
def yco (E : tc_E) : Nat → Nat → Int32 := (eY E).2.2.2.2.2.2.2.1
def yev (E : tc_E) : Nat → Nat → Int32 := (eY E).2.2.2.2.2.2.2.2.1
def ywf (E : tc_E) : Nat → Nat := (eY E).2.2.2.2.2.2.2.2.2.1
def ywq (E : tc_E) : Nat → Int32 := (eY E).2.2.2.2.2.2.2.2.2.2
def tI (S : tc_S) (t i k : Nat) (x : Int32) : tc_S := (fun t' i' k' => if t' = t ∧ i' = i ∧ k' = k then x else S.1 t' i' k', S.2)
def tP (S : tc_S) (t i k : Nat) (x : Nat) : tc_S := (S.1, fun t' i' k' => if t' = t ∧ i' = i ∧ k' = k then x else S.2.1 t' i' k', S.2.2)
def tL (S : tc_S) (k : Nat) (x : Int64) : tc_S := (S.1, S.2.1, fun k' => if k' = k then x else S.2.2 k')
/-- a whole row of numbers set -/
def tA (S : tc_S) (t i : Nat) (f : Nat → Int32) : tc_S := (fun t' i' k' => if t' = t ∧ i' = i then f k' else S.1 t' i' k', S.2)
def tQ (S : tc_S) (t i : Nat) (f : Nat → Nat) : tc_S := (S.1, fun t' i' k' => if t' = t ∧ i' = i then f k' else S.2.1 t' i' k', S.2.2)
def tc_cls : Nat → Nat
  | 0 => 2
  | 1 => 4
  | 2 => 5
  | 3 => 6
  | _ => 7
def tc_kc : Nat → Int32
  | 0 => 118
  | 1 => 103
  | 2 => 100
  | 3 => 102
  | _ => 98
def tc_on (f : Nat → Nat) : Nat → Option Nat
  | 0 => none
  | k + 1 => some (f k)
def tc_tk : Nat → Nat
  | 0 => 1
  | 1 => 1
  | _ + 2 => 13
def tc_ext (E : tc_E) (S : tc_S) (i : Nat) : Nat → List Value
  | 0 => [.ref (ea E (9, 0))]
  | 1 => [.int (S.1 1 i 3)]
  | 2 => [.int (yim E i 0), .int (yim E i 1)]
  | 3 => [.ref (ea E (7, i))]
  | _ => [.int (yim E i 0)]
def tc_nfs (E : tc_E) (S : tc_S) (i : Nat) : List Value := [.int (nI i), .int (tc_kc (ykd E i)), .ref (ea E (2, i + 2)), .ref (ea E (4, i)), .int (S.1 1 i 0), .int (S.1 1 i 1), .ref (ea E (5, i)), .ref (ea E (6, i)), .int (S.1 1 i 2)] ++ tc_ext E S i (ykd E i)
def tc_gfs (E : tc_E) (S : tc_S) : List Value := [.ref (ea E (1, 0)), .ref (ea E (2, 0)), .ref (ea E (2, 1)), .ref (ea E (1, S.2.1 0 0 0)), .int (S.1 0 0 0), .ref (ea E (12, S.2.1 0 0 1)), .ref (ea E (8, 0)), .int (S.1 0 0 1), .int (S.1 0 0 2), .int (S.1 0 0 3), .long (S.2.2 0), .long (S.2.2 1), .int (S.1 0 0 4)]
def tc_vfs (E : tc_E) (S : tc_S) (v : Nat) : List Value := [.int (nI v), .int (S.1 6 v 1), .int (S.1 6 v 2), va_rf (tc_on (fun k => es E (k + 2)) (S.2.1 3 v 1)), va_rf (tc_on (fun k => ea E (12, k)) (S.2.1 3 v 0)), .int (S.1 6 v 3), .int (S.1 6 v 4), .int (S.1 6 v 5), .int (S.1 6 v 6), .int (S.1 6 v 7), .long (S.2.2 (3 + v)), .ref (ea E (11, v))]
def tc_lfs (E : tc_E) (S : tc_S) (x : Nat) : List Value := [.int (S.1 11 x 0), .ref (if ygr E x then ea E (3, x) else es E 0), .int (S.1 11 x 1)]
def tc_lf (E : tc_E) (S : tc_S) (x : Nat) : Nat → Option Nat := fun j => tc_on (fun k => ea E (tc_tk x, k)) (S.2.1 2 x j)
def tc_ref (cA : ClassId) (n : Nat) (f : Nat → Option Nat) : va_E := .inl (cA, n, .inr (.inr (.inr (.inr f))))
def tc_w (E : tc_E) (S : tc_S) : gb_L → va_E := fun L => match L with
  | (0, 0) => .inr (0, tc_gfs E S)
  | (1, i) => .inr (tc_cls (ykd E i), tc_nfs E S i)
  | (2, x) => .inr (9, tc_lfs E S x)
  | (3, x) => tc_ref (ec E 4) 10 (tc_lf E S x)
  | (4, i) => .inl (ec E 0, 64, .inl (S.1 2 i))
  | (5, i) => .inl (ec E 0, ynl E i, .inl (S.1 3 i))
  | (6, i) => .inl (ec E 0, ynl E i, .inl (S.1 4 i))
  | (7, i) => .inl (ec E 0, 3, .inl (yco E i))
  | (8, 0) => .inl (ec E 0, 64, .inl (S.1 10 0))
  | (9, 0) => tc_ref (ec E 5) 4 (fun j => some (ea E (10, j)))
  | (10, v) => .inr (3, tc_vfs E S v)
  | (11, v) => .inl (ec E 0, 3, .inl (S.1 7 v))
  | (12, e) => .inr (1, [.int (yev E e 0), .int (yev E e 1), .int (yev E e 2), .int (yev E e 3)])
  | (13, c) => .inr (8, [.ref (ea E (1, ywf E c)), .int (ywq E c)])
  | L => ew E L
def tc_dm (E : tc_E) : Prop := (0, 0) ∈ eL E ∧ (8, 0) ∈ eL E ∧ (9, 0) ∈ eL E ∧ (∀ x, x < yn E + 2 → (2, x) ∈ eL E) ∧ (∀ x, x < yn E + 2 → ygr E x = true → (3, x) ∈ eL E) ∧ (∀ i, i < yn E → (1, i) ∈ eL E) ∧ (∀ i, i < yn E → (4, i) ∈ eL E) ∧ (∀ i, i < yn E → (5, i) ∈ eL E) ∧ (∀ i, i < yn E → (6, i) ∈ eL E) ∧ (∀ i, i < yn E → ykd E i = 3 → (7, i) ∈ eL E) ∧ (∀ v, v < 4 → (10, v) ∈ eL E) ∧ (∀ v, v < 4 → (11, v) ∈ eL E) ∧ (∀ k, k < yne E → (12, k) ∈ eL E) ∧ (∀ k, k < ynw E → (13, k) ∈ eL E) ∧ (∀ i, i < yn E → ykd E i ≤ 4) ∧ (0 < yn E ∧ ykd E 0 = 0) ∧ ygr E 0 = true ∧ ygr E 1 = true
def tc_ok (E : tc_E) (S : tc_S) (H : Heap) : Prop := gb_W (eD E) gcl (fun q => eb E ≤ q) (eL E) (ea E) (tc_w E S) H ∧ tc_dm E

theorem tc_ok.g {E : tc_E} {S : tc_S} {H : Heap} (h : tc_ok E S H) : (0, 0) ∈ eL E := h.2.1
theorem tc_ok.hd {E : tc_E} {S : tc_S} {H : Heap} (h : tc_ok E S H) : (8, 0) ∈ eL E := h.2.2.1
theorem tc_ok.vs {E : tc_E} {S : tc_S} {H : Heap} (h : tc_ok E S H) : (9, 0) ∈ eL E := h.2.2.2.1
theorem tc_ok.l {E : tc_E} {S : tc_S} {H : Heap} (h : tc_ok E S H) : ∀ x, x < yn E + 2 → (2, x) ∈ eL E := h.2.2.2.2.1
theorem tc_ok.ld {E : tc_E} {S : tc_S} {H : Heap} (h : tc_ok E S H) : ∀ x, x < yn E + 2 → ygr E x = true → (3, x) ∈ eL E := h.2.2.2.2.2.1
theorem tc_ok.n {E : tc_E} {S : tc_S} {H : Heap} (h : tc_ok E S H) : ∀ i, i < yn E → (1, i) ∈ eL E := h.2.2.2.2.2.2.1
theorem tc_ok.row {E : tc_E} {S : tc_S} {H : Heap} (h : tc_ok E S H) : ∀ i, i < yn E → (4, i) ∈ eL E := h.2.2.2.2.2.2.2.1
theorem tc_ok.num {E : tc_E} {S : tc_S} {H : Heap} (h : tc_ok E S H) : ∀ i, i < yn E → (5, i) ∈ eL E := h.2.2.2.2.2.2.2.2.1
theorem tc_ok.numK {E : tc_E} {S : tc_S} {H : Heap} (h : tc_ok E S H) : ∀ i, i < yn E → (6, i) ∈ eL E := h.2.2.2.2.2.2.2.2.2.1
theorem tc_ok.co {E : tc_E} {S : tc_S} {H : Heap} (h : tc_ok E S H) : ∀ i, i < yn E → ykd E i = 3 → (7, i) ∈ eL E := h.2.2.2.2.2.2.2.2.2.2.1
theorem tc_ok.v {E : tc_E} {S : tc_S} {H : Heap} (h : tc_ok E S H) : ∀ v, v < 4 → (10, v) ∈ eL E := h.2.2.2.2.2.2.2.2.2.2.2.1
theorem tc_ok.kp {E : tc_E} {S : tc_S} {H : Heap} (h : tc_ok E S H) : ∀ v, v < 4 → (11, v) ∈ eL E := h.2.2.2.2.2.2.2.2.2.2.2.2.1
theorem tc_ok.e {E : tc_E} {S : tc_S} {H : Heap} (h : tc_ok E S H) : ∀ k, k < yne E → (12, k) ∈ eL E := h.2.2.2.2.2.2.2.2.2.2.2.2.2.1
theorem tc_ok.w {E : tc_E} {S : tc_S} {H : Heap} (h : tc_ok E S H) : ∀ k, k < ynw E → (13, k) ∈ eL E := h.2.2.2.2.2.2.2.2.2.2.2.2.2.2.1
theorem tc_ok.kd {E : tc_E} {S : tc_S} {H : Heap} (h : tc_ok E S H) : ∀ i, i < yn E → ykd E i ≤ 4 := h.2.2.2.2.2.2.2.2.2.2.2.2.2.2.2.1
theorem tc_ok.n0 {E : tc_E} {S : tc_S} {H : Heap} (h : tc_ok E S H) : 0 < yn E ∧ ykd E 0 = 0 := h.2.2.2.2.2.2.2.2.2.2.2.2.2.2.2.2.1
theorem tc_ok.gr0 {E : tc_E} {S : tc_S} {H : Heap} (h : tc_ok E S H) : ygr E 0 = true := h.2.2.2.2.2.2.2.2.2.2.2.2.2.2.2.2.2.1
theorem tc_ok.gr1 {E : tc_E} {S : tc_S} {H : Heap} (h : tc_ok E S H) : ygr E 1 = true := h.2.2.2.2.2.2.2.2.2.2.2.2.2.2.2.2.2.2
/-! the tables' words that the lists don't carry -/
def tc_words : List Cond := [Cond.fieldLinkNest "ToneGraph" 87 "ToneGraph$Chorus" "voices" "[LToneGraph$Voice;" "ToneGraph", Cond.fieldLinkNest "ToneGraph" 91 "ToneGraph$Node" "wires" "Ljava/util/ArrayList;" "ToneGraph", Cond.fieldLinkNest "ToneGraph" 100 "ToneGraph$Wire" "from" "LToneGraph$Node;" "ToneGraph", Cond.fieldLinkNest "ToneGraph" 103 "ToneGraph$Node" "placed" "Z" "ToneGraph", Cond.fieldLinkNest "ToneGraph" 117 "ToneGraph$Node" "number" "I" "ToneGraph", Cond.fieldLinkNest "ToneGraph" 176 "ToneGraph$Wire" "percent" "I" "ToneGraph", Cond.fieldLinkNest "ToneGraph" 179 "ToneGraph$Gain" "percent" "I" "ToneGraph", Cond.fieldLinkNest "ToneGraph" 180 "ToneGraph$Node" "kind" "C" "ToneGraph", Cond.fieldLinkNest "ToneGraph" 187 "ToneGraph$Delay" "length" "I" "ToneGraph", Cond.fieldLinkNest "ToneGraph" 190 "ToneGraph$Envelope" "sustain" "I" "ToneGraph", Cond.fieldLinkNest "ToneGraph" 205 "ToneGraph$Voice" "turn" "J" "ToneGraph", Cond.fieldLinkNest "ToneGraph" 211 "ToneGraph$Voice" "playing" "Z" "ToneGraph", Cond.fieldLinkNest "ToneGraph" 240 "ToneGraph$Voice" "number" "I" "ToneGraph", Cond.fieldLinkNest "ToneGraph" 248 "ToneGraph$Voice" "released" "Z" "ToneGraph", Cond.fieldLinkNest "ToneGraph" 261 "ToneGraph$Voice" "key" "I" "ToneGraph", Cond.fieldLinkNest "ToneGraph" 267 "ToneGraph$Voice" "phase" "I" "ToneGraph", Cond.fieldLinkNest "ToneGraph" 301 "ToneGraph$Node" "row" "[I" "ToneGraph", Cond.fieldLinkNest "ToneGraph" 307 "ToneGraph$Node" "now" "I" "ToneGraph", Cond.fieldLinkNest "ToneGraph$Chorus" 24 "ToneGraph$Node" "row" "[I" "ToneGraph", Cond.fieldLinkNest "ToneGraph$Chorus" 32 "ToneGraph$Node" "now" "I" "ToneGraph", Cond.fieldLinkNest "ToneGraph$Delay" 16 "ToneGraph$Node" "numbers" "[I" "ToneGraph", Cond.fieldLinkNest "ToneGraph$Delay" 20 "ToneGraph$Node" "row" "[I" "ToneGraph", Cond.fieldLinkNest "ToneGraph$Delay" 23 "ToneGraph$Node" "now" "I" "ToneGraph", Cond.fieldLinkNest "ToneGraph$Filter" 13 "ToneGraph$Node" "numbers" "[I" "ToneGraph", Cond.fieldLinkNest "ToneGraph$Node" 46 "ToneGraph$Wire" "from" "LToneGraph$Node;" "ToneGraph", Cond.fieldLinkNest "ToneGraph$Node" 53 "ToneGraph$Wire" "percent" "I" "ToneGraph", Cond.fieldLinkNest "ToneGraph$Voice" 59 "ToneGraph$Envelope" "release" "I" "ToneGraph", Cond.fieldLinkNest "ToneGraph$Voice" 66 "ToneGraph" "STEPS" "[I" "ToneGraph", Cond.fieldLinkNest "ToneGraph$Voice" 87 "ToneGraph$Envelope" "sustain" "I" "ToneGraph", Cond.methodLinkNest "ToneGraph$Delay" 26 ⟨"ToneGraph", "cut", "(I)I"⟩ "ToneGraph", Cond.methodLinkNest "ToneGraph$Filter" 16 ⟨"ToneGraph", "cut", "(I)I"⟩ "ToneGraph", Cond.methodLinkNest "ToneGraph$Node" 63 ⟨"ToneGraph", "cut", "(I)I"⟩ "ToneGraph", Cond.castable "ToneGraph" "java/lang/Object", Cond.castable "ToneGraph$Bus" "ToneGraph$Node", Cond.castable "ToneGraph$Bus" "java/lang/Object", Cond.castable "ToneGraph$Chorus" "ToneGraph$Node", Cond.castable "ToneGraph$Chorus" "java/lang/Object", Cond.castable "ToneGraph$Delay" "ToneGraph$Node", Cond.castable "ToneGraph$Delay" "java/lang/Object", Cond.castable "ToneGraph$Envelope" "java/lang/Object", Cond.castable "ToneGraph$Filter" "ToneGraph$Node", Cond.castable "ToneGraph$Filter" "java/lang/Object", Cond.castable "ToneGraph$Gain" "ToneGraph$Node", Cond.castable "ToneGraph$Gain" "java/lang/Object", Cond.castable "ToneGraph$Voice" "java/lang/Object", Cond.castable "ToneGraph$Wire" "java/lang/Object", Cond.castable "ToneGraphModel" "java/lang/Object", Cond.castable "[B" "java/lang/Object", Cond.castable "[D" "java/lang/Object", Cond.castable "[I" "java/lang/Object", Cond.castable "[J" "java/lang/Object", Cond.castable "[LToneGraph$Voice;" "java/lang/Object", Cond.castable "[Ljava/lang/Object;" "java/lang/Object", Cond.castable "[Z" "java/lang/Object", Cond.castable "java/lang/ArithmeticException" "java/lang/ArithmeticException", Cond.castable "java/lang/ArithmeticException" "java/lang/Object", Cond.castable "java/lang/ArrayIndexOutOfBoundsException" "java/lang/ArrayIndexOutOfBoundsException", Cond.castable "java/lang/ArrayIndexOutOfBoundsException" "java/lang/IndexOutOfBoundsException", Cond.castable "java/lang/ArrayIndexOutOfBoundsException" "java/lang/Object", Cond.castable "java/lang/IllegalArgumentException" "java/lang/IllegalArgumentException", Cond.castable "java/lang/IllegalArgumentException" "java/lang/Object", Cond.castable "java/lang/IllegalStateException" "java/lang/IllegalStateException", Cond.castable "java/lang/IllegalStateException" "java/lang/Object", Cond.castable "java/lang/IndexOutOfBoundsException" "java/lang/IndexOutOfBoundsException", Cond.castable "java/lang/IndexOutOfBoundsException" "java/lang/Object", Cond.castable "java/lang/String" "java/lang/Object", Cond.castable "java/lang/Throwable" "java/lang/Object", Cond.castable "java/lang/UnsupportedOperationException" "java/lang/Object", Cond.castable "java/lang/UnsupportedOperationException" "java/lang/UnsupportedOperationException", Cond.castable "java/util/ArrayList" "java/lang/Object", Cond.castable "java/util/NoSuchElementException" "java/lang/Object", Cond.castable "java/util/NoSuchElementException" "java/util/NoSuchElementException", Cond.declares ⟨"ToneGraph$Choice", "means", "(LToneGraph$Voice;)Z"⟩, Cond.declares ⟨"ToneGraph$Node", "input", "()I"⟩, Cond.declares ⟨"ToneGraph$Node", "input", "(I)I"⟩, Cond.declares ⟨"ToneGraph$Node", "made", "(I)I"⟩, Cond.declares ⟨"ToneGraph$Wave", "at", "(I)I"⟩, Cond.declares ⟨"java/lang/Exception", "<init>", "()V"⟩, Cond.declares ⟨"java/lang/Exception", "<init>", "(Ljava/lang/String;)V"⟩, Cond.declares ⟨"java/lang/IndexOutOfBoundsException", "<init>", "()V"⟩, Cond.declares ⟨"java/lang/IndexOutOfBoundsException", "<init>", "(Ljava/lang/String;)V"⟩, Cond.declares ⟨"java/lang/Object", "getClass", "()Ljava/lang/Class;"⟩, Cond.declares ⟨"java/lang/RuntimeException", "<init>", "()V"⟩, Cond.declares ⟨"java/lang/RuntimeException", "<init>", "(Ljava/lang/String;)V"⟩, Cond.declares ⟨"java/lang/Throwable", "<init>", "()V"⟩, Cond.declares ⟨"java/lang/Throwable", "<init>", "(Ljava/lang/String;)V"⟩, Cond.interfaceMethod "ToneGraph$Choice" "ToneGraph$Choice" "means" "(LToneGraph$Voice;)Z", Cond.interfaceMethod "ToneGraph$Wave" "ToneGraph$Wave" "at" "(I)I"]
theorem tc_words_in : ∀ w ∈ tc_words, w ∈ lw_tbl := by
  unfold tc_words
  simp only [List.forall_mem_cons]
  exact ⟨q209, q215, q967, q229, q211, q970, q757, q213, q797, q134, q180, q167, q165, q169, q173, q176, q219, q223, q217, q221, q227, q218, q222, q226, q966, q969, q136, q477, q133, q511, q486, q493, q1619, q1613, q1629, q1614, q1622, q1615, q1627, q1621, q1616, q1628, q1617, q1626, q1618, q1633, q1623, q1644, q1647, q1642, q1646, q1641, q1643, q1645, q1205, q1635, q891, q1612, q1630, q554, q1624, q737, q1625, q912, q1631, q1637, q1636, q1632, q947, q1620, q1634, q986, q1097, q504, q714, q446, q472, q557, q558, q892, q893, q1640, q555, q556, q559, q560, q1096, q471, fun _ h => by cases h⟩
def tc_N (U : State) : Prop := ∀ w ∈ tc_words, va_Nw w U
theorem tc_N.warm {s U : State} (hW : s.WarmedH U.vm) (h : tc_N s) : tc_N U := by
  unfold tc_N tc_words at h ⊢
  simp only [List.forall_mem_cons] at h ⊢
  obtain ⟨a0, a1, a2, a3, a4, a5, a6, a7, a8, a9, a10, a11, a12, a13, a14, a15, a16, a17, a18, a19, a20, a21, a22, a23, a24, a25, a26, a27, a28, a29, a30, a31, a32, a33, a34, a35, a36, a37, a38, a39, a40, a41, a42, a43, a44, a45, a46, a47, a48, a49, a50, a51, a52, a53, a54, a55, a56, a57, a58, a59, a60, a61, a62, a63, a64, a65, a66, a67, a68, a69, a70, a71, a72, a73, a74, a75, a76, a77, a78, a79, a80, a81, a82, a83, a84, a85, a86, a87, -⟩ := h
  exact ⟨va_Nw.warmF hW a0, va_Nw.warmF hW a1, va_Nw.warmF hW a2, va_Nw.warmF hW a3, va_Nw.warmF hW a4, va_Nw.warmF hW a5, va_Nw.warmF hW a6, va_Nw.warmF hW a7, va_Nw.warmF hW a8, va_Nw.warmF hW a9, va_Nw.warmF hW a10, va_Nw.warmF hW a11, va_Nw.warmF hW a12, va_Nw.warmF hW a13, va_Nw.warmF hW a14, va_Nw.warmF hW a15, va_Nw.warmF hW a16, va_Nw.warmF hW a17, va_Nw.warmF hW a18, va_Nw.warmF hW a19, va_Nw.warmF hW a20, va_Nw.warmF hW a21, va_Nw.warmF hW a22, va_Nw.warmF hW a23, va_Nw.warmF hW a24, va_Nw.warmF hW a25, va_Nw.warmF hW a26, va_Nw.warmF hW a27, va_Nw.warmF hW a28, va_Nw.warmM hW a29, va_Nw.warmM hW a30, va_Nw.warmM hW a31, va_Nw.warmC hW a32, va_Nw.warmC hW a33, va_Nw.warmC hW a34, va_Nw.warmC hW a35, va_Nw.warmC hW a36, va_Nw.warmC hW a37, va_Nw.warmC hW a38, va_Nw.warmC hW a39, va_Nw.warmC hW a40, va_Nw.warmC hW a41, va_Nw.warmC hW a42, va_Nw.warmC hW a43, va_Nw.warmC hW a44, va_Nw.warmC hW a45, va_Nw.warmC hW a46, va_Nw.warmC hW a47, va_Nw.warmC hW a48, va_Nw.warmC hW a49, va_Nw.warmC hW a50, va_Nw.warmC hW a51, va_Nw.warmC hW a52, va_Nw.warmC hW a53, va_Nw.warmC hW a54, va_Nw.warmC hW a55, va_Nw.warmC hW a56, va_Nw.warmC hW a57, va_Nw.warmC hW a58, va_Nw.warmC hW a59, va_Nw.warmC hW a60, va_Nw.warmC hW a61, va_Nw.warmC hW a62, va_Nw.warmC hW a63, va_Nw.warmC hW a64, va_Nw.warmC hW a65, va_Nw.warmC hW a66, va_Nw.warmC hW a67, va_Nw.warmC hW a68, va_Nw.warmC hW a69, va_Nw.warmC hW a70, va_Nw.warmC hW a71, va_Nw.warmD hW a72, va_Nw.warmD hW a73, va_Nw.warmD hW a74, va_Nw.warmD hW a75, va_Nw.warmD hW a76, va_Nw.warmD hW a77, va_Nw.warmD hW a78, va_Nw.warmD hW a79, va_Nw.warmD hW a80, va_Nw.warmD hW a81, va_Nw.warmD hW a82, va_Nw.warmD hW a83, va_Nw.warmD hW a84, va_Nw.warmD hW a85, va_Nw.warmI hW a86, va_Nw.warmI hW a87, fun _ h => by cases h⟩
theorem tc_N.same {s U : State} (hv : s.vm = U.vm) (h : tc_N s) : tc_N U := by
  intro w hw
  refine va_Nw.same ?_ hv (h w hw)
  revert w
  unfold tc_words
  simp only [List.forall_mem_cons]
  exact ⟨rfl, rfl, rfl, rfl, rfl, rfl, rfl, rfl, rfl, rfl, rfl, rfl, rfl, rfl, rfl, rfl, rfl, rfl, rfl, rfl, rfl, rfl, rfl, rfl, rfl, rfl, rfl, rfl, rfl, rfl, rfl, rfl, rfl, rfl, rfl, rfl, rfl, rfl, rfl, rfl, rfl, rfl, rfl, rfl, rfl, rfl, rfl, rfl, rfl, rfl, rfl, rfl, rfl, rfl, rfl, rfl, rfl, rfl, rfl, rfl, rfl, rfl, rfl, rfl, rfl, rfl, rfl, rfl, rfl, rfl, rfl, rfl, rfl, rfl, rfl, rfl, rfl, rfl, rfl, rfl, rfl, rfl, rfl, rfl, rfl, rfl, rfl, rfl, fun _ h => by cases h⟩
theorem tc_N.at {U : State} (h : tc_N U) (i : Nat) {w : Cond} (hi : tc_words[i]? = some w) : va_Nw w U := h w (List.mem_of_getElem? hi)
/-! one thing written: the world that it gives -/
theorem tc_up0 (E : tc_E) (S S' : tc_S) (fs : List Value) (he : fs = tc_gfs E S') (h : ∀ L, L ≠ (0, 0) → tc_w E S' L = tc_w E S L) : gb_up (tc_w E S) (0, 0) (.inr (0, fs)) = tc_w E S' := by
  funext L
  unfold gb_up
  by_cases e : L = (0, 0)
  · subst e
    rw [if_pos rfl, he]
    rfl
  · rw [if_neg e]
    exact (h L e).symm
theorem tc_ug_wave (E : tc_E) (S : tc_S) (x : Int32) : gb_up (tc_w E S) (0, 0) (.inr (0, (tc_gfs E S).set 4 (.int x))) = tc_w E (tI S 0 0 0 x) := by
  refine tc_up0 E S _ _ rfl (fun L hL => ?_)
  obtain ⟨a, b⟩ := L
  match a with
  | 0 =>
    cases b with
    | zero => exact absurd rfl hL
    | succ b => rfl
  | 1 =>
    rfl
  | 2 =>
    rfl
  | 3 =>
    rfl
  | 4 =>
    rfl
  | 5 =>
    rfl
  | 6 =>
    rfl
  | 7 =>
    rfl
  | 8 =>
    cases b <;> rfl
  | 9 =>
    cases b <;> rfl
  | 10 =>
    rfl
  | 11 =>
    rfl
  | 12 =>
    rfl
  | 13 =>
    rfl
  | k + 14 => rfl
theorem tc_ug_time (E : tc_E) (S : tc_S) (x : Int32) : gb_up (tc_w E S) (0, 0) (.inr (0, (tc_gfs E S).set 7 (.int x))) = tc_w E (tI S 0 0 1 x) := by
  refine tc_up0 E S _ _ rfl (fun L hL => ?_)
  obtain ⟨a, b⟩ := L
  match a with
  | 0 =>
    cases b with
    | zero => exact absurd rfl hL
    | succ b => rfl
  | 1 =>
    rfl
  | 2 =>
    rfl
  | 3 =>
    rfl
  | 4 =>
    rfl
  | 5 =>
    rfl
  | 6 =>
    rfl
  | 7 =>
    rfl
  | 8 =>
    cases b <;> rfl
  | 9 =>
    cases b <;> rfl
  | 10 =>
    rfl
  | 11 =>
    rfl
  | 12 =>
    rfl
  | 13 =>
    rfl
  | k + 14 => rfl
theorem tc_ug_greatest (E : tc_E) (S : tc_S) (x : Int32) : gb_up (tc_w E S) (0, 0) (.inr (0, (tc_gfs E S).set 8 (.int x))) = tc_w E (tI S 0 0 2 x) := by
  refine tc_up0 E S _ _ rfl (fun L hL => ?_)
  obtain ⟨a, b⟩ := L
  match a with
  | 0 =>
    cases b with
    | zero => exact absurd rfl hL
    | succ b => rfl
  | 1 =>
    rfl
  | 2 =>
    rfl
  | 3 =>
    rfl
  | 4 =>
    rfl
  | 5 =>
    rfl
  | 6 =>
    rfl
  | 7 =>
    rfl
  | 8 =>
    cases b <;> rfl
  | 9 =>
    cases b <;> rfl
  | 10 =>
    rfl
  | 11 =>
    rfl
  | 12 =>
    rfl
  | 13 =>
    rfl
  | k + 14 => rfl
theorem tc_ug_quiet (E : tc_E) (S : tc_S) (x : Int32) : gb_up (tc_w E S) (0, 0) (.inr (0, (tc_gfs E S).set 9 (.int x))) = tc_w E (tI S 0 0 3 x) := by
  refine tc_up0 E S _ _ rfl (fun L hL => ?_)
  obtain ⟨a, b⟩ := L
  match a with
  | 0 =>
    cases b with
    | zero => exact absurd rfl hL
    | succ b => rfl
  | 1 =>
    rfl
  | 2 =>
    rfl
  | 3 =>
    rfl
  | 4 =>
    rfl
  | 5 =>
    rfl
  | 6 =>
    rfl
  | 7 =>
    rfl
  | 8 =>
    cases b <;> rfl
  | 9 =>
    cases b <;> rfl
  | 10 =>
    rfl
  | 11 =>
    rfl
  | 12 =>
    rfl
  | 13 =>
    rfl
  | k + 14 => rfl
theorem tc_ug_stolen (E : tc_E) (S : tc_S) (x : Int32) : gb_up (tc_w E S) (0, 0) (.inr (0, (tc_gfs E S).set 12 (.int x))) = tc_w E (tI S 0 0 4 x) := by
  refine tc_up0 E S _ _ rfl (fun L hL => ?_)
  obtain ⟨a, b⟩ := L
  match a with
  | 0 =>
    cases b with
    | zero => exact absurd rfl hL
    | succ b => rfl
  | 1 =>
    rfl
  | 2 =>
    rfl
  | 3 =>
    rfl
  | 4 =>
    rfl
  | 5 =>
    rfl
  | 6 =>
    rfl
  | 7 =>
    rfl
  | 8 =>
    cases b <;> rfl
  | 9 =>
    cases b <;> rfl
  | 10 =>
    rfl
  | 11 =>
    rfl
  | 12 =>
    rfl
  | 13 =>
    rfl
  | k + 14 => rfl
theorem tc_ug_energy (E : tc_E) (S : tc_S) (x : Int64) : gb_up (tc_w E S) (0, 0) (.inr (0, (tc_gfs E S).set 10 (.long x))) = tc_w E (tL S 0 x) := by
  refine tc_up0 E S _ _ rfl (fun L hL => ?_)
  obtain ⟨a, b⟩ := L
  match a with
  | 0 =>
    cases b with
    | zero => exact absurd rfl hL
    | succ b => rfl
  | 1 =>
    rfl
  | 2 =>
    rfl
  | 3 =>
    rfl
  | 4 =>
    rfl
  | 5 =>
    rfl
  | 6 =>
    rfl
  | 7 =>
    rfl
  | 8 =>
    cases b <;> rfl
  | 9 =>
    cases b <;> rfl
  | 10 =>
    have h0 : ¬ 3 + b = 0 := by omega
    have h1 : ¬ 3 + b = 1 := by omega
    simp [tc_w, tc_vfs, tL, h0, h1]
  | 11 =>
    rfl
  | 12 =>
    rfl
  | 13 =>
    rfl
  | k + 14 => rfl
theorem tc_ug_turns (E : tc_E) (S : tc_S) (x : Int64) : gb_up (tc_w E S) (0, 0) (.inr (0, (tc_gfs E S).set 11 (.long x))) = tc_w E (tL S 1 x) := by
  refine tc_up0 E S _ _ rfl (fun L hL => ?_)
  obtain ⟨a, b⟩ := L
  match a with
  | 0 =>
    cases b with
    | zero => exact absurd rfl hL
    | succ b => rfl
  | 1 =>
    rfl
  | 2 =>
    rfl
  | 3 =>
    rfl
  | 4 =>
    rfl
  | 5 =>
    rfl
  | 6 =>
    rfl
  | 7 =>
    rfl
  | 8 =>
    cases b <;> rfl
  | 9 =>
    cases b <;> rfl
  | 10 =>
    have h0 : ¬ 3 + b = 0 := by omega
    have h1 : ¬ 3 + b = 1 := by omega
    simp [tc_w, tc_vfs, tL, h0, h1]
  | 11 =>
    rfl
  | 12 =>
    rfl
  | 13 =>
    rfl
  | k + 14 => rfl
theorem tc_ug_output (E : tc_E) (S : tc_S) (x : Nat) : gb_up (tc_w E S) (0, 0) (.inr (0, (tc_gfs E S).set 3 (.ref (ea E (1, x))))) = tc_w E (tP S 0 0 0 x) := by
  refine tc_up0 E S _ _ rfl (fun L hL => ?_)
  obtain ⟨a, b⟩ := L
  match a with
  | 0 =>
    cases b with
    | zero => exact absurd rfl hL
    | succ b => rfl
  | 1 =>
    rfl
  | 2 =>
    rfl
  | 3 =>
    rfl
  | 4 =>
    rfl
  | 5 =>
    rfl
  | 6 =>
    rfl
  | 7 =>
    rfl
  | 8 =>
    cases b <;> rfl
  | 9 =>
    cases b <;> rfl
  | 10 =>
    rfl
  | 11 =>
    rfl
  | 12 =>
    rfl
  | 13 =>
    rfl
  | k + 14 => rfl
theorem tc_ug_envelope (E : tc_E) (S : tc_S) (x : Nat) : gb_up (tc_w E S) (0, 0) (.inr (0, (tc_gfs E S).set 5 (.ref (ea E (12, x))))) = tc_w E (tP S 0 0 1 x) := by
  refine tc_up0 E S _ _ rfl (fun L hL => ?_)
  obtain ⟨a, b⟩ := L
  match a with
  | 0 =>
    cases b with
    | zero => exact absurd rfl hL
    | succ b => rfl
  | 1 =>
    rfl
  | 2 =>
    rfl
  | 3 =>
    rfl
  | 4 =>
    rfl
  | 5 =>
    rfl
  | 6 =>
    rfl
  | 7 =>
    rfl
  | 8 =>
    cases b <;> rfl
  | 9 =>
    cases b <;> rfl
  | 10 =>
    rfl
  | 11 =>
    rfl
  | 12 =>
    rfl
  | 13 =>
    rfl
  | k + 14 => rfl
theorem tc_un_now (E : tc_E) (S : tc_S) (i : Nat) (x : Int32) : gb_up (tc_w E S) (1, i) (.inr (tc_cls (ykd E i), (tc_nfs E S i).set 4 (.int x))) = tc_w E (tI S 1 i 0 x) := by
  funext L
  obtain ⟨a, b⟩ := L
  unfold gb_up
  by_cases ha : a = 1
  · subst ha
    by_cases hb : b = i
    · subst hb
      rw [if_pos rfl]
      simp only [tc_w, tc_nfs, List.cons_append, List.nil_append, List.set_cons_zero, List.set_cons_succ]
      have : tc_ext E (tI S 1 b 0 x) b (ykd E b) = tc_ext E S b (ykd E b) := by
        match ykd E b with
        | 0 => rfl
        | 1 => simp [tc_ext, tI]
        | 2 => rfl
        | 3 => rfl
        | k + 4 => rfl
      rw [this]
      simp [tI]
    · rw [if_neg (fun q => hb (Prod.mk.inj q).2)]
      have : tc_ext E (tI S 1 i 0 x) b (ykd E b) = tc_ext E S b (ykd E b) := by
        match ykd E b with
        | 0 => rfl
        | 1 => simp [tc_ext, tI, hb]
        | 2 => rfl
        | 3 => rfl
        | k + 4 => rfl
      simp only [tc_w, tc_nfs, this]
      simp [tI, hb]
  · rw [if_neg (fun q => ha (Prod.mk.inj q).1)]
    match a, ha with
    | 0, ha => cases b <;> rfl
    | 1, ha => exact absurd rfl ha
    | 2, ha => rfl
    | 3, ha => rfl
    | 4, ha => rfl
    | 5, ha => rfl
    | 6, ha => rfl
    | 7, ha => rfl
    | 8, ha => cases b <;> rfl
    | 9, ha => cases b <;> rfl
    | 10, ha => rfl
    | 11, ha => rfl
    | 12, ha => rfl
    | 13, ha => rfl
    | k + 14, ha => rfl
theorem tc_un_nowKept (E : tc_E) (S : tc_S) (i : Nat) (x : Int32) : gb_up (tc_w E S) (1, i) (.inr (tc_cls (ykd E i), (tc_nfs E S i).set 5 (.int x))) = tc_w E (tI S 1 i 1 x) := by
  funext L
  obtain ⟨a, b⟩ := L
  unfold gb_up
  by_cases ha : a = 1
  · subst ha
    by_cases hb : b = i
    · subst hb
      rw [if_pos rfl]
      simp only [tc_w, tc_nfs, List.cons_append, List.nil_append, List.set_cons_zero, List.set_cons_succ]
      have : tc_ext E (tI S 1 b 1 x) b (ykd E b) = tc_ext E S b (ykd E b) := by
        match ykd E b with
        | 0 => rfl
        | 1 => simp [tc_ext, tI]
        | 2 => rfl
        | 3 => rfl
        | k + 4 => rfl
      rw [this]
      simp [tI]
    · rw [if_neg (fun q => hb (Prod.mk.inj q).2)]
      have : tc_ext E (tI S 1 i 1 x) b (ykd E b) = tc_ext E S b (ykd E b) := by
        match ykd E b with
        | 0 => rfl
        | 1 => simp [tc_ext, tI, hb]
        | 2 => rfl
        | 3 => rfl
        | k + 4 => rfl
      simp only [tc_w, tc_nfs, this]
      simp [tI, hb]
  · rw [if_neg (fun q => ha (Prod.mk.inj q).1)]
    match a, ha with
    | 0, ha => cases b <;> rfl
    | 1, ha => exact absurd rfl ha
    | 2, ha => rfl
    | 3, ha => rfl
    | 4, ha => rfl
    | 5, ha => rfl
    | 6, ha => rfl
    | 7, ha => rfl
    | 8, ha => cases b <;> rfl
    | 9, ha => cases b <;> rfl
    | 10, ha => rfl
    | 11, ha => rfl
    | 12, ha => rfl
    | 13, ha => rfl
    | k + 14, ha => rfl
theorem tc_un_placed (E : tc_E) (S : tc_S) (i : Nat) (x : Int32) : gb_up (tc_w E S) (1, i) (.inr (tc_cls (ykd E i), (tc_nfs E S i).set 8 (.int x))) = tc_w E (tI S 1 i 2 x) := by
  funext L
  obtain ⟨a, b⟩ := L
  unfold gb_up
  by_cases ha : a = 1
  · subst ha
    by_cases hb : b = i
    · subst hb
      rw [if_pos rfl]
      simp only [tc_w, tc_nfs, List.cons_append, List.nil_append, List.set_cons_zero, List.set_cons_succ]
      have : tc_ext E (tI S 1 b 2 x) b (ykd E b) = tc_ext E S b (ykd E b) := by
        match ykd E b with
        | 0 => rfl
        | 1 => simp [tc_ext, tI]
        | 2 => rfl
        | 3 => rfl
        | k + 4 => rfl
      rw [this]
      simp [tI]
    · rw [if_neg (fun q => hb (Prod.mk.inj q).2)]
      have : tc_ext E (tI S 1 i 2 x) b (ykd E b) = tc_ext E S b (ykd E b) := by
        match ykd E b with
        | 0 => rfl
        | 1 => simp [tc_ext, tI, hb]
        | 2 => rfl
        | 3 => rfl
        | k + 4 => rfl
      simp only [tc_w, tc_nfs, this]
      simp [tI, hb]
  · rw [if_neg (fun q => ha (Prod.mk.inj q).1)]
    match a, ha with
    | 0, ha => cases b <;> rfl
    | 1, ha => exact absurd rfl ha
    | 2, ha => rfl
    | 3, ha => rfl
    | 4, ha => rfl
    | 5, ha => rfl
    | 6, ha => rfl
    | 7, ha => rfl
    | 8, ha => cases b <;> rfl
    | 9, ha => cases b <;> rfl
    | 10, ha => rfl
    | 11, ha => rfl
    | 12, ha => rfl
    | 13, ha => rfl
    | k + 14, ha => rfl
theorem tc_un_percent (E : tc_E) (S : tc_S) (i : Nat) (x : Int32) (hk : ykd E i = 1) : gb_up (tc_w E S) (1, i) (.inr (tc_cls (ykd E i), (tc_nfs E S i).set 9 (.int x))) = tc_w E (tI S 1 i 3 x) := by
  funext L
  obtain ⟨a, b⟩ := L
  unfold gb_up
  by_cases ha : a = 1
  · subst ha
    by_cases hb : b = i
    · subst hb
      rw [if_pos rfl]
      simp only [tc_w, tc_nfs, hk, tc_ext, List.cons_append, List.nil_append, List.set_cons_zero, List.set_cons_succ]
      simp [tI]
    · rw [if_neg (fun q => hb (Prod.mk.inj q).2)]
      have : tc_ext E (tI S 1 i 3 x) b (ykd E b) = tc_ext E S b (ykd E b) := by
        match ykd E b with
        | 0 => rfl
        | 1 => simp [tc_ext, tI, hb]
        | 2 => rfl
        | 3 => rfl
        | k + 4 => rfl
      simp only [tc_w, tc_nfs, this]
      simp [tI, hb]
  · rw [if_neg (fun q => ha (Prod.mk.inj q).1)]
    match a, ha with
    | 0, ha => cases b <;> rfl
    | 1, ha => exact absurd rfl ha
    | 2, ha => rfl
    | 3, ha => rfl
    | 4, ha => rfl
    | 5, ha => rfl
    | 6, ha => rfl
    | 7, ha => rfl
    | 8, ha => cases b <;> rfl
    | 9, ha => cases b <;> rfl
    | 10, ha => rfl
    | 11, ha => rfl
    | 12, ha => rfl
    | 13, ha => rfl
    | k + 14, ha => rfl
theorem tc_uv_playing (E : tc_E) (S : tc_S) (v : Nat) (x : Int32) : gb_up (tc_w E S) (10, v) (.inr (3, (tc_vfs E S v).set 1 (.int x))) = tc_w E (tI S 6 v 1 x) := by
  funext L
  obtain ⟨a, b⟩ := L
  unfold gb_up
  by_cases ha : a = 10
  · subst ha
    by_cases hb : b = v
    · subst hb
      rw [if_pos rfl]
      simp [tc_w, tc_vfs, tI]
    · rw [if_neg (fun q => hb (Prod.mk.inj q).2)]
      simp [tc_w, tc_nfs, tc_ext, tc_vfs, tc_lfs, tc_lf, tI, tP, tL, tA, tQ, hb]
  · rw [if_neg (fun q => ha (Prod.mk.inj q).1)]
    match a, ha with
    | 0, ha => cases b <;> rfl
    | 1, ha => rfl
    | 2, ha => rfl
    | 3, ha => rfl
    | 4, ha => rfl
    | 5, ha => rfl
    | 6, ha => rfl
    | 7, ha => rfl
    | 8, ha => cases b <;> rfl
    | 9, ha => cases b <;> rfl
    | 10, ha => exact absurd rfl ha
    | 11, ha => rfl
    | 12, ha => rfl
    | 13, ha => rfl
    | k + 14, ha => rfl
theorem tc_uv_released (E : tc_E) (S : tc_S) (v : Nat) (x : Int32) : gb_up (tc_w E S) (10, v) (.inr (3, (tc_vfs E S v).set 2 (.int x))) = tc_w E (tI S 6 v 2 x) := by
  funext L
  obtain ⟨a, b⟩ := L
  unfold gb_up
  by_cases ha : a = 10
  · subst ha
    by_cases hb : b = v
    · subst hb
      rw [if_pos rfl]
      simp [tc_w, tc_vfs, tI]
    · rw [if_neg (fun q => hb (Prod.mk.inj q).2)]
      simp [tc_w, tc_nfs, tc_ext, tc_vfs, tc_lfs, tc_lf, tI, tP, tL, tA, tQ, hb]
  · rw [if_neg (fun q => ha (Prod.mk.inj q).1)]
    match a, ha with
    | 0, ha => cases b <;> rfl
    | 1, ha => rfl
    | 2, ha => rfl
    | 3, ha => rfl
    | 4, ha => rfl
    | 5, ha => rfl
    | 6, ha => rfl
    | 7, ha => rfl
    | 8, ha => cases b <;> rfl
    | 9, ha => cases b <;> rfl
    | 10, ha => exact absurd rfl ha
    | 11, ha => rfl
    | 12, ha => rfl
    | 13, ha => rfl
    | k + 14, ha => rfl
theorem tc_uv_key (E : tc_E) (S : tc_S) (v : Nat) (x : Int32) : gb_up (tc_w E S) (10, v) (.inr (3, (tc_vfs E S v).set 5 (.int x))) = tc_w E (tI S 6 v 3 x) := by
  funext L
  obtain ⟨a, b⟩ := L
  unfold gb_up
  by_cases ha : a = 10
  · subst ha
    by_cases hb : b = v
    · subst hb
      rw [if_pos rfl]
      simp [tc_w, tc_vfs, tI]
    · rw [if_neg (fun q => hb (Prod.mk.inj q).2)]
      simp [tc_w, tc_nfs, tc_ext, tc_vfs, tc_lfs, tc_lf, tI, tP, tL, tA, tQ, hb]
  · rw [if_neg (fun q => ha (Prod.mk.inj q).1)]
    match a, ha with
    | 0, ha => cases b <;> rfl
    | 1, ha => rfl
    | 2, ha => rfl
    | 3, ha => rfl
    | 4, ha => rfl
    | 5, ha => rfl
    | 6, ha => rfl
    | 7, ha => rfl
    | 8, ha => cases b <;> rfl
    | 9, ha => cases b <;> rfl
    | 10, ha => exact absurd rfl ha
    | 11, ha => rfl
    | 12, ha => rfl
    | 13, ha => rfl
    | k + 14, ha => rfl
theorem tc_uv_velocity (E : tc_E) (S : tc_S) (v : Nat) (x : Int32) : gb_up (tc_w E S) (10, v) (.inr (3, (tc_vfs E S v).set 6 (.int x))) = tc_w E (tI S 6 v 4 x) := by
  funext L
  obtain ⟨a, b⟩ := L
  unfold gb_up
  by_cases ha : a = 10
  · subst ha
    by_cases hb : b = v
    · subst hb
      rw [if_pos rfl]
      simp [tc_w, tc_vfs, tI]
    · rw [if_neg (fun q => hb (Prod.mk.inj q).2)]
      simp [tc_w, tc_nfs, tc_ext, tc_vfs, tc_lfs, tc_lf, tI, tP, tL, tA, tQ, hb]
  · rw [if_neg (fun q => ha (Prod.mk.inj q).1)]
    match a, ha with
    | 0, ha => cases b <;> rfl
    | 1, ha => rfl
    | 2, ha => rfl
    | 3, ha => rfl
    | 4, ha => rfl
    | 5, ha => rfl
    | 6, ha => rfl
    | 7, ha => rfl
    | 8, ha => cases b <;> rfl
    | 9, ha => cases b <;> rfl
    | 10, ha => exact absurd rfl ha
    | 11, ha => rfl
    | 12, ha => rfl
    | 13, ha => rfl
    | k + 14, ha => rfl
theorem tc_uv_phase (E : tc_E) (S : tc_S) (v : Nat) (x : Int32) : gb_up (tc_w E S) (10, v) (.inr (3, (tc_vfs E S v).set 7 (.int x))) = tc_w E (tI S 6 v 5 x) := by
  funext L
  obtain ⟨a, b⟩ := L
  unfold gb_up
  by_cases ha : a = 10
  · subst ha
    by_cases hb : b = v
    · subst hb
      rw [if_pos rfl]
      simp [tc_w, tc_vfs, tI]
    · rw [if_neg (fun q => hb (Prod.mk.inj q).2)]
      simp [tc_w, tc_nfs, tc_ext, tc_vfs, tc_lfs, tc_lf, tI, tP, tL, tA, tQ, hb]
  · rw [if_neg (fun q => ha (Prod.mk.inj q).1)]
    match a, ha with
    | 0, ha => cases b <;> rfl
    | 1, ha => rfl
    | 2, ha => rfl
    | 3, ha => rfl
    | 4, ha => rfl
    | 5, ha => rfl
    | 6, ha => rfl
    | 7, ha => rfl
    | 8, ha => cases b <;> rfl
    | 9, ha => cases b <;> rfl
    | 10, ha => exact absurd rfl ha
    | 11, ha => rfl
    | 12, ha => rfl
    | 13, ha => rfl
    | k + 14, ha => rfl
theorem tc_uv_sample (E : tc_E) (S : tc_S) (v : Nat) (x : Int32) : gb_up (tc_w E S) (10, v) (.inr (3, (tc_vfs E S v).set 8 (.int x))) = tc_w E (tI S 6 v 6 x) := by
  funext L
  obtain ⟨a, b⟩ := L
  unfold gb_up
  by_cases ha : a = 10
  · subst ha
    by_cases hb : b = v
    · subst hb
      rw [if_pos rfl]
      simp [tc_w, tc_vfs, tI]
    · rw [if_neg (fun q => hb (Prod.mk.inj q).2)]
      simp [tc_w, tc_nfs, tc_ext, tc_vfs, tc_lfs, tc_lf, tI, tP, tL, tA, tQ, hb]
  · rw [if_neg (fun q => ha (Prod.mk.inj q).1)]
    match a, ha with
    | 0, ha => cases b <;> rfl
    | 1, ha => rfl
    | 2, ha => rfl
    | 3, ha => rfl
    | 4, ha => rfl
    | 5, ha => rfl
    | 6, ha => rfl
    | 7, ha => rfl
    | 8, ha => cases b <;> rfl
    | 9, ha => cases b <;> rfl
    | 10, ha => exact absurd rfl ha
    | 11, ha => rfl
    | 12, ha => rfl
    | 13, ha => rfl
    | k + 14, ha => rfl
theorem tc_uv_top (E : tc_E) (S : tc_S) (v : Nat) (x : Int32) : gb_up (tc_w E S) (10, v) (.inr (3, (tc_vfs E S v).set 9 (.int x))) = tc_w E (tI S 6 v 7 x) := by
  funext L
  obtain ⟨a, b⟩ := L
  unfold gb_up
  by_cases ha : a = 10
  · subst ha
    by_cases hb : b = v
    · subst hb
      rw [if_pos rfl]
      simp [tc_w, tc_vfs, tI]
    · rw [if_neg (fun q => hb (Prod.mk.inj q).2)]
      simp [tc_w, tc_nfs, tc_ext, tc_vfs, tc_lfs, tc_lf, tI, tP, tL, tA, tQ, hb]
  · rw [if_neg (fun q => ha (Prod.mk.inj q).1)]
    match a, ha with
    | 0, ha => cases b <;> rfl
    | 1, ha => rfl
    | 2, ha => rfl
    | 3, ha => rfl
    | 4, ha => rfl
    | 5, ha => rfl
    | 6, ha => rfl
    | 7, ha => rfl
    | 8, ha => cases b <;> rfl
    | 9, ha => cases b <;> rfl
    | 10, ha => exact absurd rfl ha
    | 11, ha => rfl
    | 12, ha => rfl
    | 13, ha => rfl
    | k + 14, ha => rfl
theorem tc_uv_turn (E : tc_E) (S : tc_S) (v : Nat) (x : Int64) : gb_up (tc_w E S) (10, v) (.inr (3, (tc_vfs E S v).set 10 (.long x))) = tc_w E (tL S (3 + v) x) := by
  funext L
  obtain ⟨a, b⟩ := L
  unfold gb_up
  by_cases ha : a = 10
  · subst ha
    by_cases hb : b = v
    · subst hb
      rw [if_pos rfl]
      simp [tc_w, tc_vfs, tL]
    · rw [if_neg (fun q => hb (Prod.mk.inj q).2)]
      have h3 : ¬ 3 + b = 3 + v := by omega
      simp [tc_w, tc_vfs, tL, hb]
  · rw [if_neg (fun q => ha (Prod.mk.inj q).1)]
    match a, ha with
    | 0, ha =>
      cases b with
      | zero =>
        have h1 : ¬ (0 : Nat) = 3 + v := by omega
        have h2 : ¬ (1 : Nat) = 3 + v := by omega
        simp [tc_w, tc_gfs, tL, h1, h2]
      | succ b => rfl
    | 1, ha => rfl
    | 2, ha => rfl
    | 3, ha => rfl
    | 4, ha => rfl
    | 5, ha => rfl
    | 6, ha => rfl
    | 7, ha => rfl
    | 8, ha => cases b <;> rfl
    | 9, ha => cases b <;> rfl
    | 10, ha => exact absurd rfl ha
    | 11, ha => rfl
    | 12, ha => rfl
    | 13, ha => rfl
    | k + 14, ha => rfl
theorem tc_uv_envelope (E : tc_E) (S : tc_S) (v : Nat) (x : Nat) : gb_up (tc_w E S) (10, v) (.inr (3, (tc_vfs E S v).set 4 (.ref (ea E (12, x))))) = tc_w E (tP S 3 v 0 (x + 1)) := by
  funext L
  obtain ⟨a, b⟩ := L
  unfold gb_up
  by_cases ha : a = 10
  · subst ha
    by_cases hb : b = v
    · subst hb
      rw [if_pos rfl]
      simp [tc_w, tc_vfs, tP, tc_on, va_rf]
    · rw [if_neg (fun q => hb (Prod.mk.inj q).2)]
      simp [tc_w, tc_nfs, tc_ext, tc_vfs, tc_lfs, tc_lf, tI, tP, tL, tA, tQ, hb]
  · rw [if_neg (fun q => ha (Prod.mk.inj q).1)]
    match a, ha with
    | 0, ha => cases b <;> rfl
    | 1, ha => rfl
    | 2, ha => rfl
    | 3, ha => rfl
    | 4, ha => rfl
    | 5, ha => rfl
    | 6, ha => rfl
    | 7, ha => rfl
    | 8, ha => cases b <;> rfl
    | 9, ha => cases b <;> rfl
    | 10, ha => exact absurd rfl ha
    | 11, ha => rfl
    | 12, ha => rfl
    | 13, ha => rfl
    | k + 14, ha => rfl
theorem tc_uv_wave (E : tc_E) (S : tc_S) (v : Nat) (x : Nat) : gb_up (tc_w E S) (10, v) (.inr (3, (tc_vfs E S v).set 3 (.ref (es E (x + 2))))) = tc_w E (tP S 3 v 1 (x + 1)) := by
  funext L
  obtain ⟨a, b⟩ := L
  unfold gb_up
  by_cases ha : a = 10
  · subst ha
    by_cases hb : b = v
    · subst hb
      rw [if_pos rfl]
      simp [tc_w, tc_vfs, tP, tc_on, va_rf]
    · rw [if_neg (fun q => hb (Prod.mk.inj q).2)]
      simp [tc_w, tc_nfs, tc_ext, tc_vfs, tc_lfs, tc_lf, tI, tP, tL, tA, tQ, hb]
  · rw [if_neg (fun q => ha (Prod.mk.inj q).1)]
    match a, ha with
    | 0, ha => cases b <;> rfl
    | 1, ha => rfl
    | 2, ha => rfl
    | 3, ha => rfl
    | 4, ha => rfl
    | 5, ha => rfl
    | 6, ha => rfl
    | 7, ha => rfl
    | 8, ha => cases b <;> rfl
    | 9, ha => cases b <;> rfl
    | 10, ha => exact absurd rfl ha
    | 11, ha => rfl
    | 12, ha => rfl
    | 13, ha => rfl
    | k + 14, ha => rfl
theorem tc_ul_modCount (E : tc_E) (S : tc_S) (y : Nat) (x : Int32) : gb_up (tc_w E S) (2, y) (.inr (9, (tc_lfs E S y).set 0 (.int x))) = tc_w E (tI S 11 y 0 x) := by
  funext L
  obtain ⟨a, b⟩ := L
  unfold gb_up
  by_cases ha : a = 2
  · subst ha
    by_cases hb : b = y
    · subst hb
      rw [if_pos rfl]
      simp [tc_w, tc_lfs, tI]
    · rw [if_neg (fun q => hb (Prod.mk.inj q).2)]
      simp [tc_w, tc_nfs, tc_ext, tc_vfs, tc_lfs, tc_lf, tI, tP, tL, tA, tQ, hb]
  · rw [if_neg (fun q => ha (Prod.mk.inj q).1)]
    match a, ha with
    | 0, ha => cases b <;> rfl
    | 1, ha => rfl
    | 2, ha => exact absurd rfl ha
    | 3, ha => rfl
    | 4, ha => rfl
    | 5, ha => rfl
    | 6, ha => rfl
    | 7, ha => rfl
    | 8, ha => cases b <;> rfl
    | 9, ha => cases b <;> rfl
    | 10, ha => rfl
    | 11, ha => rfl
    | 12, ha => rfl
    | 13, ha => rfl
    | k + 14, ha => rfl
theorem tc_ul_size (E : tc_E) (S : tc_S) (y : Nat) (x : Int32) : gb_up (tc_w E S) (2, y) (.inr (9, (tc_lfs E S y).set 2 (.int x))) = tc_w E (tI S 11 y 1 x) := by
  funext L
  obtain ⟨a, b⟩ := L
  unfold gb_up
  by_cases ha : a = 2
  · subst ha
    by_cases hb : b = y
    · subst hb
      rw [if_pos rfl]
      simp [tc_w, tc_lfs, tI]
    · rw [if_neg (fun q => hb (Prod.mk.inj q).2)]
      simp [tc_w, tc_nfs, tc_ext, tc_vfs, tc_lfs, tc_lf, tI, tP, tL, tA, tQ, hb]
  · rw [if_neg (fun q => ha (Prod.mk.inj q).1)]
    match a, ha with
    | 0, ha => cases b <;> rfl
    | 1, ha => rfl
    | 2, ha => exact absurd rfl ha
    | 3, ha => rfl
    | 4, ha => rfl
    | 5, ha => rfl
    | 6, ha => rfl
    | 7, ha => rfl
    | 8, ha => cases b <;> rfl
    | 9, ha => cases b <;> rfl
    | 10, ha => rfl
    | 11, ha => rfl
    | 12, ha => rfl
    | 13, ha => rfl
    | k + 14, ha => rfl
theorem tc_ul_elem (E : tc_E) (S : tc_S) (y j : Nat) (x : Nat) : gb_up (tc_w E S) (3, y) (tc_ref (ec E 4) 10 (va_up (tc_lf E S y) j (some (ea E (tc_tk y, x))))) = tc_w E (tP S 2 y j (x + 1)) := by
  funext L
  obtain ⟨a, b⟩ := L
  unfold gb_up
  by_cases ha : a = 3
  · subst ha
    by_cases hb : b = y
    · subst hb
      rw [if_pos rfl]
      simp only [tc_w, tc_ref, tP]
      congr 7
      funext q
      by_cases hq : q = j
      · simp [va_up, hq, tc_on, tc_lf]
      · simp [va_up, hq, tc_lf]
    · rw [if_neg (fun q => hb (Prod.mk.inj q).2)]
      simp only [tc_w, tc_ref, tP]
      congr 7
      funext q
      simp [tc_lf, hb]
  · rw [if_neg (fun q => ha (Prod.mk.inj q).1)]
    match a, ha with
    | 0, ha => cases b <;> rfl
    | 1, ha => rfl
    | 2, ha => rfl
    | 3, ha => exact absurd rfl ha
    | 4, ha => rfl
    | 5, ha => rfl
    | 6, ha => rfl
    | 7, ha => rfl
    | 8, ha => cases b <;> rfl
    | 9, ha => cases b <;> rfl
    | 10, ha => rfl
    | 11, ha => rfl
    | 12, ha => rfl
    | 13, ha => rfl
    | k + 14, ha => rfl
theorem tc_ul_null (E : tc_E) (S : tc_S) (y j : Nat) : gb_up (tc_w E S) (3, y) (tc_ref (ec E 4) 10 (va_up (tc_lf E S y) j none)) = tc_w E (tP S 2 y j 0) := by
  funext L
  obtain ⟨a, b⟩ := L
  unfold gb_up
  by_cases ha : a = 3
  · subst ha
    by_cases hb : b = y
    · subst hb
      rw [if_pos rfl]
      simp only [tc_w, tc_ref, tP]
      congr 7
      funext q
      by_cases hq : q = j
      · simp [va_up, hq, tc_on, tc_lf]
      · simp [va_up, hq, tc_lf]
    · rw [if_neg (fun q => hb (Prod.mk.inj q).2)]
      simp only [tc_w, tc_ref, tP]
      congr 7
      funext q
      simp [tc_lf, hb]
  · rw [if_neg (fun q => ha (Prod.mk.inj q).1)]
    match a, ha with
    | 0, ha => cases b <;> rfl
    | 1, ha => rfl
    | 2, ha => rfl
    | 3, ha => exact absurd rfl ha
    | 4, ha => rfl
    | 5, ha => rfl
    | 6, ha => rfl
    | 7, ha => rfl
    | 8, ha => cases b <;> rfl
    | 9, ha => cases b <;> rfl
    | 10, ha => rfl
    | 11, ha => rfl
    | 12, ha => rfl
    | 13, ha => rfl
    | k + 14, ha => rfl
theorem tc_ua_row (E : tc_E) (S : tc_S) (i j : Nat) (x : Int32) : gb_up (tc_w E S) (4, i) (.inl (ec E 0, 64, .inl (upd (S.1 2 i) j x))) = tc_w E (tI S 2 i j x) := by
  funext L
  obtain ⟨a, b⟩ := L
  unfold gb_up
  by_cases ha : a = 4
  · subst ha
    by_cases hb : b = i
    · subst hb
      rw [if_pos rfl]
      simp only [tc_w, tI]
      congr 4
      funext q
      by_cases hq : q = j
      · simp [upd, hq]
      · simp [upd, hq]
    · rw [if_neg (fun q => hb (Prod.mk.inj q).2)]
      simp [tc_w, tc_nfs, tc_ext, tc_vfs, tc_lfs, tc_lf, tI, tP, tL, tA, tQ, hb]
  · rw [if_neg (fun q => ha (Prod.mk.inj q).1)]
    match a, ha with
    | 0, ha => cases b <;> rfl
    | 1, ha => rfl
    | 2, ha => rfl
    | 3, ha => rfl
    | 4, ha => exact absurd rfl ha
    | 5, ha => rfl
    | 6, ha => rfl
    | 7, ha => rfl
    | 8, ha => cases b <;> rfl
    | 9, ha => cases b <;> rfl
    | 10, ha => rfl
    | 11, ha => rfl
    | 12, ha => rfl
    | 13, ha => rfl
    | k + 14, ha => rfl
theorem tc_ub_row (E : tc_E) (S : tc_S) (i : Nat) (f : Nat → Int32) : gb_up (tc_w E S) (4, i) (.inl (ec E 0, 64, .inl f)) = tc_w E (tA S 2 i f) := by
  funext L
  obtain ⟨a, b⟩ := L
  unfold gb_up
  by_cases ha : a = 4
  · subst ha
    by_cases hb : b = i
    · subst hb
      rw [if_pos rfl]
      simp [tc_w, tA]
    · rw [if_neg (fun q => hb (Prod.mk.inj q).2)]
      simp [tc_w, tc_nfs, tc_ext, tc_vfs, tc_lfs, tc_lf, tI, tP, tL, tA, tQ, hb]
  · rw [if_neg (fun q => ha (Prod.mk.inj q).1)]
    match a, ha with
    | 0, ha => cases b <;> rfl
    | 1, ha => rfl
    | 2, ha => rfl
    | 3, ha => rfl
    | 4, ha => exact absurd rfl ha
    | 5, ha => rfl
    | 6, ha => rfl
    | 7, ha => rfl
    | 8, ha => cases b <;> rfl
    | 9, ha => cases b <;> rfl
    | 10, ha => rfl
    | 11, ha => rfl
    | 12, ha => rfl
    | 13, ha => rfl
    | k + 14, ha => rfl
theorem tc_ua_num (E : tc_E) (S : tc_S) (i j : Nat) (x : Int32) : gb_up (tc_w E S) (5, i) (.inl (ec E 0, ynl E i, .inl (upd (S.1 3 i) j x))) = tc_w E (tI S 3 i j x) := by
  funext L
  obtain ⟨a, b⟩ := L
  unfold gb_up
  by_cases ha : a = 5
  · subst ha
    by_cases hb : b = i
    · subst hb
      rw [if_pos rfl]
      simp only [tc_w, tI]
      congr 4
      funext q
      by_cases hq : q = j
      · simp [upd, hq]
      · simp [upd, hq]
    · rw [if_neg (fun q => hb (Prod.mk.inj q).2)]
      simp [tc_w, tc_nfs, tc_ext, tc_vfs, tc_lfs, tc_lf, tI, tP, tL, tA, tQ, hb]
  · rw [if_neg (fun q => ha (Prod.mk.inj q).1)]
    match a, ha with
    | 0, ha => cases b <;> rfl
    | 1, ha => rfl
    | 2, ha => rfl
    | 3, ha => rfl
    | 4, ha => rfl
    | 5, ha => exact absurd rfl ha
    | 6, ha => rfl
    | 7, ha => rfl
    | 8, ha => cases b <;> rfl
    | 9, ha => cases b <;> rfl
    | 10, ha => rfl
    | 11, ha => rfl
    | 12, ha => rfl
    | 13, ha => rfl
    | k + 14, ha => rfl
theorem tc_ub_num (E : tc_E) (S : tc_S) (i : Nat) (f : Nat → Int32) : gb_up (tc_w E S) (5, i) (.inl (ec E 0, ynl E i, .inl f)) = tc_w E (tA S 3 i f) := by
  funext L
  obtain ⟨a, b⟩ := L
  unfold gb_up
  by_cases ha : a = 5
  · subst ha
    by_cases hb : b = i
    · subst hb
      rw [if_pos rfl]
      simp [tc_w, tA]
    · rw [if_neg (fun q => hb (Prod.mk.inj q).2)]
      simp [tc_w, tc_nfs, tc_ext, tc_vfs, tc_lfs, tc_lf, tI, tP, tL, tA, tQ, hb]
  · rw [if_neg (fun q => ha (Prod.mk.inj q).1)]
    match a, ha with
    | 0, ha => cases b <;> rfl
    | 1, ha => rfl
    | 2, ha => rfl
    | 3, ha => rfl
    | 4, ha => rfl
    | 5, ha => exact absurd rfl ha
    | 6, ha => rfl
    | 7, ha => rfl
    | 8, ha => cases b <;> rfl
    | 9, ha => cases b <;> rfl
    | 10, ha => rfl
    | 11, ha => rfl
    | 12, ha => rfl
    | 13, ha => rfl
    | k + 14, ha => rfl
theorem tc_ua_numK (E : tc_E) (S : tc_S) (i j : Nat) (x : Int32) : gb_up (tc_w E S) (6, i) (.inl (ec E 0, ynl E i, .inl (upd (S.1 4 i) j x))) = tc_w E (tI S 4 i j x) := by
  funext L
  obtain ⟨a, b⟩ := L
  unfold gb_up
  by_cases ha : a = 6
  · subst ha
    by_cases hb : b = i
    · subst hb
      rw [if_pos rfl]
      simp only [tc_w, tI]
      congr 4
      funext q
      by_cases hq : q = j
      · simp [upd, hq]
      · simp [upd, hq]
    · rw [if_neg (fun q => hb (Prod.mk.inj q).2)]
      simp [tc_w, tc_nfs, tc_ext, tc_vfs, tc_lfs, tc_lf, tI, tP, tL, tA, tQ, hb]
  · rw [if_neg (fun q => ha (Prod.mk.inj q).1)]
    match a, ha with
    | 0, ha => cases b <;> rfl
    | 1, ha => rfl
    | 2, ha => rfl
    | 3, ha => rfl
    | 4, ha => rfl
    | 5, ha => rfl
    | 6, ha => exact absurd rfl ha
    | 7, ha => rfl
    | 8, ha => cases b <;> rfl
    | 9, ha => cases b <;> rfl
    | 10, ha => rfl
    | 11, ha => rfl
    | 12, ha => rfl
    | 13, ha => rfl
    | k + 14, ha => rfl
theorem tc_ub_numK (E : tc_E) (S : tc_S) (i : Nat) (f : Nat → Int32) : gb_up (tc_w E S) (6, i) (.inl (ec E 0, ynl E i, .inl f)) = tc_w E (tA S 4 i f) := by
  funext L
  obtain ⟨a, b⟩ := L
  unfold gb_up
  by_cases ha : a = 6
  · subst ha
    by_cases hb : b = i
    · subst hb
      rw [if_pos rfl]
      simp [tc_w, tA]
    · rw [if_neg (fun q => hb (Prod.mk.inj q).2)]
      simp [tc_w, tc_nfs, tc_ext, tc_vfs, tc_lfs, tc_lf, tI, tP, tL, tA, tQ, hb]
  · rw [if_neg (fun q => ha (Prod.mk.inj q).1)]
    match a, ha with
    | 0, ha => cases b <;> rfl
    | 1, ha => rfl
    | 2, ha => rfl
    | 3, ha => rfl
    | 4, ha => rfl
    | 5, ha => rfl
    | 6, ha => exact absurd rfl ha
    | 7, ha => rfl
    | 8, ha => cases b <;> rfl
    | 9, ha => cases b <;> rfl
    | 10, ha => rfl
    | 11, ha => rfl
    | 12, ha => rfl
    | 13, ha => rfl
    | k + 14, ha => rfl
theorem tc_ua_kept (E : tc_E) (S : tc_S) (i j : Nat) (x : Int32) : gb_up (tc_w E S) (11, i) (.inl (ec E 0, 3, .inl (upd (S.1 7 i) j x))) = tc_w E (tI S 7 i j x) := by
  funext L
  obtain ⟨a, b⟩ := L
  unfold gb_up
  by_cases ha : a = 11
  · subst ha
    by_cases hb : b = i
    · subst hb
      rw [if_pos rfl]
      simp only [tc_w, tI]
      congr 4
      funext q
      by_cases hq : q = j
      · simp [upd, hq]
      · simp [upd, hq]
    · rw [if_neg (fun q => hb (Prod.mk.inj q).2)]
      simp [tc_w, tc_nfs, tc_ext, tc_vfs, tc_lfs, tc_lf, tI, tP, tL, tA, tQ, hb]
  · rw [if_neg (fun q => ha (Prod.mk.inj q).1)]
    match a, ha with
    | 0, ha => cases b <;> rfl
    | 1, ha => rfl
    | 2, ha => rfl
    | 3, ha => rfl
    | 4, ha => rfl
    | 5, ha => rfl
    | 6, ha => rfl
    | 7, ha => rfl
    | 8, ha => cases b <;> rfl
    | 9, ha => cases b <;> rfl
    | 10, ha => rfl
    | 11, ha => exact absurd rfl ha
    | 12, ha => rfl
    | 13, ha => rfl
    | k + 14, ha => rfl
theorem tc_ub_kept (E : tc_E) (S : tc_S) (i : Nat) (f : Nat → Int32) : gb_up (tc_w E S) (11, i) (.inl (ec E 0, 3, .inl f)) = tc_w E (tA S 7 i f) := by
  funext L
  obtain ⟨a, b⟩ := L
  unfold gb_up
  by_cases ha : a = 11
  · subst ha
    by_cases hb : b = i
    · subst hb
      rw [if_pos rfl]
      simp [tc_w, tA]
    · rw [if_neg (fun q => hb (Prod.mk.inj q).2)]
      simp [tc_w, tc_nfs, tc_ext, tc_vfs, tc_lfs, tc_lf, tI, tP, tL, tA, tQ, hb]
  · rw [if_neg (fun q => ha (Prod.mk.inj q).1)]
    match a, ha with
    | 0, ha => cases b <;> rfl
    | 1, ha => rfl
    | 2, ha => rfl
    | 3, ha => rfl
    | 4, ha => rfl
    | 5, ha => rfl
    | 6, ha => rfl
    | 7, ha => rfl
    | 8, ha => cases b <;> rfl
    | 9, ha => cases b <;> rfl
    | 10, ha => rfl
    | 11, ha => exact absurd rfl ha
    | 12, ha => rfl
    | 13, ha => rfl
    | k + 14, ha => rfl
theorem tc_ua_heard (E : tc_E) (S : tc_S) (j : Nat) (x : Int32) : gb_up (tc_w E S) (8, 0) (.inl (ec E 0, 64, .inl (upd (S.1 10 0) j x))) = tc_w E (tI S 10 0 j x) := by
  funext L
  obtain ⟨a, b⟩ := L
  unfold gb_up
  by_cases ha : a = 8
  · subst ha
    by_cases hb : b = 0
    · subst hb
      rw [if_pos rfl]
      simp only [tc_w, tI]
      congr 4
      funext q
      by_cases hq : q = j
      · simp [upd, hq]
      · simp [upd, hq]
    · rw [if_neg (fun q => hb (Prod.mk.inj q).2)]
      cases b with
      | zero => exact absurd rfl hb
      | succ b => rfl
  · rw [if_neg (fun q => ha (Prod.mk.inj q).1)]
    match a, ha with
    | 0, ha => cases b <;> rfl
    | 1, ha => rfl
    | 2, ha => rfl
    | 3, ha => rfl
    | 4, ha => rfl
    | 5, ha => rfl
    | 6, ha => rfl
    | 7, ha => rfl
    | 8, ha => exact absurd rfl ha
    | 9, ha => cases b <;> rfl
    | 10, ha => rfl
    | 11, ha => rfl
    | 12, ha => rfl
    | 13, ha => rfl
    | k + 14, ha => rfl

/-! what the component asks of the lambdas' sites -/
/-- a site linked to one object that stays -/
def lam_A (x : MethodName) (pcc : Nat) (σ : Jvm.Lambda.Shape) (a b : Nat) (U : State) (H : Heap) : Prop := ¬ b ≤ a ∧ ∃ c : ClassId, lam_F x pcc σ c (.constant a) U ∧ lam_O a c H
theorem lam_A.at {x : MethodName} {pcc : Nat} {σ : Jvm.Lambda.Shape} {a b : Nat} {s U : State} {H : Heap} (hW : s.WarmedH U.vm) (hq : ∀ q : Nat, q < s.heap.size → ¬ b ≤ q → H[q]? = s.heap[q]?) (h : lam_A x pcc σ a b s s.heap) : lam_A x pcc σ a b U H := by
  obtain ⟨h1, c, h2, cell, h3, h4, h5⟩ := h
  exact ⟨h1, c, h2.warm hW, cell, by rw [hq a (Array.getElem?_eq_some_iff.mp h3).1 h1]; exact h3, h4, h5⟩
theorem lam_F.same {x : MethodName} {pcc : Nat} {σ : Jvm.Lambda.Shape} {c : ClassId} {lnk : Linked} {s U : State} (hv : s.vm = U.vm) (h : lam_F x pcc σ c lnk s) : lam_F x pcc σ c lnk U := by
  unfold lam_F State.methodNamed? State.lambdaCallable at h ⊢
  rw [← hv]
  exact h
abbrev lam_yV : MethodName := ⟨"ToneGraph", "voiceForNote", "()LToneGraph$Voice;"⟩
abbrev lam_yW : MethodName := ⟨"ToneGraph", "waveOf", "(C)LToneGraph$Wave;"⟩
abbrev lam_yE : MethodName := ⟨"ToneGraph", "end", "(I)I"⟩
/-- the site's own entry -/
def lam_P (x : MethodName) (index : Nat) (σ : Jvm.Lambda.Shape) (U : State) : Prop := ∃ (m : MethodId) (kc : Class) (cf : ClassFile), U.methodNamed? x = some m ∧ U.vm.classes[m.cls]? = some kc ∧ kc.cf = some cf ∧ Jvm.Lambda.shapeOf? cf index = some σ
theorem lam_P.moved {x : MethodName} {index : Nat} {σ : Jvm.Lambda.Shape} {u U : State} (hvm : u.vm.Alike U.vm) (h : lam_P x index σ u) : lam_P x index σ U := by
  obtain ⟨m, kc, cf, h1, h2, h3, h4⟩ := h
  obtain ⟨kc', h2', he⟩ := hvm.2.2 _ _ h2
  have h1' : U.methodNamed? x = some m := by
    have := State.methodNamed?_setVm (s := u) hvm x
    rw [h1] at this
    exact this
  exact ⟨m, kc', cf, h1', h2', by rw [he]; exact h3, h4⟩
theorem lam_bind {α β : Type} {x : Option α} {f : α → Option β} {b : β} (h : (x >>= f) = some b) : ∃ a, x = some a ∧ f a = some b := Option.bind_eq_some_iff.mp h
theorem lam_site {cf : ClassFile} {index : Nat} {σ : Jvm.Lambda.Shape} (h : Jvm.Lambda.shapeOf? cf index = some σ) :
    ∃ b nt name desc site, cf.constantPool[index]? = some (.invokeDynamic b nt) ∧ cf.constantPool.nameAndType? nt = some (name, desc) ∧ parseMethodDescriptor desc = some site ∧ site.parameters = σ.captured := by
  unfold Jvm.Lambda.shapeOf? at h
  cases hc : cf.constantPool[index]? with
  | none => rw [hc] at h; cases h
  | some ce =>
    rw [hc] at h
    cases ce <;> try (cases h; done)
    rename_i b nt
    replace h := lam_bind h
    obtain ⟨entries, -, h⟩ := h
    replace h := lam_bind h
    obtain ⟨bm, -, h⟩ := h
    cases hm : cf.constantPool[bm.bootstrapMethodRef]? with
    | none => rw [hm] at h; cases h
    | some ce2 =>
      rw [hm] at h
      cases ce2 <;> try (cases h; done)
      rename_i k9 r9
      by_cases hk9 : k9 = 6
      · subst hk9
        replace h := lam_bind h
        obtain ⟨-, -, h⟩ := h
        generalize bm.bootstrapArguments = ba at h
        obtain ⟨al⟩ := ba
        match al, h with
        | [], h =>
          have h : none = some σ := h
          cases h
        | [_], h =>
          have h : none = some σ := h
          cases h
        | [_, _], h =>
          have h : none = some σ := h
          cases h
        | a0 :: a1 :: a2 :: a3 :: r, h =>
          have h : none = some σ := h
          cases h
        | [a0, a1, a2], h =>
          delta Jvm.Lambda.shapeOf?.match_15 at h
          dsimp only at h
          have h3 : (#[a0, a1, a2] : Array Nat).size = 3 := rfl
          rw [dif_pos h3] at h
          split at h
          · split at h
            · split at h
              · replace h := lam_bind h
                obtain ⟨nd, hnd, h⟩ := h
                replace h := lam_bind h
                obtain ⟨site, hsite, h⟩ := h
                split at h
                · replace h := lam_bind h
                  obtain ⟨q1, -, h⟩ := h
                  replace h := lam_bind h
                  obtain ⟨q2, -, h⟩ := h
                  replace h := lam_bind h
                  obtain ⟨q3, -, h⟩ := h
                  replace h := lam_bind h
                  obtain ⟨q4, -, h⟩ := h
                  replace h := lam_bind h
                  obtain ⟨q5, -, h⟩ := h
                  replace h := lam_bind h
                  obtain ⟨q6, -, h⟩ := h
                  have h := Option.some.inj h
                  subst h
                  exact ⟨b, nt, nd.1, nd.2, site, rfl, hnd, hsite, rfl⟩
                · cases h
              · cases h
            · cases h
          · cases h
      · exfalso
        split at h
        · rename_i heq
          cases heq
          exact hk9 rfl
        · cases h
/-- what cannot be cast -/
def tc_ncs : List (String × String) := [("java/lang/IllegalStateException", "java/lang/IllegalArgumentException"), ("java/lang/IndexOutOfBoundsException", "java/lang/IllegalArgumentException"), ("java/lang/UnsupportedOperationException", "java/lang/IllegalArgumentException"), ("java/util/NoSuchElementException", "java/lang/IllegalArgumentException"), ("java/lang/ArithmeticException", "java/lang/IllegalArgumentException"), ("java/lang/IllegalArgumentException", "java/lang/IllegalStateException"), ("java/lang/IndexOutOfBoundsException", "java/lang/IllegalStateException"), ("java/lang/UnsupportedOperationException", "java/lang/IllegalStateException"), ("java/util/NoSuchElementException", "java/lang/IllegalStateException"), ("java/lang/ArithmeticException", "java/lang/IllegalStateException"), ("java/lang/IllegalArgumentException", "java/lang/IndexOutOfBoundsException"), ("java/lang/IllegalStateException", "java/lang/IndexOutOfBoundsException"), ("java/lang/UnsupportedOperationException", "java/lang/IndexOutOfBoundsException"), ("java/util/NoSuchElementException", "java/lang/IndexOutOfBoundsException"), ("java/lang/ArithmeticException", "java/lang/IndexOutOfBoundsException"), ("java/lang/IllegalArgumentException", "java/lang/UnsupportedOperationException"), ("java/lang/IllegalStateException", "java/lang/UnsupportedOperationException"), ("java/lang/IndexOutOfBoundsException", "java/lang/UnsupportedOperationException"), ("java/util/NoSuchElementException", "java/lang/UnsupportedOperationException"), ("java/lang/ArithmeticException", "java/lang/UnsupportedOperationException"), ("java/lang/IllegalArgumentException", "java/util/NoSuchElementException"), ("java/lang/IllegalStateException", "java/util/NoSuchElementException"), ("java/lang/IndexOutOfBoundsException", "java/util/NoSuchElementException"), ("java/lang/UnsupportedOperationException", "java/util/NoSuchElementException"), ("java/lang/ArithmeticException", "java/util/NoSuchElementException"), ("ToneGraph$Chorus", "ToneGraph$Gain"), ("ToneGraph$Delay", "ToneGraph$Gain"), ("ToneGraph$Filter", "ToneGraph$Gain"), ("ToneGraph$Bus", "ToneGraph$Gain"), ("java/lang/IllegalArgumentException", "java/lang/ArithmeticException"), ("java/lang/IllegalStateException", "java/lang/ArithmeticException"), ("java/lang/IndexOutOfBoundsException", "java/lang/ArithmeticException"), ("java/lang/UnsupportedOperationException", "java/lang/ArithmeticException"), ("java/util/NoSuchElementException", "java/lang/ArithmeticException")]
def tc_NC (U : State) : Prop := (∀ q ∈ tc_ncs, va_Nc q.1 q.2 U) ∧ va_AO "java/lang/Object" U ∧ va_AO "ToneGraph$Voice" U
theorem tc_NC.moved {u U : State} (hvm : u.vm.Alike U.vm) (h : tc_NC u) : tc_NC U := ⟨fun q hq => (h.1 q hq).moved hvm, h.2.1.moved hvm, h.2.2.moved hvm⟩
theorem tc_NC.at {U : State} (h : tc_NC U) (i : Nat) {a b : String} (hi : tc_ncs[i]? = some (a, b)) : va_Nc a b U := h.1 _ (List.mem_of_getElem? hi)
def tc_LF (E : tc_E) (U : State) (H : Heap) : Prop := lam_A lam_yW 6 (lam_sW "lambda$waveOf$0") (es E 2) (eb E) U H ∧ lam_A lam_yW 18 (lam_sW "lambda$waveOf$1") (es E 3) (eb E) U H ∧ lam_A lam_yW 24 (lam_sW "lambda$waveOf$2") (es E 4) (eb E) U H ∧ lam_A lam_yV 49 (lam_sC "lambda$voiceForNote$3") (es E 5) (eb E) U H ∧ lam_A lam_yV 67 (lam_sC "lambda$voiceForNote$4") (es E 6) (eb E) U H ∧ tc_NC U ∧ ∃ c : ClassId, lam_F lam_yE 12 lam_sE c (.makes c) U ∧ lam_P lam_yE 241 lam_sE U
theorem tc_LF.at {E : tc_E} {s U : State} {H : Heap} (hW : s.WarmedH U.vm) (hq : ∀ a : Nat, a < s.heap.size → ¬ eb E ≤ a → H[a]? = s.heap[a]?) (h : tc_LF E s s.heap) : tc_LF E U H := by
  obtain ⟨h1, h2, h3, h4, h5, hn, c, h6, h7⟩ := h
  exact ⟨h1.at hW hq, h2.at hW hq, h3.at hW hq, h4.at hW hq, h5.at hW hq, hn.moved hW.alike, c, h6.warm hW, h7.moved hW.alike⟩
theorem lam_A.same {x : MethodName} {pcc : Nat} {σ : Jvm.Lambda.Shape} {a b : Nat} {s U : State} {H : Heap} (hv : s.vm = U.vm) (h : lam_A x pcc σ a b s H) : lam_A x pcc σ a b U H := by
  obtain ⟨h1, c, h2, h3⟩ := h
  exact ⟨h1, c, h2.same hv, h3⟩
theorem tc_LF.same {E : tc_E} {s U : State} {H : Heap} (hv : s.vm = U.vm) (h : tc_LF E s H) : tc_LF E U H := by
  obtain ⟨h1, h2, h3, h4, h5, hn, c, h6, h7⟩ := h
  exact ⟨h1.same hv, h2.same hv, h3.same hv, h4.same hv, h5.same hv, hn.moved (by rw [hv]; exact Vm.Alike.refl _), c, h6.same hv, h7.moved (by rw [hv]; exact Vm.Alike.refl _)⟩

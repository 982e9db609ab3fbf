set_option maxRecDepth 100000
/-- how a call that threw q ended -/
def MTQ (D : va_G) (dA : Nat → ClassId) (Hb : Heap) (below : List Frame) (s : State) (S : XS) (q : Nat) (T : XS) : State → Prop := fun t =>
  ∃ o, t.status = .running ∧ Ended t below o ∧ (o = .threw q ∧ XR D dA Hb t T t.heap) ∧ ∃ L k n, Jvm.Free.FrameEndT s o t L k n ∧ k + T.2.2.1 = S.2.2.1 ∧ n + T.2.2.2 = S.2.2.2 ∧ ∀ q ∈ L, Hb.size ≤ q.base
def MT (l : Launch) (y : MethodName) (ws : List Cond) (fr lo : Nat) (D : va_G) (dA : Nat → ClassId) (E : Nat → Nat → Nat) (Hb : Heap) (av : List Value) (S : XS) (q : Nat) (T : XS) : Prop :=
  MetFree l y (headSpec ws { frames := fr, cells := S.2.2.1, slots := S.2.2.2, locals := lo }) (fun a U => a = av.toArray ∧ XU D dA E Hb U ∧ XR D dA Hb U S U.heap) (fun _ _ _ _ _ => True)
    (fun _ st o t => (o = .threw q ∧ XR D dA Hb t T t.heap) ∧ ∃ L k n, Jvm.Free.FrameEndT st o t L k n ∧ k + T.2.2.1 = S.2.2.1 ∧ n + T.2.2.2 = S.2.2.2 ∧ ∀ q ∈ L, Hb.size ≤ q.base)
/-- a method that returns (inl) or throws (inr) -/
def MX (l : Launch) (y : MethodName) (ws : List Cond) (fr lo : Nat) (D : va_G) (dA : Nat → ClassId) (E : Nat → Nat → Nat) (Hb : Heap) (av : List Value) (S : XS) (r : Option Value ⊕ Nat) (T : XS) : Prop := match r with
  | .inl v => MB l y ws fr lo D dA E Hb av S v T
  | .inr q => MT l y ws fr lo D dA E Hb av S q T
def MXQ (D : va_G) (dA : Nat → ClassId) (Hb : Heap) (below : List Frame) (s : State) (S : XS) (r : Option Value ⊕ Nat) (T : XS) : State → Prop := match r with
  | .inl v => MBQ D dA Hb below s S v T
  | .inr q => MTQ D dA Hb below s S q T
def xox {α : Type} (rv : α → Option Value) (r : α ⊕ Nat) : Option Value ⊕ Nat := match r with
  | .inl v => .inl (rv v)
  | .inr q => .inr q
/-- the end of a method that may throw: with a value, with q thrown -/
def xrx {α : Type} (v : α) : XS → Option ((α ⊕ Nat) × XS) := fun S => some (.inl v, S)
def xth {α : Type} (q : Nat) : XS → Option ((α ⊕ Nat) × XS) := fun S => some (.inr q, S)
def xrzx (t : Nat) (v : Int32) : XS → Option ((Int32 ⊕ Nat) × XS) := fun S => match xrz t v S with
  | some (r, T) => some (.inl r, T)
  | none => none
def xalX {α ρ : Type} (f : XS → Option ((α ⊕ Nat) × XS)) (K : α → XS → Option ρ) (KX : Nat → XS → Option ρ) : XS → Option ρ := fun S => match f S with
  | some (.inl v, T) => K v T
  | some (.inr q, T) => KX q T
  | none => none
theorem MT.gen {l : Launch} {y : MethodName} {cc : ByteArray} {maxL : Nat} {ret : Option FieldType} {ws' : List Cond} {w0 : Cond} {fr lo : Nat} {D : va_G} {dA : Nat → ClassId} {E : Nat → Nat → Nat} {Hb : Heap} {av : List Value} {S : XS} {P : State → Outcome → State → Prop}
    (hy : plainName y.cls = true) (hav : ∀ v ∈ av, v.category = 1) (hn : av.length ≤ maxL)
    (hw0 : ∀ (args : Array Value) (s : State) (m : MethodId), w0.before args s = true → s.methodNamed? y = some m → ∃ meth c, s.vm.method? m = some meth ∧ meth.code = some c ∧ c.code = cc ∧ c.maxLocals = maxL ∧ meth.sig.returnType = ret ∧ meth.locks = false)
    (body : ∀ (p : Program) (e : Env) (s : State) (m : MethodId) (below : List Frame) (meth : Method) (c : Code) (ls : Array Slot), XX D dA E Hb p s m av.toArray c cc maxL y.cls → meth.sig.returnType = ret → meth.locks = false → meth.name = y.name →
      s.methodNamed? y = some m → s.vm.method? m = some meth → meth.code = some c → w0.before av.toArray s = true →
      XG D dA Hb { frames := fr, cells := S.2.2.1, slots := S.2.2.2, locals := lo } s S s.heap [] 0 0 → lh ls maxL (xenum 0 av) →
      W p l e { frames := fr, cells := S.2.2.1, slots := S.2.2.2, locals := lo } s m av.toArray below meth c s.heap [] 0 0 (fun t => ∃ o, t.status = .running ∧ Ended t below o ∧ P s o t) (F0 m 0 ls [])) :
    MetFree l y (headSpec (w0 :: lw_all) { frames := fr, cells := S.2.2.1, slots := S.2.2.2, locals := lo }) (fun a U => a = av.toArray ∧ XU D dA E Hb U ∧ XR D dA Hb U S U.heap) (fun _ _ _ _ _ => True) (fun _ st o t => P st o t) := by
  refine MetFree.of_bodyS (code := cc) (maxLocals := maxL) (ret := ret) hy ?_ ?_
  · intro args s m h hn
    exact hw0 args s m (atoms_spec (ws := w0 :: lw_all) h _ List.mem_cons_self) hn
  · intro p e s m args below meth c s₁ B hml hP _
    obtain ⟨ha, hU, hR⟩ := hP
    subst ha
    have hh0 : s₁.heap = s.heap := by rw [B.state]; rfl
    have hts := atoms_spec (ws := w0 :: lw_all) B.pre
    obtain ⟨e1, e2⟩ := lv_args_enum av 0 hav
    have hl := lv_entry av (n := maxL) (by rw [e2]; exact hn)
    rw [e1] at hl
    have K := body p e s m below meth c _ ⟨B.exec, B.bytes, hml, findClass_of_methodNamed B.named, fun w h => hts w (List.mem_cons_of_mem _ h), hU⟩ B.returns B.notSynchronized (name_of_methodNamed B.named B.method).1 B.named B.method (Stand.of_body B).code (hts _ List.mem_cons_self) ⟨hR, (fun q hq => nomatch hq), Nat.zero_add _, Nat.zero_add _⟩ ⟨hl, xenum_cat av 0 hav⟩
    rw [← lg_entry_eq] at K
    obtain ⟨t, a1, o, b1, b2, b3⟩ := K s₁ hh0 (Stand.of_body B)
    exact ⟨t, o, a1, b1, b2, b3⟩
theorem xw0_code {y : MethodName} {cc : ByteArray} {maxL : Nat} {ret : Option FieldType} (args : Array Value) (s : State) (m : MethodId) (h : (Cond.code y cc maxL ret).before args s = true) (hn : s.methodNamed? y = some m) : ∃ meth c, s.vm.method? m = some meth ∧ meth.code = some c ∧ c.code = cc ∧ c.maxLocals = maxL ∧ meth.sig.returnType = ret ∧ meth.locks = false := by
  obtain ⟨meth, c, h1, h2, h3, h4, h5, h6, -, -⟩ := Cond.code_spec hn h
  exact ⟨meth, c, h1, h2, h3, h4, h5, h6⟩
theorem xw0_codeW {y : MethodName} {cc : ByteArray} {maxL : Nat} {ret : Option FieldType} {hh : List (Nat × Nat × Nat × Nat)} (args : Array Value) (s : State) (m : MethodId) (h : (Cond.codeWith y cc maxL ret hh).before args s = true) (hn : s.methodNamed? y = some m) : ∃ meth c, s.vm.method? m = some meth ∧ meth.code = some c ∧ c.code = cc ∧ c.maxLocals = maxL ∧ meth.sig.returnType = ret ∧ meth.locks = false := by
  obtain ⟨m9, meth, c, hn9, h1, h2, h3, h4, -, h5, h6, -⟩ := Cond.codeWith_spec h
  cases hn.symm.trans hn9
  exact ⟨meth, c, h1, h2, h3, h4, h5, h6⟩
/-- a method that may throw, without handlers -/
theorem MX.of {l : Launch} {y : MethodName} {cc : ByteArray} {maxL : Nat} {ret : Option FieldType} {fr lo : Nat} {D : va_G} {dA : Nat → ClassId} {E : Nat → Nat → Nat} {Hb : Heap} {av : List Value} {S : XS} {r : Option Value ⊕ Nat} {T : XS}
    (hy : plainName y.cls = true) (hav : ∀ v ∈ av, v.category = 1) (hn : av.length ≤ maxL)
    (body : ∀ (p : Program) (e : Env) (s : State) (m : MethodId) (below : List Frame) (meth : Method) (c : Code) (ls : Array Slot), XX D dA E Hb p s m av.toArray c cc maxL y.cls → meth.sig.returnType = ret → meth.locks = false → meth.name = y.name → (∀ x ∈ c.exceptionTable.toList, False) →
      XG D dA Hb { frames := fr, cells := S.2.2.1, slots := S.2.2.2, locals := lo } s S s.heap [] 0 0 → lh ls maxL (xenum 0 av) →
      W p l e { frames := fr, cells := S.2.2.1, slots := S.2.2.2, locals := lo } s m av.toArray below meth c s.heap [] 0 0 (MXQ D dA Hb below s S r T) (F0 m 0 ls [])) :
    MX l y (ws_ y cc maxL ret) fr lo D dA E Hb av S r T := by
  have key : ∀ (P : State → Outcome → State → Prop), (∀ below s, MXQ D dA Hb below s S r T = fun t => ∃ o, t.status = .running ∧ Ended t below o ∧ P s o t) → MetFree l y (headSpec (ws_ y cc maxL ret) { frames := fr, cells := S.2.2.1, slots := S.2.2.2, locals := lo }) (fun a U => a = av.toArray ∧ XU D dA E Hb U ∧ XR D dA Hb U S U.heap) (fun _ _ _ _ _ => True) (fun _ st o t => P st o t) := by
    intro P hP
    refine MT.gen (w0 := Cond.code y cc maxL ret) (cc := cc) (maxL := maxL) (ret := ret) (ws' := []) hy hav hn xw0_code ?_
    intro p e s m below meth c ls X hr hlocks hname hnm hmt hcd hw hG hl
    rw [← hP]
    refine body p e s m below meth c ls X hr hlocks hname ?_ hG hl
    obtain ⟨meth9, c9, h1, h2, -, -, -, -, h7, -⟩ := Cond.code_spec hnm hw
    cases Option.some.inj (h1.symm.trans hmt)
    cases Option.some.inj (h2.symm.trans hcd)
    intro x hx
    rw [Array.isEmpty_iff.mp h7] at hx
    cases hx
  cases r with
  | inl v => exact key (fun s o t => (o = .returned v ∧ XR D dA Hb t T t.heap) ∧ ∃ L k n, FrameEnd s o t L k n ∧ k + T.2.2.1 = S.2.2.1 ∧ n + T.2.2.2 = S.2.2.2 ∧ ∀ q ∈ L, Hb.size ≤ q.base) (fun _ _ => rfl)
  | inr q => exact key (fun s o t => (o = .threw q ∧ XR D dA Hb t T t.heap) ∧ ∃ L k n, Jvm.Free.FrameEndT s o t L k n ∧ k + T.2.2.1 = S.2.2.1 ∧ n + T.2.2.2 = S.2.2.2 ∧ ∀ q ∈ L, Hb.size ≤ q.base) (fun _ _ => rfl)
/-- a method with handlers, that returns -/
theorem MB.ofH {l : Launch} {y : MethodName} {cc : ByteArray} {maxL : Nat} {ret : Option FieldType} {hh : List (Nat × Nat × Nat × Nat)} {fr lo : Nat} {D : va_G} {dA : Nat → ClassId} {E : Nat → Nat → Nat} {Hb : Heap} {av : List Value} {S : XS} {r : Option Value} {T : XS}
    (hy : plainName y.cls = true) (hav : ∀ v ∈ av, v.category = 1) (hn : av.length ≤ maxL)
    (body : ∀ (p : Program) (e : Env) (s : State) (m : MethodId) (below : List Frame) (meth : Method) (c : Code) (ls : Array Slot), XX D dA E Hb p s m av.toArray c cc maxL y.cls → meth.sig.returnType = ret → meth.locks = false → meth.name = y.name → c.exceptionTable.toList = tableOf hh →
      XG D dA Hb { frames := fr, cells := S.2.2.1, slots := S.2.2.2, locals := lo } s S s.heap [] 0 0 → lh ls maxL (xenum 0 av) →
      W p l e { frames := fr, cells := S.2.2.1, slots := S.2.2.2, locals := lo } s m av.toArray below meth c s.heap [] 0 0 (MBQ D dA Hb below s S r T) (F0 m 0 ls [])) :
    MB l y (wsW_ y cc maxL ret hh) fr lo D dA E Hb av S r T := by
  refine MT.gen (w0 := Cond.codeWith y cc maxL ret hh) (cc := cc) (maxL := maxL) (ret := ret) (ws' := []) (P := fun s o t => (o = .returned r ∧ XR D dA Hb t T t.heap) ∧ ∃ L k n, FrameEnd s o t L k n ∧ k + T.2.2.1 = S.2.2.1 ∧ n + T.2.2.2 = S.2.2.2 ∧ ∀ q ∈ L, Hb.size ≤ q.base) hy hav hn xw0_codeW ?_
  intro p e s m below meth c ls X hr hlocks hname hnm hmt hcd hw hG hl
  refine body p e s m below meth c ls X hr hlocks hname ?_ hG hl
  obtain ⟨m9, meth9, c9, hn9, h1, h2, -, -, h6, -⟩ := Cond.codeWith_spec hw
  cases Option.some.inj (hn9.symm.trans hnm)
  cases Option.some.inj (h1.symm.trans hmt)
  cases Option.some.inj (h2.symm.trans hcd)
  rw [← h6, table_eq]

set_option maxRecDepth 100000
/-! what holds of the tables all through the run, and the contract -/
def xAOI (U : State) : Prop := (Cond.arrayOver (.array .int)).before #[] U = true
theorem xAOI.moved {u U : State} (hvm : u.vm.Alike U.vm) (h : xAOI u) : xAOI U := by
  obtain ⟨comp, c, k, h1, h2, h3, h4, h5⟩ := arrayOverA_spec h
  obtain ⟨k', hk', he⟩ := hvm.2.2 _ _ h3
  have hi : (U.vm.classes.findIdx? fun (x : Class) => match x.kind with | .array component _ => component == comp | _ => false) = some c := by
    rw [hvm.findIdx?_eq _ (fun _ => rfl)]; exact h2
  have hkind : k'.kind = .array comp (.array .int) := by rw [he]; exact h4
  have f1 : U.vm.findClass (FieldType.array .int).toString = some comp := by rw [hvm.findClass]; exact h1
  have f2 : U.vm.findClass ("[" ++ (FieldType.array .int).toString) = some c := by rw [hvm.findClass]; exact h5
  unfold xAOI Cond.before Cond.holds
  simp only [Cond.value]
  first
    | (rw [f1, Option.bind_some]
       refine (congrArg (fun o : Option Nat => (o.bind (fun c => (U.vm.classes[c]?).map fun (k : Class) => match k.kind with | .array _ ty => decide (ty = FieldType.array .int) && decide (U.vm.findClass ("[" ++ (FieldType.array .int).toString) = some c) | _ => false) == some true)) hi).trans ?_
       simp [hk', hkind, f2])
    | (simp [f1, hi, hk', hkind, f2])
/-- statics that are read: class, name, descriptor, where its value stands (code: 0 int, 1 a reference E 3 k), the value -/
def xst : List (String × String × String × Nat × Int32) := [("ClockZones", "INF", "I", 0, 16777216), ("ClockZones", "NULL", "I", 0, 1), ("java/lang/String", "COMPACT_STRINGS", "Z", 0, 1), ("java/lang/Integer$IntegerCache", "high", "I", 0, 127), ("java/util/ArrayList", "DEFAULTCAPACITY_EMPTY_ELEMENTDATA", "[Ljava/lang/Object;", 1, 0), ("java/util/ArrayList", "EMPTY_ELEMENTDATA", "[Ljava/lang/Object;", 1, 1), ("java/lang/Integer$IntegerCache", "cache", "[Ljava/lang/Integer;", 1, 2), ("java/lang/Throwable", "UNASSIGNED_STACK", "[Ljava/lang/StackTraceElement;", 2, 3), ("java/lang/Throwable", "SUPPRESSED_SENTINEL", "Ljava/util/List;", 2, 4)]
/-- an address that may be none -/
def xdc (n : Nat) : Option Nat := match n with
  | 0 => none
  | k + 1 => some k
/-- what throwing asks -/
def xex (Hb : Heap) (U : State) : Prop := vx_Zq Bundle.tN "UNASSIGNED_STACK" Bundle.steD (fun q => Hb.size ≤ q) U Hb ∧ vx_Zq Bundle.tN "SUPPRESSED_SENTINEL" Bundle.listD (fun q => Hb.size ≤ q) U Hb ∧ va_Nc "java/util/NoSuchElementException" "java/lang/IndexOutOfBoundsException" U
theorem xex.moved {Hb : Heap} {u U : State} (hvm : u.vm.Alike U.vm) (h : xex Hb u) : xex Hb U := ⟨h.1.moved hvm, h.2.1.moved hvm, va_Nc.moved hvm h.2.2⟩
def xsv (E : Nat → Nat → Nat) (t : Nat) (v : Int32) : Value := match t with
  | 0 => .int v
  | 1 => va_rf (some (E 3 v.toNatClampNeg))
  | _ => va_rf (xdc (E 3 v.toNatClampNeg))
def xstr : List (String × Nat × String × Nat) := [("ClockZones$Reader", 17, "clock", 0), ("ClockZones$Reader", 19, "place", 1), ("ClockZones$Reader", 21, "edge", 2), ("ClockZones$Reader", 23, "start", 3), ("ClockZones$Reader", 25, "when", 4), ("ClockZones$Reader", 27, "set", 5), ("ClockZones$Reader", 33, "<", 6), ("ClockZones$Reader", 35, "<=", 7), ("ClockZones$Reader", 37, "=", 8), ("ClockZones$Reader", 39, ">=", 9), ("ClockZones$Reader", 41, ">", 10), ("ClockZones$Reader", 53, "", 11)]
def xmir : List (String × Nat) := [("[Ljava/lang/Object;", 0), ("java/util/ArrayList", 1)]
def yJ24_hasNextI : MethodName := ⟨"java/util/Iterator", "hasNext", "()Z"⟩
def yJ24_nextI : MethodName := ⟨"java/util/Iterator", "next", "()Ljava/lang/Object;"⟩
def yJ2_toArrayI : MethodName := ⟨"java/util/Collection", "toArray", "()[Ljava/lang/Object;"⟩
def xfw : List (String × MethodName × MethodName) := [("java/util/ArrayList$Itr", yJ24_hasNextI, ⟨"java/util/ArrayList$Itr", "hasNext", "()Z"⟩), ("java/util/ArrayList$Itr", yJ24_nextI, ⟨"java/util/ArrayList$Itr", "next", "()Ljava/lang/Object;"⟩), ("java/util/ArrayList", yJ2_toArrayI, ⟨"java/util/ArrayList", "toArray", "()[Ljava/lang/Object;"⟩)]
def xsel : List Cond := [.selects "java/lang/StringBuilder" ⟨"java/lang/AbstractStringBuilder", "ensureCapacityInternal", "(I)V"⟩ ⟨"java/lang/AbstractStringBuilder", "ensureCapacityInternal", "(I)V"⟩, .selects "java/lang/StringBuilder" ⟨"java/lang/AbstractStringBuilder", "newCapacity", "(I)I"⟩ ⟨"java/lang/AbstractStringBuilder", "newCapacity", "(I)I"⟩]
theorem xsel_ok : ∀ w ∈ xsel, w.onTables = true ∧ (w.onTables && w.keeps) = true := by
  unfold xsel
  simp only [List.forall_mem_cons]
  exact ⟨⟨rfl, rfl⟩, ⟨rfl, rfl⟩, fun _ h => nomatch h⟩
def xgc : List Cond := [.interfaceMethod "java/util/Collection" "java/lang/Object" "getClass" "()Ljava/lang/Class;", .publicMethod ⟨"java/lang/Object", "getClass", "()Ljava/lang/Class;"⟩, .unhidden "java/util/ArrayList" "getClass" "()Ljava/lang/Class;"]
theorem xgc_ok : ∀ w ∈ xgc, w.onTables = true ∧ ∀ (s : State) (vm' : Vm), s.vm.Alike vm' → w.before #[] (s.setVm vm') = w.before #[] s := by
  unfold xgc
  simp only [List.forall_mem_cons]
  refine ⟨⟨rfl, fun s vm' h => ?_⟩, ⟨rfl, fun s vm' h => ?_⟩, ⟨rfl, fun s vm' h => ?_⟩, fun _ h => nomatch h⟩
  · simp only [Cond.before, Cond.holds, Cond.value, State.vm_setVm, h.findClass, State.methodFound?_setVm h, State.methodNamed?_setVm h, arm_isInterface_setVm h]
  · exact Cond.publicMethod_setVm h _
  · exact Cond.unhidden_setVm h _ _ _
def XU (D : va_G) (dA : Nat → ClassId) (E : Nat → Nat → Nat) (Hb : Heap) (U : State) : Prop :=
  (∀ (c : Nat) (q : vw_C), xcl[c]? = some q → u_Kn U q.1 q.2.1 q.2.2 (D.1 c) (D.2 c)) ∧
  (∀ k, k < 7 → ArrOfT U (dA k) (xty k) ∧ va_RA U (dA k) (xty k)) ∧
  (∀ w ∈ xnw, va_Nw w U) ∧
  (∀ z ∈ xst, va_Z z.1 z.2.1 z.2.2.1 (xsv E z.2.2.2.1 z.2.2.2.2) (fun q => Hb.size ≤ q) U Hb) ∧
  (∀ f ∈ xfw, va_Fw f.1 f.2.1 f.2.2 U) ∧
  (va_AO "ClockZones$Table" U ∧ va_AO "java/lang/Object" U ∧ va_AO "java/lang/String" U ∧ xAOI U) ∧
  (∀ z ∈ xstr, vk_R z.1 z.2.1 z.2.2.1 (E 1 z.2.2.2) U) ∧
  (∀ z ∈ xmir, va_Mi z.1 (E 4 z.2) U) ∧ (va_Dc U ∧ (∀ w ∈ xsel, va_Nw w U) ∧ (∀ w ∈ xgc, va_Nw w U) ∧ xex Hb U) ∧ E 0 0 = Hb.size
theorem xfw_ok : ∀ f ∈ xfw, f.2.1.cls ≠ "java/lang/invoke/MethodHandle" ∧ f.2.1.cls ≠ "java/lang/invoke/VarHandle" := by decide +kernel
theorem XU.warm {D : va_G} {dA : Nat → ClassId} {E : Nat → Nat → Nat} {Hb : Heap} {s U : State} (hW : s.WarmedH U.vm) (h : XU D dA E Hb s) : XU D dA E Hb U := by
  obtain ⟨h1, h2, h3, h4, h5, ⟨h6, h7, h8, h9⟩, h10, h11, h12, h13⟩ := h
  have hvm := hW.alike
  exact ⟨fun c q hq => u_Kn_moved hvm (h1 c q hq), fun k hk => ⟨arrOfT_moved hvm (h2 k hk).1, (h2 k hk).2.moved hvm⟩, xnw_warm hW h3, fun z hz => (h4 z hz).moved hvm, fun f hf => (h5 f hf).moved (xfw_ok f hf) hvm,
    ⟨h6.moved hvm, h7.moved hvm, h8.moved hvm, h9.moved hvm⟩, fun z hz => (h10 z hz).warm hW, fun z hz => (h11 z hz).moved hvm, ⟨h12.1.moved hvm, fun w hw => word_at hW (Or.inl (xsel_ok w hw).2) (h12.2.1 w hw), fun w hw => va_tabs (xgc_ok w hw).1 (rfl : (s.setVm U.vm).vm = U.vm) (((xgc_ok w hw).2 s _ hvm).trans (h12.2.2.1 w hw)), h12.2.2.2.moved hvm⟩, h13⟩
theorem XU.same {D : va_G} {dA : Nat → ClassId} {E : Nat → Nat → Nat} {Hb : Heap} {s U : State} (hvm : s.vm = U.vm) (h : XU D dA E Hb s) : XU D dA E Hb U := by
  obtain ⟨h1, h2, h3, h4, h5, ⟨h6, h7, h8, h9⟩, h10, h11, h12, h13⟩ := h
  have hal : s.vm.Alike U.vm := by rw [hvm]; exact Vm.Alike.refl _
  exact ⟨fun c q hq => u_Kn_moved hal (h1 c q hq), fun k hk => ⟨arrOfT_moved hal (h2 k hk).1, (h2 k hk).2.moved hal⟩, fun w hw => (h3 w hw).same (xnw_tabs hw) hvm, fun z hz => (h4 z hz).moved hal, fun f hf => (h5 f hf).moved (xfw_ok f hf) hal,
    ⟨h6.moved hal, h7.moved hal, h8.moved hal, h9.moved hal⟩, fun z hz => (h10 z hz).same hvm.symm, fun z hz => (h11 z hz).moved hal, ⟨h12.1.moved hal, fun w hw => (h12.2.1 w hw).same (xsel_ok w hw).1 hvm, fun w hw => (h12.2.2.1 w hw).same (xgc_ok w hw).1 hvm, h12.2.2.2.moved hal⟩, h13⟩
/-- a cell of the functional heap, in the heap -/
def xat (D : va_G) (dA : Nat → ClassId) (b : Nat) (U : State) (a : Nat) (e : va_E) (H : Heap) : Prop := match e with
  | .inl (k, x) => ∃ cell : Cell, H[a]? = some cell ∧ U.isArrayOf cell (xty k) ∧ cell.vm ≠ .unknown ∧ cell.slots.size = x.1 ∧ (∀ j : Nat, j < x.1 → cell.slots[j]? = some (xel x j)) ∧ (b ≤ a → cell = arrV (dA k) x.1 (xel x) ∧ k < 7) ∧ (k = 4 → cell.cls = dA 4)
  | .inr (ci, fs) => ∃ (q : vw_C) (cell : Cell), xcl[ci]? = some q ∧ H[a]? = some cell ∧ cell.cls = D.1 ci ∧ cell.vm.isStatics = false ∧ cell.vm ≠ .unknown ∧ (b ≤ a → cell.vm = .none) ∧ (∀ k : Nat, k < q.2.2 → cell.slots[D.2 ci k]? = some (vp_V fs k)) ∧ fs.length = q.2.2
theorem xat.kept {D : va_G} {dA : Nat → ClassId} {b : Nat} {U : State} {a : Nat} {e : va_E} {H H1 : Heap} (h : xat D dA b U a e H) (hq : H1[a]? = H[a]?) : xat D dA b U a e H1 := by
  cases e with
  | inl x =>
    obtain ⟨cell, h1, h2⟩ := h
    exact ⟨cell, hq.trans h1, h2⟩
  | inr x =>
    obtain ⟨q, cell, h1, h2, h3⟩ := h
    exact ⟨q, cell, h1, hq.trans h2, h3⟩
theorem xat.alike {D : va_G} {dA : Nat → ClassId} {b : Nat} {u U : State} {a : Nat} {e : va_E} {H : Heap} (hvm : u.vm.Alike U.vm) (h : xat D dA b u a e H) : xat D dA b U a e H := by
  cases e with
  | inl x =>
    obtain ⟨cell, h1, h2, h3⟩ := h
    exact ⟨cell, h1, State.isArrayOf_alike hvm h2, h3⟩
  | inr x => exact h
theorem xat.lt {D : va_G} {dA : Nat → ClassId} {b : Nat} {U : State} {a : Nat} {e : va_E} {H : Heap} (h : xat D dA b U a e H) : a < H.size := by
  cases e with
  | inl x =>
    obtain ⟨cell, h1, -⟩ := h
    exact (Array.getElem?_eq_some_iff.mp h1).1
  | inr x =>
    obtain ⟨q, cell, -, h1, -⟩ := h
    exact (Array.getElem?_eq_some_iff.mp h1).1
def XR (D : va_G) (dA : Nat → ClassId) (Hb : Heap) (U : State) (S : XS) (H : Heap) : Prop :=
  H.size = S.2.1 ∧ (∀ (a : Nat) (e : va_E), S.1 a = some e → xat D dA Hb.size U a e H) ∧ Hb.size ≤ H.size ∧ ∀ q : Nat, q < Hb.size → H[q]? = Hb[q]?
theorem XR.alike {D : va_G} {dA : Nat → ClassId} {Hb : Heap} {u U : State} {S : XS} {H : Heap} (hvm : u.vm.Alike U.vm) (h : XR D dA Hb u S H) : XR D dA Hb U S H := ⟨h.1, fun a e he => (h.2.1 a e he).alike hvm, h.2.2⟩
def XG (D : va_G) (dA : Nat → ClassId) (Hb : Heap) (R : Room) (s : State) (S : XS) (H : Heap) (locs : List Loc) (cells slots : Nat) : Prop :=
  XR D dA Hb s S H ∧ (∀ q ∈ locs, Hb.size ≤ q.base) ∧ cells + S.2.2.1 = R.cells ∧ slots + S.2.2.2 = R.slots
def XX (D : va_G) (dA : Nat → ClassId) (E : Nat → Nat → Nat) (Hb : Heap) (p : Program) (s : State) (m : MethodId) (args : Array Value) (c : Code) (cc : ByteArray) (nL : Nat) (own : String) : Prop :=
  p.tables.exec = Jvm.exec ∧ c.code = cc ∧ c.maxLocals = nL ∧ s.vm.findClass own = some m.cls ∧ (∀ w ∈ lw_all, w.before args s = true) ∧ XU D dA E Hb s
/-- the contract of a method: from the heap S, with the values av, it answers r and leaves the heap T -/
def MBQ (D : va_G) (dA : Nat → ClassId) (Hb : Heap) (below : List Frame) (s : State) (S : XS) (r : Option Value) (T : XS) : State → Prop := fun t =>
  ∃ o, t.status = .running ∧ Ended t below o ∧ (o = .returned r ∧ XR D dA Hb t T t.heap) ∧ ∃ L k n, FrameEnd s o t L k n ∧ k + T.2.2.1 = S.2.2.1 ∧ n + T.2.2.2 = S.2.2.2 ∧ ∀ q ∈ L, Hb.size ≤ q.base
def MB (l : Launch) (y : MethodName) (ws : List Cond) (fr lo : Nat) (D : va_G) (dA : Nat → ClassId) (E : Nat → Nat → Nat) (Hb : Heap) (av : List Value) (S : XS) (r : Option Value) (T : XS) : Prop :=
  MetFree l y (headSpec ws { frames := fr, cells := S.2.2.1, slots := S.2.2.2, locals := lo }) (fun a U => a = av.toArray ∧ XU D dA E Hb U ∧ XR D dA Hb U S U.heap) (fun _ _ _ _ _ => True)
    (fun _ st o t => (o = .returned r ∧ XR D dA Hb t T t.heap) ∧ ∃ L k n, FrameEnd st o t L k n ∧ k + T.2.2.1 = S.2.2.1 ∧ n + T.2.2.2 = S.2.2.2 ∧ ∀ q ∈ L, Hb.size ≤ q.base)
/-- locals: all of one slot -/
def lh (ls : Array Slot) (nL : Nat) (l : List (Nat × Value)) : Prop := lv_has ls nL l ∧ ∀ q ∈ l, q.2.category = 1
theorem lh_at {ls : Array Slot} {nL : Nat} {l : List (Nat × Value)} (h : lh ls nL l) (k : Nat) {i : Nat} {v : Value} (hk : l[k]? = some (i, v)) : ls[i]? = some (.val v) := lv_at h.1 k hk
theorem lh_sub {ls : Array Slot} {nL : Nat} {l l' : List (Nat × Value)} (h : lh ls nL l) (ks : List Nat) (hl : lv_pick l ks = l') : lh ls nL l' := by
  refine ⟨lv_sub h.1 ks hl, fun q hq => ?_⟩
  rw [← hl] at hq
  obtain ⟨k, -, hk⟩ := List.mem_filterMap.mp hq
  exact h.2 q (List.mem_of_getElem? hk)
theorem lh_store {ls' : Array Slot} {nL i : Nat} {v : Value} {l : List (Nat × Value)} (hc : v.category = 1) (h : ∀ q ∈ l, q.2.category = 1) (h' : lv_has ls' nL ((i, v) :: l.filter (fun q => !(q.1 == i) && !(q.1 + 1 == i && q.2.category == 2)))) : lh ls' nL ((i, v) :: l.filter (fun q => !(q.1 == i))) := by
  have e : l.filter (fun q => !(q.1 == i) && !(q.1 + 1 == i && q.2.category == 2)) = l.filter (fun q => !(q.1 == i)) := by
    apply List.filter_congr
    intro q hq
    rw [h q hq]
    simp
  rw [e] at h'
  refine ⟨h', fun q hq => ?_⟩
  rcases List.mem_cons.mp hq with e | e
  · rw [e]; exact hc
  · exact h q (List.mem_filter.mp e).1
theorem va_rf_cat (r : Option Nat) : (va_rf r).category = 1 := by cases r <;> rfl
def xenum : Nat → List Value → List (Nat × Value)
  | _, [] => []
  | i, v :: vs => (i, v) :: xenum (i + 1) vs
theorem lv_args_enum : ∀ (vs : List Value) (i : Nat), (∀ v ∈ vs, v.category = 1) → lv_args i vs = xenum i vs ∧ (lg_sl vs).length = vs.length := by
  intro vs
  induction vs with
  | nil => intro i _; exact ⟨rfl, rfl⟩
  | cons v vs ih =>
    intro i h
    have h1 : v.category = 1 := h v List.mem_cons_self
    obtain ⟨e1, e2⟩ := ih (i + 1) (fun w hw => h w (List.mem_cons_of_mem _ hw))
    refine ⟨?_, ?_⟩
    · simp [lv_args, xenum, h1, e1]
    · have : lg_sl (v :: vs) = .val v :: lg_sl vs := by simp [lg_sl, h1]
      rw [this]
      simp [e2]
theorem xenum_cat : ∀ (vs : List Value) (i : Nat), (∀ v ∈ vs, v.category = 1) → ∀ q ∈ xenum i vs, q.2.category = 1 := by
  intro vs
  induction vs with
  | nil => intro i _ q hq; cases hq
  | cons v vs ih =>
    intro i h q hq
    rcases List.mem_cons.mp hq with e | e
    · rw [e]; exact h v List.mem_cons_self
    · exact ih (i + 1) (fun w hw => h w (List.mem_cons_of_mem _ hw)) q e
theorem W.mono {p : Program} {l : Launch} {e : Env} {R : Room} {s : State} {m : MethodId} {args : Array Value} {below : List Frame} {meth : Method} {c : Code} {H : Heap} {locs : List Loc} {cells slots : Nat} {Q Q2 : State → Prop} {g : JFrame} (h : ∀ t, Q t → Q2 t) (k : W p l e R s m args below meth c H locs cells slots Q g) : W p l e R s m args below meth c H locs cells slots Q2 g := by
  intro T hT X
  obtain ⟨t, a, b⟩ := k T hT X
  exact ⟨t, a, h t b⟩
/-- a method's walk from its entry -/
theorem MB.of {l : Launch} {y : MethodName} {cc : ByteArray} {maxL : Nat} {ret : Option FieldType} {fr lo : Nat} {D : va_G} {dA : Nat → ClassId} {E : Nat → Nat → Nat} {Hb : Heap} {av : List Value} {S : XS} {r : Option Value} {T : XS}
    (hy : plainName y.cls = true) (hav : ∀ v ∈ av, v.category = 1) (hn : av.length ≤ maxL)
    (body : ∀ (p : Program) (e : Env) (s : State) (m : MethodId) (below : List Frame) (meth : Method) (c : Code) (ls : Array Slot), XX D dA E Hb p s m av.toArray c cc maxL y.cls → meth.sig.returnType = ret → meth.locks = false → meth.name = y.name →
      XG D dA Hb { frames := fr, cells := S.2.2.1, slots := S.2.2.2, locals := lo } s S s.heap [] 0 0 → lh ls maxL (xenum 0 av) →
      W p l e { frames := fr, cells := S.2.2.1, slots := S.2.2.2, locals := lo } s m av.toArray below meth c s.heap [] 0 0 (MBQ D dA Hb below s S r T) (F0 m 0 ls [])) :
    MB l y (ws_ y cc maxL ret) fr lo D dA E Hb av S r T := by
  refine MetFree.of_bodyS (code := cc) (maxLocals := maxL) (ret := ret) hy ?_ ?_
  · intro args s m h hn
    obtain ⟨meth, c, h1, h2, h3, h4, h5, h6, -, -⟩ := Cond.code_spec hn (atoms_spec (ws := ws_ y cc maxL ret) h _ List.mem_cons_self)
    exact ⟨meth, c, h1, h2, h3, h4, h5, h6⟩
  · intro p e s m args below meth c s₁ B hml hP _
    obtain ⟨ha, hU, hR⟩ := hP
    subst ha
    have hh0 : s₁.heap = s.heap := by rw [B.state]; rfl
    have hts := atoms_spec (ws := ws_ y cc maxL ret) B.pre
    obtain ⟨e1, e2⟩ := lv_args_enum av 0 hav
    have hl := lv_entry av (n := maxL) (by rw [e2]; exact hn)
    rw [e1] at hl
    have K := body p e s m below meth c _ ⟨B.exec, B.bytes, hml, findClass_of_methodNamed B.named, fun w h => hts w (List.mem_cons_of_mem _ h), hU⟩ B.returns B.notSynchronized (name_of_methodNamed B.named B.method).1 ⟨hR, (fun q hq => nomatch hq), Nat.zero_add _, Nat.zero_add _⟩ ⟨hl, xenum_cat av 0 hav⟩
    rw [← lg_entry_eq] at K
    obtain ⟨t, a1, o, b1, b2, b3⟩ := K s₁ hh0 (Stand.of_body B)
    exact ⟨t, o, a1, b1, b2, b3⟩

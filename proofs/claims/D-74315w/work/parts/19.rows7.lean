set_option maxRecDepth 100000
def XCP (own : String) (idx : Nat) (y : MethodName) (bytes : ByteArray) (maxL : Nat) (ret : Option FieldType) (n : Nat) : Prop :=
  Cond.methodLink own idx y ∈ lw_all ∧ Cond.sameMethod y.cls y.cls y.name y.desc ∈ lw_all ∧ Cond.superclass own y.cls ∈ lw_all ∧ Cond.instanceMethod y ∈ lw_all ∧ Cond.code y bytes maxL ret ∈ lw_all ∧ Cond.initialized y.cls ∈ lw_all ∧ y.name ≠ "<init>" ∧
  (parseMethodDescriptor y.desc).map (fun d => d.parameters.length) = some n
/-- a clone of a byte array of ours -/
def aClB (b : Nat) (r : Option Nat) : XS → Option (Option Nat × XS) := fun S => match r with
  | none => none
  | some a => match S.1 a with
    | some (.inl (k, n, .inl f)) => if ((k == 1) && decide (b ≤ a) && decide (1 ≤ S.2.2.1) && decide (n ≤ S.2.2.2) && (List.range n).all fun i => decide (-128 ≤ f i) && decide (f i ≤ 127)) = true then some (some S.2.1, xadd S n (.inl (k, n, .inl f))) else none
    | _ => none
section XROWS
variable {p : Program} {l : Launch} {e : Env} {R : Room} {s : State} {m : MethodId} {args : Array Value} {below : List Frame} {meth : Method} {c : Code} {H : Heap} {locs : List Loc} {cells slots : Nat} {Q : State → Prop}
variable {cc : ByteArray} {pc nL : Nat} {ls : Array Slot} {rest : List Value} {D : va_G} {dA : Nat → ClassId} {E : Nat → Nat → Nat} {Hb : Heap} {own : String} {S : XS} {ρ α : Type} {res : ρ}
variable {x y : MethodName} {bytes : ByteArray} {maxL fr lo n idx : Nat} {ret : Option FieldType} {As st : List Value}
theorem s_clone (X : XX D dA E Hb p s m args c cc nL own) (hG : XG D dA Hb R s S H locs cells slots) (hl : ls.size = nL) {r : Option Nat} {K : Option Nat → XS → Option ρ} (hlink : Cond.methodLink own idx ⟨"[I", "clone", "()Ljava/lang/Object;"⟩ ∈ lw_all) (hsame : Cond.sameMethod "[I" "java/lang/Object" "clone" "()Ljava/lang/Object;" ∈ lw_all) (hnat : Cond.native ⟨"java/lang/Object", "clone", "()Ljava/lang/Object;"⟩ ∈ lw_all) (hinst : Cond.instanceMethod ⟨"java/lang/Object", "clone", "()Ljava/lang/Object;"⟩ ∈ lw_all)
    (hsel : Cond.selects "[I" ⟨"[I", "clone", "()Ljava/lang/Object;"⟩ ⟨"java/lang/Object", "clone", "()Ljava/lang/Object;"⟩ ∈ lw_all) (hcl : Cond.castable "[I" "java/lang/Cloneable" ∈ xnw) (h : xal (aCl (E 0 0) r) K S = some res) (d : decode cc pc = .ok (.invokevirtual idx, 3)) (hf : 1 ≤ R.frames) (hlo : 40 ≤ R.locals) (hc : (rest.map fun v => v.category).sum ≤ 8)
    (kk : ∀ (v : Option Nat) (S : XS) (H1 : Heap) (cells slots : Nat), XG D dA Hb R s S H1 locs cells slots → K v S = some res → W p l e R s m args below meth c H1 locs cells slots Q (F0 m (pc + 3) ls (va_rf v :: rest))) : W p l e R s m args below meth c H locs cells slots Q (F0 m pc ls (va_rf r :: rest)) := by
  obtain ⟨v, T, h1, h2⟩ := xal_inv h
  have hE : E 0 0 = Hb.size := X.2.2.2.2.2.2.2.2.2.2.2.2.2.2
  have hts := X.2.2.2.2.1
  rw [hE] at h1
  cases r with
  | none => cases h1
  | some a =>
    simp only [aCl] at h1
    split at h1
    · rename_i k n f hs
      split at h1
      · rename_i hcnd
        cases h1
        simp only [Bool.and_eq_true, decide_eq_true_eq, beq_iff_eq] at hcnd
        obtain ⟨⟨⟨rfl, cb⟩, c2⟩, c3⟩ := hcnd
        obtain ⟨g1, g2, g3, g4⟩ := id hG
        obtain ⟨cell, e1, e2, e3, e4, e5, e6, e7⟩ := hG.1.2.1 a _ hs
        obtain ⟨rfl, hk7⟩ := e6 cb
        have hnm : s.vm.findClass "[I" = some (dA 0) := (X.2.2.2.2.2.2.1 0 (by decide)).2
        obtain ⟨c0, t0', f1, f2, f3⟩ := Cond.castable_spec (va_Nw.use (A := args) rfl (X.2.2.2.2.2.2.2.1 _ hcl))
        cases hnm.symm.trans f1
        have hA := (X.2.2.2.2.2.2.1 0 (by decide)).1
        intro T0 hT X0
        obtain ⟨-, kA, hkA, comp, hkind⟩ := State.isArrayOf_alike X0.warmed.alike (hA 0 (fun _ => .null))
        obtain ⟨-, kS, hkS, compS, hkindS⟩ := hA 0 (fun _ => .null)
        obtain ⟨vm', X', st⟩ := X0.cloneArray X.1 X.2.2.2.1 (hts _ hlink) (hts _ hsame) (hts _ hnat) (hts _ hinst) (hts _ hsel) (a := a) (cell := arrV (dA 0) n (xel (n, .inl f))) (by rw [hT]; exact e1) (fun k h => nomatch h) (fun h => nomatch h) hnm f2 f3
          (fun i v hv => by
            have hk' : T0.vm.classes[dA 0]? = some kA := hkA
            have hi : i < n := by
              have := (Array.getElem?_eq_some_iff.mp hv).1
              simpa [arrV_size] using this
            have hv2 : v = .int (f i) := by
              rw [arrV_read _ _ hi] at hv
              exact (Option.some.inj hv).symm
            subst hv2
            simp [State.fitsSlot, State.slotType?, arrV, hk', hkind, fits, xty])
          (g := F0 m pc ls (.ref a :: rest)) rfl (hl.trans X.2.2.1.symm) rfl (by rw [X.2.1]; exact d) hf (by show 2 * 0 + _ + 14 ≤ _; omega) (by omega) (by rw [arrV_size]; omega) (hloader := Vm.clonesLoader_of_array hkS hkindS)
        have hcellE : ({ cls := (arrV (dA 0) n (xel (n, .inl f))).cls, slots := (arrV (dA 0) n (xel (n, .inl f))).slots } : Cell) = arrV (dA 0) n (xel (n, .inl f)) := rfl
        rw [arrV_size] at X'
        generalize hH1 : H.push (arrV (dA 0) n (xel (n, .inl f))) = H1
        have z1 : H1.size = H.size + 1 := by rw [← hH1, Array.size_push]
        have ee : H1[H.size]? = some (arrV (dA 0) n (xel (n, .inl f))) := by rw [← hH1, Array.getElem?_push_size]
        have o1 : ∀ q : Nat, q < H.size → H1[q]? = H[q]? := fun q hq => by rw [← hH1, Array.getElem?_push, if_neg (Nat.ne_of_lt hq)]
        have hx : xat D dA Hb.size s H.size (.inl (0, n, .inl f)) H1 := ⟨_, ee, hA _ _, (fun z => nomatch z), arrV_size _ _ _, fun j hj => arrV_read _ _ hj, fun _ => ⟨rfl, by decide⟩, fun h4 => nomatch h4⟩
        have hsz : some S.2.1 = some H.size := by rw [g1.1]
        rw [hsz] at h2
        obtain ⟨t, b1, b2⟩ := kk (some H.size) _ H1 _ _ (hG.add z1 o1 c2 c3 hx) h2 ((T0.setVm vm').pushCell (arrV (dA 0) n (xel (n, .inl f)))) (by rw [← hH1, ← hT]; rfl) X'
        refine ⟨t, st t ?_, b2⟩
        rw [hcellE, hT]
        exact b1
      · cases h1
    · cases h1
theorem s_cloneB (X : XX D dA E Hb p s m args c cc nL own) (hG : XG D dA Hb R s S H locs cells slots) (hl : ls.size = nL) {r : Option Nat} {K : Option Nat → XS → Option ρ} (hlink : Cond.methodLink own idx ⟨"[B", "clone", "()Ljava/lang/Object;"⟩ ∈ lw_all) (hsame : Cond.sameMethod "[B" "java/lang/Object" "clone" "()Ljava/lang/Object;" ∈ lw_all) (hnat : Cond.native ⟨"java/lang/Object", "clone", "()Ljava/lang/Object;"⟩ ∈ lw_all) (hinst : Cond.instanceMethod ⟨"java/lang/Object", "clone", "()Ljava/lang/Object;"⟩ ∈ lw_all)
    (hsel : Cond.selects "[B" ⟨"[B", "clone", "()Ljava/lang/Object;"⟩ ⟨"java/lang/Object", "clone", "()Ljava/lang/Object;"⟩ ∈ lw_all) (hcl : Cond.castable "[B" "java/lang/Cloneable" ∈ xnw) (h : xal (aClB (E 0 0) r) K S = some res) (d : decode cc pc = .ok (.invokevirtual idx, 3)) (hf : 1 ≤ R.frames) (hlo : 40 ≤ R.locals) (hc : (rest.map fun v => v.category).sum ≤ 8)
    (kk : ∀ (v : Option Nat) (S : XS) (H1 : Heap) (cells slots : Nat), XG D dA Hb R s S H1 locs cells slots → K v S = some res → W p l e R s m args below meth c H1 locs cells slots Q (F0 m (pc + 3) ls (va_rf v :: rest))) : W p l e R s m args below meth c H locs cells slots Q (F0 m pc ls (va_rf r :: rest)) := by
  obtain ⟨v, T, h1, h2⟩ := xal_inv h
  have hE : E 0 0 = Hb.size := X.2.2.2.2.2.2.2.2.2.2.2.2.2.2
  have hts := X.2.2.2.2.1
  rw [hE] at h1
  cases r with
  | none => cases h1
  | some a =>
    simp only [aClB] at h1
    split at h1
    · rename_i k n f hs
      split at h1
      · rename_i hcnd
        cases h1
        simp only [Bool.and_eq_true, decide_eq_true_eq, beq_iff_eq] at hcnd
        obtain ⟨⟨⟨⟨rfl, cb⟩, c2⟩, c3⟩, cby⟩ := hcnd
        obtain ⟨g1, g2, g3, g4⟩ := id hG
        obtain ⟨cell, e1, e2, e3, e4, e5, e6, e7⟩ := hG.1.2.1 a _ hs
        obtain ⟨rfl, hk7⟩ := e6 cb
        have hnm : s.vm.findClass "[B" = some (dA 1) := (X.2.2.2.2.2.2.1 1 (by decide)).2
        obtain ⟨c0, t0', f1, f2, f3⟩ := Cond.castable_spec (va_Nw.use (A := args) rfl (X.2.2.2.2.2.2.2.1 _ hcl))
        cases hnm.symm.trans f1
        have hA := (X.2.2.2.2.2.2.1 1 (by decide)).1
        intro T0 hT X0
        obtain ⟨-, kA, hkA, comp, hkind⟩ := State.isArrayOf_alike X0.warmed.alike (hA 0 (fun _ => .null))
        obtain ⟨-, kS, hkS, compS, hkindS⟩ := hA 0 (fun _ => .null)
        obtain ⟨vm', X', st⟩ := X0.cloneArray X.1 X.2.2.2.1 (hts _ hlink) (hts _ hsame) (hts _ hnat) (hts _ hinst) (hts _ hsel) (a := a) (cell := arrV (dA 1) n (xel (n, .inl f))) (by rw [hT]; exact e1) (fun k h => nomatch h) (fun h => nomatch h) hnm f2 f3
          (fun i v hv => by
            have hk' : T0.vm.classes[dA 1]? = some kA := hkA
            have hi : i < n := by
              have := (Array.getElem?_eq_some_iff.mp hv).1
              simpa [arrV_size] using this
            have hv2 : v = .int (f i) := by
              rw [arrV_read _ _ hi] at hv
              exact (Option.some.inj hv).symm
            subst hv2
            have h9 := List.all_eq_true.mp cby i (List.mem_range.mpr hi)
            simp only [Bool.and_eq_true, decide_eq_true_eq] at h9
            simp [State.fitsSlot, State.slotType?, arrV, hk', hkind, fits, xty, h9.1, h9.2])
          (g := F0 m pc ls (.ref a :: rest)) rfl (hl.trans X.2.2.1.symm) rfl (by rw [X.2.1]; exact d) hf (by show 2 * 0 + _ + 14 ≤ _; omega) (by omega) (by rw [arrV_size]; omega) (hloader := Vm.clonesLoader_of_array hkS hkindS)
        have hcellE : ({ cls := (arrV (dA 1) n (xel (n, .inl f))).cls, slots := (arrV (dA 1) n (xel (n, .inl f))).slots } : Cell) = arrV (dA 1) n (xel (n, .inl f)) := rfl
        rw [arrV_size] at X'
        generalize hH1 : H.push (arrV (dA 1) n (xel (n, .inl f))) = H1
        have z1 : H1.size = H.size + 1 := by rw [← hH1, Array.size_push]
        have ee : H1[H.size]? = some (arrV (dA 1) n (xel (n, .inl f))) := by rw [← hH1, Array.getElem?_push_size]
        have o1 : ∀ q : Nat, q < H.size → H1[q]? = H[q]? := fun q hq => by rw [← hH1, Array.getElem?_push, if_neg (Nat.ne_of_lt hq)]
        have hx : xat D dA Hb.size s H.size (.inl (1, n, .inl f)) H1 := ⟨_, ee, hA _ _, (fun z => nomatch z), arrV_size _ _ _, fun j hj => arrV_read _ _ hj, fun _ => ⟨rfl, by decide⟩, fun h4 => nomatch h4⟩
        have hsz : some S.2.1 = some H.size := by rw [g1.1]
        rw [hsz] at h2
        obtain ⟨t, b1, b2⟩ := kk (some H.size) _ H1 _ _ (hG.add z1 o1 c2 c3 hx) h2 ((T0.setVm vm').pushCell (arrV (dA 1) n (xel (n, .inl f)))) (by rw [← hH1, ← hT]; rfl) X'
        refine ⟨t, st t ?_, b2⟩
        rw [hcellE, hT]
        exact b1
      · cases h1
    · cases h1
theorem s_getC (X : XX D dA E Hb p s m args c cc nL own) (hG : XG D dA Hb R s S H locs cells slots) (hl : ls.size = nL) {r : Option Nat} {K : Option Nat → XS → Option ρ} (hlink : Cond.methodLink own idx ⟨"java/lang/Object", "getClass", "()Ljava/lang/Class;"⟩ ∈ lw_all) (hsel : Cond.selects "[Ljava/lang/Object;" ⟨"java/lang/Object", "getClass", "()Ljava/lang/Class;"⟩ ⟨"java/lang/Object", "getClass", "()Ljava/lang/Class;"⟩ ∈ lw_all) (hinst : Cond.instanceMethod ⟨"java/lang/Object", "getClass", "()Ljava/lang/Class;"⟩ ∈ lw_all) (hnat : Cond.native ⟨"java/lang/Object", "getClass", "()Ljava/lang/Class;"⟩ ∈ lw_all)
    (h : xrd (qG E r) K S = some res) (d : decode cc pc = .ok (.invokevirtual idx, 3)) (hf : 1 ≤ R.frames) (hlo : 40 ≤ R.locals) (hc : (rest.map fun v => v.category).sum ≤ 8)
    (kk : ∀ v, K v S = some res → W p l e R s m args below meth c H locs cells slots Q (F0 m (pc + 3) ls (va_rf v :: rest))) : W p l e R s m args below meth c H locs cells slots Q (F0 m pc ls (va_rf r :: rest)) := by
  obtain ⟨v, h1, h2⟩ := xrd_inv h
  have hts := X.2.2.2.2.1
  have hU := X.2.2.2.2.2
  cases r with
  | none => cases h1
  | some a =>
    simp only [qG] at h1
    split at h1
    · rename_i k x hs
      split at h1
      · rename_i hk
        have hk4 : k = 4 := by simpa using hk
        subst hk4
        cases h1
        obtain ⟨cell, e1, ⟨hobj, -⟩, e3, e4, e5, e6, e7⟩ := hG.1.2.1 a _ hs
        have hst : cell.vm.isStatics = false := by
          cases hvm : cell.vm <;> first | rfl | exact absurd hvm (hobj _)
        have hnm : s.vm.findClass "[Ljava/lang/Object;" = some (dA 4) := xra_name (hU.2.1 4 (by decide)).2
        exact va_getC X.1 X.2.1 (X.2.2.1.trans hl.symm) X.2.2.2.1 (hts _ hlink) (va_Dc.use hU.2.2.2.2.2.2.2.2.1.1) (hts _ hsel) (hts _ hinst) (hts _ hnat) (hU.2.2.2.2.2.2.2.1 ("[Ljava/lang/Object;", 0) (by simp [xmir])) ⟨cell, e1, hst, by rw [e7 rfl]; exact hnm⟩ hf (by omega) d (kk _ h2)
      · cases h1
    · cases h1
theorem s_getCI (X : XX D dA E Hb p s m args c cc nL own) (hG : XG D dA Hb R s S H locs cells slots) (hl : ls.size = nL) {r : Option Nat} {count : Nat} {K : Option Nat → XS → Option ρ} (hlink : Cond.methodLink own idx ⟨"java/util/Collection", "getClass", "()Ljava/lang/Class;"⟩ ∈ lw_all) (hsel : Cond.selects "java/util/ArrayList" ⟨"java/lang/Object", "getClass", "()Ljava/lang/Class;"⟩ ⟨"java/lang/Object", "getClass", "()Ljava/lang/Class;"⟩ ∈ lw_all) (hinst : Cond.instanceMethod ⟨"java/lang/Object", "getClass", "()Ljava/lang/Class;"⟩ ∈ lw_all) (hnat : Cond.native ⟨"java/lang/Object", "getClass", "()Ljava/lang/Class;"⟩ ∈ lw_all) (hcast : Cond.castable "java/util/ArrayList" "java/util/Collection" ∈ xnw)
    (h : xrd (qGI E r) K S = some res) (d : decode cc pc = .ok (.invokeinterface idx count, 5)) (hf : 1 ≤ R.frames) (hlo : 40 ≤ R.locals) (hc : (rest.map fun v => v.category).sum ≤ 8)
    (kk : ∀ v, K v S = some res → W p l e R s m args below meth c H locs cells slots Q (F0 m (pc + 5) ls (va_rf v :: rest))) : W p l e R s m args below meth c H locs cells slots Q (F0 m pc ls (va_rf r :: rest)) := by
  obtain ⟨v, h1, h2⟩ := xrd_inv h
  have hts := X.2.2.2.2.1
  have hU := X.2.2.2.2.2
  cases r with
  | none => cases h1
  | some a =>
    simp only [qGI] at h1
    split at h1
    · rename_i ci fs hs
      split at h1
      · rename_i hk
        have hk4 : ci = 11 := by simpa using hk
        subst hk4
        cases h1
        obtain ⟨q, cell, kB, b1, b2, b3, b4, b5⟩ := xrecv X hG hs
        have e : xcl[11]? = some (RJ2, TJ2, 3) := rfl
        cases e.symm.trans b1
        obtain ⟨c0, k0, m1, m2, m3⟩ := hU.2.2.2.2.2.2.2.1 ("java/util/ArrayList", 1) (by simp [xmir])
        cases m1.symm.trans b4
        have hg := hU.2.2.2.2.2.2.2.2.1.2.2.1
        have hif : (Cond.interfaceMethod "java/util/Collection" "java/lang/Object" "getClass" "()Ljava/lang/Class;").before args s = true := va_any rfl (hg _ (by simp [xgc]))
        have hsel2 : (Cond.selects "java/util/ArrayList" ⟨"java/util/Collection", "getClass", "()Ljava/lang/Class;"⟩ ⟨"java/lang/Object", "getClass", "()Ljava/lang/Class;"⟩).before args s = true := by
          have h1 := hts _ hsel
          obtain ⟨cL, kL, r1, hcL, hkL, hiL, hfoundL, hn1⟩ := Cond.interfaceMethod_spec hif
          have hf2 : s.methodFound? "java/lang/Object" "getClass" "()Ljava/lang/Class;" = some r1 := State.methodFound?_of_named hn1 (by decide)
          simp only [Cond.before, Cond.holds, Cond.value] at h1 ⊢
          rw [hf2] at h1
          rw [hfoundL]
          exact h1
        intro T0 hT X0
        obtain ⟨vm', X', st⟩ := X0.getClassOfI X.1 X.2.2.2.1 (hts _ hlink) (va_Dc.use hU.2.2.2.2.2.2.2.2.1.1) hif hsel2 (hts _ hinst) (va_any rfl (hg (.publicMethod ⟨"java/lang/Object", "getClass", "()Ljava/lang/Class;"⟩) (by simp [xgc]))) (va_any rfl (hg (.unhidden "java/util/ArrayList" "getClass" "()Ljava/lang/Class;") (by simp [xgc]))) (va_Nw.use rfl (hU.2.2.1 _ hcast)) (hts _ hnat) (by decide) (by decide) rfl rfl m1 m2 ⟨cell, by rw [hT]; exact b2, rfl, b3⟩ m3 (g := F0 m pc ls (.ref a :: rest)) rfl (hl.trans X.2.2.1.symm) rfl (by rw [X.2.1]; exact d) hf (by show 2 * 0 + _ + _ ≤ _; have hw : nativeFrameWords "java/lang/Object" "getClass" 1 = 3 := (by decide); omega)
        obtain ⟨t, a1, b1⟩ := kk _ h2 (T0.setVm vm') hT X'
        exact ⟨t, st t a1, b1⟩
      · cases h1
    · cases h1
theorem s_callU (X : XX D dA E Hb p s m args c cc nL own) (hG : XG D dA Hb R s S H locs cells slots) (hl : ls.size = nL) {rr : Option Nat} {cs : List Nat} {owner : String} {f : Nat → XS → Option (α × XS)} {rv : α → Option Value} {K : α → XS → Option ρ} (C : XCU own idx cs owner x y bytes maxL ret n) (h : xrd (qV rr cs) (fun a => xal (f a) K) S = some res)
    (hM : ∀ a v T, f a S = some (v, T) → MB l y (ws_ y bytes maxL ret) fr lo D dA E Hb (.ref a :: As) S (rv v) T) (hst : st = As.reverse ++ va_rf rr :: rest) (hn : As.length = n) (hR : fr + 1 ≤ R.frames ∧ 8 + (maxL + 11) + lo ≤ R.locals) (hc : (rest.map fun v => v.category).sum ≤ 8) (d : decode cc pc = .ok (.invokevirtual idx, 3))
    (kk : ∀ (v : α) (S : XS) (H1 : Heap) (locs1 : List Loc) (cells slots : Nat), XG D dA Hb R s S H1 locs1 cells slots → K v S = some res → W p l e R s m args below meth c H1 locs1 cells slots Q (F0 m (pc + 3) ls ((rv v).toList ++ rest))) : W p l e R s m args below meth c H locs cells slots Q (F0 m pc ls st) := by
  obtain ⟨a, h1, h2⟩ := xrd_inv h
  obtain ⟨v, T, h3, h4⟩ := xal_inv h2
  obtain ⟨ci, fs, rfl, hs, hci⟩ := qV_inv h1
  obtain ⟨q, cell, kB, b1, b2, b3, b4, b5⟩ := xrecv X hG hs
  obtain ⟨c1, c2, c3, c4, c5, c6, c7, c8, c9⟩ := C
  subst hn
  have hts := X.2.2.2.2.1
  refine xRun.go (a := (Value.ref a :: As).toArray) (T := T) (r := rv v) (S := S) ?_ hG (fun H1 locs1 cells slots g => kk v T H1 locs1 cells slots g h4)
  intro T0 hT X0
  have hK := xback (p := p) (e := e) (below := below) (len := 3) (hM a v T h3) hts c6 c7 hR
  exact va_callVU X0 X.1 X.2.2.2.1 (hts _ c1) (hts _ c2) (c3.elim (fun c3 => va_Decl.abs (X.2.2.2.2.2.2.2.1 _ c3)) (fun ⟨c3, b, m, r, c3'⟩ => va_Decl.of (hts _ c3) (hts _ c3'))) c4 (hts _ (c9 ci hci q b1)) (hts _ c5) (hts _ c6) hK (by rw [hT]; exact b2) b3 b4 rfl (hl.trans X.2.2.1.symm) (xlen c8) hst (lv_room hc) (by rw [X.2.1]; exact d) (fun vm₁ hW => xpre_at X hG hT hW)
theorem s_callF (X : XX D dA E Hb p s m args c cc nL own) (hG : XG D dA Hb R s S H locs cells slots) (hl : ls.size = nL) {rr : Option Nat} {cs : List Nat} {count : Nat} {f : Nat → XS → Option (α × XS)} {rv : α → Option Value} {K : α → XS → Option ρ} (C : XCF own idx cs x y bytes maxL ret n) (h : xrd (qV rr cs) (fun a => xal (f a) K) S = some res)
    (hM : ∀ a v T, f a S = some (v, T) → MB l y (ws_ y bytes maxL ret) fr lo D dA E Hb (.ref a :: As) S (rv v) T) (hst : st = As.reverse ++ va_rf rr :: rest) (hn : As.length = n) (hR : fr + 1 ≤ R.frames ∧ 8 + (maxL + 11) + lo ≤ R.locals) (hc : (rest.map fun v => v.category).sum ≤ 8) (d : decode cc pc = .ok (.invokeinterface idx count, 5))
    (kk : ∀ (v : α) (S : XS) (H1 : Heap) (locs1 : List Loc) (cells slots : Nat), XG D dA Hb R s S H1 locs1 cells slots → K v S = some res → W p l e R s m args below meth c H1 locs1 cells slots Q (F0 m (pc + 5) ls ((rv v).toList ++ rest))) : W p l e R s m args below meth c H locs cells slots Q (F0 m pc ls st) := by
  obtain ⟨a, h1, h2⟩ := xrd_inv h
  obtain ⟨v, T, h3, h4⟩ := xal_inv h2
  obtain ⟨ci, fs, rfl, hs, hci⟩ := qV_inv h1
  obtain ⟨q, cell, kB, b1, b2, b3, b4, b5⟩ := xrecv X hG hs
  obtain ⟨c1, c2, c3, c4, c5, c6, c7⟩ := C
  obtain ⟨c8, c9⟩ := c7 ci hci q b1
  subst hn
  have hts := X.2.2.2.2.1
  obtain ⟨w1, w2, w3, w4, w5⟩ := X.2.2.2.2.2.2.2.2.2.1 _ c9
  refine xRun.go (a := (Value.ref a :: As).toArray) (T := T) (r := rv v) (S := S) ?_ hG (fun H1 locs1 cells slots g => kk v T H1 locs1 cells slots g h4)
  intro T0 hT X0
  have hK := xback (p := p) (e := e) (below := below) (len := 5) (hM a v T h3) hts c4 c5 hR
  exact va_callIF X0 X.1 X.2.2.2.1 (hts _ c1) (va_any rfl w1) (va_any rfl w2) (hts _ c8) (hts _ c3) (va_any rfl w3) (va_any rfl w4) (va_any rfl w5) (hts _ c4) c2 hK (by rw [hT]; exact b2) b3 b4 b5 rfl (hl.trans X.2.2.1.symm) (xlen c6) hst (lv_room hc) (by rw [X.2.1]; exact d) (fun vm₁ hW => xpre_at X hG hT hW)
theorem s_callP (X : XX D dA E Hb p s m args c cc nL own) (hG : XG D dA Hb R s S H locs cells slots) (hl : ls.size = nL) {rr : Option Nat} {cs : List Nat} {f : Nat → XS → Option (α × XS)} {rv : α → Option Value} {K : α → XS → Option ρ} (C : XCP own idx y bytes maxL ret n) (h : xrd (qV rr cs) (fun a => xal (f a) K) S = some res)
    (hM : ∀ a v T, f a S = some (v, T) → MB l y (ws_ y bytes maxL ret) fr lo D dA E Hb (.ref a :: As) S (rv v) T) (hst : st = As.reverse ++ va_rf rr :: rest) (hn : As.length = n) (hR : fr + 1 ≤ R.frames ∧ 8 + (maxL + 11) + lo ≤ R.locals) (hc : (rest.map fun v => v.category).sum ≤ 8) (d : decode cc pc = .ok (.invokespecial idx, 3))
    (kk : ∀ (v : α) (S : XS) (H1 : Heap) (locs1 : List Loc) (cells slots : Nat), XG D dA Hb R s S H1 locs1 cells slots → K v S = some res → W p l e R s m args below meth c H1 locs1 cells slots Q (F0 m (pc + 3) ls ((rv v).toList ++ rest))) : W p l e R s m args below meth c H locs cells slots Q (F0 m pc ls st) := by
  obtain ⟨a, h1, h2⟩ := xrd_inv h
  obtain ⟨v, T, h3, h4⟩ := xal_inv h2
  obtain ⟨ci, fs, rfl, hs, hci⟩ := qV_inv h1
  obtain ⟨q, cell, kB, b1, b2, b3, b4, b5⟩ := xrecv X hG hs
  obtain ⟨c1, c2, c3, c4, c5, c6, c7, c8⟩ := C
  subst hn
  have hts := X.2.2.2.2.1
  refine xRun.go (a := (Value.ref a :: As).toArray) (T := T) (r := rv v) (S := S) ?_ hG (fun H1 locs1 cells slots g => kk v T H1 locs1 cells slots g h4)
  intro T0 hT X0
  have hK := xback (p := p) (e := e) (below := below) (len := 3) (hM a v T h3) hts c5 c6 hR
  exact va_callSU X0 X.1 X.2.2.2.1 (hts _ c1) (hts _ c2) (hts _ c3) (hts _ c4) (hts _ c5) c7 hK (by rw [hT]; exact b2) b3 b5 rfl (hl.trans X.2.2.1.symm) (xlen c8) hst (lv_room hc) (by rw [X.2.1]; exact d) (fun vm₁ hW => xpre_at X hG hT hW)
theorem s_callUi (X : XX D dA E Hb p s m args c cc nL own) (hG : XG D dA Hb R s S H locs cells slots) (hl : ls.size = nL) {rr : Option Nat} {cs : List Nat} {owner : String} {f : Nat → XS → Option (Int32 × XS)} {K : Int32 → XS → Option ρ} (C : XCU own idx cs owner x y bytes maxL ret n) (h : xrd (qV rr cs) (fun a => xal (f a) K) S = some res)
    (hM : ∀ a v T, f a S = some (v, T) → MB l y (ws_ y bytes maxL ret) fr lo D dA E Hb (.ref a :: As) S (some (.int v)) T) (hst : st = As.reverse ++ va_rf rr :: rest) (hn : As.length = n) (hR : fr + 1 ≤ R.frames ∧ 8 + (maxL + 11) + lo ≤ R.locals) (hc : (rest.map fun v => v.category).sum ≤ 8) (d : decode cc pc = .ok (.invokevirtual idx, 3))
    (kk : ∀ (v : Int32) (S : XS) (H1 : Heap) (locs1 : List Loc) (cells slots : Nat), XG D dA Hb R s S H1 locs1 cells slots → K v S = some res → W p l e R s m args below meth c H1 locs1 cells slots Q (F0 m (pc + 3) ls (.int v :: rest))) : W p l e R s m args below meth c H locs cells slots Q (F0 m pc ls st) :=
  s_callU (rv := fun v => some (.int v)) X hG hl C h hM hst hn hR hc d kk
theorem s_callUr (X : XX D dA E Hb p s m args c cc nL own) (hG : XG D dA Hb R s S H locs cells slots) (hl : ls.size = nL) {rr : Option Nat} {cs : List Nat} {owner : String} {f : Nat → XS → Option (Option Nat × XS)} {K : Option Nat → XS → Option ρ} (C : XCU own idx cs owner x y bytes maxL ret n) (h : xrd (qV rr cs) (fun a => xal (f a) K) S = some res)
    (hM : ∀ a v T, f a S = some (v, T) → MB l y (ws_ y bytes maxL ret) fr lo D dA E Hb (.ref a :: As) S (some (va_rf v)) T) (hst : st = As.reverse ++ va_rf rr :: rest) (hn : As.length = n) (hR : fr + 1 ≤ R.frames ∧ 8 + (maxL + 11) + lo ≤ R.locals) (hc : (rest.map fun v => v.category).sum ≤ 8) (d : decode cc pc = .ok (.invokevirtual idx, 3))
    (kk : ∀ (v : Option Nat) (S : XS) (H1 : Heap) (locs1 : List Loc) (cells slots : Nat), XG D dA Hb R s S H1 locs1 cells slots → K v S = some res → W p l e R s m args below meth c H1 locs1 cells slots Q (F0 m (pc + 3) ls (va_rf v :: rest))) : W p l e R s m args below meth c H locs cells slots Q (F0 m pc ls st) :=
  s_callU (rv := fun v => some (va_rf v)) X hG hl C h hM hst hn hR hc d kk
theorem s_callUv (X : XX D dA E Hb p s m args c cc nL own) (hG : XG D dA Hb R s S H locs cells slots) (hl : ls.size = nL) {rr : Option Nat} {cs : List Nat} {owner : String} {f : Nat → XS → Option (Unit × XS)} {K : Unit → XS → Option ρ} (C : XCU own idx cs owner x y bytes maxL ret n) (h : xrd (qV rr cs) (fun a => xal (f a) K) S = some res)
    (hM : ∀ a v T, f a S = some (v, T) → MB l y (ws_ y bytes maxL ret) fr lo D dA E Hb (.ref a :: As) S (none) T) (hst : st = As.reverse ++ va_rf rr :: rest) (hn : As.length = n) (hR : fr + 1 ≤ R.frames ∧ 8 + (maxL + 11) + lo ≤ R.locals) (hc : (rest.map fun v => v.category).sum ≤ 8) (d : decode cc pc = .ok (.invokevirtual idx, 3))
    (kk : ∀ (S : XS) (H1 : Heap) (locs1 : List Loc) (cells slots : Nat), XG D dA Hb R s S H1 locs1 cells slots → K () S = some res → W p l e R s m args below meth c H1 locs1 cells slots Q (F0 m (pc + 3) ls rest)) : W p l e R s m args below meth c H locs cells slots Q (F0 m pc ls st) :=
  s_callU (rv := fun _ => none) X hG hl C h hM hst hn hR hc d (fun _ => kk)
theorem s_callFi (X : XX D dA E Hb p s m args c cc nL own) (hG : XG D dA Hb R s S H locs cells slots) (hl : ls.size = nL) {rr : Option Nat} {cs : List Nat} {count : Nat} {f : Nat → XS → Option (Int32 × XS)} {K : Int32 → XS → Option ρ} (C : XCF own idx cs x y bytes maxL ret n) (h : xrd (qV rr cs) (fun a => xal (f a) K) S = some res)
    (hM : ∀ a v T, f a S = some (v, T) → MB l y (ws_ y bytes maxL ret) fr lo D dA E Hb (.ref a :: As) S (some (.int v)) T) (hst : st = As.reverse ++ va_rf rr :: rest) (hn : As.length = n) (hR : fr + 1 ≤ R.frames ∧ 8 + (maxL + 11) + lo ≤ R.locals) (hc : (rest.map fun v => v.category).sum ≤ 8) (d : decode cc pc = .ok (.invokeinterface idx count, 5))
    (kk : ∀ (v : Int32) (S : XS) (H1 : Heap) (locs1 : List Loc) (cells slots : Nat), XG D dA Hb R s S H1 locs1 cells slots → K v S = some res → W p l e R s m args below meth c H1 locs1 cells slots Q (F0 m (pc + 5) ls (.int v :: rest))) : W p l e R s m args below meth c H locs cells slots Q (F0 m pc ls st) :=
  s_callF (rv := fun v => some (.int v)) X hG hl C h hM hst hn hR hc d kk
theorem s_callFr (X : XX D dA E Hb p s m args c cc nL own) (hG : XG D dA Hb R s S H locs cells slots) (hl : ls.size = nL) {rr : Option Nat} {cs : List Nat} {count : Nat} {f : Nat → XS → Option (Option Nat × XS)} {K : Option Nat → XS → Option ρ} (C : XCF own idx cs x y bytes maxL ret n) (h : xrd (qV rr cs) (fun a => xal (f a) K) S = some res)
    (hM : ∀ a v T, f a S = some (v, T) → MB l y (ws_ y bytes maxL ret) fr lo D dA E Hb (.ref a :: As) S (some (va_rf v)) T) (hst : st = As.reverse ++ va_rf rr :: rest) (hn : As.length = n) (hR : fr + 1 ≤ R.frames ∧ 8 + (maxL + 11) + lo ≤ R.locals) (hc : (rest.map fun v => v.category).sum ≤ 8) (d : decode cc pc = .ok (.invokeinterface idx count, 5))
    (kk : ∀ (v : Option Nat) (S : XS) (H1 : Heap) (locs1 : List Loc) (cells slots : Nat), XG D dA Hb R s S H1 locs1 cells slots → K v S = some res → W p l e R s m args below meth c H1 locs1 cells slots Q (F0 m (pc + 5) ls (va_rf v :: rest))) : W p l e R s m args below meth c H locs cells slots Q (F0 m pc ls st) :=
  s_callF (rv := fun v => some (va_rf v)) X hG hl C h hM hst hn hR hc d kk
theorem s_callFv (X : XX D dA E Hb p s m args c cc nL own) (hG : XG D dA Hb R s S H locs cells slots) (hl : ls.size = nL) {rr : Option Nat} {cs : List Nat} {count : Nat} {f : Nat → XS → Option (Unit × XS)} {K : Unit → XS → Option ρ} (C : XCF own idx cs x y bytes maxL ret n) (h : xrd (qV rr cs) (fun a => xal (f a) K) S = some res)
    (hM : ∀ a v T, f a S = some (v, T) → MB l y (ws_ y bytes maxL ret) fr lo D dA E Hb (.ref a :: As) S (none) T) (hst : st = As.reverse ++ va_rf rr :: rest) (hn : As.length = n) (hR : fr + 1 ≤ R.frames ∧ 8 + (maxL + 11) + lo ≤ R.locals) (hc : (rest.map fun v => v.category).sum ≤ 8) (d : decode cc pc = .ok (.invokeinterface idx count, 5))
    (kk : ∀ (S : XS) (H1 : Heap) (locs1 : List Loc) (cells slots : Nat), XG D dA Hb R s S H1 locs1 cells slots → K () S = some res → W p l e R s m args below meth c H1 locs1 cells slots Q (F0 m (pc + 5) ls rest)) : W p l e R s m args below meth c H locs cells slots Q (F0 m pc ls st) :=
  s_callF (rv := fun _ => none) X hG hl C h hM hst hn hR hc d (fun _ => kk)
theorem s_callPi (X : XX D dA E Hb p s m args c cc nL own) (hG : XG D dA Hb R s S H locs cells slots) (hl : ls.size = nL) {rr : Option Nat} {cs : List Nat} {f : Nat → XS → Option (Int32 × XS)} {K : Int32 → XS → Option ρ} (C : XCP own idx y bytes maxL ret n) (h : xrd (qV rr cs) (fun a => xal (f a) K) S = some res)
    (hM : ∀ a v T, f a S = some (v, T) → MB l y (ws_ y bytes maxL ret) fr lo D dA E Hb (.ref a :: As) S (some (.int v)) T) (hst : st = As.reverse ++ va_rf rr :: rest) (hn : As.length = n) (hR : fr + 1 ≤ R.frames ∧ 8 + (maxL + 11) + lo ≤ R.locals) (hc : (rest.map fun v => v.category).sum ≤ 8) (d : decode cc pc = .ok (.invokespecial idx, 3))
    (kk : ∀ (v : Int32) (S : XS) (H1 : Heap) (locs1 : List Loc) (cells slots : Nat), XG D dA Hb R s S H1 locs1 cells slots → K v S = some res → W p l e R s m args below meth c H1 locs1 cells slots Q (F0 m (pc + 3) ls (.int v :: rest))) : W p l e R s m args below meth c H locs cells slots Q (F0 m pc ls st) :=
  s_callP (rv := fun v => some (.int v)) X hG hl C h hM hst hn hR hc d kk
theorem s_callPr (X : XX D dA E Hb p s m args c cc nL own) (hG : XG D dA Hb R s S H locs cells slots) (hl : ls.size = nL) {rr : Option Nat} {cs : List Nat} {f : Nat → XS → Option (Option Nat × XS)} {K : Option Nat → XS → Option ρ} (C : XCP own idx y bytes maxL ret n) (h : xrd (qV rr cs) (fun a => xal (f a) K) S = some res)
    (hM : ∀ a v T, f a S = some (v, T) → MB l y (ws_ y bytes maxL ret) fr lo D dA E Hb (.ref a :: As) S (some (va_rf v)) T) (hst : st = As.reverse ++ va_rf rr :: rest) (hn : As.length = n) (hR : fr + 1 ≤ R.frames ∧ 8 + (maxL + 11) + lo ≤ R.locals) (hc : (rest.map fun v => v.category).sum ≤ 8) (d : decode cc pc = .ok (.invokespecial idx, 3))
    (kk : ∀ (v : Option Nat) (S : XS) (H1 : Heap) (locs1 : List Loc) (cells slots : Nat), XG D dA Hb R s S H1 locs1 cells slots → K v S = some res → W p l e R s m args below meth c H1 locs1 cells slots Q (F0 m (pc + 3) ls (va_rf v :: rest))) : W p l e R s m args below meth c H locs cells slots Q (F0 m pc ls st) :=
  s_callP (rv := fun v => some (va_rf v)) X hG hl C h hM hst hn hR hc d kk
theorem s_callPv (X : XX D dA E Hb p s m args c cc nL own) (hG : XG D dA Hb R s S H locs cells slots) (hl : ls.size = nL) {rr : Option Nat} {cs : List Nat} {f : Nat → XS → Option (Unit × XS)} {K : Unit → XS → Option ρ} (C : XCP own idx y bytes maxL ret n) (h : xrd (qV rr cs) (fun a => xal (f a) K) S = some res)
    (hM : ∀ a v T, f a S = some (v, T) → MB l y (ws_ y bytes maxL ret) fr lo D dA E Hb (.ref a :: As) S (none) T) (hst : st = As.reverse ++ va_rf rr :: rest) (hn : As.length = n) (hR : fr + 1 ≤ R.frames ∧ 8 + (maxL + 11) + lo ≤ R.locals) (hc : (rest.map fun v => v.category).sum ≤ 8) (d : decode cc pc = .ok (.invokespecial idx, 3))
    (kk : ∀ (S : XS) (H1 : Heap) (locs1 : List Loc) (cells slots : Nat), XG D dA Hb R s S H1 locs1 cells slots → K () S = some res → W p l e R s m args below meth c H1 locs1 cells slots Q (F0 m (pc + 3) ls rest)) : W p l e R s m args below meth c H locs cells slots Q (F0 m pc ls st) :=
  s_callP (rv := fun _ => none) X hG hl C h hM hst hn hR hc d (fun _ => kk)
end XROWS

set_option maxRecDepth 100000
section XCALLS
variable {p : Program} {l : Launch} {e : Env} {R : Room} {s : State} {m : MethodId} {args : Array Value} {below : List Frame} {meth : Method} {c : Code} {H : Heap} {locs : List Loc} {cells slots : Nat} {Q : State → Prop}
variable {cc : ByteArray} {pc nL : Nat} {ls : Array Slot} {rest : List Value} {D : va_G} {dA : Nat → ClassId} {E : Nat → Nat → Nat} {Hb : Heap} {own : String} {S : XS} {ρ α : Type} {res : ρ}
variable {y : MethodName} {bytes : ByteArray} {maxL fr lo n idx : Nat} {ret : Option FieldType} {av As st : List Value} {r : Option Value} {T : XS}
def xPre (D : va_G) (dA : Nat → ClassId) (E : Nat → Nat → Nat) (Hb : Heap) (R : Room) (av : List Value) (S : XS) : Pt → Array Value → Prop := fun A a => A.cells + S.2.2.1 ≤ R.cells ∧ A.slots + S.2.2.2 ≤ R.slots ∧ a = av.toArray ∧ XU D dA E Hb A.U ∧ XR D dA Hb A.U S A.U.heap
def xPost (D : va_G) (dA : Nat → ClassId) (Hb : Heap) (S : XS) (r : Option Value) (T : XS) : Pt → Array Value → Option Value → Pt → Prop := fun A _ v B => v = r ∧ ∃ (t : State) (L : List Loc) (k n : Nat), B.U.heap = t.heap ∧ B.U.vm = t.vm ∧ XR D dA Hb t T t.heap ∧ B.locs = A.locs ++ L ∧ (∀ q ∈ L, Hb.size ≤ q.base) ∧ B.cells = A.cells + k ∧ k + T.2.2.1 = S.2.2.1 ∧ B.slots = A.slots + n ∧ n + T.2.2.2 = S.2.2.2
theorem xback {len : Nat} (hM : MB l y (ws_ y bytes maxL ret) fr lo D dA E Hb av S r T) (hts : ∀ w ∈ lw_all, w.before args s = true) (hcode : Cond.code y bytes maxL ret ∈ lw_all) (hini : Cond.initialized y.cls ∈ lw_all) (hR : fr + 1 ≤ R.frames ∧ 8 + (maxL + 11) + lo ≤ R.locals) :
    Back l R p e below s args y len 8 (xPre D dA E Hb R av S) (xPost D dA Hb S r T) := by
  have hws : ∀ w ∈ ws_ y bytes maxL ret, ∀ (a' : Array Value) (U : State), s.WarmedH U.vm → w.before a' U = true := fun w hw a' U hW => by
    have hw' := lw_meth hcode w hw
    exact word_at hW hw'.2 (hts _ hw'.1)
  refine Back.of_free (bytes := bytes) (maxL := maxL) (ret := ret) (E := fun _ _ _ _ L k n => k + T.2.2.1 = S.2.2.1 ∧ n + T.2.2.2 = S.2.2.2 ∧ ∀ q ∈ L, Hb.size ≤ q.base) hM hR.1 hR.2 ?_ ?_ (fun _ _ _ _ _ _ _ _ _ => trivial) ?_ ?_
  · intro m meth c A a X hp
    exact ⟨atoms_intro fun w hw => hws w hw _ _ X.warmed, hws _ List.mem_cons_self _ _ X.warmed, word_at X.warmed (lw_self _ hini).2 (hts _ hini), hp.1, hp.2.1⟩
  · intro m meth c A a g mk X hp
    exact ⟨hp.2.2.1, XU.same (s := A.U) (U := A.U.calling g mk a) rfl hp.2.2.2.1, XR.alike (u := A.U) (U := A.U.calling g mk a) (Vm.Alike.refl A.U.vm) hp.2.2.2.2⟩
  · rintro a st o t ⟨hq, L, k, n, hF, h1, h2, h3⟩
    exact ⟨L, k, n, hF, h1, h2, h3⟩
  · rintro m meth c A a g mk v t L k n X hp ⟨⟨hv, hX⟩, -⟩ hF ⟨h1, h2, h3⟩
    cases hv
    exact ⟨rfl, t, L, k, n, rfl, rfl, hX, rfl, h3, rfl, h1, rfl, h2⟩
/-- a call that comes back -/
def xRun (p : Program) (l : Launch) (e : Env) (R : Room) (s : State) (m : MethodId) (args : Array Value) (below : List Frame) (meth : Method) (c : Code) (H : Heap) (locs : List Loc) (cells slots len : Nat) (g : JFrame) (rest : List Value) (a : Array Value) (Post : Pt → Array Value → Option Value → Pt → Prop) : Prop :=
  ∀ T : State, T.heap = H → Stand p l e R s m args below meth c T locs cells slots → ∃ (v : Option Value) (vm₁ : Vm) (B : Pt), s.WarmedH vm₁ ∧ Stand p l e R s m args below meth c B.U B.locs B.cells B.slots ∧ Post ⟨T.setVm vm₁, locs, cells, slots⟩ a v B ∧
    ∀ target, Steps p.tables e below (B.U.setTop { g with pc := g.pc + len, stack := v.toList ++ rest }) target → Steps p.tables e below (T.setTop g) target
theorem xRun.go {len : Nat} {a : Array Value} (hr : xRun p l e R s m args below meth c H locs cells slots len (F0 m pc ls st) rest a (xPost D dA Hb S r T)) (hG : XG D dA Hb R s S H locs cells slots)
    (kk : ∀ (H1 : Heap) (locs1 : List Loc) (cells slots : Nat), XG D dA Hb R s T H1 locs1 cells slots → W p l e R s m args below meth c H1 locs1 cells slots Q (F0 m (pc + len) ls (r.toList ++ rest))) : W p l e R s m args below meth c H locs cells slots Q (F0 m pc ls st) := by
  intro T0 hT X
  obtain ⟨v, vm₁, B, hW, X', ⟨rfl, t, L, k, n, e1, e2, hX, e3, hL, e4, e5, e6, e7⟩, go⟩ := hr T0 hT X
  obtain ⟨g1, g2, g3, g4⟩ := hG
  have hal : t.vm.Alike s.vm := by rw [← e2]; exact X'.warmed.alike.symm
  obtain ⟨t2, a1, b1⟩ := kk B.U.heap B.locs B.cells B.slots ⟨by rw [e1]; exact hX.alike hal, by
      rw [e3]
      intro q hq
      rcases List.mem_append.mp hq with h | h
      · exact g2 q h
      · exact hL q h, by rw [e4]; dsimp only [Pt.cells]; omega, by rw [e6]; dsimp only [Pt.slots]; omega⟩ B.U rfl X'
  exact ⟨t2, go t2 a1, b1⟩
theorem xpre_at (X : XX D dA E Hb p s m args c cc nL own) (hG : XG D dA Hb R s S H locs cells slots) {T0 : State} (hT : T0.heap = H) {vm₁ : Vm} (hW : s.WarmedH vm₁) : xPre D dA E Hb R av S ⟨T0.setVm vm₁, locs, cells, slots⟩ av.toArray := by
  have hU : XU D dA E Hb (T0.setVm vm₁) := X.2.2.2.2.2.warm (U := T0.setVm vm₁) hW
  refine ⟨Nat.le_of_eq hG.2.2.1, Nat.le_of_eq hG.2.2.2, rfl, hU, ?_⟩
  show XR D dA Hb (T0.setVm vm₁) S T0.heap
  rw [hT]
  exact hG.1.alike hW.alike
theorem xlen {k : Nat} (hd : (parseMethodDescriptor y.desc).map (fun d => d.parameters.length) = some k) : ∀ sig, parseMethodDescriptor y.desc = some sig → k = sig.parameters.length := by
  intro sig h
  rw [h] at hd
  exact (Option.some.inj hd).symm
theorem xrecv (X : XX D dA E Hb p s m args c cc nL own) (hG : XG D dA Hb R s S H locs cells slots) {a ci : Nat} {fs : List Value} (hs : S.1 a = some (.inr (ci, fs))) : ∃ (q : vw_C) (cell : Cell) (kB : Class), xcl[ci]? = some q ∧ H[a]? = some cell ∧ cell.vm.isStatics = false ∧ s.vm.findClass q.1 = some cell.cls ∧ s.vm.classes[cell.cls]? = some kB := by
  obtain ⟨q, cell, e1, e2, e3, e4, -⟩ := hG.1.2.1 a _ hs
  obtain ⟨hS, hfc, kC, hkC, hkind⟩ := X.2.2.2.2.2.1 ci q e1
  exact ⟨q, cell, kC, e1, e2, e4, by rw [e3]; exact hfc, by rw [e3]; exact hkC⟩
/-- what a call of y through the entry idx of class own asks of the tables: an object's method, a static one -/
def XCV (own : String) (idx : Nat) (cs : List Nat) (y : MethodName) (bytes : ByteArray) (maxL : Nat) (ret : Option FieldType) (n : Nat) : Prop :=
  (Cond.methodLink own idx y ∈ lw_all ∨ ∃ host, Cond.methodLinkNest own idx y host ∈ xnw) ∧ Cond.instanceMethod y ∈ lw_all ∧ Cond.code y bytes maxL ret ∈ lw_all ∧ Cond.initialized y.cls ∈ lw_all ∧ (y.cls ≠ "java/lang/invoke/MethodHandle" ∧ y.cls ≠ "java/lang/invoke/VarHandle") ∧
  (parseMethodDescriptor y.desc).map (fun d => d.parameters.length) = some n ∧ ∀ ci ∈ cs, ∀ q : vw_C, xcl[ci]? = some q → Cond.selects q.1 y y ∈ lw_all ∨ Cond.selects q.1 y y ∈ xsel
def XCS (own : String) (idx : Nat) (y : MethodName) (bytes : ByteArray) (maxL : Nat) (ret : Option FieldType) (n : Nat) : Prop :=
  (Cond.methodLink own idx y ∈ lw_all ∨ ∃ host, Cond.methodLinkNest own idx y host ∈ xnw) ∧ Cond.static y ∈ lw_all ∧ Cond.code y bytes maxL ret ∈ lw_all ∧ Cond.initialized y.cls ∈ lw_all ∧ (y.cls ≠ "java/lang/invoke/MethodHandle" ∧ y.cls ≠ "java/lang/invoke/VarHandle") ∧
  (parseMethodDescriptor y.desc).map (fun d => d.parameters.length) = some n
def XCI (own : String) (idx : Nat) (y : MethodName) (bytes : ByteArray) (maxL n : Nat) : Prop :=
  (Cond.methodLink own idx y ∈ lw_all ∨ ∃ host, Cond.methodLinkNest own idx y host ∈ xnw) ∧ Cond.instanceMethod y ∈ lw_all ∧ Cond.code y bytes maxL none ∈ lw_all ∧ Cond.initialized y.cls ∈ lw_all ∧ (y.cls ≠ "java/lang/invoke/MethodHandle" ∧ y.cls ≠ "java/lang/invoke/VarHandle") ∧
  (parseMethodDescriptor y.desc).map (fun d => d.parameters.length) = some n ∧ y.name = "<init>"
theorem s_callV (X : XX D dA E Hb p s m args c cc nL own) (hG : XG D dA Hb R s S H locs cells slots) (hl : ls.size = nL) {rr : Option Nat} {cs : List Nat} {f : Nat → XS → Option (α × XS)} {rv : α → Option Value} {K : α → XS → Option ρ} (C : XCV own idx cs y bytes maxL ret n) (h : xrd (qV rr cs) (fun a => xal (f a) K) S = some res)
    (hM : ∀ a v T, f a S = some (v, T) → MB l y (ws_ y bytes maxL ret) fr lo D dA E Hb (.ref a :: As) S (rv v) T) (hst : st = As.reverse ++ va_rf rr :: rest) (hn : As.length = n) (hR : fr + 1 ≤ R.frames ∧ 8 + (maxL + 11) + lo ≤ R.locals) (hc : (rest.map fun v => v.category).sum ≤ 8) (d : decode cc pc = .ok (.invokevirtual idx, 3))
    (kk : ∀ (v : α) (S : XS) (H1 : Heap) (locs1 : List Loc) (cells slots : Nat), XG D dA Hb R s S H1 locs1 cells slots → K v S = some res → W p l e R s m args below meth c H1 locs1 cells slots Q (F0 m (pc + 3) ls ((rv v).toList ++ rest))) : W p l e R s m args below meth c H locs cells slots Q (F0 m pc ls st) := by
  obtain ⟨a, h1, h2⟩ := xrd_inv h
  obtain ⟨v, T, h3, h4⟩ := xal_inv h2
  obtain ⟨ci, fs, rfl, hs, hci⟩ := qV_inv h1
  obtain ⟨q, cell, kB, b1, b2, b3, b4, b5⟩ := xrecv X hG hs
  obtain ⟨c1, c2, c3, c4, c5, c6, c7⟩ := C
  subst hn
  have hts := X.2.2.2.2.1
  refine xRun.go (a := (Value.ref a :: As).toArray) (T := T) (r := rv v) (S := S) ?_ hG (fun H1 locs1 cells slots g => kk v T H1 locs1 cells slots g h4)
  intro T0 hT X0
  have hK := xback (p := p) (e := e) (below := below) (len := 3) (hM a v T h3) hts c3 c4 hR
  have hsel : (Cond.selects q.1 y y).before args s = true := (c7 ci hci q b1).elim (hts _) (fun h => va_Nw.use rfl (X.2.2.2.2.2.2.2.2.2.2.2.2.2.1.2.1 _ h))
  rcases c1 with c1 | ⟨host, c1⟩
  · exact callV X0 X.1 X.2.2.2.1 (hts _ c1) (hts _ c2) hsel (hts _ c3) c5 hK (by rw [hT]; exact b2) b3 b4 rfl (hl.trans X.2.2.1.symm) (xlen c6) hst (lv_room hc) (by rw [X.2.1]; exact d) (fun vm₁ hW => xpre_at X hG hT hW)
  · exact va_callVN X0 X.1 X.2.2.2.1 (va_Nw.use rfl (X.2.2.2.2.2.2.2.1 _ c1)) (hts _ c2) hsel (hts _ c3) c5 hK (by rw [hT]; exact b2) b3 b4 rfl (hl.trans X.2.2.1.symm) (xlen c6) hst (lv_room hc) (by rw [X.2.1]; exact d) (fun vm₁ hW => xpre_at X hG hT hW)
theorem s_callS (X : XX D dA E Hb p s m args c cc nL own) (hG : XG D dA Hb R s S H locs cells slots) (hl : ls.size = nL) {f : XS → Option (α × XS)} {rv : α → Option Value} {K : α → XS → Option ρ} (C : XCS own idx y bytes maxL ret n) (h : xal f K S = some res)
    (hM : ∀ v T, f S = some (v, T) → MB l y (ws_ y bytes maxL ret) fr lo D dA E Hb As S (rv v) T) (hst : st = As.reverse ++ rest) (hn : As.length = n) (hR : fr + 1 ≤ R.frames ∧ 8 + (maxL + 11) + lo ≤ R.locals) (hc : (rest.map fun v => v.category).sum ≤ 8) (d : decode cc pc = .ok (.invokestatic idx, 3))
    (kk : ∀ (v : α) (S : XS) (H1 : Heap) (locs1 : List Loc) (cells slots : Nat), XG D dA Hb R s S H1 locs1 cells slots → K v S = some res → W p l e R s m args below meth c H1 locs1 cells slots Q (F0 m (pc + 3) ls ((rv v).toList ++ rest))) : W p l e R s m args below meth c H locs cells slots Q (F0 m pc ls st) := by
  obtain ⟨v, T, h3, h4⟩ := xal_inv h
  obtain ⟨c1, c2, c3, c4, c5, c6⟩ := C
  subst hn
  have hts := X.2.2.2.2.1
  refine xRun.go (a := As.toArray) (T := T) (r := rv v) (S := S) ?_ hG (fun H1 locs1 cells slots g => kk v T H1 locs1 cells slots g h4)
  intro T0 hT X0
  have hK := xback (p := p) (e := e) (below := below) (len := 3) (hM v T h3) hts c3 c4 hR
  rcases c1 with c1 | ⟨host, c1⟩
  · exact callS X0 X.1 X.2.2.2.1 (hts _ c1) (hts _ c2) (hts _ c4) (hts _ c3) c5 hK rfl (hl.trans X.2.2.1.symm) (xlen c6) hst (lv_room hc) (by rw [X.2.1]; exact d) (fun vm₁ hW => xpre_at X hG hT hW)
  · exact va_callSN X0 X.1 X.2.2.2.1 (va_Nw.use rfl (X.2.2.2.2.2.2.2.1 _ c1)) (hts _ c2) (hts _ c4) (hts _ c3) c5 hK rfl (hl.trans X.2.2.1.symm) (xlen c6) hst (lv_room hc) (by rw [X.2.1]; exact d) (fun vm₁ hW => xpre_at X hG hT hW)
theorem s_callI (X : XX D dA E Hb p s m args c cc nL own) (hG : XG D dA Hb R s S H locs cells slots) (hl : ls.size = nL) {rr : Option Nat} {f : Nat → XS → Option (Unit × XS)} {K : Unit → XS → Option ρ} (C : XCI own idx y bytes maxL n) (h : xrd (qP rr) (fun a => xal (f a) K) S = some res)
    (hM : ∀ a v T, f a S = some (v, T) → MB l y (ws_ y bytes maxL none) fr lo D dA E Hb (.ref a :: As) S none T) (hst : st = As.reverse ++ va_rf rr :: rest) (hn : As.length = n) (hR : fr + 1 ≤ R.frames ∧ 8 + (maxL + 11) + lo ≤ R.locals) (hc : (rest.map fun v => v.category).sum ≤ 8) (d : decode cc pc = .ok (.invokespecial idx, 3))
    (kk : ∀ (S : XS) (H1 : Heap) (locs1 : List Loc) (cells slots : Nat), XG D dA Hb R s S H1 locs1 cells slots → K () S = some res → W p l e R s m args below meth c H1 locs1 cells slots Q (F0 m (pc + 3) ls rest)) : W p l e R s m args below meth c H locs cells slots Q (F0 m pc ls st) := by
  obtain ⟨a, h1, h2⟩ := xrd_inv h
  obtain ⟨v, T, h3, h4⟩ := xal_inv h2
  cases h1
  obtain ⟨c1, c2, c3, c4, c5, c6, c7⟩ := C
  subst hn
  have hts := X.2.2.2.2.1
  refine xRun.go (a := (Value.ref a :: As).toArray) (T := T) (r := none) (S := S) ?_ hG (fun H1 locs1 cells slots g => kk T H1 locs1 cells slots g h4)
  intro T0 hT X0
  have hK := xback (p := p) (e := e) (below := below) (len := 3) (hM a v T h3) hts c3 c4 hR
  rcases c1 with c1 | ⟨host, c1⟩
  · exact callI X0 X.1 X.2.2.2.1 c7 (hts _ c1) (hts _ c2) (hts _ c3) c5 hK rfl (hl.trans X.2.2.1.symm) (xlen c6) hst (lv_room hc) (by rw [X.2.1]; exact d) (fun vm₁ hW => xpre_at X hG hT hW)
  · exact va_callIN X0 X.1 X.2.2.2.1 c7 (va_Nw.use rfl (X.2.2.2.2.2.2.2.1 _ c1)) (hts _ c2) (hts _ c3) c5 hK rfl (hl.trans X.2.2.1.symm) (xlen c6) hst (lv_room hc) (by rw [X.2.1]; exact d) (fun vm₁ hW => xpre_at X hG hT hW)
/-- Object.<init> -/
theorem s_objInit (X : XX D dA E Hb p s m args c cc nL own) (hl : ls.size = nL) {rr : Option Nat} {K : XS → Option ρ} (hlink : Cond.methodLink own idx Lib.objectInit ∈ lw_all) (hinst : Cond.instanceMethod Lib.objectInit ∈ lw_all) (hcode : Cond.code Lib.objectInit ⟨#[0xb1]⟩ 1 none ∈ lw_all) (h : xrd (qP rr) (fun _ => K) S = some res) (d : decode cc pc = .ok (.invokespecial idx, 3)) (hW : (rest.map fun v => v.category).sum ≤ 8) (hf : 1 ≤ R.frames) (hlo : 20 ≤ R.locals)
    (kk : K S = some res → W p l e R s m args below meth c H locs cells slots Q (F0 m (pc + 3) ls rest)) : W p l e R s m args below meth c H locs cells slots Q (F0 m pc ls (va_rf rr :: rest)) := by
  obtain ⟨a, h1, h2⟩ := xrd_inv h
  cases h1
  have hts := X.2.2.2.2.1
  exact W.objInit X.1 X.2.1 X.2.2.2.1 (hts _ hlink) (hts _ hinst) (hts _ hcode) rfl (hl.trans X.2.2.1.symm) rfl d hf (by have := lv_room (m := m) (pc := pc) (ls := ls) (rest := rest) hW; have e0 : 2 * (F0 m pc ls (va_rf (some a) :: rest)).monitorRoom = 2 * (F0 m pc ls rest).monitorRoom := rfl; omega) (kk h2)
end XCALLS

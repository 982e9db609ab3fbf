set_option maxRecDepth 100000
/-! calls of methods with handlers; the payer follows the library's own for methods without (Back.of_free) -/
theorem xBackW.of_free {l : Launch} {R : Room} {p : Program} {e : Env} {below : List Frame} {s : State} {sargs : Array Value} {y : MethodName} {len W : Nat} {hh : List (Nat × Nat × Nat × Nat)} {Pre : Pt → Array Value → Prop} {Post : Pt → Array Value → Option Value → Pt → Prop} {S : Spec} {P : Array Value → State → Prop}
    {K : Program → Env → List Frame → State → Array Value → Prop} {Q : Array Value → State → Outcome → State → Prop} {bytes : ByteArray} {maxL : Nat} {ret : Option FieldType}
    {E : Array Value → State → Outcome → State → List Loc → Nat → Nat → Prop}
    (hM : MetFree l y S P K Q)
    (hframes : S.room.frames + 1 ≤ R.frames) (hlocals : W + (maxL + 11) + S.room.locals ≤ R.locals)
    (hpre : ∀ m meth c (A : Pt) a, Stand p l e R s m sargs below meth c A.U A.locs A.cells A.slots → Pre A a → S.pre.before a A.U = true ∧ (Cond.codeWith y bytes maxL ret hh).before a A.U = true ∧ (Cond.initialized y.cls).before a A.U = true ∧ A.cells + S.room.cells ≤ R.cells ∧ A.slots + S.room.slots ≤ R.slots)
    (hP : ∀ m meth c (A : Pt) a (g : JFrame) mk, Stand p l e R s m sargs below meth c A.U A.locs A.cells A.slots → Pre A a → P a (A.U.calling g mk a))
    (hK : ∀ m meth c (A : Pt) a (g : JFrame) mk, Stand p l e R s m sargs below meth c A.U A.locs A.cells A.slots → Pre A a → K p e (A.U.setTop g).frames (A.U.calling g mk a) a)
    (hQ : ∀ a first o t, Q a first o t → ∃ L k n, FrameEnd first o t L k n ∧ E a first o t L k n)
    (hpost : ∀ m meth c (A : Pt) a (g : JFrame) mk v t L k n, Stand p l e R s m sargs below meth c A.U A.locs A.cells A.slots → Pre A a → Q a (A.U.calling g mk a) (.returned v) t → FrameEnd (A.U.calling g mk a) (.returned v) t L k n → E a (A.U.calling g mk a) (.returned v) t L k n →
      Post A a v ⟨(({ A.U with heap := t.heap, slotsUsed := t.slotsUsed } : State).setVm t.vm), A.locs ++ L, A.cells + k, A.slots + n⟩) :
    Back l R p e below s sargs y len W Pre Post := by
  intro m meth c A g ig mk a X hg hsize hdg hW hn hp
  obtain ⟨h1, h2, h3, h4, h5⟩ := hpre m meth c A a X hp
  obtain ⟨U, Ls, c0, s0⟩ := A
  dsimp only [Pt.U, Pt.locs, Pt.cells, Pt.slots] at h1 h2 h3 h4 h5 X hn ⊢
  obtain ⟨m9, methY, cY, hn9, hmY, hcY, -, hlY, -⟩ := Cond.codeWith_spec h2
  cases Option.some.inj (hn9.symm.trans hn)
  obtain ⟨kY, hkY, -⟩ := className_of_methodNamed hn
  have hinitY : kY.init = .initialized := Cond.initialized_spec (findClass_of_methodNamed hn) hkY h3
  have h : At U g.method c below := by rw [hg]; exact X.here
  have happ : S.appliesLoose y e.platform (U.calling g mk a) = true :=
    Spec.appliesLoose_calling (g := g) h hdg hn hkY hinitY
      (X.room_calling (g := g) (R' := S.room) hsize hmY hcY hframes (by rw [hlY]; omega) h4 h5) h1
  obtain ⟨mid, hmid⟩ := h.above
  have hfr : (U.setTop g).frames = (.java g :: mid) ++ below := by rw [State.frames_setTop' g h.top, hmid]; rfl
  obtain ⟨o, s₂, hsteps, -, hend, hq⟩ := Steps.callFree hM p X.admits X.cas X.clock (acts := []) hfr happ (hP m meth c ⟨U, Ls, c0, s0⟩ a g mk X hp) (hK m meth c ⟨U, Ls, c0, s0⟩ a g mk X hp)
  have hq' : Q a (U.calling g mk a) o s₂ := hq
  rw [State.frames_setTop' g h.top] at hend
  obtain ⟨L, k, n, hfe, hE⟩ := hQ _ _ _ _ hq'
  obtain ⟨⟨v, rfl⟩, hW₂, e2, q2, q3, q4, q5, q6⟩ := id hfe
  have e3 : s₂ = ({ (U.calling g mk a).setFrames s₂.frames with heap := s₂.heap, slotsUsed := s₂.slotsUsed } : State).setVm s₂.vm := by
    have : s₂ = ({ s₂ with vm := (U.calling g mk a).vm } : State).setVm s₂.vm := rfl
    rw [e2] at this
    exact this
  obtain ⟨c₂, i₂, len₂, hc₂, hd₂, hf₂⟩ := hend
  have hW' : U.WarmedH s₂.vm := hW₂
  have hcc : c₂ = c := by
    have h1 : s₂.code? g.method = U.code? g.method := by
      rw [State.code?_eq, State.code?_eq, hW'.alike.method?]
    exact Option.some.inj (hc₂.symm.trans (h1.trans h.code))
  subst hcc
  have hlen : len₂ = len := by rw [hdg] at hd₂; cases hd₂; rfl
  subst hlen
  obtain ⟨g₀, hg0⟩ := Option.isSome_iff_exists.mp h.top
  obtain ⟨r, hr⟩ := State.topJava?_eq_some.mp hg0
  have hs₂ : s₂ = (({ U with heap := s₂.heap, slotsUsed := s₂.slotsUsed } : State).setVm s₂.vm).setTop { g with pc := g.pc + len₂, stack := v.toList ++ g.stack } := by
    have hr' : (({ U with heap := s₂.heap, slotsUsed := s₂.slotsUsed } : State).setVm s₂.vm).frames = .java g₀ :: r := hr
    refine e3.trans ?_
    rw [hf₂, State.calling_eq h.top, State.setFrames_setFrames, State.setTop_of_frames _ hr', hr]
    rfl
  have hsame : U.sameButNew ({ U with heap := s₂.heap, slotsUsed := s₂.slotsUsed } : State) L k n := by
    refine ⟨?_, q2, q3, q4, q5, q6⟩
    obtain ⟨t, ht, -⟩ := State.frames_cons hr
    show ({ U with heap := s₂.heap, slotsUsed := s₂.slotsUsed } : State) = { U.setFrames U.frames with heap := s₂.heap, slotsUsed := s₂.slotsUsed }
    rw [State.setFrames_self ht]
  subst hg
  refine ⟨v, ⟨(({ U with heap := s₂.heap, slotsUsed := s₂.slotsUsed } : State).setVm s₂.vm), Ls ++ L, c0 + k, s0 + n⟩,
    ⟨X.admits, X.cas, X.clock, X.frames, X.room, X.hears, X.method, X.code, (X.here.setHeapUsed s₂.heap s₂.slotsUsed).setVm hW'.alike, X.tail, State.WarmedH.trans X.warmed hW', X.limits, X.bytes, X.same.trans (hsame.setVm s.vm)⟩,
    hpost _ meth _ ⟨U, Ls, c0, s0⟩ a g mk v s₂ L k n X hp hq' hfe hE, ?_⟩
  show Steps p.tables e below _ ((({ U with heap := s₂.heap, slotsUsed := s₂.slotsUsed } : State).setVm s₂.vm).setTop { g with pc := g.pc + len₂, stack := v.toList ++ g.stack })
  rw [← hs₂]
  exact hsteps
section XCALLW
variable {p : Program} {l : Launch} {e : Env} {R : Room} {s : State} {m : MethodId} {args : Array Value} {below : List Frame} {meth : Method} {c : Code} {H : Heap} {locs : List Loc} {cells slots : Nat} {Q : State → Prop}
variable {cc : ByteArray} {pc nL : Nat} {ls : Array Slot} {rest : List Value} {D : va_G} {dA : Nat → ClassId} {E : Nat → Nat → Nat} {Hb : Heap} {own : String} {S : XS} {ρ α : Type} {res : ρ}
variable {y : MethodName} {bytes : ByteArray} {maxL fr lo n idx : Nat} {ret : Option FieldType} {av As st : List Value} {r : Option Value} {T : XS} {hh : List (Nat × Nat × Nat × Nat)}
theorem xbackW {len : Nat} (hM : MB l y (wsW_ y bytes maxL ret hh) fr lo D dA E Hb av S r T) (hts : ∀ w ∈ lw_all, w.before args s = true) (hcode : Cond.codeWith y bytes maxL ret hh ∈ lw_all) (hini : Cond.initialized y.cls ∈ lw_all) (hR : fr + 1 ≤ R.frames ∧ 8 + (maxL + 11) + lo ≤ R.locals) :
    Back l R p e below s args y len 8 (xPre D dA E Hb R av S) (xPost D dA Hb S r T) := by
  have hws : ∀ w ∈ wsW_ y bytes maxL ret hh, ∀ (a' : Array Value) (U : State), s.WarmedH U.vm → w.before a' U = true := fun w hw a' U hW => by
    have hw' := lw_methW hcode w hw
    exact word_at hW hw'.2 (hts _ hw'.1)
  refine xBackW.of_free (bytes := bytes) (maxL := maxL) (ret := ret) (hh := hh) (E := fun _ _ _ _ L k n => k + T.2.2.1 = S.2.2.1 ∧ n + T.2.2.2 = S.2.2.2 ∧ ∀ q ∈ L, Hb.size ≤ q.base) hM hR.1 hR.2 ?_ ?_ (fun _ _ _ _ _ _ _ _ _ => trivial) ?_ ?_
  · intro m meth c A a X hp
    exact ⟨atoms_intro fun w hw => hws w hw _ _ X.warmed, hws _ List.mem_cons_self _ _ X.warmed, word_at X.warmed (lw_self _ hini).2 (hts _ hini), hp.1, hp.2.1⟩
  · intro m meth c A a g mk X hp
    exact ⟨hp.2.2.1, XU.same (s := A.U) (U := A.U.calling g mk a) rfl hp.2.2.2.1, XR.alike (u := A.U) (U := A.U.calling g mk a) (Vm.Alike.refl A.U.vm) hp.2.2.2.2⟩
  · rintro a st o t ⟨hq, L, k, n, hF, h1, h2, h3⟩
    exact ⟨L, k, n, hF, h1, h2, h3⟩
  · rintro m meth c A a g mk v t L k n X hp ⟨⟨hv, hX⟩, -⟩ hF ⟨h1, h2, h3⟩
    cases hv
    exact ⟨rfl, t, L, k, n, rfl, rfl, hX, rfl, h3, rfl, h1, rfl, h2⟩
def XCVW (own : String) (idx : Nat) (cs : List Nat) (y : MethodName) (bytes : ByteArray) (maxL : Nat) (ret : Option FieldType) (hh : List (Nat × Nat × Nat × Nat)) (n : Nat) : Prop :=
  Cond.methodLink own idx y ∈ lw_all ∧ Cond.instanceMethod y ∈ lw_all ∧ Cond.codeWith y bytes maxL ret hh ∈ lw_all ∧ Cond.initialized y.cls ∈ lw_all ∧ (y.cls ≠ "java/lang/invoke/MethodHandle" ∧ y.cls ≠ "java/lang/invoke/VarHandle") ∧
  (parseMethodDescriptor y.desc).map (fun d => d.parameters.length) = some n ∧ ∀ ci ∈ cs, ∀ q : vw_C, xcl[ci]? = some q → Cond.selects q.1 y y ∈ lw_all
def XCSW (own : String) (idx : Nat) (y : MethodName) (bytes : ByteArray) (maxL : Nat) (ret : Option FieldType) (hh : List (Nat × Nat × Nat × Nat)) (n : Nat) : Prop :=
  Cond.methodLink own idx y ∈ lw_all ∧ Cond.static y ∈ lw_all ∧ Cond.codeWith y bytes maxL ret hh ∈ lw_all ∧ Cond.initialized y.cls ∈ lw_all ∧ (y.cls ≠ "java/lang/invoke/MethodHandle" ∧ y.cls ≠ "java/lang/invoke/VarHandle") ∧
  (parseMethodDescriptor y.desc).map (fun d => d.parameters.length) = some n
theorem s_callVW (X : XX D dA E Hb p s m args c cc nL own) (hG : XG D dA Hb R s S H locs cells slots) (hl : ls.size = nL) {rr : Option Nat} {cs : List Nat} {f : Nat → XS → Option (Int32 × XS)} {K : Int32 → XS → Option ρ} (C : XCVW own idx cs y bytes maxL ret hh n) (h : xrd (qV rr cs) (fun a => xal (f a) K) S = some res)
    (hM : ∀ a v T, f a S = some (v, T) → MB l y (wsW_ y bytes maxL ret hh) fr lo D dA E Hb (.ref a :: As) S (some (.int v)) T) (hst : st = As.reverse ++ va_rf rr :: rest) (hn : As.length = n) (hR : fr + 1 ≤ R.frames ∧ 8 + (maxL + 11) + lo ≤ R.locals) (hc : (rest.map fun v => v.category).sum ≤ 8) (d : decode cc pc = .ok (.invokevirtual idx, 3))
    (kk : ∀ (v : Int32) (S : XS) (H1 : Heap) (locs1 : List Loc) (cells slots : Nat), XG D dA Hb R s S H1 locs1 cells slots → K v S = some res → W p l e R s m args below meth c H1 locs1 cells slots Q (F0 m (pc + 3) ls (.int v :: rest))) : W p l e R s m args below meth c H locs cells slots Q (F0 m pc ls st) := by
  obtain ⟨a, h1, h2⟩ := xrd_inv h
  obtain ⟨v, T, h3, h4⟩ := xal_inv h2
  obtain ⟨ci, fs, rfl, hs, hci⟩ := qV_inv h1
  obtain ⟨q, cell, kB, b1, b2, b3, b4, b5⟩ := xrecv X hG hs
  obtain ⟨c1, c2, c3, c4, c5, c6, c7⟩ := C
  subst hn
  have hts := X.2.2.2.2.1
  refine xRun.go (a := (Value.ref a :: As).toArray) (T := T) (r := some (.int v)) (S := S) ?_ hG (fun H1 locs1 cells slots g => kk v T H1 locs1 cells slots g h4)
  intro T0 hT X0
  have hK := xbackW (p := p) (e := e) (below := below) (len := 3) (hM a v T h3) hts c3 c4 hR
  exact vx_callVW X0 X.1 X.2.2.2.1 (hts _ c1) (hts _ c2) (hts _ (c7 ci hci q b1)) (hts _ c3) c5 hK (by rw [hT]; exact b2) b3 b4 rfl (hl.trans X.2.2.1.symm) (xlen c6) hst (lv_room hc) (by rw [X.2.1]; exact d) (fun vm₁ hW => xpre_at X hG hT hW)
theorem s_callSW (X : XX D dA E Hb p s m args c cc nL own) (hG : XG D dA Hb R s S H locs cells slots) (hl : ls.size = nL) {f : XS → Option (Int32 × XS)} {K : Int32 → XS → Option ρ} (C : XCSW own idx y bytes maxL ret hh n) (h : xal f K S = some res)
    (hM : ∀ v T, f S = some (v, T) → MB l y (wsW_ y bytes maxL ret hh) fr lo D dA E Hb As S (some (.int v)) T) (hst : st = As.reverse ++ rest) (hn : As.length = n) (hR : fr + 1 ≤ R.frames ∧ 8 + (maxL + 11) + lo ≤ R.locals) (hc : (rest.map fun v => v.category).sum ≤ 8) (d : decode cc pc = .ok (.invokestatic idx, 3))
    (kk : ∀ (v : Int32) (S : XS) (H1 : Heap) (locs1 : List Loc) (cells slots : Nat), XG D dA Hb R s S H1 locs1 cells slots → K v S = some res → W p l e R s m args below meth c H1 locs1 cells slots Q (F0 m (pc + 3) ls (.int v :: rest))) : W p l e R s m args below meth c H locs cells slots Q (F0 m pc ls st) := by
  obtain ⟨v, T, h3, h4⟩ := xal_inv h
  obtain ⟨c1, c2, c3, c4, c5, c6⟩ := C
  subst hn
  have hts := X.2.2.2.2.1
  refine xRun.go (a := As.toArray) (T := T) (r := some (.int v)) (S := S) ?_ hG (fun H1 locs1 cells slots g => kk v T H1 locs1 cells slots g h4)
  intro T0 hT X0
  have hK := xbackW (p := p) (e := e) (below := below) (len := 3) (hM v T h3) hts c3 c4 hR
  exact vx_callSW X0 X.1 X.2.2.2.1 (hts _ c1) (hts _ c2) (hts _ c4) (hts _ c3) c5 hK rfl (hl.trans X.2.2.1.symm) (xlen c6) hst (lv_room hc) (by rw [X.2.1]; exact d) (fun vm₁ hW => xpre_at X hG hT hW)
end XCALLW

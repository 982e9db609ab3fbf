set_option maxRecDepth 100000
def xsup : List String := ["java/lang/RuntimeException", "java/lang/Exception"]
def xthW (own : String) (ik ic : Nat) (cls : String) : Bool := (Cond.classLink own ik cls :: Cond.initialized cls :: vx_at0 own ic cls xsup).all fun w => decide (w ∈ lw_tbl) && (goodWord w || xnwB w) && vx_ot w
theorem xthr_io : xthW RX1 267 269 "java/lang/IndexOutOfBoundsException" = true := by decide +kernel
theorem xthr_ns : xthW RX1 270 272 "java/util/NoSuchElementException" = true := by decide +kernel
theorem xsup_fit : ∀ n ∈ xsup, Bundle.fit n = true := by decide +kernel
/-- a new exception of the JDK's, thrown -/
def xth0 {α : Type} (ci : Nat) : XS → Option ((α ⊕ Nat) × XS) := fun S => if (decide (1 ≤ S.2.2.1) && decide (6 ≤ S.2.2.2)) = true then some (.inr S.2.1, xadd S 6 (.inr (ci, []))) else none
section XTHROW
variable {p : Program} {l : Launch} {e : Env} {R : Room} {s : State} {m : MethodId} {args : Array Value} {below : List Frame} {meth : Method} {c : Code} {H : Heap} {locs : List Loc} {cells slots : Nat} {Q : State → Prop}
variable {cc : ByteArray} {pc nL : Nat} {ls : Array Slot} {rest : List Value} {D : va_G} {dA : Nat → ClassId} {E : Nat → Nat → Nat} {Hb : Heap} {own : String} {S : XS} {ρ α : Type} {res : ρ}
variable {y : MethodName} {bytes : ByteArray} {maxL fr lo n idx : Nat} {ret : Option FieldType} {av As st : List Value} {T S0 : XS}
theorem s_throw0 (X : XX D dA E Hb p s m args c cc nL own) (hst : l.stackTraces = false) (hG : XG D dA Hb { frames := fr, cells := S0.2.2.1, slots := S0.2.2.2, locals := lo } s S H locs cells slots) (hl : ls.size = nL) {rv : α → Option Value} {r : α ⊕ Nat} {ik ic ci : Nat} {cls : String} {TT : u_T} (hcl : xcl[ci]? = some (cls, TT, 0)) (hw : xthW own ik ic cls = true) (hcls : Bundle.fit cls = true)
    (h : xth0 ci S = some (r, T)) (d0 : decode cc pc = .ok (.new ik, 3)) (d3 : decode cc (pc + 3) = .ok (.dup, 1)) (d4 : decode cc (pc + 4) = .ok (.invokespecial ic, 3)) (d7 : decode cc (pc + 7) = .ok (.athrow, 1))
    (hout : ∀ x ∈ c.exceptionTable.toList, False) (hfr : 6 ≤ fr) (hlo : (rest.map fun v => v.category).sum + 81 ≤ lo) (hlocks : meth.locks = false) :
    W p l e { frames := fr, cells := S0.2.2.1, slots := S0.2.2.2, locals := lo } s m args below meth c H locs cells slots (MXQ D dA Hb below s S0 (xox rv r) T) (F0 m pc ls rest) := by
  unfold xth0 at h
  split at h
  · rename_i hb
    cases h
    simp only [Bool.and_eq_true, decide_eq_true_eq] at hb
    obtain ⟨hb1, hb2⟩ := hb
    have hts := X.2.2.2.2.1
    have hU := X.2.2.2.2.2
    have hwords : ∀ w ∈ Cond.classLink own ik cls :: Cond.initialized cls :: vx_at0 own ic cls xsup, w.before args s = true ∧ vx_ot w = true := by
      intro w hw9
      have h1 := List.all_eq_true.mp hw w hw9
      simp only [Bool.and_eq_true, decide_eq_true_eq, Bool.or_eq_true] at h1
      refine ⟨?_, h1.2⟩
      rcases h1.1.2 with h2 | h2
      · exact hts _ (lw_g h1.1.1 h2)
      · exact va_Nw.use (xnw_tabs (xnw_of h1.1.1 h2)) (hU.2.2.1 _ (xnw_of h1.1.1 h2))
    have hk := hwords _ List.mem_cons_self
    have hini := hwords _ (List.mem_cons_of_mem _ List.mem_cons_self)
    have hxe : xex Hb s := hU.2.2.2.2.2.2.2.2.1.2.2.2
    obtain ⟨g1, g2, g3, g4⟩ := id hG
    obtain ⟨z1, z2, z3, z4⟩ := id g1
    have h5c : cells + S.2.2.1 = S0.2.2.1 := g3
    have h5s : slots + S.2.2.2 = S0.2.2.2 := g4
    intro T0 hT X0
    subst hT
    have htr : e.platform.stackTraces = false := (show e.platform.stackTraces = l.stackTraces by rw [X0.admits.platform]).trans hst
    have Y := vx_rebase X0 (R' := { frames := fr, locals := lo, cells := 1, slots := 6 }) (Nat.le_refl _) (Nat.le_refl _) (Nat.le_trans (Nat.add_le_add_left hb1 _) (Nat.le_of_eq h5c)) (Nat.le_trans (Nat.add_le_add_left hb2 _) (Nat.le_of_eq h5s))
    obtain ⟨s', hA⟩ : ∃ z, z = (T0.setVm s.vm).setFrames (.invoking m args :: below) := ⟨_, rfl⟩
    rw [← hA] at Y
    have hvm : s'.vm = s.vm := by rw [hA]; rfl
    have hhp : s'.heap = T0.heap := by rw [hA]; rfl
    have hW0 : s.WarmedH s'.vm := by rw [hvm]; exact State.WarmedH.refl s
    have hat' : ∀ w ∈ vx_at0 own ic cls xsup, w.before args s' = true := fun w hw9 => by
      have h1 := hwords w (List.mem_cons_of_mem _ (List.mem_cons_of_mem _ hw9))
      exact vx_ot_at hW0 hvm.symm h1.2 h1.1
    have hk' : (Cond.classLink own ik cls).before args s' = true := vx_ot_at hW0 hvm.symm hk.2 hk.1
    have hini' : (Cond.initialized cls).before args s' = true := vx_ot_at hW0 hvm.symm hini.2 hini.1
    have hkept : ∀ a : Nat, a < Hb.size → ¬ Hb.size ≤ a → s'.heap[a]? = Hb[a]? := fun a h1 _ => by rw [hhp]; exact z4 a h1
    have hU' : vx_Zq Bundle.tN "UNASSIGNED_STACK" Bundle.steD (fun q => Hb.size ≤ q) s' s'.heap := vx_Zq.moved hW0.alike (hxe.1.kept hkept)
    have hN' : vx_Zq Bundle.tN "SUPPRESSED_SENTINEL" Bundle.listD (fun q => Hb.size ≤ q) s' s'.heap := vx_Zq.moved hW0.alike (hxe.2.1.kept hkept)
    have h : ∀ w ∈ Bundle.ownAtoms0 own ic cls xsup, w.before args s' = true := vx_own hat' (vx_isRefq hU'.1) (vx_isRefq hN'.1) hU'.2.word hN'.2.word
    have hown' : s'.vm.findClass own = some m.cls := by rw [hvm]; exact X.2.2.2.1
    have hins : (Cond.instantiable cls 6).before args s' = true := h _ (by simp [Bundle.ownAtoms0])
    obtain ⟨vm₁, cX, kX, hfX, hkX, -, -, X₁, st1⟩ := Y.newCold X.1 (own := own) (C := cls) (index := ik) (n := 6) hown' hk' hins hini'
      (g := F0 m pc ls rest) rfl (by rw [X.2.1]; exact d0) (Nat.le_refl _) (Nat.le_refl _)
    generalize hT1 : (T0.setVm vm₁).pushCell { cls := cX, slots := kX.instanceTypes.map defaultValue, vm := .none } = T1 at X₁ st1
    have hcat : (Value.ref T0.heap.size).category = 1 := rfl
    have hcellA : T1.heap[T0.heap.size]? = some (freshCell cX kX) := by rw [← hT1]; exact State.heap_pushCell_size _ _
    have d3' : decode c.code (pc + 3) = .ok (.dup, 1) := by rw [X.2.1]; exact d3
    have hexec := X.1
    obtain ⟨U, hsteps, hrun, hend, hW, hsame, ce, hce, hO⟩ := X₁.ctorThrow0 X.1 htr (own := own) (cls := cls) (names := xsup) (ic := ic) hown' hcls xsup_fit h (fun x hx => nomatch hx) hfX hkX hcellA (by rw [hhp]; exact Nat.le_refl _)
      (g := { method := m, pc := pc + 4, locals := ls, stack := .ref T0.heap.size :: .ref T0.heap.size :: rest, locked := none }) rfl (hl.trans X.2.2.1.symm) rfl rfl (rest := rest) rfl
      (by rw [X.2.1]; exact d4) (by rw [X.2.1]; exact d7) (fun x hx => (hout x hx).elim) (by show 2 + 3 < fr; omega) (by show 2 * 0 + _ + (13 * (2 + 1) + 41) ≤ lo; simp only [List.map_cons, List.sum_cons, hcat]; omega) hlocks
    obtain ⟨f1, f2⟩ := vx_frame hsame
    rw [hhp] at f1 f2
    have hWs : s.WarmedH U.vm := State.WarmedH.trans hW0 hW
    have hcls9 : s.vm.findClass cls = some ce.cls := by
      have h9 := hO.cls
      rw [hvm] at h9
      exact h9
    have hlt : T0.heap.size < U.heap.size := (Array.getElem?_eq_some_iff.mp hce).1
    have hall : s.sameButNew ({ U with vm := s.vm } : State) locs (cells + 1) (slots + 6) ∧ U.heap.size ≤ T0.heap.size + 1 := by
      subst hA
      obtain ⟨e1, e2⟩ := hsame
      rw [State.setFrames_setFrames] at e1
      have h2 : (T0.setVm s.vm).sameButNew ({ U with vm := s.vm } : State) [] (0 + 1) (0 + 6) := ⟨e1, e2⟩
      have h3 := X0.same.trans h2
      rw [List.append_nil] at h3
      exact ⟨h3.mono (by omega) (by omega), e2.2.1⟩
    refine ⟨U, ?_, .threw T0.heap.size, hrun, hend, ⟨by rw [g1.1], ?_⟩, locs, cells + 1, slots + 6, ⟨⟨_, rfl⟩, hWs, hall.1⟩, ?_, ?_, g2⟩
    · refine st1 _ ?_
      show Steps p.tables e below (T1.setTop { method := m, pc := pc + 3, locals := ls, stack := .ref T0.heap.size :: rest, locked := none }) _
      jvm_step X₁.here [X₁.here.top, hexec, d3', Value.category]
      exact hsteps
    · have hD : D.1 ci = ce.cls := Option.some.inj ((hU.1 ci _ hcl).2.1.symm.trans hcls9)
      have hxat : xat D dA Hb.size s T0.heap.size (.inr (ci, [])) U.heap := ⟨_, ce, hcl, hce, hD.symm, by rw [hO.vm]; rfl, (by rw [hO.vm]; exact fun z => nomatch z), fun _ => hO.vm, fun k hk => absurd hk (Nat.not_lt_zero k), rfl⟩
      have hz : XR D dA Hb s (xadd S 6 (.inr (ci, []))) U.heap := (hG.add (n := 6) (by omega) (fun q hq => f2 q hq (fun z hz => nomatch hz)) hb1 hb2 hxat).1
      exact hz.alike hWs.alike
    · show cells + 1 + (S.2.2.1 - 1) = S0.2.2.1
      omega
    · show slots + 6 + (S.2.2.2 - 6) = S0.2.2.2
      omega
  · cases h
end XTHROW

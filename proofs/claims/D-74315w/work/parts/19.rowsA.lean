set_option maxRecDepth 100000
/-- q is an exception of ours of the class ci: then K, else B -/
def xck {ρ : Type} (b q ci : Nat) (K B : XS → Option ρ) : XS → Option ρ := fun S => match S.1 q with
  | some (.inr (k, _)) => if decide (b ≤ q) && (k == ci) then K S else B S
  | _ => B S
theorem xck_or {ρ : Type} {b q ci : Nat} {K B : XS → Option ρ} {S : XS} {res : ρ} (h : xck b q ci K B S = some res) : ((∃ fs, S.1 q = some (.inr (ci, fs)) ∧ b ≤ q) ∧ K S = some res) ∨ B S = some res := by
  unfold xck at h
  split at h
  · rename_i k fs hs
    split at h
    · rename_i hk
      simp only [Bool.and_eq_true, decide_eq_true_eq, beq_iff_eq] at hk
      obtain ⟨h1, rfl⟩ := hk
      exact Or.inl ⟨⟨fs, hs, h1⟩, h⟩
    · exact Or.inr h
  · exact Or.inr h
section XENDS
variable {p : Program} {l : Launch} {e : Env} {R : Room} {s : State} {m : MethodId} {args : Array Value} {below : List Frame} {meth : Method} {c : Code} {H : Heap} {locs : List Loc} {cells slots : Nat} {Q : State → Prop}
variable {cc : ByteArray} {pc nL : Nat} {ls : Array Slot} {rest : List Value} {D : va_G} {dA : Nat → ClassId} {E : Nat → Nat → Nat} {Hb : Heap} {own : String} {S : XS} {ρ α : Type} {res : ρ}
variable {y : MethodName} {bytes : ByteArray} {maxL fr lo n idx : Nat} {ret : Option FieldType} {av As st : List Value} {T S0 : XS}
/-- q leaves the method -/
theorem s_thr {rv : α → Option Value} {r : α ⊕ Nat} {q : Nat} (hG : XG D dA Hb { frames := fr, cells := S0.2.2.1, slots := S0.2.2.2, locals := lo } s S H locs cells slots) (hlocks : meth.locks = false) (hout : ∀ x ∈ c.exceptionTable.toList, False) (h : xth q S = some (r, T)) :
    vx_W p l e { frames := fr, cells := S0.2.2.1, slots := S0.2.2.2, locals := lo } s m args below meth c H locs cells slots (MXQ D dA Hb below s S0 (xox rv r) T) (F0 m pc ls rest) q := by
  cases h
  intro T0 hT X0
  obtain ⟨st1, hrun, hend, hW, hsm⟩ := X0.leaveThrown q (g := F0 m pc ls rest) rfl rfl rfl (fun x hx => (hout x hx).elim) hlocks
  refine ⟨_, st1, .threw q, hrun, hend, ⟨rfl, ?_⟩, locs, cells, slots, ⟨⟨q, rfl⟩, hW, hsm⟩, hG.2.2.1, hG.2.2.2, hG.2.1⟩
  show XR D dA Hb (T0.setFrames (.throwing q :: below)) S T0.heap
  rw [hT]
  exact hG.1.alike hW.alike
theorem s_iretX (X : XX D dA E Hb p s m args c cc nL own) {v : Int32} {r : Int32 ⊕ Nat} (hG : XG D dA Hb { frames := fr, cells := S0.2.2.1, slots := S0.2.2.2, locals := lo } s S H locs cells slots) (hr : meth.sig.returnType = some .int) (hlocks : meth.locks = false) (h : xrx v S = some (r, T)) (d : decode cc pc = .ok (.ireturn, 1)) : W p l e { frames := fr, cells := S0.2.2.1, slots := S0.2.2.2, locals := lo } s m args below meth c H locs cells slots (MXQ D dA Hb below s S0 (xox (fun v => some (.int v)) r) T) (F0 m pc ls [.int v]) := by
  cases h
  exact s_iret X hG hr hlocks rfl d
theorem s_vretX (X : XX D dA E Hb p s m args c cc nL own) {r : Unit ⊕ Nat} (hG : XG D dA Hb { frames := fr, cells := S0.2.2.1, slots := S0.2.2.2, locals := lo } s S H locs cells slots) (hr : meth.sig.returnType = none) (hlocks : meth.locks = false) (h : xrx () S = some (r, T)) (d : decode cc pc = .ok (.return_, 1)) : W p l e { frames := fr, cells := S0.2.2.1, slots := S0.2.2.2, locals := lo } s m args below meth c H locs cells slots (MXQ D dA Hb below s S0 (xox (fun _ => none) r) T) (F0 m pc ls []) := by
  cases h
  exact s_vret X (r := ()) hG hr hlocks rfl d
theorem s_aretX (X : XX D dA E Hb p s m args c cc nL own) {v : Option Nat} {r : Option Nat ⊕ Nat} {rt : FieldType} (hG : XG D dA Hb { frames := fr, cells := S0.2.2.1, slots := S0.2.2.2, locals := lo } s S H locs cells slots) (hr : meth.sig.returnType = some rt) (hrt : (∃ n, rt = .object n) ∨ ∃ t, rt = .array t) (hlocks : meth.locks = false) (h : xrx v S = some (r, T)) (d : decode cc pc = .ok (.areturn, 1)) : W p l e { frames := fr, cells := S0.2.2.1, slots := S0.2.2.2, locals := lo } s m args below meth c H locs cells slots (MXQ D dA Hb below s S0 (xox (fun v => some (va_rf v)) r) T) (F0 m pc ls [va_rf v]) := by
  cases h
  exact s_aret X hG hr hrt hlocks rfl d
/-- athrow of an object of ours -/
theorem s_athrow (X : XX D dA E Hb p s m args c cc nL own) {rr : Option Nat} {K : Nat → XS → Option ρ} (h : xrd (qP rr) K S = some res) (d : decode cc pc = .ok (.athrow, 1)) (kk : ∀ q, K q S = some res → vx_W p l e R s m args below meth c H locs cells slots Q (F0 m pc ls rest) q) : W p l e R s m args below meth c H locs cells slots Q (F0 m pc ls (va_rf rr :: rest)) := by
  obtain ⟨a, h1, h2⟩ := xrd_inv h
  cases h1
  intro T0 hT X0
  obtain ⟨t, stt, hq⟩ := kk _ h2 T0 hT X0
  refine ⟨t, ?_, hq⟩
  have hdg' : decode c.code pc = .ok (.athrow, 1) := by rw [X.2.1]; exact d
  have hexec := X.1
  show Steps p.tables e below (T0.setTop (F0 m pc ls (.ref _ :: rest))) t
  jvm_step X0.here [X0.here.top, hexec, hdg', athrow.wp_sem]
  exact stt
/-- caught by this method -/
theorem s_catch (X : XX D dA E Hb p s m args c cc nL own) (hG : XG D dA Hb R s S H locs cells slots) {q ci : Nat} {E0 name : String} {N : Nat} {TT : u_T} (hq : ∃ fs, S.1 q = some (.inr (ci, fs)) ∧ E 0 0 ≤ q) (hc : xcl[ci]? = some (E0, TT, N)) {hh : List (Nat × Nat × Nat × Nat)} (htab : c.exceptionTable.toList = tableOf hh)
    (pre : List (Nat × Nat × Nat × Nat)) (x : Nat × Nat × Nat × Nat) (suf : List (Nat × Nat × Nat × Nat)) (hsplit : hh = pre ++ x :: suf) (hpass : ∀ z ∈ tableOf pre, covers z pc = false ∨ (z.catchType ≠ 0 ∧ ∃ nm : String, Cond.classLink own z.catchType nm ∈ lw_all ∧ va_Nc E0 nm s))
    (hx : covers { startPc := x.1, endPc := x.2.1, handlerPc := x.2.2.1, catchType := x.2.2.2 } pc = true) (h0 : x.2.2.2 ≠ 0) (hlink : Cond.classLink own x.2.2.2 name ∈ lw_all) (hcast : Cond.castable E0 name ∈ xnw)
    (kk : W p l e R s m args below meth c H locs cells slots Q (F0 m x.2.2.1 ls [.ref q])) : vx_W p l e R s m args below meth c H locs cells slots Q (F0 m pc ls rest) q := by
  obtain ⟨fs, hs, hb⟩ := hq
  have hE : E 0 0 = Hb.size := X.2.2.2.2.2.2.2.2.2.2.2.2.2.2
  have hts := X.2.2.2.2.1
  obtain ⟨qc, cell, e1, e2, e3, e4, e5, e6, -⟩ := hG.1.2.1 q _ hs
  rw [hc] at e1
  cases e1
  obtain ⟨hS, hfc, -⟩ := X.2.2.2.2.2.1 ci _ hc
  have h9 : c.exceptionTable.toList = tableOf pre ++ { startPc := x.1, endPc := x.2.1, handlerPc := x.2.2.1, catchType := x.2.2.2 } :: tableOf suf := by
    rw [htab, hsplit]
    simp [tableOf]
  refine vx_catch (name := name) X.2.2.2.1 (tableOf pre) { startPc := x.1, endPc := x.2.1, handlerPc := x.2.2.1, catchType := x.2.2.2 } (tableOf suf) h9 ?_ hx h0 (hts _ hlink) (va_Nw.use rfl (X.2.2.2.2.2.2.2.1 _ hcast)) e2 (e6 (by rw [← hE]; exact hb)) (by rw [e3]; exact hfc) kk
  intro z hz
  rcases hpass z hz with h | ⟨h1, nm, h2, h3⟩
  · exact Or.inl h
  · exact Or.inr ⟨h1, nm, hts _ h2, h3⟩
end XENDS

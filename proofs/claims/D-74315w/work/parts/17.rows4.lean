set_option maxRecDepth 100000
/-- a reference that is cast: null, an object of one of the classes cs, an array of kind k (100 + k in cs), an Object[] or one of ours -/
def qC (b : Nat) (r : Option Nat) (cs : List Nat) : XS → Option Unit := fun S => match r with
  | none => some ()
  | some a => match S.1 a with
    | some (.inr (ci, _)) => if cs.contains ci = true then some () else none
    | some (.inl (k, _)) => if (cs.contains (100 + k) && (k == 4 || decide (b ≤ a))) = true then some () else none
    | none => none
theorem qC_inv {b : Nat} {r : Option Nat} {cs : List Nat} {S : XS} {u : Unit} (h : qC b r cs S = some u) : r = none ∨ ∃ a, r = some a ∧ ((∃ ci fs, S.1 a = some (.inr (ci, fs)) ∧ ci ∈ cs) ∨ ∃ k x, S.1 a = some (.inl (k, x)) ∧ 100 + k ∈ cs ∧ (k = 4 ∨ b ≤ a)) := by
  cases r with
  | none => exact Or.inl rfl
  | some a =>
    refine Or.inr ⟨a, rfl, ?_⟩
    simp only [qC] at h
    split at h
    · rename_i ci fs e
      split at h
      · rename_i hc
        exact Or.inl ⟨ci, fs, e, by simpa using hc⟩
      · cases h
    · rename_i k x e
      split at h
      · rename_i hc
        simp only [Bool.and_eq_true, Bool.or_eq_true, beq_iff_eq, decide_eq_true_eq, List.contains_iff_mem] at hc
        exact Or.inr ⟨k, x, e, hc⟩
      · cases h
    · cases h
/-- instanceof String, asked of null or of a String -/
def qInst (r : Option Nat) (cs : List Nat) : XS → Option Int32 := fun S => match r with
  | none => some 0
  | some a => match S.1 a with
    | some (.inr (ci, _)) => if cs.contains ci = true then some 1 else none
    | _ => none
/-- arraycopy -/
def wCp (b : Nat) (r0 : Option Nat) (sp : Int32) (r1 : Option Nat) (dp n : Int32) : XS → Option XS := fun S => match r0, r1 with
  | some a0, some a1 => (match S.1 a0, S.1 a1 with
    | some (.inl (k0, n0, .inl f)), some (.inl (k1, n1, .inl g)) => if (decide (k0 < 2) && (k0 == k1) && decide (b ≤ a1) && !(decide (sp < 0)) && !(decide (dp < 0)) && !(decide (n < 0)) && decide (sp.toNatClampNeg + n.toNatClampNeg ≤ n0) && decide (dp.toNatClampNeg + n.toNatClampNeg ≤ n1) && (k0 == 0 || (List.range n.toNatClampNeg).all (fun i => fits .byte (.int (f (sp.toNatClampNeg + i)))))) = true then some (xset S a1 (.inl (k1, n1, .inl (va_cpy f g sp.toNatClampNeg dp.toNatClampNeg n.toNatClampNeg)))) else none
    | some (.inl (k0, n0, .inr (.inr (.inr (.inr f))))), some (.inl (k1, n1, .inr (.inr (.inr (.inr g))))) => if ((k0 == 4) && (k1 == 4) && decide (b ≤ a1) && !(decide (sp < 0)) && !(decide (dp < 0)) && !(decide (n < 0)) && decide (sp.toNatClampNeg + n.toNatClampNeg ≤ n0) && decide (dp.toNatClampNeg + n.toNatClampNeg ≤ n1) && (List.range n.toNatClampNeg).all (fun i => xmay 4 (f (sp.toNatClampNeg + i)) S)) = true then some (xset S a1 (.inl (k1, n1, .inr (.inr (.inr (.inr (va_cpy f g sp.toNatClampNeg dp.toNatClampNeg n.toNatClampNeg))))))) else none
    | _, _ => none)
  | _, _ => none
/-- a clone of an int array of ours -/
def aCl (b : Nat) (r : Option Nat) : XS → Option (Option Nat × XS) := fun S => match r with
  | none => none
  | some a => match S.1 a with
    | some (.inl (k, n, .inl f)) => if ((k == 0) && decide (b ≤ a) && decide (1 ≤ S.2.2.1) && decide (n ≤ S.2.2.2)) = true then some (some S.2.1, xadd S n (.inl (k, n, .inl f))) else none
    | _ => none
/-- the Class object of an Object[] -/
def qG (E : Nat → Nat → Nat) (r : Option Nat) : XS → Option (Option Nat) := fun S => match r with
  | none => none
  | some a => match S.1 a with
    | some (.inl (k, _)) => if (k == 4) = true then some (some (E 4 0)) else none
    | _ => none
/-- the Class object of an ArrayList -/
def qGI (E : Nat → Nat → Nat) (r : Option Nat) : XS → Option (Option Nat) := fun S => match r with
  | none => none
  | some a => match S.1 a with
    | some (.inr (ci, _)) => if (ci == 11) = true then some (some (E 4 1)) else none
    | _ => none
def XCU (own : String) (idx : Nat) (cs : List Nat) (owner : String) (x y : MethodName) (bytes : ByteArray) (maxL : Nat) (ret : Option FieldType) (n : Nat) : Prop :=
  Cond.methodLink own idx x ∈ lw_all ∧ Cond.sameMethod x.cls owner x.name x.desc ∈ lw_all ∧ (Cond.declares ⟨owner, x.name, x.desc⟩ ∈ xnw ∨ (Cond.instanceMethod ⟨owner, x.name, x.desc⟩ ∈ lw_all ∧ ∃ b m r, Cond.code ⟨owner, x.name, x.desc⟩ b m r ∈ lw_all)) ∧ (owner ≠ "java/lang/invoke/MethodHandle" ∧ owner ≠ "java/lang/invoke/VarHandle") ∧ Cond.instanceMethod y ∈ lw_all ∧ Cond.code y bytes maxL ret ∈ lw_all ∧ Cond.initialized y.cls ∈ lw_all ∧
  (parseMethodDescriptor x.desc).map (fun d => d.parameters.length) = some n ∧ ∀ ci ∈ cs, ∀ q : vw_C, xcl[ci]? = some q → Cond.selects q.1 x y ∈ lw_all
def XCF (own : String) (idx : Nat) (cs : List Nat) (x y : MethodName) (bytes : ByteArray) (maxL : Nat) (ret : Option FieldType) (n : Nat) : Prop :=
  Cond.methodLink own idx x ∈ lw_all ∧ (x.cls ≠ "java/lang/invoke/MethodHandle" ∧ x.cls ≠ "java/lang/invoke/VarHandle") ∧ Cond.instanceMethod y ∈ lw_all ∧ Cond.code y bytes maxL ret ∈ lw_all ∧ Cond.initialized y.cls ∈ lw_all ∧
  (parseMethodDescriptor x.desc).map (fun d => d.parameters.length) = some n ∧ ∀ ci ∈ cs, ∀ q : vw_C, xcl[ci]? = some q → Cond.selects q.1 x y ∈ lw_all ∧ (q.1, x, y) ∈ xfw
section XROWS
variable {p : Program} {l : Launch} {e : Env} {R : Room} {s : State} {m : MethodId} {args : Array Value} {below : List Frame} {meth : Method} {c : Code} {H : Heap} {locs : List Loc} {cells slots : Nat} {Q : State → Prop}
variable {cc : ByteArray} {pc nL : Nat} {ls : Array Slot} {rest : List Value} {D : va_G} {dA : Nat → ClassId} {E : Nat → Nat → Nat} {Hb : Heap} {own : String} {S : XS} {ρ α : Type} {res : ρ}
variable {y : MethodName} {bytes : ByteArray} {maxL fr lo n idx : Nat} {ret : Option FieldType} {As st : List Value}
/-! statics -/
theorem x_stat (X : XX D dA E Hb p s m args c cc nL own) (hG : XG D dA Hb R s S H locs cells slots) {k : Nat} {z : String × String × String × Nat × Int32} {v : Value} (hk : xst[k]? = some z) (hv : xsv E z.2.2.2.1 z.2.2.2.2 = v) : va_Z z.1 z.2.1 z.2.2.1 v (fun q => Hb.size ≤ q) s H := by
  have h1 := X.2.2.2.2.2.2.2.2.1 z (List.mem_of_getElem? hk)
  rw [hv] at h1
  exact h1.kept (fun a h _ => hG.1.2.2.2 a h)
theorem s_gets (X : XX D dA E Hb p s m args c cc nL own) (hG : XG D dA Hb R s S H locs cells slots) {k : Nat} {z : String × String × String × Nat × Int32} {v : Value} (hk : xst[k]? = some z) (hv : xsv E z.2.2.2.1 z.2.2.2.2 = v) (hl : Cond.fieldLink own idx z.1 z.2.1 z.2.2.1 ∈ lw_all) (d : decode cc pc = .ok (.getstatic idx, 3))
    (kk : W p l e R s m args below meth c H locs cells slots Q (F0 m (pc + 3) ls (v :: rest))) : W p l e R s m args below meth c H locs cells slots Q (F0 m pc ls rest) := by
  obtain ⟨cf, kf, fi, f, a, cell, h1, h2, h3, h4, h5, h6, h7, h8⟩ := x_stat X hG hk hv
  exact W.gets X.1 X.2.1 X.2.2.2.1 (X.2.2.2.2.1 _ hl) h1 h2 h3 h4 h5 (fun e => by rw [e] at h6; cases h6) h7 rfl d kk
theorem s_getsN (X : XX D dA E Hb p s m args c cc nL own) (hG : XG D dA Hb R s S H locs cells slots) {k : Nat} {z : String × String × String × Nat × Int32} {v : Value} {host : String} (hk : xst[k]? = some z) (hv : xsv E z.2.2.2.1 z.2.2.2.2 = v) (hl : Cond.fieldLinkNest own idx z.1 z.2.1 z.2.2.1 host ∈ xnw) (d : decode cc pc = .ok (.getstatic idx, 3))
    (kk : W p l e R s m args below meth c H locs cells slots Q (F0 m (pc + 3) ls (v :: rest))) : W p l e R s m args below meth c H locs cells slots Q (F0 m pc ls rest) := by
  obtain ⟨cf, kf, fi, f, a, cell, h1, h2, h3, h4, h5, h6, h7, h8⟩ := x_stat X hG hk hv
  exact va_WgetsN X.1 X.2.1 X.2.2.2.1 (va_Nw.use rfl (X.2.2.2.2.2.2.2.1 _ hl)) h1 h2 h3 h4 h5 (fun e => by rw [e] at h6; cases h6) h7 rfl d kk
/-! arrays of references -/
theorem x_anew (X : XX D dA E Hb p s m args c cc nL own) (hG : XG D dA Hb R s S H locs cells slots) {i : Int32} {kd : Nat} {C : String} {K : Option Nat → XS → Option ρ} (h3 : 3 ≤ kd) (h7 : kd < 7) (hC : xty kd = .object C) (hcl : Cond.classLink own idx C ∈ lw_all) (hAO : va_AO C s) (h : xal (aA kd i) K S = some res) (d : decode cc pc = .ok (.anewarray idx, 3))
    (kk : ∀ (v : Option Nat) (S : XS) (H1 : Heap) (cells slots : Nat), XG D dA Hb R s S H1 locs cells slots → K v S = some res → W p l e R s m args below meth c H1 locs cells slots Q (F0 m (pc + 3) ls (va_rf v :: rest))) : W p l e R s m args below meth c H locs cells slots Q (F0 m pc ls (.int i :: rest)) := by
  obtain ⟨v, T, h1, h2⟩ := xal_inv h
  simp only [aA] at h1
  split at h1
  · rename_i hc
    cases h1
    simp only [Bool.and_eq_true, Bool.not_eq_true', decide_eq_true_eq, decide_eq_false_iff_not] at hc
    obtain ⟨⟨⟨c1, c2⟩, c3⟩, c4⟩ := hc
    obtain ⟨g1, g2, g3, g4⟩ := id hG
    have hA := X.2.2.2.2.2.2.1 kd h7
    refine W.anew X.1 X.2.1 X.2.2.2.1 (X.2.2.2.2.1 _ hcl) (va_AO.use hAO) rfl d rfl c1 (by omega) (by omega) (by omega) fun cA kA comp f1 f2 f3 f4 => ?_
    have hRA := hA.2
    rw [hC] at hRA
    obtain ⟨kA', comp', r1, r2, r3, r4⟩ := hRA
    have hcA : cA = dA kd := Option.some.inj (f1.symm.trans r4)
    subst hcA
    generalize hH1 : H.push ({ cls := dA kd, slots := Array.replicate i.toNatClampNeg .null, vm := .none } : Cell) = H1
    have z1 : H1.size = H.size + 1 := by rw [← hH1, Array.size_push]
    have e1 : H1[H.size]? = some (arrV (dA kd) i.toNatClampNeg (xel (i.toNatClampNeg, xzero kd))) := by
      rw [← hH1, Array.getElem?_push_size, arrV_new]
      match kd, h3 with
      | k + 3, _ => rfl
    have o1 : ∀ q : Nat, q < H.size → H1[q]? = H[q]? := fun q hq => by rw [← hH1, Array.getElem?_push, if_neg (Nat.ne_of_lt hq)]
    have hx : xat D dA Hb.size s H.size (.inl (kd, i.toNatClampNeg, xzero kd)) H1 :=
      ⟨_, e1, hA.1 _ _, (fun z => nomatch z), arrV_size _ _ _, fun j hj => arrV_read _ _ hj, fun _ => ⟨rfl, h7⟩, fun h4 => by subst h4; rfl⟩
    have hsz : some S.2.1 = some H.size := by rw [g1.1]
    rw [hsz] at h2
    exact kk (some H.size) _ H1 _ _ (hG.add z1 o1 c2 c3 hx) h2
  · cases h1
theorem s_anew3 (X : XX D dA E Hb p s m args c cc nL own) (hG : XG D dA Hb R s S H locs cells slots) {i : Int32} {K : Option Nat → XS → Option ρ} (hcl : Cond.classLink own idx "ClockZones$Table" ∈ lw_all) (h : xal (aA 3 i) K S = some res) (d : decode cc pc = .ok (.anewarray idx, 3))
    (kk : ∀ (v : Option Nat) (S : XS) (H1 : Heap) (cells slots : Nat), XG D dA Hb R s S H1 locs cells slots → K v S = some res → W p l e R s m args below meth c H1 locs cells slots Q (F0 m (pc + 3) ls (va_rf v :: rest))) : W p l e R s m args below meth c H locs cells slots Q (F0 m pc ls (.int i :: rest)) :=
  x_anew X hG (by decide) (by decide) rfl hcl X.2.2.2.2.2.2.2.2.2.2.1.1 h d kk
theorem s_anew4 (X : XX D dA E Hb p s m args c cc nL own) (hG : XG D dA Hb R s S H locs cells slots) {i : Int32} {K : Option Nat → XS → Option ρ} (hcl : Cond.classLink own idx "java/lang/Object" ∈ lw_all) (h : xal (aA 4 i) K S = some res) (d : decode cc pc = .ok (.anewarray idx, 3))
    (kk : ∀ (v : Option Nat) (S : XS) (H1 : Heap) (cells slots : Nat), XG D dA Hb R s S H1 locs cells slots → K v S = some res → W p l e R s m args below meth c H1 locs cells slots Q (F0 m (pc + 3) ls (va_rf v :: rest))) : W p l e R s m args below meth c H locs cells slots Q (F0 m pc ls (.int i :: rest)) :=
  x_anew X hG (by decide) (by decide) rfl hcl X.2.2.2.2.2.2.2.2.2.2.1.2.1 h d kk
theorem s_anew5 (X : XX D dA E Hb p s m args c cc nL own) (hG : XG D dA Hb R s S H locs cells slots) {i : Int32} {K : Option Nat → XS → Option ρ} (hcl : Cond.classLink own idx "java/lang/String" ∈ lw_all) (h : xal (aA 5 i) K S = some res) (d : decode cc pc = .ok (.anewarray idx, 3))
    (kk : ∀ (v : Option Nat) (S : XS) (H1 : Heap) (cells slots : Nat), XG D dA Hb R s S H1 locs cells slots → K v S = some res → W p l e R s m args below meth c H1 locs cells slots Q (F0 m (pc + 3) ls (va_rf v :: rest))) : W p l e R s m args below meth c H locs cells slots Q (F0 m pc ls (.int i :: rest)) :=
  x_anew X hG (by decide) (by decide) rfl hcl X.2.2.2.2.2.2.2.2.2.2.1.2.2.1 h d kk
theorem s_anew6 (X : XX D dA E Hb p s m args c cc nL own) (hG : XG D dA Hb R s S H locs cells slots) {i : Int32} {K : Option Nat → XS → Option ρ} (hcl : Cond.classLink own idx "[I" ∈ lw_all) (h : xal (aA 6 i) K S = some res) (d : decode cc pc = .ok (.anewarray idx, 3))
    (kk : ∀ (v : Option Nat) (S : XS) (H1 : Heap) (cells slots : Nat), XG D dA Hb R s S H1 locs cells slots → K v S = some res → W p l e R s m args below meth c H1 locs cells slots Q (F0 m (pc + 3) ls (va_rf v :: rest))) : W p l e R s m args below meth c H locs cells slots Q (F0 m pc ls (.int i :: rest)) := by
  obtain ⟨v, T, h1, h2⟩ := xal_inv h
  simp only [aA] at h1
  split at h1
  · rename_i hc
    cases h1
    simp only [Bool.and_eq_true, Bool.not_eq_true', decide_eq_true_eq, decide_eq_false_iff_not] at hc
    obtain ⟨⟨⟨c1, c2⟩, c3⟩, c4⟩ := hc
    obtain ⟨g1, g2, g3, g4⟩ := id hG
    have hA := X.2.2.2.2.2.2.1 6 (by decide)
    have hAO : (Cond.arrayOver (.array .int)).before args s = true := X.2.2.2.2.2.2.2.2.2.2.1.2.2.2
    refine W.anewA X.1 X.2.1 (t := .int) X.2.2.2.1 (X.2.2.2.2.1 _ hcl) hAO rfl d rfl c1 (by omega) (by omega) (by omega) fun cA kA comp f1 f2 f3 f4 => ?_
    have hRA : s.vm.findClass ("[" ++ (FieldType.array .int).toString) = some (dA 6) := hA.2
    have hcA : cA = dA 6 := Option.some.inj (f1.symm.trans hRA)
    subst hcA
    generalize hH1 : H.push ({ cls := dA 6, slots := Array.replicate i.toNatClampNeg .null, vm := .none } : Cell) = H1
    have z1 : H1.size = H.size + 1 := by rw [← hH1, Array.size_push]
    have e1 : H1[H.size]? = some (arrV (dA 6) i.toNatClampNeg (xel (i.toNatClampNeg, xzero 6))) := by
      rw [← hH1, Array.getElem?_push_size, arrV_new]
      rfl
    have o1 : ∀ q : Nat, q < H.size → H1[q]? = H[q]? := fun q hq => by rw [← hH1, Array.getElem?_push, if_neg (Nat.ne_of_lt hq)]
    have hx : xat D dA Hb.size s H.size (.inl (6, i.toNatClampNeg, xzero 6)) H1 :=
      ⟨_, e1, hA.1 _ _, (fun z => nomatch z), arrV_size _ _ _, fun j hj => arrV_read _ _ hj, fun _ => ⟨rfl, by decide⟩, fun h4 => by cases h4⟩
    have hsz : some S.2.1 = some H.size := by rw [g1.1]
    rw [hsz] at h2
    exact kk (some H.size) _ H1 _ _ (hG.add z1 o1 c2 c3 hx) h2
  · cases h1
end XROWS

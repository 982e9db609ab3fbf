set_option maxRecDepth 100000
theorem xra_name {U : State} {cA : ClassId} {ty : FieldType} (h : va_RA U cA ty) : U.vm.findClass ("[" ++ ty.toString) = some cA := by
  cases ty with
  | object C => obtain ⟨_, _, _, _, _, r4⟩ := h; exact r4
  | _ => exact h
section XROWS
variable {p : Program} {l : Launch} {e : Env} {R : Room} {s : State} {m : MethodId} {args : Array Value} {below : List Frame} {meth : Method} {c : Code} {H : Heap} {locs : List Loc} {cells slots : Nat} {Q : State → Prop}
variable {cc : ByteArray} {pc nL : Nat} {ls : Array Slot} {rest : List Value} {D : va_G} {dA : Nat → ClassId} {E : Nat → Nat → Nat} {Hb : Heap} {own : String} {S : XS} {ρ α : Type} {res : ρ}
variable {y : MethodName} {bytes : ByteArray} {maxL fr lo n idx : Nat} {ret : Option FieldType} {As st : List Value}
/-- a cast to nm asks of the classes cs: castable words, or nm itself; of arrays: their class's name -/
def XCA (nm : String) (cs : List Nat) : Prop := (∀ ci ∈ cs, ∀ q : vw_C, xcl[ci]? = some q → q.1 = nm ∨ Cond.castable q.1 nm ∈ xnw) ∧ ∀ k : Nat, 100 + k ∈ cs → k < 7 ∧ nm = "[" ++ (xty k).toString
theorem xca_arr {k : Nat} {nm : String} (hk : k < 7) (hn : nm = "[" ++ (xty k).toString) : XCA nm [100 + k] := by
  refine ⟨fun ci h q hq => ?_, fun j h => ?_⟩
  · have e := List.mem_singleton.mp h
    subst e
    have hlt := (List.getElem?_eq_some_iff.mp hq).1
    have h19 : xcl.length = 19 := rfl
    omega
  · have e : 100 + j = 100 + k := List.mem_singleton.mp h
    have e2 : j = k := by omega
    subst e2
    exact ⟨hk, hn⟩
theorem s_cast (X : XX D dA E Hb p s m args c cc nL own) (hG : XG D dA Hb R s S H locs cells slots) {r : Option Nat} {cs : List Nat} {nm : String} {K : Unit → XS → Option ρ} (C : XCA nm cs ∧ Cond.classLink own idx nm ∈ lw_all) (h : xrd (qC (E 0 0) r cs) K S = some res) (d : decode cc pc = .ok (.checkcast idx, 3))
    (kk : K () S = some res → W p l e R s m args below meth c H locs cells slots Q (F0 m (pc + 3) ls (va_rf r :: rest))) : W p l e R s m args below meth c H locs cells slots Q (F0 m pc ls (va_rf r :: rest)) := by
  obtain ⟨v, h1, h2⟩ := xrd_inv h
  obtain ⟨⟨C1, C3⟩, C2⟩ := C
  have hl := X.2.2.2.2.1 _ C2
  have hU := X.2.2.2.2.2
  rcases qC_inv h1 with rfl | ⟨a, rfl, ⟨ci, fs, hs, hci⟩ | ⟨k, x, hs, hk, hor⟩⟩
  · exact lv_castN X.1 X.2.1 d (kk h2)
  · obtain ⟨q, cell, kB, b1, b2, b3, b4, b5⟩ := xrecv X hG hs
    rcases C1 ci hci q b1 with hq | hq
    · rw [hq] at b4
      have hat := (hU.1 ci q b1).2
      rw [hq] at hat
      exact va_castS X.1 X.2.1 X.2.2.2.1 hl hat ⟨cell, b2, b3, b4⟩ d (kk h2)
    · exact va_castY X.1 X.2.1 X.2.2.2.1 hl (hU.2.2.1 _ hq) ⟨cell, b2, b3, b4⟩ d (kk h2)
  · obtain ⟨hk7, hnm⟩ := C3 k hk
    obtain ⟨cell, e1, e2, e3, e4, e5, e6, e7⟩ := hG.1.2.1 a _ hs
    have hnm2 : s.vm.findClass nm = some (dA k) := by
      rw [hnm]
      exact xra_name (hU.2.1 k hk7).2
    by_cases hb : Hb.size ≤ a
    · obtain ⟨rfl, -⟩ := e6 hb
      intro T hT X0
      obtain ⟨vm', X', st⟩ := X0.checkcastYes X.1 X.2.2.2.1 hl (by rw [hT]; exact e1) rfl hnm2 (va_asg _ _) (g := F0 m pc ls (.ref a :: rest)) rfl rfl (by rw [X.2.1]; exact d)
      obtain ⟨t, a1, b1⟩ := kk h2 (T.setVm vm') hT X'
      exact ⟨t, st t a1, b1⟩
    · by_cases h4 : k = 4
      · have hcls := e7 h4
        subst h4
        obtain ⟨hobj, -⟩ := e2
        have hst : cell.vm.isStatics = false := by
          cases hvm : cell.vm <;> first | rfl | exact absurd hvm (hobj _)
        intro T hT X0
        obtain ⟨vm', X', st⟩ := X0.checkcastYes X.1 X.2.2.2.1 hl (by rw [hT]; exact e1) hst hnm2 (by rw [hcls]; exact va_asg _ _) (g := F0 m pc ls (.ref a :: rest)) rfl rfl (by rw [X.2.1]; exact d)
        obtain ⟨t, a1, b1⟩ := kk h2 (T.setVm vm') hT X'
        exact ⟨t, st t a1, b1⟩
      · exact absurd (hor.resolve_left h4) (by rw [X.2.2.2.2.2.2.2.2.2.2.2.2.2.2]; exact hb)
theorem s_ldcS (X : XX D dA E Hb p s m args c cc nL own) {k : Nat} {z : String × Nat × String × Nat} (hz : xstr[k]? = some z) (ho : z.1 = own) (hi : z.2.1 = idx) (d : decode cc pc = .ok (.ldc idx, 2))
    (kk : W p l e R s m args below meth c H locs cells slots Q (F0 m (pc + 2) ls (va_rf (some (E 1 z.2.2.2)) :: rest))) : W p l e R s m args below meth c H locs cells slots Q (F0 m pc ls rest) := by
  have h1 := X.2.2.2.2.2.2.2.2.2.2.2.1 z (List.mem_of_getElem? hz)
  rw [ho, hi] at h1
  exact va_ldcS X.1 X.2.1 X.2.2.2.1 h1 d kk
theorem s_ldcM (X : XX D dA E Hb p s m args c cc nL own) {k : Nat} {z : String × Nat} (hz : xmir[k]? = some z) (hl : Cond.classLink own idx z.1 ∈ lw_all) (d : decode cc pc = .ok (.ldc idx, 2))
    (kk : W p l e R s m args below meth c H locs cells slots Q (F0 m (pc + 2) ls (va_rf (some (E 4 z.2)) :: rest))) : W p l e R s m args below meth c H locs cells slots Q (F0 m pc ls rest) :=
  va_ldcM X.1 X.2.1 X.2.2.2.1 (X.2.2.2.2.1 _ hl) (X.2.2.2.2.2.2.2.2.2.2.2.2.1 z (List.mem_of_getElem? hz)) d kk
theorem s_inst (X : XX D dA E Hb p s m args c cc nL own) (hG : XG D dA Hb R s S H locs cells slots) {r : Option Nat} {ci : Nat} {q : vw_C} {K : Int32 → XS → Option ρ} (hq : xcl[ci]? = some q) (hl0 : Cond.classLink own idx q.1 ∈ lw_all) (h : xrd (qInst r [ci]) K S = some res) (d : decode cc pc = .ok (.instanceof idx, 3))
    (kk : ∀ v, K v S = some res → W p l e R s m args below meth c H locs cells slots Q (F0 m (pc + 3) ls (.int v :: rest))) : W p l e R s m args below meth c H locs cells slots Q (F0 m pc ls (va_rf r :: rest)) := by
  obtain ⟨v, h1, h2⟩ := xrd_inv h
  have hl := X.2.2.2.2.1 _ hl0
  cases r with
  | none =>
    cases h1
    exact lv_instN X.1 X.2.1 d (kk 0 h2)
  | some a =>
    simp only [qInst] at h1
    split at h1
    · rename_i ci' fs hs
      split at h1
      · rename_i hc
        cases h1
        have hci : ci' = ci := by simpa using hc
        subst hci
        obtain ⟨q', cell, kB, b1, b2, b3, b4, b5⟩ := xrecv X hG hs
        cases hq.symm.trans b1
        exact va_instS X.1 X.2.1 X.2.2.2.1 hl (X.2.2.2.2.2.1 ci' q hq).2 ⟨cell, b2, b3, b4⟩ d (kk 1 h2)
      · cases h1
    · cases h1
theorem xnn {z : Int32} (hz : ¬ z < 0) : z.toInt = (z.toNatClampNeg : Int) := by
  have hz0 : (0 : Int) ≤ z.toInt := by
    have := Int32.not_lt.mp hz
    simpa using Int32.le_iff_toInt_le.mp this
  show z.toInt = ((z.toInt.toNat : Nat) : Int)
  omega
theorem s_acopy (X : XX D dA E Hb p s m args c cc nL own) (hG : XG D dA Hb R s S H locs cells slots) (hl : ls.size = nL) {r0 r1 : Option Nat} {sp dp n : Int32} {K : XS → Option ρ} (hlink : Cond.methodLink own idx arraycopyName ∈ lw_all) (hnat : Cond.native arraycopyName ∈ lw_all) (hstat : Cond.static arraycopyName ∈ lw_all) (hini : Cond.initialized "java/lang/System" ∈ lw_all) (h : xwr (wCp (E 0 0) r0 sp r1 dp n) K S = some res) (d : decode cc pc = .ok (.invokestatic idx, 3)) (hf : 1 ≤ R.frames) (hlo : 40 ≤ R.locals) (hc : (rest.map fun v => v.category).sum ≤ 8)
    (kk : ∀ (S : XS) (H1 : Heap) (locs1 : List Loc), XG D dA Hb R s S H1 locs1 cells slots → K S = some res → W p l e R s m args below meth c H1 locs1 cells slots Q (F0 m (pc + 3) ls rest)) : W p l e R s m args below meth c H locs cells slots Q (F0 m pc ls (.int n :: .int dp :: va_rf r1 :: .int sp :: va_rf r0 :: rest)) := by
  obtain ⟨T, h1, h2⟩ := xwr_inv h
  have hE : E 0 0 = Hb.size := X.2.2.2.2.2.2.2.2.2.2.2.2.2.2
  have hts := X.2.2.2.2.1
  have hw : nativeFrameWords "java/lang/System" "arraycopy" 5 + 11 ≤ 32 := by decide
  unfold wCp at h1
  rw [hE] at h1
  split at h1
  · rename_i a0 a1
    have tail : ∀ (cs : Cell) (k1 n1 : Nat) (x1 y1 : vp_A), H[a0]? = some cs → (∀ j, j < y1.1 → True) → H[a1]? = some (arrV (dA k1) n1 (xel x1)) → True := fun _ _ _ _ _ _ _ _ => trivial
    split at h1
    · rename_i k0 n0 f k1 n1 g hs0 hs1
      split at h1
      · rename_i hcnd
        cases h1
        simp only [Bool.and_eq_true, Bool.not_eq_true', decide_eq_true_eq, decide_eq_false_iff_not, beq_iff_eq, Bool.or_eq_true] at hcnd
        obtain ⟨⟨⟨⟨⟨⟨⟨⟨ck, rfl⟩, cb⟩, c1⟩, c2⟩, c3⟩, c4⟩, c5⟩, c6⟩ := hcnd
        obtain ⟨cell0, e1, e2, e3, e4, e5, e6, e7⟩ := hG.1.2.1 a0 _ hs0
        obtain ⟨cell1, f1, f2, f3, f4, f5, f6, f7⟩ := hG.1.2.1 a1 _ hs1
        obtain ⟨rfl, hk7⟩ := f6 cb
        obtain ⟨o0, kA0, hk0, cm0, hkk0⟩ := e2
        obtain ⟨o1, kA1, hk1, cm1, hkk1⟩ := f2
        have hprim : refKind (xty k0) = false := by
          match k0, ck with
          | 0, _ => rfl
          | 1, _ => rfl
        have hfit : ∀ i, i < n.toNatClampNeg → fits (xty k0) (.int (f (sp.toNatClampNeg + i))) = true := by
          intro i hi
          match k0, ck, c6 with
          | 0, _, _ => rfl
          | 1, _, c6 =>
            rcases c6 with c6 | c6
            · cases c6
            · exact List.all_eq_true.mp c6 i (List.mem_range.mpr hi)
        intro T0 hT X0
        obtain ⟨vm', X', step⟩ := X0.arraycopy X.1 X.2.2.2.1 (hts _ hlink) (hts _ hnat) (hts _ hstat) (hts _ hini) (src := a0) (dst := a1) (srcPos := sp) (destPos := dp) (n := n) (by rw [hT]; exact e1) (by rw [hT]; exact f1)
          o0 o1 e3 f3 hk0 hk1 hkk0 hkk1 (by simp [hprim]) c1 c2 c3 (by rw [xnn c1, xnn c3, e4]; simp only; omega) (by rw [xnn c2, xnn c3, f4]; simp only; omega)
          (fun vm₁ _ i hi => by
            have e : cell0.slots.getD (sp.toNatClampNeg + i) .null = .int (f (sp.toNatClampNeg + i)) := by
              rw [Array.getD_eq_getD_getElem?, e5 _ (by simp only; omega)]
              rfl
            rw [e]
            exact ⟨hfit i hi, trivial⟩)
          (g := F0 m pc ls (.int n :: .int dp :: .ref a1 :: .int sp :: .ref a0 :: rest)) rfl (hl.trans X.2.2.1.symm) (rest := rest) rfl (by rw [X.2.1]; exact d) hf (by show 2 * 0 + _ + _ ≤ _; omega)
        have ec : copied cell0 (arrV (dA k0) n1 (xel (n1, .inl g))) sp dp n = arrV (dA k0) n1 (xel (n1, .inl (va_cpy f g sp.toNatClampNeg dp.toNatClampNeg n.toNatClampNeg))) := va_copiedX (fun z => .int z) cell0 (dA k0) f g e5 c4
        rw [ec] at X' step
        have hlt : a1 < H.size := (Array.getElem?_eq_some_iff.mp f1).1
        have hx : xat D dA Hb.size s a1 (.inl (k0, n1, .inl (va_cpy f g sp.toNatClampNeg dp.toNatClampNeg n.toNatClampNeg))) (H.setIfInBounds a1 (arrV (dA k0) n1 (xel (n1, .inl (va_cpy f g sp.toNatClampNeg dp.toNatClampNeg n.toNatClampNeg))))) :=
          ⟨_, by simp [Array.getElem?_setIfInBounds, hlt], (X.2.2.2.2.2.2.1 k0 hk7).1 _ _, (fun z => nomatch z), arrV_size _ _ _, fun j hj => arrV_read _ _ hj, fun _ => ⟨rfl, hk7⟩, fun h4 => by subst h4; rfl⟩
        have hg := hG.set (j := 0) (H1 := H.setIfInBounds a1 (arrV (dA k0) n1 (xel (n1, .inl (va_cpy f g sp.toNatClampNeg dp.toNatClampNeg n.toNatClampNeg))))) (by simp) (fun q hq => by simp [Array.getElem?_setIfInBounds, Ne.symm hq]) cb hx
        obtain ⟨t, b1, b2⟩ := kk _ _ (locs ++ (cell0.stretch sp.toNatClampNeg n.toNatClampNeg).zipIdx.map fun q => ⟨a1, dp.toNatClampNeg + q.2⟩) ⟨hg.1, fun q hq => by
            rcases List.mem_append.mp hq with h | h
            · exact hG.2.1 q h
            · obtain ⟨z, -, hz⟩ := List.mem_map.mp h
              rw [← hz]
              exact cb, hg.2.2⟩ h2 _ (by rw [← hT]; rfl) X'
        exact ⟨t, step t b1, b2⟩
      · cases h1
    · rename_i k0 n0 f k1 n1 g hs0 hs1
      split at h1
      · rename_i hcnd
        cases h1
        simp only [Bool.and_eq_true, Bool.not_eq_true', decide_eq_true_eq, decide_eq_false_iff_not, beq_iff_eq] at hcnd
        obtain ⟨⟨⟨⟨⟨⟨⟨⟨rfl, rfl⟩, cb⟩, c1⟩, c2⟩, c3⟩, c4⟩, c5⟩, c6⟩ := hcnd
        obtain ⟨cell0, e1, e2, e3, e4, e5, e6, e7⟩ := hG.1.2.1 a0 _ hs0
        obtain ⟨cell1, f1, f2, f3, f4, f5, f6, f7⟩ := hG.1.2.1 a1 _ hs1
        obtain ⟨rfl, hk7⟩ := f6 cb
        obtain ⟨o0, kA0, hk0, cm0, hkk0⟩ := e2
        obtain ⟨o1, kA1, hk1, cm1, hkk1⟩ := f2
        intro T0 hT X0
        obtain ⟨vm', X', step⟩ := X0.arraycopy X.1 X.2.2.2.1 (hts _ hlink) (hts _ hnat) (hts _ hstat) (hts _ hini) (src := a0) (dst := a1) (srcPos := sp) (destPos := dp) (n := n) (by rw [hT]; exact e1) (by rw [hT]; exact f1)
          o0 o1 e3 f3 hk0 hk1 hkk0 hkk1 rfl c1 c2 c3 (by rw [xnn c1, xnn c3, e4]; simp only; omega) (by rw [xnn c2, xnn c3, f4]; simp only; omega)
          (fun vm₁ hal i hi => by
            have e : cell0.slots.getD (sp.toNatClampNeg + i) .null = va_rf (f (sp.toNatClampNeg + i)) := by
              rw [Array.getD_eq_getD_getElem?, e5 _ (by simp only; omega)]
              rfl
            rw [e]
            have hmay := List.all_eq_true.mp c6 i (List.mem_range.mpr hi)
            cases hy : f (sp.toNatClampNeg + i) with
            | none => exact ⟨rfl, trivial⟩
            | some y =>
              rw [hy] at hmay
              obtain ⟨cv, kv, kcomp, g1, g2, g3, g4, g5⟩ := x_may X hG hmay (fun h6 => nomatch h6) (by decide) hk7 hk1 hkk1
              obtain ⟨kC', hkC', -⟩ := hal.2.2 _ _ g3
              obtain ⟨kE', hkE', -⟩ := hal.2.2 _ _ g4
              refine ⟨rfl, cv, (show T0.heap[y]? = some cv by rw [hT]; exact g1), (fun q h => by rw [h] at g2; cases g2), ⟨kC', hkC'⟩, ⟨kE', hkE'⟩, ?_⟩
              show vm₁.assignable _ _ = true
              rw [hal.assignable]
              exact g5)
          (g := F0 m pc ls (.int n :: .int dp :: .ref a1 :: .int sp :: .ref a0 :: rest)) rfl (hl.trans X.2.2.1.symm) (rest := rest) rfl (by rw [X.2.1]; exact d) hf (by show 2 * 0 + _ + _ ≤ _; omega)
        have ec : copied cell0 (arrV (dA 4) n1 (xel (n1, .inr (.inr (.inr (.inr g)))))) sp dp n = arrV (dA 4) n1 (xel (n1, .inr (.inr (.inr (.inr (va_cpy f g sp.toNatClampNeg dp.toNatClampNeg n.toNatClampNeg)))))) := va_copiedX (fun z => va_rf z) cell0 (dA 4) f g e5 c4
        rw [ec] at X' step
        have hlt : a1 < H.size := (Array.getElem?_eq_some_iff.mp f1).1
        have hx : xat D dA Hb.size s a1 (.inl (4, n1, .inr (.inr (.inr (.inr (va_cpy f g sp.toNatClampNeg dp.toNatClampNeg n.toNatClampNeg)))))) (H.setIfInBounds a1 (arrV (dA 4) n1 (xel (n1, .inr (.inr (.inr (.inr (va_cpy f g sp.toNatClampNeg dp.toNatClampNeg n.toNatClampNeg)))))))) :=
          ⟨_, by simp [Array.getElem?_setIfInBounds, hlt], (X.2.2.2.2.2.2.1 4 hk7).1 _ _, (fun z => nomatch z), arrV_size _ _ _, fun j hj => arrV_read _ _ hj, fun _ => ⟨rfl, hk7⟩, fun _ => rfl⟩
        have hg := hG.set (j := 0) (H1 := H.setIfInBounds a1 (arrV (dA 4) n1 (xel (n1, .inr (.inr (.inr (.inr (va_cpy f g sp.toNatClampNeg dp.toNatClampNeg n.toNatClampNeg)))))))) (by simp) (fun q hq => by simp [Array.getElem?_setIfInBounds, Ne.symm hq]) cb hx
        obtain ⟨t, b1, b2⟩ := kk _ _ (locs ++ (cell0.stretch sp.toNatClampNeg n.toNatClampNeg).zipIdx.map fun q => ⟨a1, dp.toNatClampNeg + q.2⟩) ⟨hg.1, fun q hq => by
            rcases List.mem_append.mp hq with h | h
            · exact hG.2.1 q h
            · obtain ⟨z, -, hz⟩ := List.mem_map.mp h
              rw [← hz]
              exact cb, hg.2.2⟩ h2 _ (by rw [← hT]; rfl) X'
        exact ⟨t, step t b1, b2⟩
      · cases h1
    · cases h1
  · cases h1
def imax (x y : Int32) : Int32 := if x < y then y else x
def imin (x y : Int32) : Int32 := if y < x then y else x
theorem s_mmax (X : XX D dA E Hb p s m args c cc nL own) (hG : XG D dA Hb R s S H locs cells slots) (hl : ls.size = nL) (hlink : Cond.methodLink own idx Lib.Math.max.name ∈ lw_all) (hstat : Cond.static Lib.Math.max.name ∈ lw_all) (hini : Cond.initialized "java/lang/Math" ∈ lw_all) (hcode : Cond.code Lib.Math.max.name Lib.Math.max.code 2 (some .int) ∈ lw_all) (hf : 1 ≤ R.frames) (hlo : 40 ≤ R.locals) (hc : (rest.map fun v => v.category).sum ≤ 8) {a b : Int32} (d : decode cc pc = .ok (.invokestatic idx, 3))
    (kk : W p l e R s m args below meth c H locs cells slots Q (F0 m (pc + 3) ls (.int (imax a b) :: rest))) : W p l e R s m args below meth c H locs cells slots Q (F0 m pc ls (.int b :: .int a :: rest)) :=
  have hts := X.2.2.2.2.1
  va_mmax X.1 X.2.1 (X.2.2.1.trans hl.symm) X.2.2.2.1 (hts _ hlink) (hts _ hstat) (hts _ hini) (hts _ hcode) hf (by omega) (by have := hG.2.2.1; omega) (by have := hG.2.2.2; omega) d kk
theorem s_mmin (X : XX D dA E Hb p s m args c cc nL own) (hG : XG D dA Hb R s S H locs cells slots) (hl : ls.size = nL) (hlink : Cond.methodLink own idx Lib.Math.min.name ∈ lw_all) (hstat : Cond.static Lib.Math.min.name ∈ lw_all) (hini : Cond.initialized "java/lang/Math" ∈ lw_all) (hcode : Cond.code Lib.Math.min.name Lib.Math.min.code 2 (some .int) ∈ lw_all) (hf : 1 ≤ R.frames) (hlo : 40 ≤ R.locals) (hc : (rest.map fun v => v.category).sum ≤ 8) {a b : Int32} (d : decode cc pc = .ok (.invokestatic idx, 3))
    (kk : W p l e R s m args below meth c H locs cells slots Q (F0 m (pc + 3) ls (.int (imin a b) :: rest))) : W p l e R s m args below meth c H locs cells slots Q (F0 m pc ls (.int b :: .int a :: rest)) :=
  have hts := X.2.2.2.2.1
  va_mmin X.1 X.2.1 (X.2.2.1.trans hl.symm) X.2.2.2.1 (hts _ hlink) (hts _ hstat) (hts _ hini) (hts _ hcode) hf (by omega) (by have := hG.2.2.1; omega) (by have := hG.2.2.2; omega) d kk
end XROWS

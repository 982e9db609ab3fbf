set_option maxRecDepth 100000
theorem xobj_cast : ∀ ci ∈ xobj, ∀ q : vw_C, xcl[ci]? = some q → Cond.castable q.1 "java/lang/Object" ∈ xnw := by
  unfold xobj
  simp only [List.forall_mem_cons]
  refine ⟨?_, ?_, ?_, ?_, ?_, ?_, ?_, fun _ h => nomatch h⟩
  · intro q hq; have e : xcl[6]? = some (RX7, TX7, 3) := rfl; cases e.symm.trans hq; exact xnw_of q2744 rfl
  · intro q hq; have e : xcl[7]? = some (RX8, TX8, 4) := rfl; cases e.symm.trans hq; exact xnw_of q2745 rfl
  · intro q hq; have e : xcl[8]? = some (RX9, TX9, 5) := rfl; cases e.symm.trans hq; exact xnw_of q2748 rfl
  · intro q hq; have e : xcl[9]? = some (RX10, TX10, 3) := rfl; cases e.symm.trans hq; exact xnw_of q2750 rfl
  · intro q hq; have e : xcl[11]? = some (RJ2, TJ2, 3) := rfl; cases e.symm.trans hq; exact xnw_of q2732 rfl
  · intro q hq; have e : xcl[14]? = some (RJ9, TJ9, 4) := rfl; cases e.symm.trans hq; exact xnw_of q2729 rfl
  · intro q hq; have e : xcl[16]? = some (RJ27, TJ27, 1) := rfl; cases e.symm.trans hq; exact xnw_of q2751 rfl
section XROWS
variable {p : Program} {l : Launch} {e : Env} {R : Room} {s : State} {m : MethodId} {args : Array Value} {below : List Frame} {meth : Method} {c : Code} {H : Heap} {locs : List Loc} {cells slots : Nat} {Q : State → Prop}
variable {cc : ByteArray} {pc nL : Nat} {ls : Array Slot} {rest : List Value} {D : va_G} {dA : Nat → ClassId} {E : Nat → Nat → Nat} {Hb : Heap} {own : String} {S : XS} {ρ α : Type} {res : ρ}
variable {y : MethodName} {bytes : ByteArray} {maxL fr lo n idx : Nat} {ret : Option FieldType} {As st : List Value}
/-- what a reference that may go into an array of kind k is -/
theorem x_may (X : XX D dA E Hb p s m args c cc nL own) (hG : XG D dA Hb R s S H locs cells slots) {k v : Nat} (hm : xmay k (some v) S = true) (ho : k = 6 → Hb.size ≤ v) {comp : ClassId} {kA : Class} (hk : 3 ≤ k) (hk7 : k < 7) (hA : s.vm.classes[dA k]? = some kA) (hkind : kA.kind = .array comp (xty k)) : ∃ (cv : Cell) (kv kcomp : Class), H[v]? = some cv ∧ cv.vm.isStatics = false ∧ s.vm.classes[cv.cls]? = some kv ∧ s.vm.classes[comp]? = some kcomp ∧ s.vm.assignable cv.cls comp = true := by
  have hU := X.2.2.2.2.2
  have hRA := (hU.2.1 k hk7).2
  have compOf : ∀ C : String, xty k = .object C → s.vm.findClass C = some comp := by
    intro C hC
    rw [hC] at hRA
    obtain ⟨kA', comp', r1, r2, r3, r4⟩ := hRA
    cases hA.symm.trans r1
    rw [hkind] at r2
    have e0 : comp = comp' := by injection r2
    rw [e0]; exact r3
  simp only [xmay] at hm
  split at hm
  · rename_i ci fs hs
    obtain ⟨q, cell, e1, e2, e3, e4, e5, e6, e7, e8⟩ := hG.1.2.1 v _ hs
    obtain ⟨hS, hfc, kC, hkC, hkind2⟩ := hU.1 ci q e1
    have exact_ : ∀ C : String, xty k = .object C → q.1 = C → ∃ (cv : Cell) (kv kcomp : Class), H[v]? = some cv ∧ cv.vm.isStatics = false ∧ s.vm.classes[cv.cls]? = some kv ∧ s.vm.classes[comp]? = some kcomp ∧ s.vm.assignable cv.cls comp = true := by
      intro C hC hqC
      have hcomp : comp = D.1 ci := Option.some.inj ((compOf C hC).symm.trans (by rw [← hqC]; exact hfc))
      subst hcomp
      exact ⟨cell, kC, kC, e2, e4, by rw [e3]; exact hkC, hkC, by rw [e3]; exact va_asg _ _⟩
    simp only [Bool.or_eq_true, Bool.and_eq_true, beq_iff_eq, List.contains_iff_mem] at hm
    rcases hm with (⟨h1, h2⟩ | ⟨h1, h2⟩) | ⟨h1, h2⟩
    · subst h1; subst h2
      have e : xcl[2]? = some (RX3, TX3, 3) := rfl
      cases e.symm.trans e1
      exact exact_ _ rfl rfl
    · subst h1; subst h2
      have e : xcl[14]? = some (RJ9, TJ9, 4) := rfl
      cases e.symm.trans e1
      exact exact_ _ rfl rfl
    · subst h1
      have hc := hU.2.2.1 _ (xobj_cast ci h2 q e1)
      obtain ⟨c0, t1, f1, f2, f3⟩ := Cond.castable_spec (va_Nw.use (A := args) rfl hc)
      cases hfc.symm.trans f1
      have ec := compOf _ rfl
      cases ec.symm.trans f2
      obtain ⟨kE, hkE, -⟩ := Vm.findClass_spec ec
      exact ⟨cell, kC, kE, e2, e4, by rw [e3]; exact hkC, hkE, by rw [e3]; exact f3⟩
  · rename_i kq x hs
    simp only [Bool.and_eq_true, beq_iff_eq] at hm
    obtain ⟨rfl, rfl⟩ := hm
    obtain ⟨cell, e1, e2, e3, e4, e5, e6, e7⟩ := hG.1.2.1 v _ hs
    obtain ⟨rfl, -⟩ := e6 (ho rfl)
    have hAO : (Cond.arrayOver (.array .int)).before args s = true := hU.2.2.2.2.2.1.2.2.2
    obtain ⟨comp', cA', kA', h1, h2, h3, h4, h5⟩ := arrayOverA_spec hAO
    have hRA6 : s.vm.findClass ("[" ++ (FieldType.array .int).toString) = some (dA 6) := hRA
    cases h5.symm.trans hRA6
    cases hA.symm.trans h3
    have e0 : comp = comp' := by
      rw [hkind] at h4
      injection h4
    have hI : s.vm.findClass ("[" ++ FieldType.int.toString) = some (dA 0) := (hU.2.1 0 (by decide)).2
    have hI2 : s.vm.findClass (FieldType.array .int).toString = some (dA 0) := hI
    rw [← e0] at h1
    have ed : comp = dA 0 := Option.some.inj (h1.symm.trans hI2)
    obtain ⟨kI, hkI, -⟩ := Vm.findClass_spec hI
    subst ed
    exact ⟨_, kI, kI, e1, rfl, hkI, hkI, va_asg _ _⟩
  · cases hm
theorem s_aast (X : XX D dA E Hb p s m args c cc nL own) (hG : XG D dA Hb R s S H locs cells slots) {r : Option Nat} {i : Int32} {v : Option Nat} {K : XS → Option ρ} (h : xwr (wQ (E 0 0) r i v) K S = some res) (d : decode cc pc = .ok (.aastore, 1))
    (kk : ∀ (S : XS) (H1 : Heap) (locs1 : List Loc), XG D dA Hb R s S H1 locs1 cells slots → K S = some res → W p l e R s m args below meth c H1 locs1 cells slots Q (F0 m (pc + 1) ls rest)) : W p l e R s m args below meth c H locs cells slots Q (F0 m pc ls (va_rf v :: .int i :: va_rf r :: rest)) := by
  obtain ⟨T, h1, h2⟩ := xwr_inv h
  obtain ⟨a, k, n, f, rfl, hs, hk3, hb, hin, hmay, hown, rfl⟩ := wQ_inv h1
  have hE : E 0 0 = Hb.size := X.2.2.2.2.2.2.2.2.2.2.2.2.2.2
  rw [hE] at hb hown
  obtain ⟨cell, e1, e2, e3, e4, e5, e6, e7⟩ := hG.1.2.1 a _ hs
  have hin' := xin_in hin
  obtain ⟨rfl, hk7⟩ := e6 hb
  have hA := (X.2.2.2.2.2.2.1 k hk7).1
  have hnew : ∀ (H1 : Heap) , H1[a]? = some ((arrV (dA k) n (xel (n, .inr (.inr (.inr (.inr f)))))).setSlot i.toNatClampNeg (va_rf v)) → H1.size = H.size → (∀ q : Nat, q ≠ a → H1[q]? = H[q]?) → W p l e R s m args below meth c H1 (locs ++ [⟨a, i.toNatClampNeg⟩]) cells slots Q (F0 m (pc + 1) ls rest) := by
    intro H1 f1 f2 f3
    refine kk _ H1 _ (hG.set f2 f3 hb (xat_arr (y := (n, .inr (.inr (.inr (.inr (va_up f i.toNatClampNeg v)))))) hA hk7 rfl f1 rfl ?_)) h2
    funext j
    simp only [xel, updV, va_up]
    split <;> rfl
  cases v with
  | none =>
    have harr : ∃ ty : FieldType, xty k = ty ∧ ty.isReference = true := ⟨_, rfl, xty_ref hk3 (Nat.lt_of_lt_of_le hk7 (by decide))⟩
    by_cases hk6 : k = 6
    · subst hk6
      intro T0 hT X0
      have hT' : T0.heap[a]? = some (arrV (dA 6) n (xel (n, .inr (.inr (.inr (.inr f)))))) := by rw [hT]; exact e1
      have hT2 := State.isArrayOf_alike X0.warmed.alike e2
      have hfit : T0.fitsSlot (arrV (dA 6) n (xel (n, .inr (.inr (.inr (.inr f)))))).cls (arrV (dA 6) n (xel (n, .inr (.inr (.inr (.inr f)))))).vm i.toNatClampNeg .null = true := by
        obtain ⟨hobj, k, hk, comp, hkind⟩ := hT2
        simp [State.fitsSlot, State.slotType?, arrV, show T0.vm.classes[dA 6]? = some k from hk, hkind, fits, xty]
      have st : ∀ target, Steps p.tables e below ((T0.setCell a ((arrV (dA 6) n (xel (n, .inr (.inr (.inr (.inr f)))))).setSlot i.toNatClampNeg .null)).setTop (F0 m (pc + 1) ls rest)) target → Steps p.tables e below (T0.setTop (F0 m pc ls (.null :: .int i :: .ref a :: rest))) target := by
        intro target hrest
        have hx := X.1
        have hd : decode c.code pc = .ok (.aastore, 1) := by rw [X.2.1]; exact d
        jvm_step X0.here [hx, hd]
        refine aastore.wp_of_null (t := .array .int) X0.here.top rfl hT' hT2 (by rw [arrV_size]; exact hin') (fun z => nomatch z) (by rw [arrV_size]; exact Nat.not_le.mp fun q => hin' (Or.inr q)) hfit ?_
        intro acts
        rw [afterInstr_ok]
        exact hrest
      have hlt : a < T0.heap.size := (Array.getElem?_eq_some_iff.mp hT').1
      obtain ⟨t', a1, b1⟩ := hnew _ (heapAt_setCell_self _ hlt) (by rw [size_setCell, hT]) (fun q hq => by rw [heapAt_setCell_ne _ (Ne.symm hq), hT]) (T0.setCell a ((arrV (dA 6) n (xel (n, .inr (.inr (.inr (.inr f)))))).setSlot i.toNatClampNeg .null)) rfl (X0.stored hT' _ _)
      exact ⟨t', st t' a1, b1⟩
    · have hobj : ∃ C : String, xty k = .object C := by
        match k, hk3, hk7, hk6 with
        | 3, _, _, _ => exact ⟨_, rfl⟩
        | 4, _, _, _ => exact ⟨_, rfl⟩
        | 5, _, _, _ => exact ⟨_, rfl⟩
        | 6, _, _, h => exact absurd rfl h
      obtain ⟨C, hC⟩ := hobj
      rw [hC] at e2
      exact va_WaastN X.1 X.2.1 e1 e2 e3 (by rw [e4]; exact hin') rfl rfl d hnew
  | some v =>
    obtain ⟨hobj, kA, hkA, comp, hkind⟩ := e2
    obtain ⟨cv, kv, kcomp, g1, g2, g3, g4, g5⟩ := x_may X hG hmay (fun h6 => by simpa [xown] using hown h6) hk3 hk7 hkA hkind
    exact W.aast X.1 X.2.1 e1 (fun q h => by cases h) e3 hkA hkind (xty_ref hk3 (Nat.lt_of_lt_of_le hk7 (by decide))) g4 ⟨fun q => hin' (Or.inl q), by rw [e4]; exact Nat.not_le.mp fun q => hin' (Or.inr q)⟩ g1 (fun q h => by rw [h] at g2; cases g2) g3 g5 rfl rfl d hnew
end XROWS

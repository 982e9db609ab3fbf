set_option maxRecDepth 100000
section XCALLX
variable {p : Program} {l : Launch} {e : Env} {R : Room} {s : State} {m : MethodId} {args : Array Value} {below : List Frame} {meth : Method} {c : Code} {H : Heap} {locs : List Loc} {cells slots : Nat} {Q : State → Prop}
variable {cc : ByteArray} {pc nL : Nat} {ls : Array Slot} {rest : List Value} {D : va_G} {dA : Nat → ClassId} {E : Nat → Nat → Nat} {Hb : Heap} {own : String} {S : XS} {ρ α : Type} {res : ρ}
variable {y : MethodName} {bytes : ByteArray} {maxL fr lo n idx : Nat} {ret : Option FieldType} {av As st : List Value} {r : Option Value} {T : XS}
def xPostT (D : va_G) (dA : Nat → ClassId) (Hb : Heap) (S : XS) (r : Nat) (T : XS) : Pt → Array Value → Addr → Pt → Prop := fun A _ v B => v = r ∧ ∃ (t : State) (L : List Loc) (k n : Nat), B.U.heap = t.heap ∧ B.U.vm = t.vm ∧ XR D dA Hb t T t.heap ∧ B.locs = A.locs ++ L ∧ (∀ q ∈ L, Hb.size ≤ q.base) ∧ B.cells = A.cells + k ∧ k + T.2.2.1 = S.2.2.1 ∧ B.slots = A.slots + n ∧ n + T.2.2.2 = S.2.2.2
theorem xbackT {len q : Nat} (hM : MT l y (ws_ y bytes maxL ret) fr lo D dA E Hb av S q T) (hts : ∀ w ∈ lw_all, w.before args s = true) (hcode : Cond.code y bytes maxL ret ∈ lw_all) (hini : Cond.initialized y.cls ∈ lw_all) (hR : fr + 1 ≤ R.frames ∧ 8 + (maxL + 11) + lo ≤ R.locals) :
    Jvm.Free.BackT l R p e below s args y len 8 (xPre D dA E Hb R av S) (xPostT D dA Hb S q T) := by
  have hws : ∀ w ∈ ws_ y bytes maxL ret, ∀ (a' : Array Value) (U : State), s.WarmedH U.vm → w.before a' U = true := fun w hw a' U hW => by
    have hw' := lw_meth hcode w hw
    exact word_at hW hw'.2 (hts _ hw'.1)
  refine Jvm.Free.BackT.of_free (bytes := bytes) (maxL := maxL) (ret := ret) (E := fun _ _ _ _ L k n => k + T.2.2.1 = S.2.2.1 ∧ n + T.2.2.2 = S.2.2.2 ∧ ∀ q ∈ L, Hb.size ≤ q.base) hM hR.1 hR.2 ?_ ?_ (fun _ _ _ _ _ _ _ _ _ => trivial) ?_ ?_
  · intro m meth c A a X hp
    exact ⟨atoms_intro fun w hw => hws w hw _ _ X.warmed, hws _ List.mem_cons_self _ _ X.warmed, word_at X.warmed (lw_self _ hini).2 (hts _ hini), hp.1, hp.2.1⟩
  · intro m meth c A a g mk X hp
    exact ⟨hp.2.2.1, XU.same (s := A.U) (U := A.U.calling g mk a) rfl hp.2.2.2.1, XR.alike (u := A.U) (U := A.U.calling g mk a) (Vm.Alike.refl A.U.vm) hp.2.2.2.2⟩
  · rintro a st o t ⟨hq, L, k, n, hF, h1, h2, h3⟩
    exact ⟨L, k, n, hF, h1, h2, h3⟩
  · rintro m meth c A a g mk v t L k n X hp ⟨⟨hv, hX⟩, -⟩ hF ⟨h1, h2, h3⟩
    cases hv
    exact ⟨rfl, t, L, k, n, rfl, rfl, hX, rfl, h3, rfl, h1, rfl, h2⟩
/-- a method of an object, found by its class, that may throw -/
theorem s_callVX (X : XX D dA E Hb p s m args c cc nL own) (hG : XG D dA Hb R s S H locs cells slots) (hl : ls.size = nL) {rr : Option Nat} {cs : List Nat} {f : Nat → XS → Option ((α ⊕ Nat) × XS)} {rv : α → Option Value} {K : α → XS → Option ρ} {KX : Nat → XS → Option ρ} (C : XCV own idx cs y bytes maxL ret n) (h : xrd (qV rr cs) (fun a => xalX (f a) K KX) S = some res)
    (hM : ∀ a v T, f a S = some (v, T) → MX l y (ws_ y bytes maxL ret) fr lo D dA E Hb (.ref a :: As) S (xox rv v) T) (hst : st = As.reverse ++ va_rf rr :: rest) (hn : As.length = n) (hR : fr + 1 ≤ R.frames ∧ 8 + (maxL + 11) + lo ≤ R.locals) (hc : (rest.map fun v => v.category).sum ≤ 8) (d : decode cc pc = .ok (.invokevirtual idx, 3))
    (kx : ∀ (q : Nat) (S : XS) (H1 : Heap) (locs1 : List Loc) (cells slots : Nat), XG D dA Hb R s S H1 locs1 cells slots → KX q S = some res → vx_W p l e R s m args below meth c H1 locs1 cells slots Q (F0 m pc ls rest) q)
    (kk : ∀ (v : α) (S : XS) (H1 : Heap) (locs1 : List Loc) (cells slots : Nat), XG D dA Hb R s S H1 locs1 cells slots → K v S = some res → W p l e R s m args below meth c H1 locs1 cells slots Q (F0 m (pc + 3) ls ((rv v).toList ++ rest))) : W p l e R s m args below meth c H locs cells slots Q (F0 m pc ls st) := by
  obtain ⟨a, h1, h2⟩ := xrd_inv h
  obtain ⟨ci, fs, rfl, hs, hci⟩ := qV_inv h1
  cases hf : f a S with
  | none => simp only [xalX, hf] at h2; cases h2
  | some vT =>
    obtain ⟨v, T⟩ := vT
    cases v with
    | inl v =>
      simp only [xalX, hf] at h2
      have h9 : xrd (qV (some a) cs) (fun a => xal (fun S => match f a S with | some (.inl v, T) => some (v, T) | _ => none) K) S = some res := by
        simp only [xrd, h1, xal, hf]
        exact h2
      refine s_callV X hG hl C h9 (rv := rv) (fr := fr) (lo := lo) (As := As) ?_ hst hn hR hc d kk
      intro a9 v9 T9 hv
      split at hv
      · rename_i v8 T8 h8
        cases hv
        exact hM _ _ _ h8
      · cases hv
    | inr q =>
      simp only [xalX, hf] at h2
      obtain ⟨qc, cell, kB, b1, b2, b3, b4, b5⟩ := xrecv X hG hs
      obtain ⟨c1, c2, c3, c4, c5, c6, c7⟩ := C
      subst hn
      have hts := X.2.2.2.2.1
      have hK := xbackT (p := p) (e := e) (below := below) (len := 3) (R := R) (hM a (.inr q) T hf) hts c3 c4 hR
      have hsel : (Cond.selects qc.1 y y).before args s = true := (c7 ci hci qc b1).elim (hts _) (fun h => va_Nw.use rfl (X.2.2.2.2.2.2.2.2.2.2.2.2.2.1.2.1 _ h))
      intro T0 hT X0
      subst hT
      obtain ⟨mk, methM, hnamed, hmethM, hstM, habM⟩ := Cond.instanceMethod_spec (hts _ c2)
      obtain ⟨methM', cM, hmethM', -, -, -, -, -, -, hsigM⟩ := Cond.code_spec hnamed (hts _ c3)
      cases hmethM.symm.trans hmethM'
      obtain ⟨c2', r2, m2, q1, q2, q3, q4, kP, hkP, hkPi⟩ := Cond.selects_spec hsel
      cases b4.symm.trans q1
      cases (State.methodFound?_of_named hnamed c5).symm.trans q2
      cases hnamed.symm.trans q3
      have hselP : selectMethod e.platform s.vm cell.cls mk = .method mk := by rw [Launch.admits_selectMethod X0.admits]; exact q4
      have hgo : ∃ vm₁, Stand p l e R s m args below meth c (T0.setVm vm₁) locs cells slots ∧ ∀ target, (∀ acts, Steps p.tables e below (doInvoke e ((T0.setVm vm₁).setTop (F0 m pc ls rest)) acts mk (Value.ref a :: As).toArray).1 target) → Steps p.tables e below (T0.setTop (F0 m pc ls st)) target := by
        rcases c1 with c1 | ⟨host, c1⟩
        · obtain ⟨vm₁, X₁, hstep₁⟩ := X0.invokevirtual X.1 X.2.2.2.1 (hts _ c1) hnamed hmethM hstM hkP hkPi c5 (a := a) (cell := cell) b2 (fun z h => by rw [h] at b3; cases b3) hselP hmethM habM hkP hkPi (g := F0 m pc ls st) rfl (argsL := As) (rest := rest) (xlen c6 _ hsigM) hst (by rw [X.2.1]; exact d)
          exact ⟨vm₁, X₁, hstep₁⟩
        · obtain ⟨vm₁, X₁, hstep₁⟩ := X0.invokevirtualNest X.1 X.2.2.2.1 (va_Nw.use rfl (X.2.2.2.2.2.2.2.1 _ c1)) hnamed hmethM hstM hkP hkPi c5 (a := a) (cell := cell) b2 (fun z h => by rw [h] at b3; cases b3) hselP hmethM habM hkP hkPi (g := F0 m pc ls st) rfl (argsL := As) (rest := rest) (xlen c6 _ hsigM) hst (by rw [X.2.1]; exact d)
          exact ⟨vm₁, X₁, hstep₁⟩
      obtain ⟨vm₁, X₁, hstep₁⟩ := hgo
      obtain ⟨v, B, X', ⟨rfl, t, L, k, n, e1, e2, hX, e3, hL, e4, e5, e6, e7⟩, hsteps⟩ := hK m meth c ⟨T0.setVm vm₁, locs, cells, slots⟩ (F0 m pc ls rest) (.invokevirtual idx) mk (Value.ref a :: As).toArray X₁ rfl (hl.trans X.2.2.1.symm) (by rw [X.2.1]; exact d) (lv_room hc) (X₁.named hnamed) (xpre_at X hG rfl X₁.warmed)
      obtain ⟨g1, g2, g3, g4⟩ := hG
      have hal : t.vm.Alike s.vm := by rw [← e2]; exact X'.warmed.alike.symm
      obtain ⟨t2, a1, z1⟩ := kx v T B.U.heap B.locs B.cells B.slots ⟨by rw [e1]; exact hX.alike hal, by
          rw [e3]
          intro q hq
          rcases List.mem_append.mp hq with h | h
          · exact g2 q h
          · exact hL q h, by rw [e4]; dsimp only [Pt.cells]; omega, by rw [e6]; dsimp only [Pt.slots]; omega⟩ h2 B.U rfl X'
      exact ⟨t2, hstep₁ _ (fun acts => by rw [doInvoke_state]; exact hsteps.trans a1), z1⟩
end XCALLX

set_option maxRecDepth 100000
section XROWS
variable {p : Program} {l : Launch} {e : Env} {R : Room} {s : State} {m : MethodId} {args : Array Value} {below : List Frame} {meth : Method} {c : Code} {H : Heap} {locs : List Loc} {cells slots : Nat} {Q : State → Prop}
variable {cc : ByteArray} {pc nL : Nat} {ls : Array Slot} {rest : List Value} {D : va_G} {dA : Nat → ClassId} {E : Nat → Nat → Nat} {Hb : Heap} {own : String} {S : XS} {ρ : Type} {res : ρ}
theorem s_newarr (X : XX D dA E Hb p s m args c cc nL own) (hG : XG D dA Hb R s S H locs cells slots) {i : Int32} {kd : Nat} {atype : ArrayType} {K : Option Nat → XS → Option ρ} (hkd : kd < 3) (hty : newarray.typeOf atype = xty kd) (harr : Cond.arrayClass (xty kd) ∈ lw_all) (h : xal (aA kd i) K S = some res) (d : decode cc pc = .ok (.newarray atype, 2))
    (kk : ∀ (v : Option Nat) (S : XS) (H1 : Heap) (cells slots : Nat), XG D dA Hb R s S H1 locs cells slots → K v S = some res → W p l e R s m args below meth c H1 locs cells slots Q (F0 m (pc + 2) ls (va_rf v :: rest))) : W p l e R s m args below meth c H locs cells slots Q (F0 m pc ls (.int i :: rest)) := by
  obtain ⟨v, T, h1, h2⟩ := xal_inv h
  simp only [aA] at h1
  split at h1
  · rename_i hc
    cases h1
    simp only [Bool.and_eq_true, Bool.not_eq_true', decide_eq_true_eq, decide_eq_false_iff_not] at hc
    obtain ⟨⟨⟨c1, c2⟩, c3⟩, c4⟩ := hc
    obtain ⟨g1, g2, g3, g4⟩ := id hG
    have hw := X.2.2.2.2.1 _ harr
    rw [← hty] at hw
    have hbytes : i.toNatClampNeg * componentBytes (newarray.typeOf atype) ≤ 536870912 := by
      rw [hty]
      have hb8 : componentBytes (xty kd) ≤ 8 := by
        match kd, hkd with
        | 0, _ => decide
        | 1, _ => decide
        | 2, _ => decide
      calc i.toNatClampNeg * componentBytes (xty kd) ≤ 1000000 * 8 := Nat.mul_le_mul c4 hb8
        _ ≤ 536870912 := by decide
    refine va_newaK X.1 X.2.1 (n := i) hw rfl d rfl c1 rfl hbytes (by omega) (by omega) rfl fun H1 cA f1 f2 f3 f4 f5 => ?_
    have hRA := (X.2.2.2.2.2.2.1 kd (by omega)).2
    have hcA : cA = dA kd := by
      rw [hty] at f5
      match kd, hkd, hRA, f5 with
      | 0, _, hRA, f5 => exact Option.some.inj (f5.symm.trans hRA)
      | 1, _, hRA, f5 => exact Option.some.inj (f5.symm.trans hRA)
      | 2, _, hRA, f5 => exact Option.some.inj (f5.symm.trans hRA)
    subst hcA
    have hx : xat D dA Hb.size s H.size (.inl (kd, i.toNatClampNeg, xzero kd)) H1 := by
      have e1 : arrV (dA kd) i.toNatClampNeg (fun _ => defaultValue (newarray.typeOf atype)) = arrV (dA kd) i.toNatClampNeg (xel (i.toNatClampNeg, xzero kd)) := by
        rw [hty]
        match kd, hkd with
        | 0, _ => rfl
        | 1, _ => rfl
        | 2, _ => rfl
      rw [e1] at f1
      exact ⟨_, f1, (X.2.2.2.2.2.2.1 kd (by omega)).1 _ _, (fun z => nomatch z), arrV_size _ _ _, fun j hj => arrV_read _ _ hj, fun _ => ⟨rfl, Nat.lt_of_lt_of_le hkd (by decide)⟩, fun h4 => by subst h4; rfl⟩
    have hsz : some S.2.1 = some H.size := by rw [g1.1]
    rw [hsz] at h2
    exact kk (some H.size) _ H1 _ _ (hG.add f2 f3 c2 c3 hx) h2
  · cases h1
theorem s_new (X : XX D dA E Hb p s m args c cc nL own) (hG : XG D dA Hb R s S H locs cells slots) {ci n idx : Nat} {q : vw_C} {fs : List Value} (ty : Nat → FieldType) {K : Option Nat → XS → Option ρ} (hq : xcl[ci]? = some q) (hty : ∀ k, k < q.2.2 → parseFieldDescriptor (q.2.1 k).2.2.1 = some (ty k)) (hfs : ∀ j, j < q.2.2 → defaultValue (ty j) = vp_V fs j) (hlen : fs.length = q.2.2)
    (hcl : Cond.classLink own idx q.1 ∈ lw_all) (hinst : Cond.instantiable q.1 n ∈ lw_all) (hini : Cond.initialized q.1 ∈ lw_all) (h : xal (aO ci n fs) K S = some res) (d : decode cc pc = .ok (.new idx, 3))
    (kk : ∀ (v : Option Nat) (S : XS) (H1 : Heap) (cells slots : Nat), XG D dA Hb R s S H1 locs cells slots → K v S = some res → W p l e R s m args below meth c H1 locs cells slots Q (F0 m (pc + 3) ls (va_rf v :: rest))) : W p l e R s m args below meth c H locs cells slots Q (F0 m pc ls rest) := by
  obtain ⟨v, T, h1, h2⟩ := xal_inv h
  simp only [aO] at h1
  split at h1
  · rename_i hc
    cases h1
    simp only [Bool.and_eq_true, decide_eq_true_eq] at hc
    obtain ⟨c2, c3⟩ := hc
    obtain ⟨g1, g2, g3, g4⟩ := id hG
    obtain ⟨hx, hb, hml, hown, hts, hU⟩ := X
    have hKn := hU.1 ci q hq
    refine W.newcK hx hb hown (hts _ hcl) (hts _ hinst) (hts _ hini) rfl d (by omega) (by omega) hKn.2.1 rfl fun H1 kC hkC e1 z1 o1 => ?_
    obtain ⟨cell, b1, b2, b3, b4⟩ := (u_born ty hts (xcl_in ci q hq) hKn hkC e1 hty).to hfs
    have hxat : xat D dA Hb.size s H.size (.inr (ci, fs)) H1 := ⟨q, cell, hq, b1, b2, by rw [b3]; rfl, (by rw [b3]; exact fun z => nomatch z), fun _ => b3, b4, hlen⟩
    have hsz : some S.2.1 = some H.size := by rw [g1.1]
    rw [hsz] at h2
    exact kk (some H.size) _ H1 _ _ (hG.add z1 o1 c2 c3 hxat) h2
  · cases h1
/-! branches: the condition's Bool decides -/
theorem xbr_t {c : Bool} {A B : XS → Option ρ} (h : xbr c A B S = some res) (hc : c = true) : A S = some res := by subst hc; exact h
theorem xbr_f {c : Bool} {A B : XS → Option ρ} (h : xbr c A B S = some res) (hc : c = false) : B S = some res := by subst hc; exact h
theorem s_if_eq (X : XX D dA E Hb p s m args c cc nL own) {x : Int32} {off : Int} {tgt : Nat} {A B : XS → Option ρ} (h : xbr (decide (x = 0)) A B S = some res) (d : decode cc pc = .ok (.ifCond .eq off, 3)) (ht : (pc : Int) + off = (tgt : Int)) (kt : A S = some res → W p l e R s m args below meth c H locs cells slots Q (F0 m tgt ls rest)) (kf : B S = some res → W p l e R s m args below meth c H locs cells slots Q (F0 m (pc + 3) ls rest)) : W p l e R s m args below meth c H locs cells slots Q (F0 m pc ls (.int x :: rest)) := lv_if_eq X.1 X.2.1 d ht (fun q => kt (xbr_t h (decide_eq_true q))) (fun q => kf (xbr_f h (decide_eq_false q)))
theorem s_if_ne (X : XX D dA E Hb p s m args c cc nL own) {x : Int32} {off : Int} {tgt : Nat} {A B : XS → Option ρ} (h : xbr (decide (x = 0)) A B S = some res) (d : decode cc pc = .ok (.ifCond .ne off, 3)) (ht : (pc : Int) + off = (tgt : Int)) (kt : B S = some res → W p l e R s m args below meth c H locs cells slots Q (F0 m tgt ls rest)) (kf : A S = some res → W p l e R s m args below meth c H locs cells slots Q (F0 m (pc + 3) ls rest)) : W p l e R s m args below meth c H locs cells slots Q (F0 m pc ls (.int x :: rest)) := lv_if_ne X.1 X.2.1 d ht (fun q => kt (xbr_f h (decide_eq_false q))) (fun q => kf (xbr_t h (decide_eq_true q)))
theorem s_if_lt (X : XX D dA E Hb p s m args c cc nL own) {x : Int32} {off : Int} {tgt : Nat} {A B : XS → Option ρ} (h : xbr (decide (x < 0)) A B S = some res) (d : decode cc pc = .ok (.ifCond .lt off, 3)) (ht : (pc : Int) + off = (tgt : Int)) (kt : A S = some res → W p l e R s m args below meth c H locs cells slots Q (F0 m tgt ls rest)) (kf : B S = some res → W p l e R s m args below meth c H locs cells slots Q (F0 m (pc + 3) ls rest)) : W p l e R s m args below meth c H locs cells slots Q (F0 m pc ls (.int x :: rest)) := lv_if_lt X.1 X.2.1 d ht (fun q => kt (xbr_t h (decide_eq_true q))) (fun q => kf (xbr_f h (decide_eq_false q)))
theorem s_if_gt (X : XX D dA E Hb p s m args c cc nL own) {x : Int32} {off : Int} {tgt : Nat} {A B : XS → Option ρ} (h : xbr (decide (0 < x)) A B S = some res) (d : decode cc pc = .ok (.ifCond .gt off, 3)) (ht : (pc : Int) + off = (tgt : Int)) (kt : A S = some res → W p l e R s m args below meth c H locs cells slots Q (F0 m tgt ls rest)) (kf : B S = some res → W p l e R s m args below meth c H locs cells slots Q (F0 m (pc + 3) ls rest)) : W p l e R s m args below meth c H locs cells slots Q (F0 m pc ls (.int x :: rest)) := lv_if_gt X.1 X.2.1 d ht (fun q => kt (xbr_t h (decide_eq_true q))) (fun q => kf (xbr_f h (decide_eq_false q)))
theorem s_if_ge (X : XX D dA E Hb p s m args c cc nL own) {x : Int32} {off : Int} {tgt : Nat} {A B : XS → Option ρ} (h : xbr (decide (0 ≤ x)) A B S = some res) (d : decode cc pc = .ok (.ifCond .ge off, 3)) (ht : (pc : Int) + off = (tgt : Int)) (kt : A S = some res → W p l e R s m args below meth c H locs cells slots Q (F0 m tgt ls rest)) (kf : B S = some res → W p l e R s m args below meth c H locs cells slots Q (F0 m (pc + 3) ls rest)) : W p l e R s m args below meth c H locs cells slots Q (F0 m pc ls (.int x :: rest)) := lv_if_ge X.1 X.2.1 d ht (fun q => kt (xbr_t h (decide_eq_true q))) (fun q => kf (xbr_f h (decide_eq_false q)))
theorem s_if_le (X : XX D dA E Hb p s m args c cc nL own) {x : Int32} {off : Int} {tgt : Nat} {A B : XS → Option ρ} (h : xbr (decide (x ≤ 0)) A B S = some res) (d : decode cc pc = .ok (.ifCond .le off, 3)) (ht : (pc : Int) + off = (tgt : Int)) (kt : A S = some res → W p l e R s m args below meth c H locs cells slots Q (F0 m tgt ls rest)) (kf : B S = some res → W p l e R s m args below meth c H locs cells slots Q (F0 m (pc + 3) ls rest)) : W p l e R s m args below meth c H locs cells slots Q (F0 m pc ls (.int x :: rest)) := lv_if_le X.1 X.2.1 d ht (fun q => kt (xbr_t h (decide_eq_true q))) (fun q => kf (xbr_f h (decide_eq_false q)))
theorem s_ic_eq (X : XX D dA E Hb p s m args c cc nL own) {x y : Int32} {off : Int} {tgt : Nat} {A B : XS → Option ρ} (h : xbr (decide (x = y)) A B S = some res) (d : decode cc pc = .ok (.if_icmp .eq off, 3)) (ht : (pc : Int) + off = (tgt : Int)) (kt : A S = some res → W p l e R s m args below meth c H locs cells slots Q (F0 m tgt ls rest)) (kf : B S = some res → W p l e R s m args below meth c H locs cells slots Q (F0 m (pc + 3) ls rest)) : W p l e R s m args below meth c H locs cells slots Q (F0 m pc ls (.int y :: .int x :: rest)) := lv_icmp_eq X.1 X.2.1 d ht (fun q => kt (xbr_t h (decide_eq_true q))) (fun q => kf (xbr_f h (decide_eq_false q)))
theorem s_ic_ne (X : XX D dA E Hb p s m args c cc nL own) {x y : Int32} {off : Int} {tgt : Nat} {A B : XS → Option ρ} (h : xbr (decide (x = y)) A B S = some res) (d : decode cc pc = .ok (.if_icmp .ne off, 3)) (ht : (pc : Int) + off = (tgt : Int)) (kt : B S = some res → W p l e R s m args below meth c H locs cells slots Q (F0 m tgt ls rest)) (kf : A S = some res → W p l e R s m args below meth c H locs cells slots Q (F0 m (pc + 3) ls rest)) : W p l e R s m args below meth c H locs cells slots Q (F0 m pc ls (.int y :: .int x :: rest)) := lv_icmp_ne X.1 X.2.1 d ht (fun q => kt (xbr_f h (decide_eq_false q))) (fun q => kf (xbr_t h (decide_eq_true q)))
theorem s_ic_lt (X : XX D dA E Hb p s m args c cc nL own) {x y : Int32} {off : Int} {tgt : Nat} {A B : XS → Option ρ} (h : xbr (decide (x < y)) A B S = some res) (d : decode cc pc = .ok (.if_icmp .lt off, 3)) (ht : (pc : Int) + off = (tgt : Int)) (kt : A S = some res → W p l e R s m args below meth c H locs cells slots Q (F0 m tgt ls rest)) (kf : B S = some res → W p l e R s m args below meth c H locs cells slots Q (F0 m (pc + 3) ls rest)) : W p l e R s m args below meth c H locs cells slots Q (F0 m pc ls (.int y :: .int x :: rest)) := lv_icmp_lt X.1 X.2.1 d ht (fun q => kt (xbr_t h (decide_eq_true q))) (fun q => kf (xbr_f h (decide_eq_false q)))
theorem s_ic_gt (X : XX D dA E Hb p s m args c cc nL own) {x y : Int32} {off : Int} {tgt : Nat} {A B : XS → Option ρ} (h : xbr (decide (y < x)) A B S = some res) (d : decode cc pc = .ok (.if_icmp .gt off, 3)) (ht : (pc : Int) + off = (tgt : Int)) (kt : A S = some res → W p l e R s m args below meth c H locs cells slots Q (F0 m tgt ls rest)) (kf : B S = some res → W p l e R s m args below meth c H locs cells slots Q (F0 m (pc + 3) ls rest)) : W p l e R s m args below meth c H locs cells slots Q (F0 m pc ls (.int y :: .int x :: rest)) := lv_icmp_gt X.1 X.2.1 d ht (fun q => kt (xbr_t h (decide_eq_true q))) (fun q => kf (xbr_f h (decide_eq_false q)))
theorem s_ic_ge (X : XX D dA E Hb p s m args c cc nL own) {x y : Int32} {off : Int} {tgt : Nat} {A B : XS → Option ρ} (h : xbr (decide (y ≤ x)) A B S = some res) (d : decode cc pc = .ok (.if_icmp .ge off, 3)) (ht : (pc : Int) + off = (tgt : Int)) (kt : A S = some res → W p l e R s m args below meth c H locs cells slots Q (F0 m tgt ls rest)) (kf : B S = some res → W p l e R s m args below meth c H locs cells slots Q (F0 m (pc + 3) ls rest)) : W p l e R s m args below meth c H locs cells slots Q (F0 m pc ls (.int y :: .int x :: rest)) := lv_icmp_ge X.1 X.2.1 d ht (fun q => kt (xbr_t h (decide_eq_true q))) (fun q => kf (xbr_f h (decide_eq_false q)))
theorem s_ic_le (X : XX D dA E Hb p s m args c cc nL own) {x y : Int32} {off : Int} {tgt : Nat} {A B : XS → Option ρ} (h : xbr (decide (x ≤ y)) A B S = some res) (d : decode cc pc = .ok (.if_icmp .le off, 3)) (ht : (pc : Int) + off = (tgt : Int)) (kt : A S = some res → W p l e R s m args below meth c H locs cells slots Q (F0 m tgt ls rest)) (kf : B S = some res → W p l e R s m args below meth c H locs cells slots Q (F0 m (pc + 3) ls rest)) : W p l e R s m args below meth c H locs cells slots Q (F0 m pc ls (.int y :: .int x :: rest)) := lv_icmp_le X.1 X.2.1 d ht (fun q => kt (xbr_t h (decide_eq_true q))) (fun q => kf (xbr_f h (decide_eq_false q)))
theorem s_ac_eq (X : XX D dA E Hb p s m args c cc nL own) {x y : Option Nat} {off : Int} {tgt : Nat} {A B : XS → Option ρ} (h : xbr (decide (x = y)) A B S = some res) (d : decode cc pc = .ok (.if_acmp .eq off, 3)) (ht : (pc : Int) + off = (tgt : Int)) (kt : A S = some res → W p l e R s m args below meth c H locs cells slots Q (F0 m tgt ls rest)) (kf : B S = some res → W p l e R s m args below meth c H locs cells slots Q (F0 m (pc + 3) ls rest)) : W p l e R s m args below meth c H locs cells slots Q (F0 m pc ls (va_rf y :: va_rf x :: rest)) := lv_acmp_eq X.1 X.2.1 d ht (fun q => kt (xbr_t h (decide_eq_true q))) (fun q => kf (xbr_f h (decide_eq_false q)))
theorem s_ac_ne (X : XX D dA E Hb p s m args c cc nL own) {x y : Option Nat} {off : Int} {tgt : Nat} {A B : XS → Option ρ} (h : xbr (decide (x = y)) A B S = some res) (d : decode cc pc = .ok (.if_acmp .ne off, 3)) (ht : (pc : Int) + off = (tgt : Int)) (kt : B S = some res → W p l e R s m args below meth c H locs cells slots Q (F0 m tgt ls rest)) (kf : A S = some res → W p l e R s m args below meth c H locs cells slots Q (F0 m (pc + 3) ls rest)) : W p l e R s m args below meth c H locs cells slots Q (F0 m pc ls (va_rf y :: va_rf x :: rest)) := lv_acmp_ne X.1 X.2.1 d ht (fun q => kt (xbr_f h (decide_eq_false q))) (fun q => kf (xbr_t h (decide_eq_true q)))
theorem s_ifnull (X : XX D dA E Hb p s m args c cc nL own) {x : Option Nat} {off : Int} {tgt : Nat} {A B : XS → Option ρ} (h : xbr (decide (x = none)) A B S = some res) (d : decode cc pc = .ok (.ifnull off, 3)) (ht : (pc : Int) + off = (tgt : Int)) (kt : A S = some res → W p l e R s m args below meth c H locs cells slots Q (F0 m tgt ls rest)) (kf : B S = some res → W p l e R s m args below meth c H locs cells slots Q (F0 m (pc + 3) ls rest)) : W p l e R s m args below meth c H locs cells slots Q (F0 m pc ls (va_rf x :: rest)) := by
  cases x with
  | none => exact lv_ifnullN X.1 X.2.1 d ht (kt (xbr_t h rfl))
  | some a => exact lv_ifnull X.1 X.2.1 d (kf (xbr_f h rfl))
theorem s_ifnonnull (X : XX D dA E Hb p s m args c cc nL own) {x : Option Nat} {off : Int} {tgt : Nat} {A B : XS → Option ρ} (h : xbr (decide (x = none)) A B S = some res) (d : decode cc pc = .ok (.ifnonnull off, 3)) (ht : (pc : Int) + off = (tgt : Int)) (kt : B S = some res → W p l e R s m args below meth c H locs cells slots Q (F0 m tgt ls rest)) (kf : A S = some res → W p l e R s m args below meth c H locs cells slots Q (F0 m (pc + 3) ls rest)) : W p l e R s m args below meth c H locs cells slots Q (F0 m pc ls (va_rf x :: rest)) := by
  cases x with
  | none => exact lv_ifnonnullN X.1 X.2.1 d (kf (xbr_t h rfl))
  | some a => exact lv_ifnonnull X.1 X.2.1 d ht (kt (xbr_f h rfl))
/-! locals -/
theorem s_istore_n (X : XX D dA E Hb p s m args c cc nL own) {k : Fin 4} {i : Nat} {x : Int32} {lv lv' : List (Nat × Value)} (d : decode cc pc = .ok (.istore_n k, 1)) (hi : (k : Nat) = i) (hl : lh ls nL lv) (hn : i < nL) (he : (i, Value.int x) :: lv.filter (fun q => !(q.1 == i)) = lv') (kk : ∀ ls : Array Slot, lh ls nL lv' → W p l e R s m args below meth c H locs cells slots Q (F0 m (pc + 1) ls rest)) : W p l e R s m args below meth c H locs cells slots Q (F0 m pc ls (.int x :: rest)) := lv_istore_n X.1 X.2.1 d hi hl.1 hn rfl (fun ls' h' => kk ls' (he ▸ lh_store rfl hl.2 h'))
theorem s_istore (X : XX D dA E Hb p s m args c cc nL own) {i : Nat} {x : Int32} {lv lv' : List (Nat × Value)} (d : decode cc pc = .ok (.istore i, 2)) (hl : lh ls nL lv) (hn : i < nL) (he : (i, Value.int x) :: lv.filter (fun q => !(q.1 == i)) = lv') (kk : ∀ ls : Array Slot, lh ls nL lv' → W p l e R s m args below meth c H locs cells slots Q (F0 m (pc + 2) ls rest)) : W p l e R s m args below meth c H locs cells slots Q (F0 m pc ls (.int x :: rest)) := lv_istore X.1 X.2.1 d hl.1 hn rfl (fun ls' h' => kk ls' (he ▸ lh_store rfl hl.2 h'))
theorem s_iinc (X : XX D dA E Hb p s m args c cc nL own) {i k : Nat} {n : Int} {x v : Int32} {lv lv' : List (Nat × Value)} (d : decode cc pc = .ok (.iinc i n, 3)) (hl : lh ls nL lv) (hk : lv[k]? = some (i, .int x)) (hv : x + Int32.ofInt n = v) (hn : i < nL) (he : (i, Value.int v) :: lv.filter (fun q => !(q.1 == i)) = lv') (kk : ∀ ls : Array Slot, lh ls nL lv' → W p l e R s m args below meth c H locs cells slots Q (F0 m (pc + 3) ls rest)) : W p l e R s m args below meth c H locs cells slots Q (F0 m pc ls rest) := lv_iinc X.1 X.2.1 d hl.1 hk hv hn rfl (fun ls' h' => kk ls' (he ▸ lh_store rfl hl.2 h'))
theorem s_aload_n (X : XX D dA E Hb p s m args c cc nL own) {k : Fin 4} {i : Nat} {x : Option Nat} (d : decode cc pc = .ok (.aload_n k, 1)) (hi : (k : Nat) = i) (hl : ls[i]? = some (.val (va_rf x))) (kk : W p l e R s m args below meth c H locs cells slots Q (F0 m (pc + 1) ls (va_rf x :: rest))) : W p l e R s m args below meth c H locs cells slots Q (F0 m pc ls rest) := by
  cases x with
  | none => exact lv_aload_nN X.1 X.2.1 d hi hl kk
  | some a => exact lv_aload_n X.1 X.2.1 d hi hl kk
theorem s_aload (X : XX D dA E Hb p s m args c cc nL own) {i : Nat} {x : Option Nat} (d : decode cc pc = .ok (.aload i, 2)) (hl : ls[i]? = some (.val (va_rf x))) (kk : W p l e R s m args below meth c H locs cells slots Q (F0 m (pc + 2) ls (va_rf x :: rest))) : W p l e R s m args below meth c H locs cells slots Q (F0 m pc ls rest) := by
  cases x with
  | none => exact lv_aloadN X.1 X.2.1 d hl kk
  | some a => exact lv_aload X.1 X.2.1 d hl kk
theorem s_astore_n (X : XX D dA E Hb p s m args c cc nL own) {k : Fin 4} {i : Nat} {x : Option Nat} {lv lv' : List (Nat × Value)} (d : decode cc pc = .ok (.astore_n k, 1)) (hi : (k : Nat) = i) (hl : lh ls nL lv) (hn : i < nL) (he : (i, va_rf x) :: lv.filter (fun q => !(q.1 == i)) = lv') (kk : ∀ ls : Array Slot, lh ls nL lv' → W p l e R s m args below meth c H locs cells slots Q (F0 m (pc + 1) ls rest)) : W p l e R s m args below meth c H locs cells slots Q (F0 m pc ls (va_rf x :: rest)) := by
  cases x with
  | none => exact lv_astore_nN X.1 X.2.1 d hi hl.1 hn rfl (fun ls' h' => kk ls' (he ▸ lh_store rfl hl.2 h'))
  | some a => exact lv_astore_n X.1 X.2.1 d hi hl.1 hn rfl (fun ls' h' => kk ls' (he ▸ lh_store rfl hl.2 h'))
theorem s_astore (X : XX D dA E Hb p s m args c cc nL own) {i : Nat} {x : Option Nat} {lv lv' : List (Nat × Value)} (d : decode cc pc = .ok (.astore i, 2)) (hl : lh ls nL lv) (hn : i < nL) (he : (i, va_rf x) :: lv.filter (fun q => !(q.1 == i)) = lv') (kk : ∀ ls : Array Slot, lh ls nL lv' → W p l e R s m args below meth c H locs cells slots Q (F0 m (pc + 2) ls rest)) : W p l e R s m args below meth c H locs cells slots Q (F0 m pc ls (va_rf x :: rest)) := by
  cases x with
  | none => exact lv_astoreN X.1 X.2.1 d hl.1 hn rfl (fun ls' h' => kk ls' (he ▸ lh_store rfl hl.2 h'))
  | some a => exact lv_astore X.1 X.2.1 d hl.1 hn rfl (fun ls' h' => kk ls' (he ▸ lh_store rfl hl.2 h'))
theorem s_aconst (X : XX D dA E Hb p s m args c cc nL own) (d : decode cc pc = .ok (.aconst_null, 1)) (kk : W p l e R s m args below meth c H locs cells slots Q (F0 m (pc + 1) ls (va_rf none :: rest))) : W p l e R s m args below meth c H locs cells slots Q (F0 m pc ls rest) := lv_null X.1 X.2.1 d kk
theorem s_idiv (X : XX D dA E Hb p s m args c cc nL own) {x y : Int32} {K : Int32 → XS → Option ρ} (h : xrd (xdv x y) K S = some res) (d : decode cc pc = .ok (.idiv, 1)) (kk : K (x / y) S = some res → W p l e R s m args below meth c H locs cells slots Q (F0 m (pc + 1) ls (.int (x / y) :: rest))) : W p l e R s m args below meth c H locs cells slots Q (F0 m pc ls (.int y :: .int x :: rest)) := by
  obtain ⟨v, h1, h2⟩ := xrd_inv h
  unfold xdv at h1
  split at h1
  · cases h1
  · rename_i hy
    cases h1
    exact lv_idiv X.1 X.2.1 d hy (kk h2)
theorem s_irem (X : XX D dA E Hb p s m args c cc nL own) {x y : Int32} {K : Int32 → XS → Option ρ} (h : xrd (xrm x y) K S = some res) (d : decode cc pc = .ok (.irem, 1)) (kk : K (x - x / y * y) S = some res → W p l e R s m args below meth c H locs cells slots Q (F0 m (pc + 1) ls (.int (x - x / y * y) :: rest))) : W p l e R s m args below meth c H locs cells slots Q (F0 m pc ls (.int y :: .int x :: rest)) := by
  obtain ⟨v, h1, h2⟩ := xrd_inv h
  unfold xrm at h1
  split at h1
  · cases h1
  · rename_i hy
    cases h1
    exact lv_irem X.1 X.2.1 d hy (kk h2)
/-! answers -/
theorem xend {T : XS} {v : Option Value} (hG : XG D dA Hb { frames := R.frames, cells := S.2.2.1, slots := S.2.2.2, locals := R.locals } s T H locs cells slots) : ∀ t, MQ below (fun _ _ o t => o = .returned v ∧ XR D dA Hb t T t.heap) args s cells slots (fun q => Hb.size ≤ q) t → MBQ D dA Hb below s S v T t := by
  rintro t ⟨o, h1, h2, h3, L, h4, h5⟩
  exact ⟨o, h1, h2, h3, L, cells, slots, h4, hG.2.2.1, hG.2.2.2, h5⟩
theorem s_iret (X : XX D dA E Hb p s m args c cc nL own) {S0 T : XS} {fr lo : Nat} {v r : Int32} (hG : XG D dA Hb { frames := fr, cells := S0.2.2.1, slots := S0.2.2.2, locals := lo } s S H locs cells slots) (hr : meth.sig.returnType = some .int) (hlocks : meth.locks = false) (h : xrt v S = some (r, T)) (d : decode cc pc = .ok (.ireturn, 1)) : W p l e { frames := fr, cells := S0.2.2.1, slots := S0.2.2.2, locals := lo } s m args below meth c H locs cells slots (MBQ D dA Hb below s S0 (some (.int r)) T) (F0 m pc ls [.int v]) := by
  cases h
  exact W.mono (xend (R := { frames := fr, cells := S0.2.2.1, slots := S0.2.2.2, locals := lo }) hG) (W.iret X.1 X.2.1 hr (fun t ht hW => ⟨rfl, by rw [ht]; exact hG.1.alike hW.alike⟩) hG.2.1 d hlocks)
theorem s_zret (X : XX D dA E Hb p s m args c cc nL own) {S0 T : XS} {fr lo t : Nat} {v r : Int32} (hG : XG D dA Hb { frames := fr, cells := S0.2.2.1, slots := S0.2.2.2, locals := lo } s S H locs cells slots) (hr : meth.sig.returnType = some (xdt t)) (hlocks : meth.locks = false) (h : xrz t v S = some (r, T)) (d : decode cc pc = .ok (.ireturn, 1)) : W p l e { frames := fr, cells := S0.2.2.1, slots := S0.2.2.2, locals := lo } s m args below meth c H locs cells slots (MBQ D dA Hb below s S0 (some (.int r)) T) (F0 m pc ls [.int v]) := by
  unfold xrz at h
  split at h
  · rename_i hf
    cases h
    exact W.mono (xend (R := { frames := fr, cells := S0.2.2.1, slots := S0.2.2.2, locals := lo }) hG) (W.zret X.1 X.2.1 hr (xfit_ok hf).1 (fun t ht hW => ⟨rfl, by rw [ht]; exact hG.1.alike hW.alike⟩) hG.2.1 d hlocks)
  · cases h
theorem s_vret (X : XX D dA E Hb p s m args c cc nL own) {S0 T : XS} {fr lo : Nat} {r : Unit} (hG : XG D dA Hb { frames := fr, cells := S0.2.2.1, slots := S0.2.2.2, locals := lo } s S H locs cells slots) (hr : meth.sig.returnType = none) (hlocks : meth.locks = false) (h : xrt () S = some (r, T)) (d : decode cc pc = .ok (.return_, 1)) : W p l e { frames := fr, cells := S0.2.2.1, slots := S0.2.2.2, locals := lo } s m args below meth c H locs cells slots (MBQ D dA Hb below s S0 none T) (F0 m pc ls []) := by
  cases h
  exact W.mono (xend (R := { frames := fr, cells := S0.2.2.1, slots := S0.2.2.2, locals := lo }) hG) (W.vret X.1 X.2.1 hr (fun t ht hW => ⟨rfl, by rw [ht]; exact hG.1.alike hW.alike⟩) hG.2.1 d hlocks)
theorem s_aret (X : XX D dA E Hb p s m args c cc nL own) {S0 T : XS} {fr lo : Nat} {v r : Option Nat} {rt : FieldType} (hG : XG D dA Hb { frames := fr, cells := S0.2.2.1, slots := S0.2.2.2, locals := lo } s S H locs cells slots) (hr : meth.sig.returnType = some rt) (hrt : (∃ n, rt = .object n) ∨ ∃ t, rt = .array t) (hlocks : meth.locks = false) (h : xrt v S = some (r, T)) (d : decode cc pc = .ok (.areturn, 1)) : W p l e { frames := fr, cells := S0.2.2.1, slots := S0.2.2.2, locals := lo } s m args below meth c H locs cells slots (MBQ D dA Hb below s S0 (some (va_rf r)) T) (F0 m pc ls [va_rf v]) := by
  cases h
  exact W.mono (xend (R := { frames := fr, cells := S0.2.2.1, slots := S0.2.2.2, locals := lo }) hG) (W.aret X.1 X.2.1 hr hrt (by cases v; exact Or.inl rfl; exact Or.inr ⟨_, rfl⟩) (fun t ht hW => ⟨rfl, by rw [ht]; exact hG.1.alike hW.alike⟩) hG.2.1 d hlocks)
end XROWS

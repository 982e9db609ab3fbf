set_option maxRecDepth 100000
def xno {ρ : Type} : XS → Option ρ := fun _ => none
theorem xno_elim {ρ : Type} {S : XS} {res : ρ} (h : (xno : XS → Option ρ) S = some res) : False := by cases h
theorem xcat0 : ∀ v ∈ ([] : List Value), v.category = 1 := fun _ h => nomatch h
theorem xcatc {v : Value} {l : List Value} (h : v.category = 1) (t : ∀ w ∈ l, w.category = 1) : ∀ w ∈ v :: l, w.category = 1 := List.forall_mem_cons.mpr ⟨h, t⟩
theorem xsum_eq : ∀ (l : List Value), (∀ v ∈ l, v.category = 1) → (l.map fun v => v.category).sum = l.length := by
  intro l
  induction l with
  | nil => intro _; rfl
  | cons v l ih =>
    intro h
    simp [h v List.mem_cons_self, ih (fun w hw => h w (List.mem_cons_of_mem _ hw))]
    omega
theorem xsum {l : List Value} (h : ∀ v ∈ l, v.category = 1) (hn : l.length ≤ 8) : (l.map fun v => v.category).sum ≤ 8 := by rw [xsum_eq l h]; exact hn
def xlp0 {ρ : Type} (B : (XS → Option ρ) → XS → Option ρ) : Nat → XS → Option ρ
  | 0 => fun _ => none
  | n + 1 => fun S => B (xlp0 B n) S
def xlp1 {a1 ρ : Type} (B : (a1 → XS → Option ρ) → a1 → XS → Option ρ) : Nat → a1 → XS → Option ρ
  | 0 => fun _ _ => none
  | n + 1 => fun x1 S => B (xlp1 B n) x1 S
def xlp2 {a1 a2 ρ : Type} (B : (a1 → a2 → XS → Option ρ) → a1 → a2 → XS → Option ρ) : Nat → a1 → a2 → XS → Option ρ
  | 0 => fun _ _ _ => none
  | n + 1 => fun x1 x2 S => B (xlp2 B n) x1 x2 S
def xlp3 {a1 a2 a3 ρ : Type} (B : (a1 → a2 → a3 → XS → Option ρ) → a1 → a2 → a3 → XS → Option ρ) : Nat → a1 → a2 → a3 → XS → Option ρ
  | 0 => fun _ _ _ _ => none
  | n + 1 => fun x1 x2 x3 S => B (xlp3 B n) x1 x2 x3 S
def xlp4 {a1 a2 a3 a4 ρ : Type} (B : (a1 → a2 → a3 → a4 → XS → Option ρ) → a1 → a2 → a3 → a4 → XS → Option ρ) : Nat → a1 → a2 → a3 → a4 → XS → Option ρ
  | 0 => fun _ _ _ _ _ => none
  | n + 1 => fun x1 x2 x3 x4 S => B (xlp4 B n) x1 x2 x3 x4 S
theorem xlp0_0 {ρ : Type} {B : (XS → Option ρ) → XS → Option ρ} {S : XS} {res : ρ} (h : xlp0 B 0 S = some res) : False := by cases h
theorem xlp1_0 {a1 ρ : Type} {B : (a1 → XS → Option ρ) → a1 → XS → Option ρ} {x1 : a1} {S : XS} {res : ρ} (h : xlp1 B 0 x1 S = some res) : False := by cases h
theorem xlp2_0 {a1 a2 ρ : Type} {B : (a1 → a2 → XS → Option ρ) → a1 → a2 → XS → Option ρ} {x1 : a1} {x2 : a2} {S : XS} {res : ρ} (h : xlp2 B 0 x1 x2 S = some res) : False := by cases h
theorem xlp3_0 {a1 a2 a3 ρ : Type} {B : (a1 → a2 → a3 → XS → Option ρ) → a1 → a2 → a3 → XS → Option ρ} {x1 : a1} {x2 : a2} {x3 : a3} {S : XS} {res : ρ} (h : xlp3 B 0 x1 x2 x3 S = some res) : False := by cases h
theorem xlp4_0 {a1 a2 a3 a4 ρ : Type} {B : (a1 → a2 → a3 → a4 → XS → Option ρ) → a1 → a2 → a3 → a4 → XS → Option ρ} {x1 : a1} {x2 : a2} {x3 : a3} {x4 : a4} {S : XS} {res : ρ} (h : xlp4 B 0 x1 x2 x3 x4 S = some res) : False := by cases h
theorem xlp0_s {ρ : Type} {B : (XS → Option ρ) → XS → Option ρ} {n : Nat} {S : XS} {res : Option ρ} (h : xlp0 B (n + 1) S = res) : B (xlp0 B n) S = res := h
theorem xlp1_s {a1 ρ : Type} {B : (a1 → XS → Option ρ) → a1 → XS → Option ρ} {n : Nat} {x1 : a1} {S : XS} {res : Option ρ} (h : xlp1 B (n + 1) x1 S = res) : B (xlp1 B n) x1 S = res := h
theorem xlp2_s {a1 a2 ρ : Type} {B : (a1 → a2 → XS → Option ρ) → a1 → a2 → XS → Option ρ} {n : Nat} {x1 : a1} {x2 : a2} {S : XS} {res : Option ρ} (h : xlp2 B (n + 1) x1 x2 S = res) : B (xlp2 B n) x1 x2 S = res := h
theorem xlp3_s {a1 a2 a3 ρ : Type} {B : (a1 → a2 → a3 → XS → Option ρ) → a1 → a2 → a3 → XS → Option ρ} {n : Nat} {x1 : a1} {x2 : a2} {x3 : a3} {S : XS} {res : Option ρ} (h : xlp3 B (n + 1) x1 x2 x3 S = res) : B (xlp3 B n) x1 x2 x3 S = res := h
theorem xlp4_s {a1 a2 a3 a4 ρ : Type} {B : (a1 → a2 → a3 → a4 → XS → Option ρ) → a1 → a2 → a3 → a4 → XS → Option ρ} {n : Nat} {x1 : a1} {x2 : a2} {x3 : a3} {x4 : a4} {S : XS} {res : Option ρ} (h : xlp4 B (n + 1) x1 x2 x3 x4 S = res) : B (xlp4 B n) x1 x2 x3 x4 S = res := h
theorem xbr_or {ρ : Type} {P : Prop} [Decidable P] {A B : XS → Option ρ} {S : XS} {res : ρ} (h : xbr (decide P) A B S = some res) : (P ∧ A S = some res) ∨ (¬ P ∧ B S = some res) := by
  by_cases q : P
  · exact Or.inl ⟨q, xbr_t h (decide_eq_true q)⟩
  · exact Or.inr ⟨q, xbr_f h (decide_eq_false q)⟩
theorem xne {x k : Int32} (h : ¬ x = k) : x.toInt ≠ k.toInt := fun e => h (Int32.toInt_inj.mp e)
section XM
variable {p : Program} {l : Launch} {e : Env} {R : Room} {s : State} {m : MethodId} {args : Array Value} {below : List Frame} {meth : Method} {c : Code} {H : Heap} {locs : List Loc} {cells slots : Nat} {Q : State → Prop}
variable {cc : ByteArray} {pc nL : Nat} {ls : Array Slot} {rest : List Value} {D : va_G} {dA : Nat → ClassId} {E : Nat → Nat → Nat} {Hb : Heap} {own : String} {S : XS} {ρ : Type} {res : ρ}
variable {y : MethodName} {bytes : ByteArray} {maxL fr lo n idx : Nat} {ret : Option FieldType} {As st : List Value}
theorem s_callVi (X : XX D dA E Hb p s m args c cc nL own) (hG : XG D dA Hb R s S H locs cells slots) (hl : ls.size = nL) {rr : Option Nat} {cs : List Nat} {f : Nat → XS → Option (Int32 × XS)} {K : Int32 → XS → Option ρ} (C : XCV own idx cs y bytes maxL ret n) (h : xrd (qV rr cs) (fun a => xal (f a) K) S = some res)
    (hM : ∀ a v T, f a S = some (v, T) → MB l y (ws_ y bytes maxL ret) fr lo D dA E Hb (.ref a :: As) S (some (.int v)) T) (hst : st = As.reverse ++ va_rf rr :: rest) (hn : As.length = n) (hR : fr + 1 ≤ R.frames ∧ 8 + (maxL + 11) + lo ≤ R.locals) (hc : (rest.map fun v => v.category).sum ≤ 8) (d : decode cc pc = .ok (.invokevirtual idx, 3))
    (kk : ∀ (v : Int32) (S : XS) (H1 : Heap) (locs1 : List Loc) (cells slots : Nat), XG D dA Hb R s S H1 locs1 cells slots → K v S = some res → W p l e R s m args below meth c H1 locs1 cells slots Q (F0 m (pc + 3) ls (.int v :: rest))) : W p l e R s m args below meth c H locs cells slots Q (F0 m pc ls st) :=
  s_callV (rv := fun v => some (.int v)) X hG hl C h hM hst hn hR hc d kk
theorem s_callVr (X : XX D dA E Hb p s m args c cc nL own) (hG : XG D dA Hb R s S H locs cells slots) (hl : ls.size = nL) {rr : Option Nat} {cs : List Nat} {f : Nat → XS → Option (Option Nat × XS)} {K : Option Nat → XS → Option ρ} (C : XCV own idx cs y bytes maxL ret n) (h : xrd (qV rr cs) (fun a => xal (f a) K) S = some res)
    (hM : ∀ a v T, f a S = some (v, T) → MB l y (ws_ y bytes maxL ret) fr lo D dA E Hb (.ref a :: As) S (some (va_rf v)) T) (hst : st = As.reverse ++ va_rf rr :: rest) (hn : As.length = n) (hR : fr + 1 ≤ R.frames ∧ 8 + (maxL + 11) + lo ≤ R.locals) (hc : (rest.map fun v => v.category).sum ≤ 8) (d : decode cc pc = .ok (.invokevirtual idx, 3))
    (kk : ∀ (v : Option Nat) (S : XS) (H1 : Heap) (locs1 : List Loc) (cells slots : Nat), XG D dA Hb R s S H1 locs1 cells slots → K v S = some res → W p l e R s m args below meth c H1 locs1 cells slots Q (F0 m (pc + 3) ls (va_rf v :: rest))) : W p l e R s m args below meth c H locs cells slots Q (F0 m pc ls st) :=
  s_callV (rv := fun v => some (va_rf v)) X hG hl C h hM hst hn hR hc d kk
theorem s_callVv (X : XX D dA E Hb p s m args c cc nL own) (hG : XG D dA Hb R s S H locs cells slots) (hl : ls.size = nL) {rr : Option Nat} {cs : List Nat} {f : Nat → XS → Option (Unit × XS)} {K : Unit → XS → Option ρ} (C : XCV own idx cs y bytes maxL ret n) (h : xrd (qV rr cs) (fun a => xal (f a) K) S = some res)
    (hM : ∀ a v T, f a S = some (v, T) → MB l y (ws_ y bytes maxL ret) fr lo D dA E Hb (.ref a :: As) S none T) (hst : st = As.reverse ++ va_rf rr :: rest) (hn : As.length = n) (hR : fr + 1 ≤ R.frames ∧ 8 + (maxL + 11) + lo ≤ R.locals) (hc : (rest.map fun v => v.category).sum ≤ 8) (d : decode cc pc = .ok (.invokevirtual idx, 3))
    (kk : ∀ (S : XS) (H1 : Heap) (locs1 : List Loc) (cells slots : Nat), XG D dA Hb R s S H1 locs1 cells slots → K () S = some res → W p l e R s m args below meth c H1 locs1 cells slots Q (F0 m (pc + 3) ls rest)) : W p l e R s m args below meth c H locs cells slots Q (F0 m pc ls st) :=
  s_callV (rv := fun _ => none) X hG hl C h hM hst hn hR hc d (fun _ => kk)
theorem s_callSi (X : XX D dA E Hb p s m args c cc nL own) (hG : XG D dA Hb R s S H locs cells slots) (hl : ls.size = nL) {f : XS → Option (Int32 × XS)} {K : Int32 → XS → Option ρ} (C : XCS own idx y bytes maxL ret n) (h : xal f K S = some res)
    (hM : ∀ v T, f S = some (v, T) → MB l y (ws_ y bytes maxL ret) fr lo D dA E Hb As S (some (.int v)) T) (hst : st = As.reverse ++ rest) (hn : As.length = n) (hR : fr + 1 ≤ R.frames ∧ 8 + (maxL + 11) + lo ≤ R.locals) (hc : (rest.map fun v => v.category).sum ≤ 8) (d : decode cc pc = .ok (.invokestatic idx, 3))
    (kk : ∀ (v : Int32) (S : XS) (H1 : Heap) (locs1 : List Loc) (cells slots : Nat), XG D dA Hb R s S H1 locs1 cells slots → K v S = some res → W p l e R s m args below meth c H1 locs1 cells slots Q (F0 m (pc + 3) ls (.int v :: rest))) : W p l e R s m args below meth c H locs cells slots Q (F0 m pc ls st) :=
  s_callS (rv := fun v => some (.int v)) X hG hl C h hM hst hn hR hc d kk
theorem s_callSr (X : XX D dA E Hb p s m args c cc nL own) (hG : XG D dA Hb R s S H locs cells slots) (hl : ls.size = nL) {f : XS → Option (Option Nat × XS)} {K : Option Nat → XS → Option ρ} (C : XCS own idx y bytes maxL ret n) (h : xal f K S = some res)
    (hM : ∀ v T, f S = some (v, T) → MB l y (ws_ y bytes maxL ret) fr lo D dA E Hb As S (some (va_rf v)) T) (hst : st = As.reverse ++ rest) (hn : As.length = n) (hR : fr + 1 ≤ R.frames ∧ 8 + (maxL + 11) + lo ≤ R.locals) (hc : (rest.map fun v => v.category).sum ≤ 8) (d : decode cc pc = .ok (.invokestatic idx, 3))
    (kk : ∀ (v : Option Nat) (S : XS) (H1 : Heap) (locs1 : List Loc) (cells slots : Nat), XG D dA Hb R s S H1 locs1 cells slots → K v S = some res → W p l e R s m args below meth c H1 locs1 cells slots Q (F0 m (pc + 3) ls (va_rf v :: rest))) : W p l e R s m args below meth c H locs cells slots Q (F0 m pc ls st) :=
  s_callS (rv := fun v => some (va_rf v)) X hG hl C h hM hst hn hR hc d kk
theorem s_callSv (X : XX D dA E Hb p s m args c cc nL own) (hG : XG D dA Hb R s S H locs cells slots) (hl : ls.size = nL) {f : XS → Option (Unit × XS)} {K : Unit → XS → Option ρ} (C : XCS own idx y bytes maxL ret n) (h : xal f K S = some res)
    (hM : ∀ v T, f S = some (v, T) → MB l y (ws_ y bytes maxL ret) fr lo D dA E Hb As S none T) (hst : st = As.reverse ++ rest) (hn : As.length = n) (hR : fr + 1 ≤ R.frames ∧ 8 + (maxL + 11) + lo ≤ R.locals) (hc : (rest.map fun v => v.category).sum ≤ 8) (d : decode cc pc = .ok (.invokestatic idx, 3))
    (kk : ∀ (S : XS) (H1 : Heap) (locs1 : List Loc) (cells slots : Nat), XG D dA Hb R s S H1 locs1 cells slots → K () S = some res → W p l e R s m args below meth c H1 locs1 cells slots Q (F0 m (pc + 3) ls rest)) : W p l e R s m args below meth c H locs cells slots Q (F0 m pc ls st) :=
  s_callS (rv := fun _ => none) X hG hl C h hM hst hn hR hc d (fun _ => kk)
/-- a local of two slots, read before anything is stored again -/
theorem s_lstore (X : XX D dA E Hb p s m args c cc nL own) {i : Nat} {x : Int64} {lv lv' : List (Nat × Value)} (d : decode cc pc = .ok (.lstore i, 2)) (hl : lh ls nL lv) (hn : i + 1 < nL) (he : lv.filter (fun q => !(q.1 == i) && !(q.1 == i + 1)) = lv') (he2 : lv.all (fun q => !(q.1 + 1 == i && q.2.category == 2)) = true) (kk : ∀ ls : Array Slot, lh ls nL lv' → ls[i]? = some (.val (.long x)) → W p l e R s m args below meth c H locs cells slots Q (F0 m (pc + 2) ls rest)) : W p l e R s m args below meth c H locs cells slots Q (F0 m pc ls (.long x :: rest)) := by
  refine lv_lstore X.1 X.2.1 d hl.1 hn rfl (fun ls' h' => kk ls' ⟨⟨h'.1, h'.2.1, fun q hq => h'.2.2 q ?_⟩, fun q hq => ?_⟩ (h'.2.2 (i, .long x) List.mem_cons_self))
  · rw [← he] at hq
    obtain ⟨h1, h2⟩ := List.mem_filter.mp hq
    refine List.mem_cons_of_mem _ (List.mem_filter.mpr ⟨h1, ?_⟩)
    have h3 := List.all_eq_true.mp he2 q h1
    simp only [Bool.and_eq_true, Bool.not_eq_true'] at h2 h3 ⊢
    exact ⟨h2.1, h2.2, h3⟩
  · rw [← he] at hq
    exact hl.2 q (List.mem_filter.mp hq).1
end XM

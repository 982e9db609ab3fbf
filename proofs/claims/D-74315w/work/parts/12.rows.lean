set_option maxRecDepth 100000
/-! primitives of the functional heap -/
def qI (r : Option Nat) (cs : List Nat) (k : Nat) : XS → Option Int32 := fun S => match r with
  | none => none
  | some a => match S.1 a with
    | some (.inr (ci, fs)) => if cs.contains ci = true then (match fs[k]? with
      | some (.int v) => some v
      | _ => none) else none
    | _ => none
def qR (r : Option Nat) (cs : List Nat) (k : Nat) : XS → Option (Option Nat) := fun S => match r with
  | none => none
  | some a => match S.1 a with
    | some (.inr (ci, fs)) => if cs.contains ci = true then (match fs[k]? with
      | some (.ref b) => some (some b)
      | some .null => some none
      | _ => none) else none
    | _ => none
theorem qI_inv {r : Option Nat} {cs : List Nat} {k : Nat} {S : XS} {v : Int32} (h : qI r cs k S = some v) : ∃ a ci fs, r = some a ∧ S.1 a = some (.inr (ci, fs)) ∧ ci ∈ cs ∧ fs[k]? = some (.int v) := by
  cases r with
  | none => cases h
  | some a =>
    simp only [qI] at h
    split at h
    · rename_i ci fs e
      split at h
      · rename_i hc
        split at h
        · rename_i w hw
          cases h
          exact ⟨a, ci, fs, rfl, e, by simpa using hc, hw⟩
        · cases h
      · cases h
    · cases h
theorem qR_inv {r : Option Nat} {cs : List Nat} {k : Nat} {S : XS} {v : Option Nat} (h : qR r cs k S = some v) : ∃ a ci fs, r = some a ∧ S.1 a = some (.inr (ci, fs)) ∧ ci ∈ cs ∧ fs[k]? = some (va_rf v) := by
  cases r with
  | none => cases h
  | some a =>
    simp only [qR] at h
    split at h
    · rename_i ci fs e
      split at h
      · rename_i hc
        split at h
        · rename_i w hw
          cases h
          exact ⟨a, ci, fs, rfl, e, by simpa using hc, hw⟩
        · rename_i hw
          cases h
          exact ⟨a, ci, fs, rfl, e, by simpa using hc, hw⟩
        · cases h
      · cases h
    · cases h
def xfit : Nat → Int32 → Bool := fun t v => match t with
  | 0 => true
  | 1 => v == 0 || v == 1
  | _ => v.toInt8.toInt32 == v
def xdt : Nat → FieldType := fun t => match t with
  | 0 => .int
  | 1 => .boolean
  | _ => .byte
theorem i8_lo : ∀ x : Int8, (-128 : Int32) ≤ x.toInt32 := by
  intro x
  rw [Int32.le_iff_toInt_le, Int8.toInt_toInt32]
  exact Int8.le_toInt x
theorem i8_hi : ∀ x : Int8, x.toInt32 ≤ (127 : Int32) := by
  intro x
  rw [Int32.le_iff_toInt_le, Int8.toInt_toInt32]
  exact Int8.toInt_le x
theorem xfit_ok {t : Nat} {v : Int32} (h : xfit t v = true) : narrow (xdt t) (.int v) = .int v ∧ fits (xdt t) (.int v) = true := by
  match t, h with
  | 0, _ => exact ⟨rfl, rfl⟩
  | 1, h =>
    simp only [xfit, Bool.or_eq_true, beq_iff_eq] at h
    rcases h with h | h <;> subst h <;> exact ⟨rfl, rfl⟩
  | t + 2, h =>
    simp only [xfit, beq_iff_eq] at h
    refine ⟨by show Value.int v.toInt8.toInt32 = _; rw [h], ?_⟩
    show (decide ((-128 : Int32) ≤ v) && decide (v ≤ 127)) = true
    rw [← h]
    simp [i8_lo, i8_hi]
theorem xfit_ref {ty : FieldType} (hr : ty.isReference = true) (v : Option Nat) : narrow ty (va_rf v) = va_rf v ∧ fits ty (va_rf v) = true := by
  cases ty <;> first | (simp [FieldType.isReference] at hr; done) | (cases v <;> exact ⟨rfl, rfl⟩)
def wI (b : Nat) (r : Option Nat) (cs : List Nat) (k t : Nat) (v : Int32) : XS → Option XS := fun S => match r with
  | none => none
  | some a => match S.1 a with
    | some (.inr (ci, fs)) => if (cs.contains ci && decide (b ≤ a) && decide (k < fs.length) && xfit t v) = true then some (xset S a (.inr (ci, fs.set k (.int v)))) else none
    | _ => none
def wR (b : Nat) (r : Option Nat) (cs : List Nat) (k : Nat) (v : Option Nat) : XS → Option XS := fun S => match r with
  | none => none
  | some a => match S.1 a with
    | some (.inr (ci, fs)) => if (cs.contains ci && decide (b ≤ a) && decide (k < fs.length)) = true then some (xset S a (.inr (ci, fs.set k (va_rf v)))) else none
    | _ => none
theorem wI_inv {b : Nat} {r : Option Nat} {cs : List Nat} {k t : Nat} {v : Int32} {S T : XS} (h : wI b r cs k t v S = some T) : ∃ a ci fs, r = some a ∧ S.1 a = some (.inr (ci, fs)) ∧ ci ∈ cs ∧ b ≤ a ∧ k < fs.length ∧ xfit t v = true ∧ T = xset S a (.inr (ci, fs.set k (.int v))) := by
  cases r with
  | none => cases h
  | some a =>
    simp only [wI] at h
    split at h
    · rename_i ci fs e
      split at h
      · rename_i hc
        cases h
        simp only [Bool.and_eq_true, decide_eq_true_eq, List.contains_iff_mem] at hc
        exact ⟨a, ci, fs, rfl, e, hc.1.1.1, hc.1.1.2, hc.1.2, hc.2, rfl⟩
      · cases h
    · cases h
theorem wR_inv {b : Nat} {r : Option Nat} {cs : List Nat} {k : Nat} {v : Option Nat} {S T : XS} (h : wR b r cs k v S = some T) : ∃ a ci fs, r = some a ∧ S.1 a = some (.inr (ci, fs)) ∧ ci ∈ cs ∧ b ≤ a ∧ k < fs.length ∧ T = xset S a (.inr (ci, fs.set k (va_rf v))) := by
  cases r with
  | none => cases h
  | some a =>
    simp only [wR] at h
    split at h
    · rename_i ci fs e
      split at h
      · rename_i hc
        cases h
        simp only [Bool.and_eq_true, decide_eq_true_eq, List.contains_iff_mem] at hc
        exact ⟨a, ci, fs, rfl, e, hc.1.1, hc.1.2, hc.2, rfl⟩
      · cases h
    · cases h
/-- within -/
def xin (i : Int32) (n : Nat) : Bool := !(decide (i < 0) || decide (n ≤ i.toNatClampNeg))
theorem xin_in {i : Int32} {n : Nat} (h : xin i n = true) : ¬ (i < 0 ∨ n ≤ i.toNatClampNeg) := by
  simp only [xin, Bool.not_eq_true', Bool.or_eq_false_iff, decide_eq_false_iff_not] at h
  exact fun q => q.elim h.1 h.2
/-- arrays of numbers: kd 0 ints, 1 bytes -/
def qA (kd : Nat) (r : Option Nat) (i : Int32) : XS → Option Int32 := fun S => match r with
  | none => none
  | some a => match S.1 a with
    | some (.inl (k, n, .inl f)) => if (k == kd && xin i n) = true then some (f i.toNatClampNeg) else none
    | _ => none
def qL (r : Option Nat) (i : Int32) : XS → Option Int64 := fun S => match r with
  | none => none
  | some a => match S.1 a with
    | some (.inl (k, n, .inr (.inl f))) => if (k == 2 && xin i n) = true then some (f i.toNatClampNeg) else none
    | _ => none
def qQ (r : Option Nat) (i : Int32) : XS → Option (Option Nat) := fun S => match r with
  | none => none
  | some a => match S.1 a with
    | some (.inl (k, n, .inr (.inr (.inr (.inr f))))) => if (decide (3 ≤ k) && decide (k < 8) && xin i n) = true then some (f i.toNatClampNeg) else none
    | _ => none
def qN (r : Option Nat) : XS → Option Int32 := fun S => match r with
  | none => none
  | some a => match S.1 a with
    | some (.inl (_, x)) => some (Int32.ofNat x.1)
    | _ => none
theorem qA_inv {kd : Nat} {r : Option Nat} {i : Int32} {S : XS} {v : Int32} (h : qA kd r i S = some v) : ∃ a n f, r = some a ∧ S.1 a = some (.inl (kd, n, .inl f)) ∧ xin i n = true ∧ v = f i.toNatClampNeg := by
  cases r with
  | none => cases h
  | some a =>
    simp only [qA] at h
    split at h
    · rename_i k n f e
      split at h
      · rename_i hc
        cases h
        simp only [Bool.and_eq_true, beq_iff_eq] at hc
        rw [hc.1] at e
        exact ⟨a, n, f, rfl, e, hc.2, rfl⟩
      · cases h
    · cases h
theorem qL_inv {r : Option Nat} {i : Int32} {S : XS} {v : Int64} (h : qL r i S = some v) : ∃ a n f, r = some a ∧ S.1 a = some (.inl (2, n, .inr (.inl f))) ∧ xin i n = true ∧ v = f i.toNatClampNeg := by
  cases r with
  | none => cases h
  | some a =>
    simp only [qL] at h
    split at h
    · rename_i k n f e
      split at h
      · rename_i hc
        cases h
        simp only [Bool.and_eq_true, beq_iff_eq] at hc
        rw [hc.1] at e
        exact ⟨a, n, f, rfl, e, hc.2, rfl⟩
      · cases h
    · cases h
theorem qQ_inv {r : Option Nat} {i : Int32} {S : XS} {v : Option Nat} (h : qQ r i S = some v) : ∃ a k n f, r = some a ∧ S.1 a = some (.inl (k, n, .inr (.inr (.inr (.inr f))))) ∧ (3 ≤ k ∧ k < 8) ∧ xin i n = true ∧ v = f i.toNatClampNeg := by
  cases r with
  | none => cases h
  | some a =>
    simp only [qQ] at h
    split at h
    · rename_i k n f e
      split at h
      · rename_i hc
        cases h
        simp only [Bool.and_eq_true, decide_eq_true_eq] at hc
        exact ⟨a, k, n, f, rfl, e, hc.1, hc.2, rfl⟩
      · cases h
    · cases h
theorem qN_inv {r : Option Nat} {S : XS} {v : Int32} (h : qN r S = some v) : ∃ a k x, r = some a ∧ S.1 a = some (.inl (k, x)) ∧ v = Int32.ofNat x.1 := by
  cases r with
  | none => cases h
  | some a =>
    simp only [qN] at h
    split at h
    · rename_i k x e
      cases h
      exact ⟨a, k, x, rfl, e, rfl⟩
    · cases h
/-- what an array of kind kd keeps of an int -/
def xkeep (kd : Nat) (v : Int32) : Int32 := match kd with
  | 0 => v
  | _ => v.toInt8.toInt32
def wA (b kd : Nat) (r : Option Nat) (i v : Int32) : XS → Option XS := fun S => match r with
  | none => none
  | some a => match S.1 a with
    | some (.inl (k, n, .inl f)) => if (k == kd && decide (b ≤ a) && xin i n) = true then some (xset S a (.inl (k, n, .inl (upd f i.toNatClampNeg (xkeep kd v))))) else none
    | _ => none
def wL (b : Nat) (r : Option Nat) (i : Int32) (v : Int64) : XS → Option XS := fun S => match r with
  | none => none
  | some a => match S.1 a with
    | some (.inl (k, n, .inr (.inl f))) => if (k == 2 && decide (b ≤ a) && xin i n) = true then some (xset S a (.inl (k, n, .inr (.inl (vp_updL f i.toNatClampNeg v))))) else none
    | _ => none
def xobj : List Nat := [6, 7, 8, 9, 11, 14, 16]
/-- may a reference go into an array of kind k: null, an object of the class that the kind tells (3 Table, 5 String; 4: any object), an int array (6) -/
def xmay (k : Nat) (v : Option Nat) (S : XS) : Bool := match v with
  | none => true
  | some q => match S.1 q with
    | some (.inr (ci, _)) => (k == 3 && ci == 2) || (k == 5 && ci == 14) || (k == 4 && xobj.contains ci)
    | some (.inl (kq, _)) => k == 6 && kq == 0
    | none => false
def xown (b : Nat) (v : Option Nat) : Bool := match v with
  | none => true
  | some q => decide (b ≤ q)
def wQ (b : Nat) (r : Option Nat) (i : Int32) (v : Option Nat) : XS → Option XS := fun S => match r with
  | none => none
  | some a => match S.1 a with
    | some (.inl (k, n, .inr (.inr (.inr (.inr f))))) => if (decide (3 ≤ k) && decide (b ≤ a) && xin i n && xmay k v S && (k != 6 || xown b v)) = true then some (xset S a (.inl (k, n, .inr (.inr (.inr (.inr (va_up f i.toNatClampNeg v))))))) else none
    | _ => none
theorem wA_inv {b kd : Nat} {r : Option Nat} {i v : Int32} {S T : XS} (h : wA b kd r i v S = some T) : ∃ a n f, r = some a ∧ S.1 a = some (.inl (kd, n, .inl f)) ∧ b ≤ a ∧ xin i n = true ∧ T = xset S a (.inl (kd, n, .inl (upd f i.toNatClampNeg (xkeep kd v)))) := by
  cases r with
  | none => cases h
  | some a =>
    simp only [wA] at h
    split at h
    · rename_i k n f e
      split at h
      · rename_i hc
        cases h
        simp only [Bool.and_eq_true, beq_iff_eq, decide_eq_true_eq] at hc
        obtain ⟨⟨rfl, h2⟩, h3⟩ := hc
        exact ⟨a, n, f, rfl, e, h2, h3, rfl⟩
      · cases h
    · cases h
theorem wL_inv {b : Nat} {r : Option Nat} {i : Int32} {v : Int64} {S T : XS} (h : wL b r i v S = some T) : ∃ a n f, r = some a ∧ S.1 a = some (.inl (2, n, .inr (.inl f))) ∧ b ≤ a ∧ xin i n = true ∧ T = xset S a (.inl (2, n, .inr (.inl (vp_updL f i.toNatClampNeg v)))) := by
  cases r with
  | none => cases h
  | some a =>
    simp only [wL] at h
    split at h
    · rename_i k n f e
      split at h
      · rename_i hc
        cases h
        simp only [Bool.and_eq_true, beq_iff_eq, decide_eq_true_eq] at hc
        obtain ⟨⟨rfl, h2⟩, h3⟩ := hc
        exact ⟨a, n, f, rfl, e, h2, h3, rfl⟩
      · cases h
    · cases h
theorem wQ_inv {b : Nat} {r : Option Nat} {i : Int32} {v : Option Nat} {S T : XS} (h : wQ b r i v S = some T) : ∃ a k n f, r = some a ∧ S.1 a = some (.inl (k, n, .inr (.inr (.inr (.inr f))))) ∧ 3 ≤ k ∧ b ≤ a ∧ xin i n = true ∧ xmay k v S = true ∧ (k = 6 → xown b v = true) ∧ T = xset S a (.inl (k, n, .inr (.inr (.inr (.inr (va_up f i.toNatClampNeg v)))))) := by
  cases r with
  | none => cases h
  | some a =>
    simp only [wQ] at h
    split at h
    · rename_i k n f e
      split at h
      · rename_i hc
        cases h
        simp only [Bool.and_eq_true, decide_eq_true_eq, Bool.or_eq_true, bne_iff_ne] at hc
        exact ⟨a, k, n, f, rfl, e, hc.1.1.1.1, hc.1.1.1.2, hc.1.1.2, hc.1.2, fun h6 => hc.2.elim (fun q => absurd h6 q) id, rfl⟩
      · cases h
    · cases h
/-- making: an object of class ci with n fields fs; an array -/
def aO (ci n : Nat) (fs : List Value) : XS → Option (Option Nat × XS) := fun S => if (decide (1 ≤ S.2.2.1) && decide (n ≤ S.2.2.2)) = true then some (some S.2.1, xadd S n (.inr (ci, fs))) else none
def xzero (kd : Nat) : (Nat → Int32) ⊕ (Nat → Int64) ⊕ (Nat → UInt32) ⊕ (Nat → UInt64) ⊕ (Nat → Option Nat) := match kd with
  | 0 => .inl (fun _ => 0)
  | 1 => .inl (fun _ => 0)
  | 2 => .inr (.inl (fun _ => 0))
  | _ => .inr (.inr (.inr (.inr (fun _ => none))))
def aA (kd : Nat) (i : Int32) : XS → Option (Option Nat × XS) := fun S => if (!(decide (i < 0)) && decide (1 ≤ S.2.2.1) && decide (i.toNatClampNeg ≤ S.2.2.2) && decide (i.toNatClampNeg ≤ 1000000)) = true then some (some S.2.1, xadd S i.toNatClampNeg (.inl (kd, i.toNatClampNeg, xzero kd))) else none
/-- checks -/
def xdv (x y : Int32) : XS → Option Int32 := fun _ => if y = 0 then none else some (x / y)
def xrm (x y : Int32) : XS → Option Int32 := fun _ => if y = 0 then none else some (x - x / y * y)
/-- a receiver: not null, an object of one of the classes cs -/
def qV (r : Option Nat) (cs : List Nat) : XS → Option Nat := fun S => match r with
  | none => none
  | some a => match S.1 a with
    | some (.inr (ci, _)) => if cs.contains ci = true then some a else none
    | _ => none
def qP (r : Option Nat) : XS → Option Nat := fun _ => r
theorem qV_inv {r : Option Nat} {cs : List Nat} {S : XS} {a : Nat} (h : qV r cs S = some a) : ∃ ci fs, r = some a ∧ S.1 a = some (.inr (ci, fs)) ∧ ci ∈ cs := by
  cases r with
  | none => cases h
  | some a0 =>
    simp only [qV] at h
    split at h
    · rename_i ci fs e
      split at h
      · rename_i hc
        cases h
        exact ⟨ci, fs, rfl, e, by simpa using hc⟩
      · cases h
    · cases h
/-- an answer: an int (t as in xfit), another one, none -/
def xrt {α : Type} (v : α) : XS → Option (α × XS) := fun S => some (v, S)
def xrz (t : Nat) (v : Int32) : XS → Option (Int32 × XS) := fun S => if xfit t v = true then some (v, S) else none

set_option maxRecDepth 100000
/-! THE LAYER: a heap as a function, its primitives, and a row for each instruction over it -/
abbrev XS : Type := (Nat → Option va_E) × Nat × Nat × Nat
def xset (S : XS) (a : Nat) (e : va_E) : XS := (fun q => if q = a then some e else S.1 q, S.2)
def xadd (S : XS) (n : Nat) (e : va_E) : XS := (fun q => if q = S.2.1 then some e else S.1 q, S.2.1 + 1, S.2.2.1 - 1, S.2.2.2 - n)
def xrd {α ρ : Type} (f : XS → Option α) (k : α → XS → Option ρ) : XS → Option ρ := fun S => match f S with
  | some a => k a S
  | none => none
def xwr {ρ : Type} (f : XS → Option XS) (k : XS → Option ρ) : XS → Option ρ := fun S => match f S with
  | some T => k T
  | none => none
def xal {α ρ : Type} (f : XS → Option (α × XS)) (k : α → XS → Option ρ) : XS → Option ρ := fun S => match f S with
  | some (a, T) => k a T
  | none => none
def xbr {ρ : Type} (c : Bool) (A B : XS → Option ρ) : XS → Option ρ := fun S => match c with
  | true => A S
  | false => B S
def xlp {σ ρ : Type} (B : (σ → XS → Option ρ) → σ → XS → Option ρ) : Nat → σ → XS → Option ρ
  | 0 => fun _ _ => none
  | n + 1 => fun x S => B (xlp B n) x S
theorem xrd_inv {α ρ : Type} {f : XS → Option α} {k : α → XS → Option ρ} {S : XS} {res : ρ} (h : xrd f k S = some res) : ∃ a, f S = some a ∧ k a S = some res := by
  unfold xrd at h
  split at h
  · exact ⟨_, by assumption, h⟩
  · cases h
theorem xwr_inv {ρ : Type} {f : XS → Option XS} {k : XS → Option ρ} {S : XS} {res : ρ} (h : xwr f k S = some res) : ∃ T, f S = some T ∧ k T = some res := by
  unfold xwr at h
  split at h
  · exact ⟨_, by assumption, h⟩
  · cases h
theorem xal_inv {α ρ : Type} {f : XS → Option (α × XS)} {k : α → XS → Option ρ} {S : XS} {res : ρ} (h : xal f k S = some res) : ∃ a T, f S = some (a, T) ∧ k a T = some res := by
  unfold xal at h
  split at h
  · exact ⟨_, _, by assumption, h⟩
  · cases h
/-- kinds of arrays -/
def xty : Nat → FieldType := fun k => match k with
  | 0 => .int
  | 1 => .byte
  | 2 => .long
  | 3 => .object "ClockZones$Table"
  | 4 => .object "java/lang/Object"
  | 5 => .object "java/lang/String"
  | 6 => .array .int
  | 7 => .object "java/lang/Integer"
  | _ => .int
def xel (x : vp_A) : Nat → Value := fun j => match x.2 with
  | .inl f => .int (f j)
  | .inr (.inl f) => .long (f j)
  | .inr (.inr (.inl f)) => .float (f j)
  | .inr (.inr (.inr (.inl f))) => .double (f j)
  | .inr (.inr (.inr (.inr f))) => va_rf (f j)
/-- the classes of objects -/
def xcl : List vw_C := [(RX1, TX1, 10), (RX2, TX2, 6), (RX3, TX3, 3), (RX4, TX4, 61), (RX5, TX5, 11), (RX6, TX6, 8), (RX7, TX7, 3), (RX8, TX8, 4), (RX9, TX9, 5), (RX10, TX10, 3), (RX11, TX11, 8), (RJ2, TJ2, 3), (RJ4, TJ4, 3), (RJ24, TJ24, 4), (RJ9, TJ9, 4), (RJ17, TJ17, 4), (RJ27, TJ27, 1), (RJ10, TJ10, 0), (RJ25, TJ25, 0)]
theorem xcl_all {P : vw_C → Prop} (h : ∀ q ∈ xcl, P q) : ∀ (c : Nat) (q : vw_C), xcl[c]? = some q → P q := fun _ _ hc => h _ (List.mem_of_getElem? hc)
theorem xcl_in : ∀ (c : Nat) (q : vw_C), xcl[c]? = some q → ∀ w ∈ u_ws q.1 q.2.1 q.2.2, w ∈ lw_all := by
  refine xcl_all ?_
  unfold xcl
  simp only [List.forall_mem_cons]
  exact ⟨in_X1, in_X2, in_X3, in_X4, in_X5, in_X6, in_X7, in_X8, in_X9, in_X10, in_X11, in_J2, in_J4, in_J24, in_J9, in_J17, in_J27, (fun _ h => nomatch h), (fun _ h => nomatch h), fun _ h => by cases h⟩
theorem xcl_ty : ∀ (c : Nat) (q : vw_C), xcl[c]? = some q → ∃ ty : Nat → FieldType, ∀ k, k < q.2.2 → parseFieldDescriptor (q.2.1 k).2.2.1 = some (ty k) := by
  refine xcl_all ?_
  unfold xcl
  simp only [List.forall_mem_cons]
  exact ⟨⟨_, tyX1_ok⟩, ⟨_, tyX2_ok⟩, ⟨_, tyX3_ok⟩, ⟨_, tyX4_ok⟩, ⟨_, tyX5_ok⟩, ⟨_, tyX6_ok⟩, ⟨_, tyX7_ok⟩, ⟨_, tyX8_ok⟩, ⟨_, tyX9_ok⟩, ⟨_, tyX10_ok⟩, ⟨_, tyX11_ok⟩, ⟨_, tyJ2_ok⟩, ⟨_, tyJ4_ok⟩, ⟨_, tyJ24_ok⟩, ⟨_, tyJ9_ok⟩, ⟨_, tyJ17_ok⟩, ⟨_, tyJ27_ok⟩, ⟨tyJ10, fun _ h => absurd h (Nat.not_lt_zero _)⟩, ⟨tyJ25, fun _ h => absurd h (Nat.not_lt_zero _)⟩, fun _ h => by cases h⟩
theorem xcl_nm : ∀ (c : Nat) (q : vw_C), xcl[c]? = some q → ∀ a, a < q.2.2 → ∀ b, b < q.2.2 → a ≠ b → (q.2.1 a).2.1 ≠ (q.2.1 b).2.1 := by
  refine xcl_all ?_
  unfold xcl
  simp only [List.forall_mem_cons]
  exact ⟨nmX1, nmX2, nmX3, nmX4, nmX5, nmX6, nmX7, nmX8, nmX9, nmX10, nmX11, nmJ2, nmJ4, nmJ24, nmJ9, nmJ17, nmJ27, (fun _ h => absurd h (Nat.not_lt_zero _)), (fun _ h => absurd h (Nat.not_lt_zero _)), fun _ h => by cases h⟩
/-- words that don't ride in lw_all but stay true when tables warm -/
def xnwB : Cond → Bool
  | .fieldLinkNest .. => true
  | .methodLinkNest .. => true
  | .castable .. => true
  | .declares _ => true
  | _ => false
def xnw : List Cond := lw_tbl.filter xnwB
theorem xnw_of {w : Cond} (h : w ∈ lw_tbl) (g : xnwB w = true) : w ∈ xnw := List.mem_filter.mpr ⟨h, g⟩
theorem xnw_tabs {w : Cond} (h : w ∈ xnw) : w.onTables = true := by
  have h1 := (List.mem_filter.mp h).2
  cases w <;> first | rfl | (simp [xnwB] at h1)
theorem xnw_warm {s U : State} (hW : s.WarmedH U.vm) (h : ∀ w ∈ xnw, va_Nw w s) : ∀ w ∈ xnw, va_Nw w U := by
  intro w hw
  have h1 := h w hw
  have h2 := (List.mem_filter.mp hw).2
  cases w <;> first | (simp [xnwB] at h2; done) | exact va_Nw.warmF hW h1 | exact va_Nw.warmM hW h1 | exact va_Nw.warmC hW h1 | exact va_Nw.warmD hW h1

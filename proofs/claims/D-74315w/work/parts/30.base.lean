set_option maxRecDepth 100000
/-! PHASE 2: what the printed functions compute. Counters as numbers -/
abbrev jI (n : Nat) : Int32 := Int32.ofNat n
theorem jI_add (a b : Nat) : jI a + jI b = jI (a + b) := (Int32.ofNat_add a b).symm
theorem jI_mul (a b : Nat) : jI a * jI b = jI (a * b) := (Int32.ofNat_mul a b).symm
theorem jI_succ (a : Nat) : jI a + 1 = jI (a + 1) := (Int32.ofNat_add a 1).symm
theorem jI_toInt {a : Nat} (h : a < 2147483648) : (jI a).toInt = (a : Int) := Int32.toInt_ofNat_of_lt h
theorem jI_nat {a : Nat} (h : a < 2147483648) : (jI a).toNatClampNeg = a := by
  have := jI_toInt h
  show (jI a).toInt.toNat = a
  rw [this]; rfl
theorem jI_lt {a b : Nat} (ha : a < 2147483648) (hb : b < 2147483648) : (jI a < jI b) ↔ a < b := by
  rw [Int32.lt_iff_toInt_lt, jI_toInt ha, jI_toInt hb]; omega
theorem jI_le {a b : Nat} (ha : a < 2147483648) (hb : b < 2147483648) : (jI a ≤ jI b) ↔ a ≤ b := by
  rw [Int32.le_iff_toInt_le, jI_toInt ha, jI_toInt hb]; omega
theorem jI_inj {a b : Nat} (ha : a < 2147483648) (hb : b < 2147483648) : (jI a = jI b) ↔ a = b := by
  constructor
  · intro h
    have := congrArg Int32.toInt h
    rw [jI_toInt ha, jI_toInt hb] at this
    omega
  · rintro rfl; rfl
theorem jI_neg {a : Nat} (ha : a < 2147483648) : ¬ (jI a < 0) := by
  rw [Int32.lt_iff_toInt_lt, jI_toInt ha]
  show ¬ ((a : Int) < 0)
  omega
theorem jI_xin {a n : Nat} (h : a < n) (hn : n < 2147483648) : xin (jI a) n = true := by
  have ha : a < 2147483648 := by omega
  simp only [xin, jI_nat ha, Bool.not_eq_true', Bool.or_eq_false_iff, decide_eq_false_iff_not]
  exact ⟨jI_neg ha, by omega⟩
/-- a loop whose counter goes up to d: st i is the state as it starts its turn i -/
theorem xlp1_up {ρ : Type} (B : (Int32 → XS → Option ρ) → Int32 → XS → Option ρ) (d : Nat) (st : Nat → XS) (res : Option ρ) (hs : ∀ i, i < d → ∀ k, B k (jI i) (st i) = k (jI (i + 1)) (st (i + 1))) (he : ∀ k, B k (jI d) (st d) = res) : ∀ (n i : Nat), i ≤ d → d - i < n → xlp1 B n (jI i) (st i) = res := by
  intro n
  induction n with
  | zero => intro i _ h; omega
  | succ n ih =>
    intro i hi hn
    show B (xlp1 B n) (jI i) (st i) = res
    by_cases h : i < d
    · rw [hs i h]
      exact ih (i + 1) (by omega) (by omega)
    · have : i = d := by omega
      subst this
      exact he _
/-- .. from s on -/
theorem xlp1_from {ρ : Type} (B : (Int32 → XS → Option ρ) → Int32 → XS → Option ρ) (s d : Nat) (st : Nat → XS) (res : Option ρ) (hsd : s ≤ d) (hs : ∀ i, s ≤ i → i < d → ∀ k, B k (jI i) (st i) = k (jI (i + 1)) (st (i + 1))) (he : ∀ k, B k (jI d) (st d) = res) {n : Nat} (hn : d - s < n) : xlp1 B n (jI s) (st s) = res := by
  have key : ∀ (n i : Nat), s ≤ i → i ≤ d → d - i < n → xlp1 B n (jI i) (st i) = res := by
    intro n
    induction n with
    | zero => intro i _ _ h; omega
    | succ n ih =>
      intro i h0 hi hn
      show B (xlp1 B n) (jI i) (st i) = res
      by_cases h : i < d
      · rw [hs i h0 h]
        exact ih (i + 1) (by omega) (by omega) (by omega)
      · have : i = d := by omega
        subst this
        exact he _
  exact key n s (Nat.le_refl _) hsd hn
theorem xlp1_up0 {ρ : Type} (B : (Int32 → XS → Option ρ) → Int32 → XS → Option ρ) (d : Nat) (st : Nat → XS) (res : Option ρ) (hs : ∀ i, i < d → ∀ k, B k (jI i) (st i) = k (jI (i + 1)) (st (i + 1))) (he : ∀ k, B k (jI d) (st d) = res) {n : Nat} (hn : d < n) : xlp1 B n 0 (st 0) = res := xlp1_up B d st res hs he n 0 (Nat.zero_le _) (by omega)
/-- the same, folding a step over what a state is printed of -/
def fup {α : Type} (f : Nat → α → α) : Nat → α → α
  | 0, a => a
  | n + 1, a => f n (fup f n a)
theorem fup_inv {α : Type} {f : Nat → α → α} {P : α → Prop} {d : Nat} (h : ∀ i a, i < d → P a → P (f i a)) {a : α} (ha : P a) : ∀ i, i ≤ d → P (fup f i a)
  | 0, _ => ha
  | i + 1, hi => h i _ hi (fup_inv h ha i (by omega))
theorem fup_congr {α : Type} {f g : Nat → α → α} : ∀ (n : Nat) (a : α), (∀ i, i < n → ∀ b, f i b = g i b) → fup f n a = fup g n a
  | 0, _, _ => rfl
  | n + 1, a, h => by
    show f n (fup f n a) = g n (fup g n a)
    rw [fup_congr n a (fun i hi b => h i (by omega) b), h n (by omega)]
theorem xlp1_fup {ρ α : Type} {B : (Int32 → XS → Option ρ) → Int32 → XS → Option ρ} (d : Nat) (f : Nat → α → α) (st : α → XS) (a : α) (P : α → Prop) {res : Option ρ} (ha : P a) (hp : ∀ i b, i < d → P b → P (f i b)) (hs : ∀ i b, i < d → P b → ∀ k, B k (jI i) (st b) = k (jI (i + 1)) (st (f i b))) (he : ∀ k, B k (jI d) (st (fup f d a)) = res) {n : Nat} (hn : d < n) : xlp1 B n 0 (st a) = res :=
  xlp1_up0 B d (fun i => st (fup f i a)) res (fun i hi k => hs i _ hi (fup_inv hp ha i (by omega)) k) he hn
theorem xlp1_fof {ρ α : Type} {B : (Int32 → XS → Option ρ) → Int32 → XS → Option ρ} (s0 d : Nat) (f : Nat → α → α) (st : α → XS) (a : α) (P : α → Prop) {res : Option ρ} (ha : P a) (hp : ∀ i b, i < d → P b → P (f i b)) (hs : ∀ i b, i < d → P b → ∀ k, B k (jI (s0 + i)) (st b) = k (jI (s0 + i + 1)) (st (f i b))) (he : ∀ k, B k (jI (s0 + d)) (st (fup f d a)) = res) {n : Nat} (hn : d < n) : xlp1 B n (jI s0) (st a) = res := by
  have h := xlp1_from B s0 (s0 + d) (fun q => st (fup f (q - s0) a)) res (by omega) (fun q h1 h2 k => by
    obtain ⟨z, rfl⟩ : ∃ z, q = s0 + z := ⟨q - s0, by omega⟩
    show B k _ (st (fup f (s0 + z - s0) a)) = k _ (st (fup f (s0 + z + 1 - s0) a))
    rw [show s0 + z - s0 = z by omega, show s0 + z + 1 - s0 = z + 1 by omega]
    exact hs z _ (by omega) (fup_inv hp ha z (by omega)) k) (fun k => by
    show B k _ (st (fup f (s0 + d - s0) a)) = _
    rw [show s0 + d - s0 = d by omega]
    exact he k) (n := n) (by omega)
  have h2 : st (fup f (s0 - s0) a) = st a := by rw [Nat.sub_self]; rfl
  rw [← h2]
  exact h
theorem xrd_s {α ρ : Type} {f : XS → Option α} {K : α → XS → Option ρ} {S : XS} {v : α} (h : f S = some v) : xrd f K S = K v S := by unfold xrd; rw [h]
theorem xwr_s {ρ : Type} {f : XS → Option XS} {K : XS → Option ρ} {S T : XS} (h : f S = some T) : xwr f K S = K T := by unfold xwr; rw [h]
theorem xal_s {α ρ : Type} {f : XS → Option (α × XS)} {K : α → XS → Option ρ} {S T : XS} {v : α} (h : f S = some (v, T)) : xal f K S = K v T := by unfold xal; rw [h]
theorem xbr_1 {ρ : Type} {c : Bool} {A B : XS → Option ρ} {S : XS} (h : c = true) : xbr c A B S = A S := by subst h; rfl
theorem xbr_0 {ρ : Type} {c : Bool} {A B : XS → Option ρ} {S : XS} (h : c = false) : xbr c A B S = B S := by subst h; rfl
theorem xbr_if {ρ : Type} {p : Prop} [Decidable p] {A B : XS → Option ρ} {S : XS} : xbr (decide p) A B S = if p then A S else B S := by
  by_cases h : p
  · rw [if_pos h, xbr_1 (decide_eq_true h)]
  · rw [if_neg h, xbr_0 (decide_eq_false h)]
/-! the twin's object: t its cell, its arrays behind it -/
def tArs : List Nat := [6, 7, 8, 9, 10, 11, 12, 13, 14, 15, 16, 17, 19, 20, 21, 22, 24, 34, 35, 42, 43, 44, 45, 46, 47, 48, 49, 50, 51, 54, 55, 57, 58, 59, 60]
def tLens : List Nat := [24, 144, 144, 144, 16, 16, 16, 64, 64, 5, 125, 2000, 60, 60, 60, 1500, 900, 4, 8, 24, 144, 144, 144, 16, 16, 16, 64, 64, 3844, 5, 60, 4, 4, 240, 240]
/-- the place of an array among them, from 1 -/
def tOrd (k : Nat) : Nat := match tArs.idxOf? k with
  | some i => i + 1
  | none => 0
def tLen (o : Nat) : Nat := (tLens[o - 1]?).getD 0
def tKd (o : Nat) : Nat := if o = 17 then 1 else 0
/-- what the twin holds: numbers by field, arrays by their order -/
abbrev TM : Type := (Nat → Int32) × (Nat → Nat → Int32)
def tsf (M : TM) (k : Nat) (v : Int32) : TM := (fun j => if j = k then v else M.1 j, M.2)
def tsa (M : TM) (o i : Nat) (v : Int32) : TM := (M.1, fun p q => if p = o ∧ q = i then v else M.2 p q)
def tar (M : TM) (o : Nat) (g : Nat → Int32) : TM := (M.1, fun p => if p = o then g else M.2 p)
def twl (t : Nat) (M : TM) : List Value := (List.range 61).map fun k => match tOrd k with
  | 0 => .int (M.1 k)
  | o + 1 => va_rf (some (t + (o + 1)))
def tw (t : Nat) (M : TM) (S : XS) : XS := (fun q => if q = t then some (.inr (3, twl t M)) else if t < q ∧ q ≤ t + 35 then some (.inl (tKd (q - t), tLen (q - t), .inl (M.2 (q - t)))) else S.1 q, S.2)
theorem twl_len (t : Nat) (M : TM) : (twl t M).length = 61 := by simp [twl]
theorem twl_int {t k : Nat} {M : TM} (hk : k < 61) (h : tOrd k = 0) : (twl t M)[k]? = some (.int (M.1 k)) := by
  simp [twl, hk, h]
theorem twl_ref {t k o : Nat} {M : TM} (hk : k < 61) (h : tOrd k = o + 1) : (twl t M)[k]? = some (va_rf (some (t + (o + 1)))) := by
  simp [twl, hk, h]
theorem twl_set {t k : Nat} {M : TM} {v : Int32} (hk : k < 61) (h : tOrd k = 0) : (twl t M).set k (.int v) = twl t (tsf M k v) := by
  apply List.ext_getElem?
  intro j
  rw [List.getElem?_set]
  by_cases hj : k = j
  · subst hj
    rw [if_pos rfl, if_pos (by rw [twl_len]; exact hk), twl_int hk h]
    simp [tsf]
  · rw [if_neg hj]
    simp only [twl, List.getElem?_map]
    cases hr : (List.range 61)[j]? with
    | none => rfl
    | some m =>
      have hm : m = j := by
        rw [List.getElem?_range (by have := (List.getElem?_eq_some_iff.mp hr).1; simpa using this)] at hr
        exact (Option.some.inj hr).symm
      subst hm
      simp only [Option.map_some, tsf, if_neg (Ne.symm hj)]
theorem tw_at {t : Nat} {M : TM} {S : XS} : (tw t M S).1 t = some (.inr (3, twl t M)) := by simp [tw]
theorem tw_ar {t o : Nat} {M : TM} {S : XS} (h0 : 0 < o) (h1 : o ≤ 35) : (tw t M S).1 (t + o) = some (.inl (tKd o, tLen o, .inl (M.2 o))) := by
  have h2 : t + o ≠ t := by omega
  have h3 : t < t + o ∧ t + o ≤ t + 35 := by omega
  simp only [tw, if_neg h2, if_pos h3, Nat.add_sub_cancel_left]
section TW
variable {b t k o : Nat} {M : TM} {S : XS}
theorem t_qV : qV (some t) [3] (tw t M S) = some t := by
  simp [qV, tw_at]
theorem t_qI (hk : k < 61) (h : tOrd k = 0) : qI (some t) [3] k (tw t M S) = some (M.1 k) := by
  simp [qI, tw_at, twl_int hk h]
theorem t_qR (o : Nat) (hk : k < 61) (h : tOrd k = o) (h0 : 0 < o) : qR (some t) [3] k (tw t M S) = some (some (t + o)) := by
  obtain ⟨o, rfl⟩ : ∃ n, o = n + 1 := ⟨o - 1, by omega⟩
  simp [qR, tw_at, twl_ref hk h, va_rf]
theorem t_wI {ty : Nat} {v : Int32} (hb : b ≤ t) (hk : k < 61) (h : tOrd k = 0) (hf : xfit ty v = true) : wI b (some t) [3] k ty v (tw t M S) = some (tw t (tsf M k v) S) := by
  have h1 : (decide (b ≤ t)) = true := decide_eq_true hb
  simp only [wI, tw_at, twl_len, h1, hf, decide_eq_true hk, Bool.and_true, List.contains_cons, BEq.rfl, Bool.true_or, if_true]
  rw [twl_set hk h]
  congr 1
  refine Prod.ext (funext fun q => ?_) rfl
  by_cases hq : q = t
  · subst hq; simp [xset, tw_at]
  · simp [xset, tw, if_neg hq, tsf]
theorem t_qA (o k : Nat) {i : Nat} (h0 : 0 < o) (h1 : o ≤ 35) (hk : tKd o = k) (hi : i < tLen o) (hl : tLen o < 2147483648) : qA k (some (t + o)) (jI i) (tw t M S) = some (M.2 o i) := by
  simp only [qA, tw_ar h0 h1, hk, BEq.rfl, jI_xin hi hl, Bool.and_true, if_true, jI_nat (show i < 2147483648 by omega)]
theorem t_wA (o k : Nat) {i : Nat} {v : Int32} (hb : b ≤ t) (h0 : 0 < o) (h1 : o ≤ 35) (hk : tKd o = k) (hi : i < tLen o) (hl : tLen o < 2147483648) : wA b k (some (t + o)) (jI i) v (tw t M S) = some (tw t (tsa M o i (xkeep k v)) S) := by
  have h2 : (decide (b ≤ t + o)) = true := decide_eq_true (by omega)
  simp only [wA, tw_ar h0 h1, hk, BEq.rfl, jI_xin hi hl, h2, Bool.and_true, if_true, jI_nat (show i < 2147483648 by omega)]
  congr 1
  refine Prod.ext (funext fun q => ?_) rfl
  have h2 : t + o ≠ t := by omega
  by_cases hq : q = t + o
  · subst hq
    have h3 : t < t + o ∧ t + o ≤ t + 35 := by omega
    simp only [xset, if_pos, tw, if_neg h2, if_pos h3, Nat.add_sub_cancel_left, hk, tsa]
    congr 5
    funext j
    simp [upd]
  · by_cases hq2 : q = t
    · subst hq2
      simp only [xset, if_neg hq, tw_at, twl, tsa]
    · simp only [xset, if_neg hq, tw, if_neg hq2]
      by_cases h4 : t < q ∧ q ≤ t + 35
      · have h5 : q - t ≠ o := by omega
        simp only [if_pos h4, tsa, h5, false_and, if_false]
      · simp only [if_neg h4]
end TW

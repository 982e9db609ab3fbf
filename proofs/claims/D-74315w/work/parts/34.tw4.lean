set_option maxRecDepth 100000
theorem u2_self (m : Mx) (i j : Nat) : u2 m i j (m i j) = m := by
  funext a b
  simp only [u2]
  by_cases h : a = i ∧ b = j
  · rw [if_pos h, h.1, h.2]
  · rw [if_neg h]
/-- two loops that change each place of a square out of what it held -/
theorem map1 {m : Mx} {h : Nat → Nat → Int32 → Int32} {i : Nat} : ∀ d, fup (fun j m => u2 m i j (h i j (m i j))) d m = fun a b => if a = i ∧ b < d then h a b (m a b) else m a b
  | 0 => by funext a b; simp [fup]
  | d + 1 => by
    show u2 (fup _ d m) i d (h i d (fup _ d m i d)) = _
    rw [map1 d]
    funext a b
    simp only [u2]
    by_cases h1 : a = i ∧ b = d
    · rw [if_pos h1, if_pos (⟨h1.1, by omega⟩ : a = i ∧ b < d + 1), if_neg (by omega), h1.1, h1.2]
    · rw [if_neg h1]
      by_cases h2 : a = i ∧ b < d
      · rw [if_pos h2, if_pos ⟨h2.1, by omega⟩]
      · rw [if_neg h2, if_neg]
        rintro ⟨h3, h4⟩
        by_cases h5 : b = d
        · exact h1 ⟨h3, h5⟩
        · exact h2 ⟨h3, by omega⟩
theorem map2 {m : Mx} {h : Nat → Nat → Int32 → Int32} {c : Nat} : ∀ d, fup (fun i m => fup (fun j m => u2 m i j (h i j (m i j))) c m) d m = fun a b => if a < d ∧ b < c then h a b (m a b) else m a b
  | 0 => by funext a b; simp [fup]
  | d + 1 => by
    show fup (fun j m => u2 m d j (h d j (m d j))) c (fup _ d m) = _
    rw [map2 d, map1]
    funext a b
    by_cases h1 : a = d ∧ b < c
    · rw [if_pos h1, if_pos (⟨by omega, h1.2⟩ : a < d + 1 ∧ b < c), if_neg (by omega)]
    · rw [if_neg h1]
      by_cases h2 : a < d ∧ b < c
      · rw [if_pos h2, if_pos ⟨by omega, h2.2⟩]
      · rw [if_neg h2, if_neg]
        rintro ⟨h3, h4⟩
        by_cases h5 : a = d
        · exact h1 ⟨h5, h4⟩
        · exact h2 ⟨by omega, h4⟩
/-- a loop that looks for the first place with p -/
theorem xlp1_find {ρ : Type} (B : (Int32 → XS → Option ρ) → Int32 → XS → Option ρ) (d : Nat) (S : XS) (p : Nat → Bool) (R : Nat → Option ρ) (R0 : Option ρ) (hs : ∀ i, i < d → p i = false → ∀ k, B k (jI i) S = k (jI (i + 1)) S) (ht : ∀ i, i < d → p i = true → ∀ k, B k (jI i) S = R i) (he : ∀ k, B k (jI d) S = R0) :
    ∀ (n i : Nat), i ≤ d → d - i < n → xlp1 B n (jI i) S = match (List.range' i (d - i)).find? p with | some j => R j | none => R0 := by
  intro n
  induction n with
  | zero => intro i _ h; omega
  | succ n ih =>
    intro i hi hn
    show B (xlp1 B n) (jI i) S = _
    by_cases h : i < d
    · obtain ⟨w, hw⟩ : ∃ w, d - i = w + 1 := ⟨d - i - 1, by omega⟩
      rw [hw, List.range'_succ, List.find?_cons]
      cases hp : p i with
      | true => exact ht i h hp _
      | false =>
        rw [hs i h hp, ih (i + 1) (by omega) (by omega), show d - (i + 1) = w by omega]
    · have : i = d := by omega
      subst this
      rw [Nat.sub_self]
      exact he _
theorem find_any {p : Nat → Bool} : ∀ (l : List Nat), (l.find? p).isSome = l.any p
  | [] => rfl
  | a :: l => by
    rw [List.find?_cons, List.any_cons]
    cases p a with
    | true => rfl
    | false => exact find_any l
theorem xlp1_any {ρ : Type} {B : (Int32 → XS → Option ρ) → Int32 → XS → Option ρ} (d : Nat) {S : XS} (p : Nat → Bool) {R R0 : Option ρ} (hs : ∀ i, i < d → p i = false → ∀ k, B k (jI i) S = k (jI (i + 1)) S) (ht : ∀ i, i < d → p i = true → ∀ k, B k (jI i) S = R) (he : ∀ k, B k (jI d) S = R0) {n : Nat} (hn : d < n) :
    xlp1 B n 0 S = if (List.range d).any p = true then R else R0 := by
  have h := xlp1_find B d S p (fun _ => R) R0 hs ht he n 0 (Nat.zero_le _) (by omega)
  refine h.trans ?_
  rw [Nat.sub_zero, ← List.range_eq_range', ← find_any]
  cases (List.range d).find? p <;> rfl
def isInB (p a b : Int32) : Bool := decide (a ≤ p ∧ p ≤ b)
/-- a table that is too wide to be kept -/
def farB (P : Int32 → Bool) (d : Nat) (m : Mx) : Bool := (List.range d).any fun i => (List.range d).any fun j => !P (m i j) && !isInB (m i j >>> 1) (-400) 400
/-- one bound made rough -/
def rgh (inf : Int32) (P : Int32 → Bool) (g : Nat → Int32) (i j : Nat) (b : Int32) : Int32 := if i = j ∨ P b = true then b else if g i < b >>> 1 then inf else if b >>> 1 < -(g j) then -2 * g j else b
def rghM (inf : Int32) (P : Int32 → Bool) (g : Nat → Int32) (d : Nat) (m : Mx) : Mx := clK inf P d (fun a b => if a < d ∧ b < d then rgh inf P g a b (m a b) else m a b)
section TW4
variable {N : Nat} {E : Nat → Nat → Nat} {t : Nat} {M : TM} {m : Mx} {S : XS} {i j d c o : Nat} {v : Bool}
theorem x_isIn (p a b : Int32) (T : XS) : fn_X4_isIn N E p a b T = some (bI (isInB p a b), T) := by
  unfold fn_X4_isIn fn_X4_isIn_14 isInB
  by_cases h1 : p < a
  · rw [xbr_1 (decide_eq_true h1), decide_eq_false (fun h => (Int32.not_lt.mpr h.1) h1)]
    rfl
  · rw [xbr_0 (decide_eq_false h1)]
    by_cases h2 : b < p
    · rw [xbr_1 (decide_eq_true h2), decide_eq_false (fun h => (Int32.not_lt.mpr h.2) h2)]
      rfl
    · rw [xbr_0 (decide_eq_false h2), decide_eq_true ⟨Int32.not_lt.mp h1, Int32.not_lt.mp h2⟩]
      rfl
theorem bI_0 {b : Bool} : (bI b = 0) ↔ b = false := by cases b <;> simp [bI]
theorem x_isFar (hd2 : d ≤ 62) (hN : 62 < N) : fn_X4_isFar N E t (tw t (ws M d v m) S) = some (bI (!v && farB isF d m), tw t (ws M d v m) S) := by
  unfold fn_X4_isFar
  cases v with
  | true =>
    obtain ⟨n, rfl⟩ : ∃ n, N = n + 1 := ⟨N - 1, by omega⟩
    show fn_X4_isFar_2 (n + 1) E t (xlp1 _ n) 0 _ = _
    unfold fn_X4_isFar_2
    rw [xrd_s x_qd, xbr_if]
    split
    · rfl
    · rw [xrd_s x_qv, xbr_0 (by decide)]; rfl
  | false =>
    refine (xlp1_any d (fun i => (List.range d).any fun j => !isF (m i j) && !isInB (m i j >>> 1) (-400) 400) (R := some (1, tw t (ws M d false m) S)) (R0 := some (0, tw t (ws M d false m) S)) ?_ ?_ (fun k => ?_) (by omega)).trans ?_
    rotate_left 2
    · unfold fn_X4_isFar_2
      rw [xrd_s x_qd, xbr_1 (decide_eq_true (by rw [jI_le (by omega) (by omega)]; omega))]
      rfl
    · simp only [Bool.not_false, Bool.true_and]
      show _ = some (bI (farB isF d m), _)
      unfold farB
      cases (List.range d).any fun i => (List.range d).any fun j => !isF (m i j) && !isInB (m i j >>> 1) (-400) 400 <;> rfl
    all_goals
      intro i hi hp k
      unfold fn_X4_isFar_2
      rw [xrd_s x_qd, xbr_0 (decide_eq_false (by rw [jI_le (by omega) (by omega)]; omega)), xrd_s x_qv, xbr_1 (by decide)]
      refine (xlp1_any d (fun j => !isF (m i j) && !isInB (m i j >>> 1) (-400) 400) (R := some (1, tw t (ws M d false m) S)) (R0 := k (jI (i + 1)) (tw t (ws M d false m) S)) ?_ ?_ (fun k => ?_) (by omega)).trans ?_
      rotate_left 2
      · unfold fn_X4_isFar_19 fn_X4_isFar_68
        rw [xrd_s x_qd, xbr_1 (decide_eq_true (by rw [jI_le (by omega) (by omega)]; omega)), jI_succ]
      · rw [hp]; rfl
      all_goals
        intro j hj hq k
        unfold fn_X4_isFar_19 fn_X4_isFar_62
        rw [xrd_s x_qd, xbr_0 (decide_eq_false (by rw [jI_le (by omega) (by omega)]; omega)), xrd_s t_qV, xal_s (x_gt (by omega) (by omega))]
        cases hF : isF (m i j) with
        | true => first | (rw [xbr_1 (show decide (1000000 ≤ m i j) = true from hF), jI_succ]; done) | (simp [hF] at hq; done)
        | false =>
          rw [xbr_0 (show decide (1000000 ≤ m i j) = false from hF), xrd_s t_qV, xal_s (x_gt (by omega) (by omega)), xal_s (x_numberOf _ _), xal_s (x_isIn _ _ _ _)]
          rw [hF] at hq
          simp only [Bool.not_false, Bool.true_and] at hq
          cases hI : isInB (m i j >>> 1) (-400) 400 with
          | true => first | (rw [xbr_0 (by decide), jI_succ]; done) | (simp [hI] at hq; done)
          | false => first | (rw [xbr_1 (by decide)]; rfl) | (simp [hI] at hq; done)
theorem x_roughens (hb : E 0 0 ≤ t) (hd2 : d ≤ 5) (hN : 62 < N) :
    fn_X4_roughens N E t (tw t (ws M d v m) S) = some ((), tw t (if v = true then ws M d v m else ws M d (ngd d (rghM FRE isF (M.2 10) d m)) (rghM FRE isF (M.2 10) d m)) S) := by
  unfold fn_X4_roughens
  rw [xrd_s x_qv]
  cases v with
  | true => rw [xbr_0 (by decide)]; rfl
  | false =>
    rw [xbr_1 (by decide), if_neg Bool.false_ne_true]
    refine xlp1_fup d (fun i m => fup (fun j m => u2 m i j (rgh FRE isF (M.2 10) i j (m i j))) d m) (fun m => tw t (ws M d false m) S) m (fun _ => True) trivial (fun _ _ _ _ => trivial) (fun i b hi _ kk => ?_) (fun kk => ?_) (by omega)
    · unfold fn_X4_roughens_10
      rw [xrd_s x_qd, xbr_0 (decide_eq_false (by rw [jI_le (by omega) (by omega)]; omega))]
      refine xlp1_fup d (fun j m => u2 m i j (rgh FRE isF (M.2 10) i j (m i j))) (fun m => tw t (ws M d false m) S) b (fun _ => True) trivial (fun _ _ _ _ => trivial) (fun j b hj _ k => ?_) (fun k => ?_) (by omega)
      · unfold fn_X4_roughens_20 fn_X4_roughens_104
        rw [xrd_s x_qd, xbr_0 (decide_eq_false (by rw [jI_le (by omega) (by omega)]; omega)), xrd_s t_qV, xal_s (x_gt (by omega) (by omega)), xbr_if]
        have e2 : (jI i = jI j) ↔ i = j := jI_inj (by omega) (by omega)
        unfold rgh
        by_cases hij : i = j
        · rw [if_pos (e2.mpr hij), if_pos (Or.inl hij), u2_self, jI_succ]
        · rw [if_neg (fun h => hij (e2.mp h))]
          cases hF : isF (b i j) with
          | true =>
            rw [xbr_0 (decide_eq_false (by have : FRE ≤ b i j := of_decide_eq_true hF; exact Int32.not_lt.mpr this)), if_pos (Or.inr rfl), u2_self, jI_succ]
          | false =>
            rw [xbr_1 (decide_eq_true (by have : ¬ FRE ≤ b i j := of_decide_eq_false hF; exact Int32.not_le.mp this)), if_neg (by simp [hij]), xal_s (x_numberOf _ _), xrd_s (t_qR 10 (by decide) rfl (by decide)), xrd_s (x_qa 10 (by decide) (by decide) (by decide) (by decide) (show i < 5 by omega) (by decide)), xbr_if]
            by_cases h1 : M.2 10 i < b i j >>> 1
            · rw [if_neg (Int32.not_le.mpr h1), if_pos h1, xrd_s t_qV, xal_s (x_pt hb (by omega) (by omega) _), jI_succ]
              rfl
            · rw [if_pos (Int32.not_lt.mp h1), if_neg h1, xal_s (x_numberOf _ _), xrd_s (t_qR 10 (by decide) rfl (by decide)), xrd_s (x_qa 10 (by decide) (by decide) (by decide) (by decide) (show j < 5 by omega) (by decide)), xbr_if]
              by_cases h2 : b i j >>> 1 < -(M.2 10 j)
              · rw [if_neg (Int32.not_le.mpr h2), if_pos h2, xrd_s (t_qR 10 (by decide) rfl (by decide)), xrd_s (x_qa 10 (by decide) (by decide) (by decide) (by decide) (show j < 5 by omega) (by decide)), xrd_s t_qV, xal_s (x_pt hb (by omega) (by omega) _), jI_succ]
              · rw [if_pos (Int32.not_lt.mp h2), if_neg h2, u2_self, jI_succ]
      · unfold fn_X4_roughens_20 fn_X4_roughens_110
        rw [xrd_s x_qd, xbr_1 (decide_eq_true (by rw [jI_le (by omega) (by omega)]; omega)), jI_succ]
    · unfold fn_X4_roughens_10 fn_X4_roughens_116
      rw [xrd_s x_qd, xbr_1 (decide_eq_true (by rw [jI_le (by omega) (by omega)]; omega)), xrd_s t_qV, xal_s (x_clos hb (by omega) hN), map2, Bool.false_or]
      rfl
end TW4

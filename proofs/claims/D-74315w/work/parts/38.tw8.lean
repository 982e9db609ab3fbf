set_option maxRecDepth 100000
/-- one square lies in another -/
def insB (d : Nat) (m g : Mx) : Bool := (List.range d).all fun i => (List.range d).all fun j => decide (m i j ≤ g i j)
theorem all_any {p : Nat → Bool} (l : List Nat) : l.all p = !(l.any fun i => !p i) := by
  induction l with
  | nil => rfl
  | cons a l ih => rw [List.all_cons, List.any_cons, ih]; cases p a <;> simp
/-- what times break: by so many to one -/
def bad (by' ti tj b : Int32) : Bool := decide ((0 : Int32) < lg_cmp ((ti.toInt64 - tj.toInt64) - (by'.toInt64 * (b >>> 1).toInt64)) (0 : Int64)) || (decide (lg_cmp ((ti.toInt64 - tj.toInt64) - (by'.toInt64 * (b >>> 1).toInt64)) (0 : Int64) = 0) && decide (b &&& 1 = 0))
def hasB (P : Int32 → Bool) (d : Nat) (by' : Int32) (ti : Nat → Int32) (m : Mx) : Bool := (List.range d).all fun i => (List.range d).all fun j => P (m i j) || !bad by' (ti i) (ti j) (m i j)
/-- a bound comes of two others -/
def folB (inf : Int32) (P : Int32 → Bool) (d : Nat) (m : Mx) (i j : Nat) : Bool := (List.range d).any fun z => !decide (z = i) && (!decide (z = j) && decide (gpl inf P (m i z) (m z j) ≤ m i j))
def prsB (inf : Int32) (P : Int32 → Bool) (what : Int32) (d : Nat) (m : Mx) (i j : Nat) : Bool := !decide (i = j) && (!P (m i j) && (if what = 0 then true else if what = 1 then decide (m i j &&& 1 = 1) else !folB inf P d m i j))
/-- how many -/
def cntN (d : Nat) (p : Nat → Nat → Bool) (n : Int32) : Int32 := fup (fun i n => fup (fun j n => n + bI (p i j)) d n) d n
section TW8
variable {N : Nat} {E : Nat → Nat → Nat} {t : Nat} {M : TM} {m : Mx} {S : XS} {i j d c o : Nat} {v : Bool}
/-- any array of the twin's with a square in it, five to a line -/
theorem x_isInside {o b : Nat} (h0 : 0 < o) (h1 : o ≤ 35) (h2 : o ≠ 17) (h3 : o ≠ 29) (hl : tLen o < 2147483648) (hbd : b + 25 ≤ tLen o) (hd : d ≤ 5) (hN : 62 < N) : fn_X4_isInside N E t (some (t + o)) (jI b) (tw t (ws M d v m) S) = some (bI (insB d m (fun i j => M.2 o (b + 5 * i + j))), tw t (ws M d v m) S) := by
  unfold fn_X4_isInside insB
  rw [all_any]
  refine (xlp1_any d (fun i => !((List.range d).all fun j => decide (m i j ≤ M.2 o (b + 5 * i + j)))) (R := some (0, tw t (ws M d v m) S)) (R0 := some (1, tw t (ws M d v m) S)) ?_ ?_ (fun k => ?_) (by omega)).trans ?_
  rotate_left 2
  · unfold fn_X4_isInside_2
    rw [xrd_s x_qd, xbr_1 (decide_eq_true (by rw [jI_le (by omega) (by omega)]; omega))]
    rfl
  · cases (List.range d).any fun i => !((List.range d).all fun j => decide (m i j ≤ M.2 o (b + 5 * i + j))) <;> rfl
  all_goals
    intro i hi hp k
    unfold fn_X4_isInside_2
    rw [xrd_s x_qd, xbr_0 (decide_eq_false (by rw [jI_le (by omega) (by omega)]; omega))]
    rw [all_any, Bool.not_not] at hp
    refine (xlp1_any d (fun j => !decide (m i j ≤ M.2 o (b + 5 * i + j))) (R := some (0, tw t (ws M d v m) S)) (R0 := k (jI (i + 1)) (tw t (ws M d v m) S)) ?_ ?_ (fun k => ?_) (by omega)).trans ?_
    rotate_left 2
    · unfold fn_X4_isInside_13 fn_X4_isInside_50
      rw [xrd_s x_qd, xbr_1 (decide_eq_true (by rw [jI_le (by omega) (by omega)]; omega)), jI_succ]
    · rw [hp]; rfl
    all_goals
      intro j hj hq k
      unfold fn_X4_isInside_13
      have e : jI b + (5 : Int32) * jI i + jI j = jI (b + 5 * i + j) := by rw [show (5 : Int32) = jI 5 from rfl, jI_mul, jI_add, jI_add]
      rw [xrd_s x_qd, xbr_0 (decide_eq_false (by rw [jI_le (by omega) (by omega)]; omega)), xrd_s t_qV, xal_s (x_gt (by omega) (by omega)), e, xrd_s (x_qa o h0 h1 h2 h3 (show b + 5 * i + j < tLen o by omega) hl)]
      cases hF : decide (m i j ≤ M.2 o (b + 5 * i + j)) with
      | true => first | (rw [xbr_1 rfl, jI_succ]; done) | (simp [hF] at hq; done)
      | false => first | (rw [xbr_0 rfl]; rfl) | (simp [hF] at hq; done)
theorem x_told (b what : Int32) (T : XS) : fn_X4_told N E t b what T = some (tldF b what, T) := by
  unfold fn_X4_told tldF
  simp only [xbr_if]
  by_cases h : what = 0
  · rw [if_pos h, if_pos h]
    by_cases h1 : b < 1000000
    · rw [if_pos h1, if_pos h1, xal_s (x_numberOf _ _)]; rfl
    · rw [if_neg h1, if_neg h1]; rfl
  · rw [if_neg h, if_neg h]
    by_cases h1 : b < 1000000
    · rw [if_pos h1, if_pos h1]; rfl
    · rw [if_neg h1, if_neg h1]; rfl
theorem T_bound {x y : Nat} {p1 p2 w : Int32} {n q : Nat} (hb : E 0 0 ≤ t) (hN : 2000 < N) (hn : M.1 18 = jI n) (hn2 : n ≤ 16) (hc : M.1 2 = jI c) (hc2 : c ≤ 4) (hq : q < 4) (hx : p1 + 1 = jI x) (hx2 : x ≤ c) (hy : p2 + 1 = jI y) (hy2 : y ≤ c) (hp : prB (jI c) p1 p2 = true) (hw : isInB w 0 1 = true) :
    fn_X4_bound N E t (jI q) p1 p2 w (tw t (ws M d v m) S) = some (if nowV M q = true then -1000 else tldF (nowM M q x y) w, tw t (ws (tsf M 0 0) (c + 1) (nowV M q) (fil (c + 1) (nowM M q) m)) S) := by
  unfold fn_X4_bound
  rw [xwr_s (x_thr0 hb), xal_s (x_isTable _ _), isTab hq, xbr_0 (by decide)]
  rw [xrd_s t_qV, xal_s (x_arePair _ _), show (tsf M 0 0).1 2 = jI c from hc, hp, xbr_0 (by decide), xal_s (x_isTwo _ _), hw, xbr_0 (by decide), xrd_s t_qV, xal_s (x_loads (M := tsf M 0 0) (c := c) hb hc hc2 (by omega) hq), xrd_s x_qv, hx, hy]
  show xbr (decide (bI (nowV M q) = 0)) _ _ (tw t (ws (tsf M 0 0) (c + 1) (nowV M q) (fil (c + 1) (nowM M q) m)) S) = _
  cases nowV M q with
  | true => rw [xbr_0 (by decide)]; rfl
  | false =>
    rw [xbr_1 (by decide), xrd_s t_qV, xal_s (x_gt (i := x) (j := y) (by omega) (by omega)), xrd_s t_qV, xal_s (x_told _ _ _), show fil (c + 1) (nowM M q) m x y = nowM M q x y from if_pos ⟨by omega, by omega⟩]
    rfl
theorem T_width {x y : Nat} {p1 p2 w : Int32} {n q : Nat} (hb : E 0 0 ≤ t) (hN : 2000 < N) (hn : M.1 18 = jI n) (hn2 : n ≤ 16) (hc : M.1 2 = jI c) (hc2 : c ≤ 4) (hq : q < 4) (hx : p1 + 1 = jI x) (hx2 : x ≤ c) (hy : p2 + 1 = jI y) (hy2 : y ≤ c) (hp : prB (jI c) p1 p2 = true) (hw : isInB w 0 1 = true) :
    fn_X4_width N E t (jI q) p1 p2 w (tw t (ws M d v m) S) = some (if nowV M q = true then -1000 else tldF (gpl FRE isF (nowM M q x y) (nowM M q y x)) w, tw t (ws (tsf M 0 0) (c + 1) (nowV M q) (fil (c + 1) (nowM M q) m)) S) := by
  unfold fn_X4_width
  rw [xwr_s (x_thr0 hb), xal_s (x_isTable _ _), isTab hq, xbr_0 (by decide)]
  rw [xrd_s t_qV, xal_s (x_arePair _ _), show (tsf M 0 0).1 2 = jI c from hc, hp, xbr_0 (by decide), xal_s (x_isTwo _ _), hw, xbr_0 (by decide), xrd_s t_qV, xal_s (x_loads (M := tsf M 0 0) (c := c) hb hc hc2 (by omega) hq), xrd_s x_qv, hx, hy]
  show xbr (decide (bI (nowV M q) = 0)) _ _ (tw t (ws (tsf M 0 0) (c + 1) (nowV M q) (fil (c + 1) (nowM M q) m)) S) = _
  cases nowV M q with
  | true => rw [xbr_0 (by decide)]; rfl
  | false =>
    rw [xbr_1 (by decide), xrd_s t_qV, xal_s (x_gt (i := x) (j := y) (by omega) (by omega)), xrd_s t_qV, xal_s (x_gt (i := y) (j := x) (by omega) (by omega)), xal_s (x_plus _ _ _), xrd_s t_qV, xal_s (x_told _ _ _), show fil (c + 1) (nowM M q) m x y = nowM M q x y from if_pos ⟨by omega, by omega⟩, show fil (c + 1) (nowM M q) m y x = nowM M q y x from if_pos ⟨by omega, by omega⟩]
    rfl
theorem T_empty {q : Nat} (hb : E 0 0 ≤ t) (hq : q < 4) (hvd : vdOK M) : fn_X4_empty N E t (jI q) (tw t (ws M d v m) S) = some (bI (nowV M q), tw t (ws (tsf M 0 0) d v m) S) := by
  unfold fn_X4_empty
  rw [xwr_s (x_thr0 hb), xal_s (x_isTable _ _), isTab hq, xbr_0 (by decide)]
  rw [xrd_s (t_qR 11 (by decide) rfl (by decide)), show (100 : Int32) = jI 100 from rfl, jI_add, xrd_s (x_qa 11 (by decide) (by decide) (by decide) (by decide) (show 100 + q < 125 by omega) (by decide)), show (tsf M 0 0).2 11 (100 + q) = bI (nowV M q) from hvd q hq]
  rfl
theorem T_within {u : Nat} {n q : Nat} (hb : E 0 0 ≤ t) (hN : 2000 < N) (hn : M.1 18 = jI n) (hn2 : n ≤ 16) (hc : M.1 2 = jI c) (hc2 : c ≤ 4) (hq : q < 4) (hu : u < 4) (hvd : vdOK M) : ∃ d2 v2 m2, fn_X4_within N E t (jI q) (jI u) (tw t (ws M d v m) S) = some (bI (nowV M u || (!nowV M q && insB (c + 1) (nowM M u) (nowM M q))), tw t (ws (tsf M 0 0) d2 v2 m2) S) ∧ d2 ≤ 5 + d := by
  unfold fn_X4_within fn_X4_within_72
  rw [xwr_s (x_thr0 hb), xal_s (x_isTable _ _), isTab hq, xbr_0 (by decide)]
  rw [xal_s (x_isTable _ _), isTab hu, xbr_0 (by decide), xrd_s (t_qR 11 (by decide) rfl (by decide)), show (100 : Int32) = jI 100 from rfl, jI_add, xrd_s (x_qa 11 (by decide) (by decide) (by decide) (by decide) (show 100 + u < 125 by omega) (by decide)), show (tsf M 0 0).2 11 (100 + u) = bI (nowV M u) from hvd u hu]
  cases hvu : nowV M u with
  | true => rw [xbr_1 (by decide)]; exact ⟨d, v, m, rfl, by omega⟩
  | false =>
    rw [xbr_0 (by decide), xrd_s t_qV, xal_s (x_loads (M := tsf M 0 0) hb hc hc2 (by omega) hu), xrd_s (t_qR 11 (by decide) rfl (by decide)), jI_add, xrd_s (x_qa 11 (by decide) (by decide) (by decide) (by decide) (show 100 + q < 125 by omega) (by decide)), show (tsf M 0 0).2 11 (100 + q) = bI (nowV M q) from hvd q hq]
    refine ⟨c + 1, nowV M u, fil (c + 1) (nowM M u) m, ?_, by omega⟩
    cases hvq : nowV M q with
    | true => rw [xbr_0 (by decide)]; rfl
    | false =>
      have e : (25 : Int32) * jI q = jI (25 * q) := by rw [show (25 : Int32) = jI 25 from rfl, jI_mul]
      have e2 : insB (c + 1) (fil (c + 1) (nowM M u) m) (fun i j => (tsf M 0 0).2 11 (25 * q + 5 * i + j)) = insB (c + 1) (nowM M u) (nowM M q) := by
        unfold insB
        have h1 : ∀ i ∈ List.range (c + 1), ((List.range (c + 1)).all fun j => decide (fil (c + 1) (nowM M u) m i j ≤ (tsf M 0 0).2 11 (25 * q + 5 * i + j))) = ((List.range (c + 1)).all fun j => decide (nowM M u i j ≤ nowM M q i j)) := by
          intro i hi
          have hi2 := List.mem_range.mp hi
          rw [Bool.eq_iff_iff, List.all_eq_true, List.all_eq_true]
          constructor
          · intro h j hj
            have hj2 := List.mem_range.mp hj
            have := h j hj
            rw [show fil (c + 1) (nowM M u) m i j = nowM M u i j from if_pos ⟨hi2, hj2⟩] at this
            exact this
          · intro h j hj
            have hj2 := List.mem_range.mp hj
            rw [show fil (c + 1) (nowM M u) m i j = nowM M u i j from if_pos ⟨hi2, hj2⟩]
            exact h j hj
        rw [Bool.eq_iff_iff, List.all_eq_true, List.all_eq_true]
        constructor
        · intro h i hi; rw [← h1 i hi]; exact h i hi
        · intro h i hi; rw [h1 i hi]; exact h i hi
      rw [xbr_1 (by decide), xrd_s (t_qR 11 (by decide) rfl (by decide)), xrd_s t_qV, e, xal_s (x_isInside (M := tsf M 0 0) (o := 11) (b := 25 * q) (by decide) (by decide) (by decide) (by decide) (by decide) (show 25 * q + 25 ≤ 125 by omega) (by omega) (by omega)), show nowM (tsf M 0 0) u = nowM M u from rfl, show nowV (tsf M 0 0) u = nowV M u from rfl, e2, hvu]
      cases insB (c + 1) (nowM M u) (nowM M q) with
      | true => rw [xbr_0 (by decide)]; rfl
      | false => rw [xbr_1 (by decide)]; rfl
theorem x_hasTimes {by' : Int32} (hd : d ≤ 5) (hN : 62 < N) : fn_X4_hasTimes N E t by' (tw t (ws M d v m) S) = some (bI (!v && hasB isF d by' (M.2 30) m), tw t (ws M d v m) S) := by
  unfold fn_X4_hasTimes
  rw [xrd_s x_qv]
  cases v with
  | true => rw [xbr_0 (by decide)]; rfl
  | false =>
    rw [xbr_1 (by decide), Bool.not_false, Bool.true_and]
    unfold hasB
    rw [all_any]
    refine (xlp1_any d (fun i => !((List.range d).all fun j => isF (m i j) || !bad by' (M.2 30 i) (M.2 30 j) (m i j))) (R := some (0, tw t (ws M d false m) S)) (R0 := some (1, tw t (ws M d false m) S)) ?_ ?_ (fun k => ?_) (by omega)).trans ?_
    rotate_left 2
    · unfold fn_X4_hasTimes_11
      rw [xrd_s x_qd, xbr_1 (decide_eq_true (by rw [jI_le (by omega) (by omega)]; omega))]
      rfl
    · cases (List.range d).any fun i => !((List.range d).all fun j => isF (m i j) || !bad by' (M.2 30 i) (M.2 30 j) (m i j)) <;> rfl
    all_goals
      intro i hi hp k
      unfold fn_X4_hasTimes_11
      rw [xrd_s x_qd, xbr_0 (decide_eq_false (by rw [jI_le (by omega) (by omega)]; omega))]
      rw [all_any, Bool.not_not] at hp
      refine (xlp1_any d (fun j => !(isF (m i j) || !bad by' (M.2 30 i) (M.2 30 j) (m i j))) (R := some (0, tw t (ws M d false m) S)) (R0 := k (jI (i + 1)) (tw t (ws M d false m) S)) ?_ ?_ (fun k => ?_) (by omega)).trans ?_
      rotate_left 2
      · unfold fn_X4_hasTimes_21 fn_X4_hasTimes_104
        rw [xrd_s x_qd, xbr_1 (decide_eq_true (by rw [jI_le (by omega) (by omega)]; omega)), jI_succ]
      · rw [hp]; rfl
      all_goals
        intro j hj hq k
        unfold fn_X4_hasTimes_21 fn_X4_hasTimes_98
        rw [xrd_s x_qd, xbr_0 (decide_eq_false (by rw [jI_le (by omega) (by omega)]; omega)), xrd_s t_qV, xal_s (x_gt (by omega) (by omega))]
        cases hF : isF (m i j) with
        | true => first | (rw [xbr_0 (decide_eq_false (by have h9 : FRE ≤ m i j := of_decide_eq_true hF; exact Int32.not_lt.mpr h9)), jI_succ]; done) | (simp [hF] at hq; done)
        | false =>
          rw [xbr_1 (decide_eq_true (by have h9 : ¬ FRE ≤ m i j := of_decide_eq_false hF; exact Int32.not_le.mp h9)), xrd_s (t_qR 30 (by decide) rfl (by decide)), xrd_s (x_qa 30 (by decide) (by decide) (by decide) (by decide) (show i < 5 by omega) (by decide)), xrd_s (t_qR 30 (by decide) rfl (by decide)), xrd_s (x_qa 30 (by decide) (by decide) (by decide) (by decide) (show j < 5 by omega) (by decide)), xal_s (x_numberOf _ _)]
          rw [hF, Bool.false_or, Bool.not_not] at hq
          unfold bad at hq
          cases h1 : decide ((0 : Int32) < lg_cmp (((M.2 30 i).toInt64 - (M.2 30 j).toInt64) - (by'.toInt64 * (m i j >>> 1).toInt64)) (0 : Int64)) with
          | true => first | (rw [xbr_1 rfl]; rfl) | (rw [h1] at hq; simp at hq; done)
          | false =>
            rw [h1, Bool.false_or] at hq
            rw [xbr_0 rfl]
            cases h2 : decide (lg_cmp (((M.2 30 i).toInt64 - (M.2 30 j).toInt64) - (by'.toInt64 * (m i j >>> 1).toInt64)) (0 : Int64) = 0) with
            | false => first | (rw [xbr_0 rfl, jI_succ]; done) | (rw [h2] at hq; simp at hq; done)
            | true =>
              rw [h2, Bool.true_and] at hq
              rw [xbr_1 rfl, hq]
              first | (rw [xbr_1 rfl]; rfl) | (rw [xbr_0 rfl, jI_succ]; done)
theorem x_wax (o i : Nat) {x w : Int32} (hx : x = jI i) (hb : E 0 0 ≤ t) (h0 : 0 < o) (h1 : o ≤ 35) (h2 : o ≠ 17) (h3 : o ≠ 29) (hi : i < tLen o) (hl : tLen o < 2147483648) : wA (E 0 0) 0 (some (t + o)) x w (tw t (ws M d v m) S) = some (tw t (ws (tar M o (updA (M.2 o) i w)) d v m) S) := by
  rw [hx]; exact x_wa o hb h0 h1 h2 h3 hi hl
def tms (g : Nat → Int32) (a b c d : Int32) : Nat → Int32 := updA (updA (updA (updA (updA g 0 0) 1 a) 2 b) 3 c) 4 d
theorem T_has {a b2 c2 d2 : Int32} {n q : Nat} (hb : E 0 0 ≤ t) (hN : 2000 < N) (hn : M.1 18 = jI n) (hn2 : n ≤ 16) (hc : M.1 2 = jI c) (hc2 : c ≤ 4) (hq : q < 4) (ha : ¬ a < 0) (hb2 : ¬ b2 < 0) (hc3 : ¬ c2 < 0) (hd2 : ¬ d2 < 0) :
    fn_X4_has N E t (jI q) a b2 c2 d2 (tw t (ws M d v m) S) = some (bI (!nowV M q && hasB isF (c + 1) 2 (tms (M.2 30) a b2 c2 d2) (fil (c + 1) (nowM M q) m)), tw t (ws (tar (tsf M 0 0) 30 (tms (M.2 30) a b2 c2 d2)) (c + 1) (nowV M q) (fil (c + 1) (nowM M q) m)) S) := by
  unfold fn_X4_has
  rw [xwr_s (x_thr0 hb), xal_s (x_isTable _ _), isTab hq, xbr_0 (by decide)]
  rw [xbr_0 (decide_eq_false ha), xbr_0 (decide_eq_false hb2), xbr_0 (decide_eq_false hc3), xbr_1 (decide_eq_true (Int32.not_lt.mp hd2))]
  rw [xrd_s (t_qR 30 (by decide) rfl (by decide)), xwr_s (x_wax 30 0 (x := 0) rfl hb (by decide) (by decide) (by decide) (by decide) (show 0 < 5 by omega) (by decide)),
    xrd_s (t_qR 30 (by decide) rfl (by decide)), xwr_s (x_wax 30 1 (x := 1) rfl hb (by decide) (by decide) (by decide) (by decide) (show 1 < 5 by omega) (by decide)),
    xrd_s (t_qR 30 (by decide) rfl (by decide)), xwr_s (x_wax 30 2 (x := 2) rfl hb (by decide) (by decide) (by decide) (by decide) (show 2 < 5 by omega) (by decide)),
    xrd_s (t_qR 30 (by decide) rfl (by decide)), xwr_s (x_wax 30 3 (x := 3) rfl hb (by decide) (by decide) (by decide) (by decide) (show 3 < 5 by omega) (by decide)),
    xrd_s (t_qR 30 (by decide) rfl (by decide)), xwr_s (x_wax 30 4 (x := 4) rfl hb (by decide) (by decide) (by decide) (by decide) (show 4 < 5 by omega) (by decide)), tar_tar, tar_tar, tar_tar, tar_tar, tar_at, tar_at, tar_at, tar_at]
  have e : updA (updA (updA (updA (updA ((tsf M 0 0).2 30) 0 0) 1 a) 2 b2) 3 c2) 4 d2 = tms (M.2 30) a b2 c2 d2 := rfl
  rw [e, xrd_s t_qV, xal_s (x_loads (M := tar (tsf M 0 0) 30 (tms (M.2 30) a b2 c2 d2)) (c := c) hb hc hc2 (by omega) hq), xrd_s t_qV, xal_s (x_hasTimes (by omega) (by omega)), tar_at]
  show xbr (decide (bI (!nowV M q && hasB isF (c + 1) 2 (tms (M.2 30) a b2 c2 d2) (fil (c + 1) (nowM M q) m)) = 0)) _ _ _ = _
  cases !nowV M q && hasB isF (c + 1) 2 (tms (M.2 30) a b2 c2 d2) (fil (c + 1) (nowM M q) m) with
  | true => rw [xbr_0 (by decide)]; rfl
  | false => rw [xbr_1 (by decide)]; rfl
theorem x_follows (hd : d ≤ 62) (hN : 62 < N) (hi : i < d) (hj : j < d) : fn_X4_follows N E t (jI i) (jI j) (tw t (ws M d v m) S) = some (bI (folB FRE isF d m i j), tw t (ws M d v m) S) := by
  unfold fn_X4_follows folB
  refine (xlp1_any d (fun z => !decide (z = i) && (!decide (z = j) && decide (gpl FRE isF (m i z) (m z j) ≤ m i j))) (R := some (1, tw t (ws M d v m) S)) (R0 := some (0, tw t (ws M d v m) S)) ?_ ?_ (fun k => ?_) (by omega)).trans ?_
  rotate_left 2
  · unfold fn_X4_follows_2
    rw [xrd_s x_qd, xbr_1 (decide_eq_true (by rw [jI_le (by omega) (by omega)]; omega))]
    rfl
  · cases (List.range d).any _ <;> rfl
  all_goals
    intro z hz hq k
    unfold fn_X4_follows_2 fn_X4_follows_46
    rw [xrd_s x_qd, xbr_0 (decide_eq_false (by rw [jI_le (by omega) (by omega)]; omega)), xbr_if, xbr_if]
    have e1 : (jI z = jI i) ↔ z = i := jI_inj (by omega) (by omega)
    have e2 : (jI z = jI j) ↔ z = j := jI_inj (by omega) (by omega)
    by_cases h1 : z = i
    · first | (rw [if_pos (e1.mpr h1), jI_succ]; done) | (simp [h1] at hq; done)
    · rw [if_neg (fun h => h1 (e1.mp h))]
      by_cases h2 : z = j
      · first | (rw [if_pos (e2.mpr h2), jI_succ]; done) | (simp [h2] at hq; done)
      · rw [if_neg (fun h => h2 (e2.mp h)), xrd_s t_qV, xal_s (x_gt (by omega) (by omega)), xrd_s t_qV, xal_s (x_gt (by omega) (by omega)), xal_s (x_plus _ _ _), xrd_s t_qV, xal_s (x_gt (by omega) (by omega)), xbr_if]
        by_cases h3 : m i j < gpl FRE isF (m i z) (m z j)
        · have h4 : ¬ gpl FRE isF (m i z) (m z j) ≤ m i j := Int32.not_le.mpr h3
          first | (rw [if_pos h3, jI_succ]; done) | (simp [h1, h2, h4] at hq; done)
        · have h4 : gpl FRE isF (m i z) (m z j) ≤ m i j := Int32.not_lt.mp h3
          first | (rw [if_neg h3]; rfl) | (simp [h1, h2, h4] at hq; done)
end TW8

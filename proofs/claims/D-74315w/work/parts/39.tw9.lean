set_option maxRecDepth 100000
/-- whole times alone -/
def whoM (inf : Int32) (P : Int32 → Bool) (d : Nat) (m : Mx) : Mx := clK inf P d (fun a b => if a < d ∧ b < d then (if P (m a b) = true then m a b else if m a b &&& 1 = 0 then m a b - 1 else m a b) else m a b)
/-- one clock more, like zero -/
def strM (y : Nat) (m : Mx) : Mx := fun a b => if a = y ∧ b = y then 1 else if a = y ∧ b < y then m 0 b else if b = y ∧ a < y then m a 0 else m a b
def fstM (d : Nat) (m : Mx) : Mx := fup (fun i m => tgt m (i + 1) 0 201) (d - 1) m
/-- the set of the clocks that are of one time alone -/
def sngN (d : Nat) (m : Mx) : Int32 := fup (fun x n => n ||| (if gpl FRE isF (m (x + 1) 0) (m 0 (x + 1)) = 1 then (1 : Int32) <<< (jI x &&& 31) else 0)) d 0
section TW9
variable {N : Nat} {E : Nat → Nat → Nat} {t : Nat} {M : TM} {m : Mx} {S : XS} {i j d c o : Nat} {v : Bool}
theorem x_pairs55 {w n0 : Int32} (hd : d ≤ 62) (hN : 62 < N) (hi : i < d) (hw : isInB w 0 2 = true) (kb : Int32 → Int32 → XS → Option (Int32 × XS)) :
    xlp2 (fn_X4_pairs_55 N E t kb (jI i) w) N n0 0 (tw t (ws M d v m) S) = kb (fup (fun j n => n + bI (prsB FRE isF w d m i j)) d n0) (jI (i + 1)) (tw t (ws M d v m) S) := by
  refine xlp2_fup d (fun j n => n + bI (prsB FRE isF w d m i j)) id (fun _ => tw t (ws M d v m) S) n0 (fun _ => True) trivial (fun _ _ _ _ => trivial) (fun j n hj _ k => ?_) (fun k => ?_) (by omega)
  · unfold fn_X4_pairs_55 fn_X4_pairs_133 fn_X4_pairs_126 fn_X4_pairs_130 fn_X4_pairs_131 fn_X4_pairs_133 prsB
    simp only [id]
    rw [xrd_s x_qd, xbr_0 (decide_eq_false (by rw [jI_le (by omega) (by omega)]; omega)), xbr_if]
    have e2 : (jI i = jI j) ↔ i = j := jI_inj (by omega) (by omega)
    by_cases hij : i = j
    · rw [if_pos (e2.mpr hij), decide_eq_true hij, jI_succ]
      simp [bI]
    · rw [if_neg (fun h => hij (e2.mp h)), decide_eq_false hij, xrd_s t_qV, xal_s (x_gt (by omega) (by omega))]
      cases hF : isF (m i j) with
      | true =>
        rw [xbr_0 (decide_eq_false (by have h9 : FRE ≤ m i j := of_decide_eq_true hF; exact Int32.not_lt.mpr h9)), jI_succ]
        simp [bI]
      | false =>
        rw [xbr_1 (decide_eq_true (by have h9 : ¬ FRE ≤ m i j := of_decide_eq_false hF; exact Int32.not_le.mp h9)), xbr_if]
        simp only [Bool.not_false, Bool.true_and]
        by_cases h0 : w = 0
        · rw [if_pos h0, if_pos h0, jI_succ]; rfl
        · rw [if_neg h0, if_neg h0, xbr_if]
          by_cases h1 : w = 1
          · rw [if_pos h1, if_pos h1, xrd_s t_qV, xal_s (x_gt (by omega) (by omega))]
            cases h3 : decide (m i j &&& 1 = 1) with
            | true => rw [xbr_1 rfl, jI_succ]; rfl
            | false => rw [xbr_0 rfl, jI_succ]; rfl
          · rw [if_neg h1, if_neg h1, xrd_s t_qV, xal_s (x_follows hd hN hi hj)]
            cases folB FRE isF d m i j with
            | true => rw [xbr_0 (by decide), jI_succ]; rfl
            | false => rw [xbr_1 (by decide), jI_succ]; rfl
  · unfold fn_X4_pairs_55 fn_X4_pairs_139
    rw [xrd_s x_qd, xbr_1 (decide_eq_true (by rw [jI_le (by omega) (by omega)]; omega)), jI_succ]
    rfl
theorem T_pairs {w : Int32} {n q : Nat} (hb : E 0 0 ≤ t) (hN : 2000 < N) (hn : M.1 18 = jI n) (hn2 : n ≤ 16) (hc : M.1 2 = jI c) (hc2 : c ≤ 4) (hq : q < 4) (hw : isInB w 0 2 = true) : fn_X4_pairs N E t (jI q) w (tw t (ws M d v m) S) = some (if nowV M q = true then -2 else cntN (c + 1) (prsB FRE isF w (c + 1) (fil (c + 1) (nowM M q) m)) 0, tw t (ws (tsf M 0 0) (c + 1) (nowV M q) (fil (c + 1) (nowM M q) m)) S) := by
  unfold fn_X4_pairs
  rw [xwr_s (x_thr0 hb), xal_s (x_isTable _ _), isTab hq, xbr_0 (by decide)]
  rw [xal_s (x_isIn _ _ _ _), hw, xbr_0 (by decide), xrd_s t_qV, xal_s (x_loads (M := tsf M 0 0) (c := c) hb hc hc2 (by omega) hq), xrd_s x_qv]
  show xbr (decide (bI (nowV M q) = 0)) _ _ (tw t (ws (tsf M 0 0) (c + 1) (nowV M q) (fil (c + 1) (nowM M q) m)) S) = _
  cases nowV M q with
  | true => rw [xbr_0 (by decide)]; rfl
  | false =>
    rw [xbr_1 (by decide), if_neg Bool.false_ne_true]
    refine xlp2_fup (c + 1) (fun i n => fup (fun j n => n + bI (prsB FRE isF w (c + 1) (fil (c + 1) (nowM M q) m) i j)) (c + 1) n) id (fun _ => tw t (ws (tsf M 0 0) (c + 1) false (fil (c + 1) (nowM M q) m)) S) 0 (fun _ => True) trivial (fun _ _ _ _ => trivial) (fun i n hi _ k => ?_) (fun k => ?_) (by omega)
    · unfold fn_X4_pairs_43
      rw [xrd_s x_qd, xbr_0 (decide_eq_false (by rw [jI_le (by omega) (by omega)]; omega)), x_pairs55 (by omega) (by omega) hi hw]
      rfl
    · unfold fn_X4_pairs_43
      rw [xrd_s x_qd, xbr_1 (decide_eq_true (by rw [jI_le (by omega) (by omega)]; omega))]
      rfl
theorem T_single {n q : Nat} (hb : E 0 0 ≤ t) (hN : 2000 < N) (hn : M.1 18 = jI n) (hn2 : n ≤ 16) (hc : M.1 2 = jI c) (hc2 : c ≤ 4) (hq : q < 4) : fn_X4_single N E t (jI q) (tw t (ws M d v m) S) = some (if nowV M q = true then -2 else sngN c (fil (c + 1) (nowM M q) m), tw t (ws (tsf M 0 0) (c + 1) (nowV M q) (fil (c + 1) (nowM M q) m)) S) := by
  unfold fn_X4_single
  rw [xwr_s (x_thr0 hb), xal_s (x_isTable _ _), isTab hq, xbr_0 (by decide)]
  rw [xrd_s t_qV, xal_s (x_loads (M := tsf M 0 0) (c := c) hb hc hc2 (by omega) hq), xrd_s x_qv]
  show xbr (decide (bI (nowV M q) = 0)) _ _ (tw t (ws (tsf M 0 0) (c + 1) (nowV M q) (fil (c + 1) (nowM M q) m)) S) = _
  cases nowV M q with
  | true => rw [xbr_0 (by decide)]; rfl
  | false =>
    rw [xbr_1 (by decide), if_neg Bool.false_ne_true]
    refine xlp2_fup c (fun x n => n ||| (if gpl FRE isF ((fil (c + 1) (nowM M q) m) (x + 1) 0) ((fil (c + 1) (nowM M q) m) 0 (x + 1)) = 1 then (1 : Int32) <<< (jI x &&& 31) else 0)) id (fun _ => tw t (ws (tsf M 0 0) (c + 1) false (fil (c + 1) (nowM M q) m)) S) 0 (fun _ => True) trivial (fun _ _ _ _ => trivial) (fun x n hx _ k => ?_) (fun k => ?_) (by omega)
    · unfold fn_X4_single_33 fn_X4_single_72
      rw [xrd_s (x_qf 2 (by decide) rfl (by decide) (by decide)), show (tsf M 0 0).1 2 = jI c from hc, xbr_0 (decide_eq_false (by rw [jI_le (by omega) (by omega)]; omega)), xrd_s t_qV, jI_succ, show (0 : Int32) = jI 0 from rfl, xal_s (x_gt (i := x + 1) (j := 0) (by omega) (by omega)), xrd_s t_qV, xal_s (x_gt (i := 0) (j := x + 1) (by omega) (by omega)), xal_s (x_plus _ _ _), xbr_if]
      by_cases h : gpl FRE isF ((fil (c + 1) (nowM M q) m) (x + 1) 0) ((fil (c + 1) (nowM M q) m) 0 (x + 1)) = 1
      · rw [if_pos h]; simp only [h, if_true]; rfl
      · rw [if_neg h]; simp only [h, if_false]; rfl
    · unfold fn_X4_single_33
      rw [xrd_s (x_qf 2 (by decide) rfl (by decide) (by decide)), show (tsf M 0 0).1 2 = jI c from hc, xbr_1 (decide_eq_true (by rw [jI_le (by omega) (by omega)]; omega))]
      rfl
theorem x_wholes (hb : E 0 0 ≤ t) (hd : d ≤ 62) (hN : 62 < N) : fn_X4_wholes N E t (tw t (ws M d v m) S) = some ((), tw t (ws M d (v || ngd d (whoM FRE isF d m)) (whoM FRE isF d m)) S) := by
  unfold fn_X4_wholes
  refine xlp1_fup d (fun i m => fup (fun j m => u2 m i j (if isF (m i j) = true then m i j else if m i j &&& 1 = 0 then m i j - 1 else m i j)) d m) (fun m => tw t (ws M d v m) S) m (fun _ => True) trivial (fun _ _ _ _ => trivial) (fun i b hi _ kk => ?_) (fun kk => ?_) (by omega)
  · unfold fn_X4_wholes_2
    rw [xrd_s x_qd, xbr_0 (decide_eq_false (by rw [jI_le (by omega) (by omega)]; omega))]
    refine xlp1_fup d (fun j m => u2 m i j (if isF (m i j) = true then m i j else if m i j &&& 1 = 0 then m i j - 1 else m i j)) (fun m => tw t (ws M d v m) S) b (fun _ => True) trivial (fun _ _ _ _ => trivial) (fun j b hj _ k => ?_) (fun k => ?_) (by omega)
    · unfold fn_X4_wholes_12 fn_X4_wholes_57
      rw [xrd_s x_qd, xbr_0 (decide_eq_false (by rw [jI_le (by omega) (by omega)]; omega)), xrd_s t_qV, xal_s (x_gt (by omega) (by omega))]
      cases hF : isF (b i j) with
      | true => rw [xbr_1 (show decide ((1000000 : Int32) ≤ b i j) = true from hF), if_pos rfl, u2_self, jI_succ]
      | false =>
        rw [xbr_0 (show decide ((1000000 : Int32) ≤ b i j) = false from hF), if_neg Bool.false_ne_true, xrd_s t_qV, xal_s (x_gt (by omega) (by omega)), xbr_if]
        by_cases h : b i j &&& 1 = 0
        · rw [if_pos h, if_pos h, xrd_s t_qV, xal_s (x_gt (by omega) (by omega)), xrd_s t_qV, xal_s (x_pt hb (by omega) (by omega) _), jI_succ]
        · rw [if_neg h, if_neg h, u2_self, jI_succ]
    · unfold fn_X4_wholes_12 fn_X4_wholes_63
      rw [xrd_s x_qd, xbr_1 (decide_eq_true (by rw [jI_le (by omega) (by omega)]; omega)), jI_succ]
  · unfold fn_X4_wholes_2 fn_X4_wholes_69
    rw [xrd_s x_qd, xbr_1 (decide_eq_true (by rw [jI_le (by omega) (by omega)]; omega)), fup2_upd (h := fun i j b => if isF b = true then b else if b &&& 1 = 0 then b - 1 else b), xrd_s t_qV, xal_s (x_clos hb hd hN)]
    rfl
theorem T_first {x : Nat} {n q : Nat} (hb : E 0 0 ≤ t) (hN : 2000 < N) (hn : M.1 18 = jI n) (hn2 : n ≤ 16) (hc : M.1 2 = jI c) (hc2 : c ≤ 4) (hq : q < 4) (hx : x < c) {m2 : Mx} (hm2 : m2 = whoM FRE isF (c + 1) (fstM (c + 1) (fil (c + 1) (nowM M q) m))) {v2 : Bool} (hv2 : v2 = (nowV M q || ngd (c + 1) m2)) :
    fn_X4_first N E t (jI q) (jI x) (tw t (ws M d v m) S) = some (if v2 = true then (-2 : Int32) else -(m2 0 (x + 1) >>> 1), tw t (ws (tsf M 0 0) (c + 1) v2 m2) S) := by
  unfold fn_X4_first
  rw [xwr_s (x_thr0 hb), xal_s (x_isTable _ _), isTab hq, xbr_0 (by decide)]
  rw [xrd_s t_qV, xal_s (x_isClock _), show (tsf M 0 0).1 2 = jI c from hc, isCl (by omega) hx, xbr_0 (by decide), xrd_s t_qV, xal_s (x_loads (M := tsf M 0 0) (c := c) hb hc hc2 (by omega) hq), show (1 : Int32) = jI 1 from rfl]
  have hfm : fstM (c + 1) (fil (c + 1) (nowM M q) m) = fup (fun i m => tgt m (i + 1) 0 201) c (fil (c + 1) (nowM M q) m) := rfl
  rw [hm2, hfm] at hv2
  rw [hm2, hfm, hv2]
  refine xlp1_fof 1 c (fun i m => tgt m (i + 1) 0 201) (fun m => tw t (ws (tsf M 0 0) (c + 1) (nowV M q) m) S) (fil (c + 1) (nowM M q) m) (fun _ => True) trivial (fun _ _ _ _ => trivial) (fun z b hz _ k => ?_) (fun k => ?_) (by omega)
  · unfold fn_X4_first_29
    rw [xrd_s x_qd, xbr_0 (decide_eq_false (by rw [jI_le (by omega) (by omega)]; omega)), xal_s (x_reached _ _), xrd_s t_qV, show (0 : Int32) = jI 0 from rfl, xal_s (x_tgt (i := 1 + z) (j := 0) hb (by omega) (by omega) _), jI_succ, Nat.add_comm 1 z]
    rfl
  · unfold fn_X4_first_29 fn_X4_first_54
    rw [xrd_s x_qd, xbr_1 (decide_eq_true (by rw [jI_le (by omega) (by omega)]; omega)), xrd_s t_qV, xal_s (x_wholes hb (by omega) (by omega)), xrd_s x_qv]
    generalize hw : (nowV M q || ngd (c + 1) (whoM FRE isF (c + 1) (fup (fun i m => tgt m (i + 1) 0 201) c (fil (c + 1) (nowM M q) m)))) = w
    cases w with
    | true => rw [xbr_0 (by decide)]; rfl
    | false =>
      rw [xbr_1 (by decide), xrd_s t_qV, show (0 : Int32) = jI 0 from rfl, jI_succ, xal_s (x_gt (i := 0) (j := x + 1) (by omega) (by omega)), xal_s (x_numberOf _ _)]
      rfl
end TW9

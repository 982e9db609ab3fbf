set_option maxRecDepth 100000
section TWA
variable {N : Nat} {E : Nat → Nat → Nat} {t : Nat} {M : TM} {m : Mx} {S : XS} {i j d c o : Nat} {v : Bool}
/-- the new clock's row and column, as far as k -/
def strK (y k : Nat) (m : Mx) : Mx := fun a b => if a = y ∧ b < k then m 0 b else if b = y ∧ a < k then m a 0 else m a b
theorem strK_s {y k : Nat} (h0 : k = 0 → y ≠ 0) (hk : k < y) : u2 (u2 (strK y k m) y k (strK y k m 0 k)) k y (u2 (strK y k m) y k (strK y k m 0 k) k 0) = strK y (k + 1) m := by
  have e1 : strK y k m 0 k = m 0 k := by simp only [strK]; rw [if_neg (by omega), if_neg (by omega)]
  have e2 : ∀ w, u2 (strK y k m) y k w k 0 = m k 0 := by
    intro w
    simp only [u2, strK]
    rw [if_neg (by omega), if_neg (by omega), if_neg (by omega)]
  rw [e1, e2]
  funext a b
  simp only [u2, strK]
  by_cases h1 : a = k ∧ b = y
  · rw [if_pos h1, if_neg (by omega), if_pos (by omega), h1.1]
  · rw [if_neg h1]
    by_cases h2 : a = y ∧ b = k
    · rw [if_pos h2, if_pos (by omega), h2.2]
    · rw [if_neg h2]
      by_cases h3 : a = y ∧ b < k
      · rw [if_pos h3, if_pos (by omega)]
      · rw [if_neg h3, if_neg (show ¬ (a = y ∧ b < k + 1) by omega)]
        by_cases h4 : b = y ∧ a < k
        · rw [if_pos h4, if_pos (by omega)]
        · rw [if_neg h4, if_neg (by omega)]
theorem x_stretches (hb : E 0 0 ≤ t) (hd0 : 0 < d) (hd : d < 61) (hN : 62 < N) : fn_X4_stretches N E t (tw t (ws M d v m) S) = some ((), tw t (ws M (d + 1) v (strM d m)) S) := by
  unfold fn_X4_stretches
  rw [xrd_s x_qd, xrd_s x_qd, jI_succ, xwr_s (x_wd hb)]
  have e0 : m = strK d 0 m := by funext a b; simp only [strK]; rw [if_neg (by omega), if_neg (by omega)]
  rw [show tw t (ws M (d + 1) v m) S = tw t (ws M (d + 1) v (strK d 0 m)) S by rw [← e0]]
  refine xlp1_up0 _ d (fun i => tw t (ws M (d + 1) v (strK d i m)) S) _ (fun j hj k => ?_) (fun k => ?_) (by omega)
  · unfold fn_X4_stretches_17
    rw [xbr_0 (decide_eq_false (by rw [jI_le (by omega) (by omega)]; omega)), xrd_s t_qV, show (0 : Int32) = jI 0 from rfl, xal_s (x_gt (i := 0) (j := j) (by omega) (by omega)), xrd_s t_qV, xal_s (x_pt (i := d) (j := j) hb (by omega) (by omega) _), xrd_s t_qV, xal_s (x_gt (i := j) (j := 0) (by omega) (by omega)), xrd_s t_qV, xal_s (x_pt (i := j) (j := d) hb (by omega) (by omega) _), jI_succ]
    exact congrArg (fun z => k (jI (j + 1)) (tw t (ws M (d + 1) v z) S)) (strK_s (by omega) hj)
  · unfold fn_X4_stretches_17 fn_X4_stretches_52
    rw [xbr_1 (decide_eq_true (by rw [jI_le (by omega) (by omega)]; omega)), xrd_s t_qV, xal_s (x_pt (i := d) (j := d) hb (by omega) (by omega) _)]
    have e : u2 (strK d d m) d d 1 = strM d m := by
      funext a b
      simp only [u2, strK, strM]
    rw [e]
    rfl
/-- how long a stay can go on: the square with a clock more -/
def lngM (inf : Int32) (P : Int32 → Bool) (M : TM) (p c : Nat) (m : Mx) : Mx := whM inf P M p (c + 2) (upsM inf (c + 2) (strM (c + 1) (whM inf P M p (c + 1) m)))
def lngV (inf : Int32) (P : Int32 → Bool) (M : TM) (p c : Nat) (m : Mx) : Bool := ngd (c + 1) (whM inf P M p (c + 1) m) || ngd (c + 2) (lngM inf P M p c m)
theorem T_longest {e p : Nat} {w : Int32} {n q : Nat} (hb : E 0 0 ≤ t) (hN : 2000 < N) (hn : M.1 18 = jI n) (hn2 : n ≤ 16) (hc : M.1 2 = jI c) (hc2 : c ≤ 4) (hq : q < 4) (hne : M.1 3 = jI p) (hp2 : p ≤ 8) (he : e < p) (hst : whOK M c e) (hw : isInB w 0 1 = true)
    {m2 : Mx} (hm2 : m2 = lngM FRE isF M e c (fil (c + 1) (nowM M q) m)) {v2 : Bool} (hv2 : v2 = (nowV M q || lngV FRE isF M e c (fil (c + 1) (nowM M q) m))) :
    fn_X4_longest N E t (jI q) (jI e) w (tw t (ws M d v m) S) = some (if v2 = true then (-1000 : Int32) else tldF (m2 (c + 1) 0) w, tw t (ws (tsf M 0 0) (c + 2) v2 m2) S) := by
  unfold fn_X4_longest
  rw [xwr_s (x_thr0 hb), xal_s (x_isTable _ _), isTab hq, xbr_0 (by decide)]
  rw [xrd_s t_qV, xal_s (x_isPlace _), show (tsf M 0 0).1 3 = jI p from hne, isCl (by omega) he, xbr_0 (by decide), xal_s (x_isTwo _ _), hw, xbr_0 (by decide), xrd_s t_qV, xal_s (x_loads (M := tsf M 0 0) (c := c) hb hc hc2 (by omega) hq), xrd_s t_qV, xal_s (x_whens (M := tsf M 0 0) (c := c) hb (by omega) (by omega) (by omega) hst (by omega)), xrd_s t_qV, xal_s (x_stretches hb (by omega) (by omega) (by omega)), xrd_s t_qV, xal_s (x_up hb (by omega) (by omega) (by omega)), xrd_s t_qV, xal_s (x_whens (M := tsf M 0 0) (c := c) hb (by omega) (by omega) (by omega) hst (by omega)), xrd_s x_qv]
  have ev : v2 = ((nowV M q || ngd (c + 1) (whM FRE isF M e (c + 1) (fil (c + 1) (nowM M q) m))) || ngd (c + 2) m2) := by rw [hv2, hm2, Bool.or_assoc]; rfl
  have em : whM FRE isF (tsf M 0 0) e (c + 1 + 1) (upsM FRE (c + 1 + 1) (strM (c + 1) (whM FRE isF (tsf M 0 0) e (c + 1) (fil (c + 1) (nowM (tsf M 0 0) q) m)))) = m2 := hm2.symm
  rw [em]
  show xbr (decide (bI ((nowV M q || ngd (c + 1) (whM FRE isF M e (c + 1) (fil (c + 1) (nowM M q) m))) || ngd (c + 2) m2) = 0)) _ _ (tw t (ws (tsf M 0 0) (c + 1 + 1) ((nowV M q || ngd (c + 1) (whM FRE isF M e (c + 1) (fil (c + 1) (nowM M q) m))) || ngd (c + 2) m2) m2) S) = _
  rw [← ev]
  cases v2 with
  | true => rw [xbr_0 (by decide)]; rfl
  | false =>
    rw [xbr_1 (by decide), xrd_s x_qd, xrd_s t_qV, show jI (c + 1 + 1) - (1 : Int32) = jI (c + 1) by (rw [show (1 : Int32) = jI 1 from rfl, jI_sub (by omega)]; rfl), show (0 : Int32) = jI 0 from rfl, xal_s (x_gt (i := c + 1) (j := 0) (by omega) (by omega)), xrd_s t_qV, xal_s (x_told _ _ _)]
    rfl
end TWA

set_option maxRecDepth 100000
theorem jI_div {a b : Nat} (ha : a < 2147483648) (hb : b < 2147483648) : jI a / jI b = jI (a / b) := by
  apply Int32.toInt_inj.mp
  have h1 : a / b < 2147483648 := Nat.lt_of_le_of_lt (Nat.div_le_self a b) ha
  rw [Int32.toInt_div, jI_toInt ha, jI_toInt hb, jI_toInt h1, ← Int.ofNat_tdiv]
  generalize a / b = r at h1 ⊢
  exact Int.bmod_eq_of_le (by omega) (by omega)
theorem jI_mod {a b : Nat} (ha : a < 2147483648) (hb : b < 2147483648) : jI a - jI a / jI b * jI b = jI (a % b) := by
  rw [jI_div ha hb, jI_mul, jI_sub (Nat.div_mul_le_self a b)]
  congr 1
  have := Nat.div_add_mod a b
  rw [Nat.mul_comm] at this
  omega
/-- the digits of k by b, as times of the clocks 1 .. j -/
def digA (g : Nat → Int32) (b k j : Nat) : Nat → Int32 := fun z => if 1 ≤ z ∧ z ≤ j then jI (k / b ^ (z - 1) % b) else g z
section TWB
variable {N : Nat} {E : Nat → Nat → Nat} {t : Nat} {M : TM} {m : Mx} {S : XS} {i j d c o : Nat} {v : Bool}
/-- the soonest an edge can be taken -/
def sonM (inf : Int32) (P : Int32 → Bool) (M : TM) (e c : Nat) (m : Mx) : Mx := whM inf P M (8 + e) (c + 2) (lngM inf P M (eFrom M e) c m)
def sonV (inf : Int32) (P : Int32 → Bool) (M : TM) (e c : Nat) (m : Mx) : Bool := lngV inf P M (eFrom M e) c m || ngd (c + 2) (sonM inf P M e c m)
theorem x_low (b what : Int32) (T : XS) : fn_X4_low N E b what T = some (if what = 0 then -(b >>> 1) else b &&& 1, T) := by
  unfold fn_X4_low
  rw [xbr_if]
  by_cases h : what = 0
  · rw [if_pos h, if_pos h, xal_s (x_numberOf _ _)]; rfl
  · rw [if_neg h, if_neg h]; rfl
theorem T_soonest {e p np : Nat} {w : Int32} {n q : Nat} (hb : E 0 0 ≤ t) (hN : 2000 < N) (hn : M.1 18 = jI n) (hn2 : n ≤ 16) (hc : M.1 2 = jI c) (hc2 : c ≤ 4) (hq : q < 4) (hne : M.1 4 = jI p) (hp2 : p ≤ 16) (he : e < p) (hnp : np ≤ 8) (hed : edOK M c np e) (hst : whOK M c (eFrom M e)) (hw : isInB w 0 1 = true)
    {m2 : Mx} (hm2 : m2 = sonM FRE isF M e c (fil (c + 1) (nowM M q) m)) {v2 : Bool} (hv2 : v2 = (nowV M q || sonV FRE isF M e c (fil (c + 1) (nowM M q) m))) :
    fn_X4_soonest N E t (jI q) (jI e) w (tw t (ws M d v m) S) = some (if v2 = true then (-1000 : Int32) else if w = 0 then -(m2 0 (c + 1) >>> 1) else m2 0 (c + 1) &&& 1, tw t (ws (tsf M 0 0) (c + 2) v2 m2) S) := by
  obtain ⟨w1, w2, w3, w4, w5, w6⟩ := hed
  unfold fn_X4_soonest
  rw [xwr_s (x_thr0 hb), xal_s (x_isTable _ _), isTab hq, xbr_0 (by decide)]
  rw [xrd_s t_qV, xal_s (x_isEdge _), show (tsf M 0 0).1 4 = jI p from hne, isCl (by omega) he, xbr_0 (by decide), xal_s (x_isTwo _ _), hw, xbr_0 (by decide), xrd_s t_qV, xal_s (x_loads (M := tsf M 0 0) (c := c) hb hc hc2 (by omega) hq), xrd_s (t_qR 5 (by decide) rfl (by decide)), xrd_s (x_qa 5 (by decide) (by decide) (by decide) (by decide) (show e < 16 by omega) (by decide)), show (tsf M 0 0).2 5 e = jI (eFrom M e) from w3, xrd_s t_qV, xal_s (x_whens (M := tsf M 0 0) (c := c) hb (by omega) (by omega) (by omega) hst (by omega)), xrd_s t_qV, xal_s (x_stretches hb (by omega) (by omega) (by omega)), xrd_s t_qV, xal_s (x_up hb (by omega) (by omega) (by omega)), xrd_s (t_qR 5 (by decide) rfl (by decide)), xrd_s (x_qa 5 (by decide) (by decide) (by decide) (by decide) (show e < 16 by omega) (by decide)), show (tsf M 0 0).2 5 e = jI (eFrom M e) from w3, xrd_s t_qV, xal_s (x_whens (M := tsf M 0 0) (c := c) hb (by omega) (by omega) (by omega) hst (by omega)), xrd_s t_qV, show (8 : Int32) = jI 8 from rfl, jI_add, xal_s (x_whens (M := tsf M 0 0) (c := c) hb (by omega) (by omega) (by omega) w1 (by omega)), xrd_s x_qv]
  have ev : v2 = (((nowV M q || ngd (c + 1) (whM FRE isF M (eFrom M e) (c + 1) (fil (c + 1) (nowM M q) m))) || ngd (c + 2) (lngM FRE isF M (eFrom M e) c (fil (c + 1) (nowM M q) m))) || ngd (c + 2) m2) := by rw [hv2, hm2]; unfold sonV lngV; simp only [Bool.or_assoc]
  have em : whM FRE isF (tsf M 0 0) (8 + e) (c + 1 + 1) (whM FRE isF (tsf M 0 0) (eFrom M e) (c + 1 + 1) (upsM FRE (c + 1 + 1) (strM (c + 1) (whM FRE isF (tsf M 0 0) (eFrom M e) (c + 1) (fil (c + 1) (nowM (tsf M 0 0) q) m))))) = m2 := hm2.symm
  rw [em]
  show xbr (decide (bI (((nowV M q || ngd (c + 1) (whM FRE isF M (eFrom M e) (c + 1) (fil (c + 1) (nowM M q) m))) || ngd (c + 2) (lngM FRE isF M (eFrom M e) c (fil (c + 1) (nowM M q) m))) || ngd (c + 2) m2) = 0)) _ _ (tw t (ws (tsf M 0 0) (c + 1 + 1) (((nowV M q || ngd (c + 1) (whM FRE isF M (eFrom M e) (c + 1) (fil (c + 1) (nowM M q) m))) || ngd (c + 2) (lngM FRE isF M (eFrom M e) c (fil (c + 1) (nowM M q) m))) || ngd (c + 2) m2) m2) S) = _
  rw [← ev]
  cases v2 with
  | true => rw [xbr_0 (by decide)]; rfl
  | false =>
    rw [xbr_1 (by decide), xrd_s x_qd, xrd_s t_qV, show jI (c + 1 + 1) - (1 : Int32) = jI (c + 1) by (rw [show (1 : Int32) = jI 1 from rfl, jI_sub (by omega)]; rfl), show (0 : Int32) = jI 0 from rfl, xal_s (x_gt (i := 0) (j := c + 1) (by omega) (by omega)), xal_s (x_low _ _ _)]
    rfl
end TWB

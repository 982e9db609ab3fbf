set_option maxRecDepth 100000
theorem isInB_iff {p a b : Int32} : isInB p a b = true ↔ a ≤ p ∧ p ≤ b := by simp [isInB]
theorem jI_of {p : Int32} (h : 0 ≤ p) : p = jI p.toNatClampNeg := by
  have h0 : (0 : Int) ≤ p.toInt := Int32.le_iff_toInt_le.mp h
  apply Int32.toInt_inj.mp
  have h1 : p.toInt < 2147483648 := Int32.toInt_lt p
  have h2 : p.toNatClampNeg < 2147483648 := by
    show p.toInt.toNat < _
    omega
  rw [jI_toInt h2]
  show _ = ((p.toInt.toNat : Nat) : Int)
  omega
/-- a number from 0 to k *)-/
theorem isInB_nat {p : Int32} {k : Nat} (hk : k < 2147483648) (h : isInB p 0 (jI k) = true) : ∃ q, q ≤ k ∧ p = jI q := by
  obtain ⟨h1, h2⟩ := isInB_iff.mp h
  have e := jI_of h1
  refine ⟨p.toNatClampNeg, ?_, e⟩
  have h3 : p.toNatClampNeg < 2147483648 := by
    have := Int32.toInt_lt p
    show p.toInt.toNat < _
    omega
  rw [e] at h2
  exact (jI_le h3 hk).mp h2
theorem isInB_lt {p : Int32} {c : Nat} (hc : c < 2147483648) (h : isInB p 0 (jI c - 1) = true) : ∃ q, q < c ∧ p = jI q := by
  cases c with
  | zero =>
    obtain ⟨h1, h2⟩ := isInB_iff.mp h
    exact absurd (Int32.le_trans h1 h2) (by decide)
  | succ c =>
    rw [show jI (c + 1) - 1 = jI c by (rw [show (1 : Int32) = jI 1 from rfl, jI_sub (by omega)]; rfl)] at h
    obtain ⟨q, h1, h2⟩ := isInB_nat (by omega) h
    exact ⟨q, by omega, h2⟩
theorem isInB_m1 {p : Int32} {c : Nat} (hc : c < 2147483647) (h : isInB p (-1) (jI c - 1) = true) : ∃ q, q ≤ c ∧ p + 1 = jI q := by
  obtain ⟨h1, h2⟩ := isInB_iff.mp h
  by_cases h0 : 0 ≤ p
  · obtain ⟨q, h3, h4⟩ := isInB_lt (by omega) (isInB_iff.mpr ⟨h0, h2⟩)
    exact ⟨q + 1, by omega, by rw [h4, jI_succ]⟩
  · refine ⟨0, Nat.zero_le _, ?_⟩
    have e : p = -1 := by
      apply Int32.toInt_inj.mp
      have a1 := Int32.le_iff_toInt_le.mp h1
      have a2 : ¬ (0 : Int) ≤ p.toInt := fun h => h0 (Int32.le_iff_toInt_le.mpr h)
      have a3 : (-1 : Int32).toInt = -1 := rfl
      rw [a3] at a1 ⊢
      omega
    rw [e]; rfl
section TW6
variable {N : Nat} {E : Nat → Nat → Nat} {t : Nat} {M : TM} {m : Mx} {S : XS} {i j d c o : Nat} {v : Bool}
theorem x_thr0 (hb : E 0 0 ≤ t) : wI (E 0 0) (some t) [3] 0 0 0 (tw t (ws M d v m) S) = some (tw t (ws (tsf M 0 0) d v m) S) := x_wf hb 0 0 (by decide) rfl (by decide) (by decide) rfl
theorem bI_fit1 {b : Bool} : xrz 1 (bI b) = fun S => some (bI b, S) := by
  funext S
  unfold xrz
  rw [bI_fit]
  rfl
theorem x_isTable (p : Int32) (T : XS) : fn_X4_isTable N E p T = some (bI (isInB p 0 3), T) := by
  unfold fn_X4_isTable
  rw [xal_s (x_isIn _ _ _ _), bI_fit1]
theorem x_isTwo (p : Int32) (T : XS) : fn_X4_isTwo N E p T = some (bI (isInB p 0 1), T) := by
  unfold fn_X4_isTwo
  rw [xal_s (x_isIn _ _ _ _), bI_fit1]
theorem x_isClock (p : Int32) : fn_X4_isClock N E t p (tw t (ws M d v m) S) = some (bI (isInB p 0 (M.1 2 - 1)), tw t (ws M d v m) S) := by
  unfold fn_X4_isClock
  rw [xrd_s (x_qf 2 (by decide) rfl (by decide) (by decide)), xal_s (x_isIn _ _ _ _), bI_fit1]
theorem x_isPlace (p : Int32) : fn_X4_isPlace N E t p (tw t (ws M d v m) S) = some (bI (isInB p 0 (M.1 3 - 1)), tw t (ws M d v m) S) := by
  unfold fn_X4_isPlace
  rw [xrd_s (x_qf 3 (by decide) rfl (by decide) (by decide)), xal_s (x_isIn _ _ _ _), bI_fit1]
theorem x_isEdge (p : Int32) : fn_X4_isEdge N E t p (tw t (ws M d v m) S) = some (bI (isInB p 0 (M.1 4 - 1)), tw t (ws M d v m) S) := by
  unfold fn_X4_isEdge
  rw [xrd_s (x_qf 4 (by decide) rfl (by decide) (by decide)), xal_s (x_isIn _ _ _ _), bI_fit1]
/-- two sides that differ -/
def prB (c x y : Int32) : Bool := isInB x (-1) (c - 1) && isInB y (-1) (c - 1) && !decide (x = y)
theorem x_arePair (p q : Int32) : fn_X4_arePair N E t p q (tw t (ws M d v m) S) = some (bI (prB (M.1 2) p q), tw t (ws M d v m) S) := by
  unfold fn_X4_arePair fn_X4_arePair_37 prB
  rw [xrd_s (x_qf 2 (by decide) rfl (by decide) (by decide)), xal_s (x_isIn _ _ _ _)]
  cases isInB p (-1) (M.1 2 - 1) with
  | false => rw [xbr_1 (by decide)]; rfl
  | true =>
    rw [xbr_0 (by decide), xrd_s (x_qf 2 (by decide) rfl (by decide) (by decide)), xal_s (x_isIn _ _ _ _)]
    cases isInB q (-1) (M.1 2 - 1) with
    | false => rw [xbr_1 (by decide)]; rfl
    | true =>
      rw [xbr_0 (by decide), xbr_if]
      by_cases h : p = q
      · rw [if_pos h, decide_eq_true h]; rfl
      · rw [if_neg h, decide_eq_false h]; rfl
/-- what comes of a table that was worked on: the answer, the twin -/
def bcR (d : Nat) (v : Bool) (m : Mx) : Int32 := if (!v && farB isF d m) = true then -2 else bI !v
def bcT (M : TM) (n q d : Nat) (v : Bool) (m : Mx) : TM := if (!v && farB isF d m) = true then M else tar (kpT M n) 11 (stoA (M.2 11) q d v m)
theorem x_bec {n q : Nat} (hb : E 0 0 ≤ t) (hN : 2000 < N) (hd : d ≤ 5) (hn : M.1 18 = jI n) (hn2 : n ≤ 16) (hq : q < 4) :
    fn_X4_becomesTable N E t (jI q) (tw t (ws M d v m) S) = some (bcR d v m, tw t (ws (bcT M n q d v m) d v m) S) := x_becomes hb hN hd hn hn2 hq
theorem T_meet {n q x y r : Nat} {p1 p2 w : Int32} (hb : E 0 0 ≤ t) (hN : 2000 < N) (hn : M.1 18 = jI n) (hn2 : n ≤ 16) (hc : M.1 2 = jI c) (hc2 : c ≤ 4) (hq : q < 4) (hx : p1 + 1 = jI x) (hx2 : x ≤ c) (hy : p2 + 1 = jI y) (hy2 : y ≤ c) (hp : prB (jI c) p1 p2 = true) (hr : r ≤ 4) (hw : isInB w (-100) 100 = true)
    {m2 : Mx} (hm2 : m2 = clK FRE isF (c + 1) (mts (fil (c + 1) (nowM M q) m) x y r w)) {v2 : Bool} (hv2 : v2 = (nowV M q || ngd (c + 1) m2)) :
    fn_X4_meet N E t (jI q) p1 p2 (jI r) w (tw t (ws M d v m) S) = some (bcR (c + 1) v2 m2, tw t (ws (bcT (tsf M 0 0) n q (c + 1) v2 m2) (c + 1) v2 m2) S) := by
  unfold fn_X4_meet
  have e1 : isInB (jI q) 0 3 = true := isInB_iff.mpr ⟨(jI_le (a := 0) (by omega) (by omega)).mpr (by omega), (jI_le (b := 3) (by omega) (by omega)).mpr (by omega)⟩
  have e2 : isInB (jI r) 0 4 = true := isInB_iff.mpr ⟨(jI_le (a := 0) (by omega) (by omega)).mpr (by omega), (jI_le (b := 4) (by omega) (by omega)).mpr (by omega)⟩
  rw [xwr_s (x_thr0 hb), xal_s (x_isTable _ _), e1, xbr_0 (by decide), xrd_s t_qV, xal_s (x_arePair _ _), show (tsf M 0 0).1 2 = jI c from hc, hp, xbr_0 (by decide), xal_s (x_isIn _ _ _ _), e2, xbr_0 (by decide), xal_s (x_isIn _ _ _ _), hw, xbr_0 (by decide), xrd_s t_qV, xal_s (x_loads (M := tsf M 0 0) (c := c) hb hc hc2 (by omega) hq), hx, hy, xrd_s t_qV, xal_s (x_meets hb (by omega) (by omega) hr _), xrd_s t_qV, xal_s (x_clos hb (by omega) (by omega)), xrd_s t_qV, hv2, hm2]
  exact xal_s (x_bec (M := tsf M 0 0) hb hN (by omega) hn hn2 hq)
theorem isTab {q : Nat} (hq : q < 4) : isInB (jI q) 0 3 = true := isInB_iff.mpr ⟨(jI_le (a := 0) (by omega) (by omega)).mpr (by omega), (jI_le (b := 3) (by omega) (by omega)).mpr (by omega)⟩
theorem isCl {x : Nat} (hc : c < 2147483648) (hx : x < c) : isInB (jI x) 0 (jI c - 1) = true := by
  obtain ⟨c, rfl⟩ : ∃ k, c = k + 1 := ⟨c - 1, by omega⟩
  rw [show jI (c + 1) - 1 = jI c by (rw [show (1 : Int32) = jI 1 from rfl, jI_sub (by omega)]; rfl)]
  exact isInB_iff.mpr ⟨(jI_le (a := 0) (by omega) (by omega)).mpr (by omega), (jI_le (by omega) (by omega)).mpr (by omega)⟩
def bcS (t : Nat) (M : TM) (S : XS) (n q c : Nat) (v : Bool) (m : Mx) : Option (Int32 × XS) := some (bcR (c + 1) v m, tw t (ws (bcT (tsf M 0 0) n q (c + 1) v m) (c + 1) v m) S)
theorem T_pass0 {n q : Nat} (hb : E 0 0 ≤ t) (hN : 2000 < N) (hn : M.1 18 = jI n) (hn2 : n ≤ 16) (hc : M.1 2 = jI c) (hc2 : c ≤ 4) (hq : q < 4) : fn_X4_pass N E t (jI q) 0 (tw t (ws M d v m) S) = bcS t M S n q c (nowV M q) (upsM FRE (c + 1) (fil (c + 1) (nowM M q) m)) := by
  unfold fn_X4_pass fn_X4_pass_41
  rw [xwr_s (x_thr0 hb), xal_s (x_isTable _ _), isTab hq, xbr_0 (by decide)]
  rw [xal_s (x_isTwo _ _), show isInB 0 0 1 = true by decide, xbr_0 (by decide), xrd_s t_qV, xal_s (x_loads (M := tsf M 0 0) (c := c) hb hc hc2 (by omega) hq), xbr_1 (by decide), xrd_s t_qV, xal_s (x_up hb (by omega) (by omega) (by omega)), xrd_s t_qV]
  exact xal_s (x_bec (M := tsf M 0 0) hb hN (by omega) hn hn2 hq)
theorem T_pass1 {n q : Nat} (hb : E 0 0 ≤ t) (hN : 2000 < N) (hn : M.1 18 = jI n) (hn2 : n ≤ 16) (hc : M.1 2 = jI c) (hc2 : c ≤ 4) (hq : q < 4) : fn_X4_pass N E t (jI q) 1 (tw t (ws M d v m) S) = bcS t M S n q c (nowV M q || ngd (c + 1) (clK FRE isF (c + 1) (dnM (c + 1) (fil (c + 1) (nowM M q) m)))) (clK FRE isF (c + 1) (dnM (c + 1) (fil (c + 1) (nowM M q) m))) := by
  unfold fn_X4_pass fn_X4_pass_41
  rw [xwr_s (x_thr0 hb), xal_s (x_isTable _ _), isTab hq, xbr_0 (by decide)]
  rw [xal_s (x_isTwo _ _), show isInB 1 0 1 = true by decide, xbr_0 (by decide), xrd_s t_qV, xal_s (x_loads (M := tsf M 0 0) (c := c) hb hc hc2 (by omega) hq), xbr_0 (by decide), xrd_s t_qV, xal_s (x_down hb (by omega) (by omega) (by omega)), xrd_s t_qV]
  exact xal_s (x_bec (M := tsf M 0 0) hb hN (by omega) hn hn2 hq)
theorem T_reset {x : Nat} {w : Int32} {n q : Nat} (hb : E 0 0 ≤ t) (hN : 2000 < N) (hn : M.1 18 = jI n) (hn2 : n ≤ 16) (hc : M.1 2 = jI c) (hc2 : c ≤ 4) (hq : q < 4) (hx : x < c) (hw : isInB w 0 50 = true) : fn_X4_reset N E t (jI q) (jI x) w (tw t (ws M d v m) S) = bcS t M S n q c (nowV M q) (setsM FRE isF (x + 1) w (c + 1) (fil (c + 1) (nowM M q) m)) := by
  unfold fn_X4_reset
  rw [xwr_s (x_thr0 hb), xal_s (x_isTable _ _), isTab hq, xbr_0 (by decide)]
  rw [xrd_s t_qV, xal_s (x_isClock _), show (tsf M 0 0).1 2 = jI c from hc, isCl (by omega) hx, xbr_0 (by decide), xal_s (x_isIn _ _ _ _), hw, xbr_0 (by decide), xrd_s t_qV, xal_s (x_loads (M := tsf M 0 0) (c := c) hb hc hc2 (by omega) hq), xrd_s t_qV, jI_succ, xal_s (x_set hb (by omega) (by omega) (by omega) (by omega) _), xrd_s t_qV]
  exact xal_s (x_bec (M := tsf M 0 0) hb hN (by omega) hn hn2 hq)
theorem T_free {x : Nat} {n q : Nat} (hb : E 0 0 ≤ t) (hN : 2000 < N) (hn : M.1 18 = jI n) (hn2 : n ≤ 16) (hc : M.1 2 = jI c) (hc2 : c ≤ 4) (hq : q < 4) (hx : x < c) : fn_X4_free N E t (jI q) (jI x) (tw t (ws M d v m) S) = bcS t M S n q c (nowV M q) (u2 (freM FRE (x + 1) (c + 1) (fil (c + 1) (nowM M q) m)) 0 (x + 1) 1) := by
  unfold fn_X4_free
  rw [xwr_s (x_thr0 hb), xal_s (x_isTable _ _), isTab hq, xbr_0 (by decide)]
  rw [xrd_s t_qV, xal_s (x_isClock _), show (tsf M 0 0).1 2 = jI c from hc, isCl (by omega) hx, xbr_0 (by decide), xrd_s t_qV, xal_s (x_loads (M := tsf M 0 0) (c := c) hb hc hc2 (by omega) hq), xrd_s t_qV, jI_succ, xal_s (x_free hb (by omega) (by omega) (by omega) (by omega)), xrd_s t_qV]
  exact xal_s (x_bec (M := tsf M 0 0) hb hN (by omega) hn hn2 hq)
theorem T_copy {u : Nat} {n q : Nat} (hb : E 0 0 ≤ t) (hN : 2000 < N) (hn : M.1 18 = jI n) (hn2 : n ≤ 16) (hc : M.1 2 = jI c) (hc2 : c ≤ 4) (hq : q < 4) (hu : u < 4) : fn_X4_copy N E t (jI u) (jI q) (tw t (ws M d v m) S) = bcS t M S n u c (nowV M q) (fil (c + 1) (nowM M q) m) := by
  unfold fn_X4_copy
  rw [xwr_s (x_thr0 hb), xal_s (x_isTable _ _), isTab hu, xbr_0 (by decide), xal_s (x_isTable _ _), isTab hq, xbr_0 (by decide), xrd_s t_qV, xal_s (x_loads (M := tsf M 0 0) (c := c) hb hc hc2 (by omega) hq), xrd_s t_qV]
  exact xal_s (x_bec (M := tsf M 0 0) hb hN (by omega) hn hn2 hu)
theorem T_step {e p : Nat} {n q : Nat} (hb : E 0 0 ≤ t) (hN : 2000 < N) (hn : M.1 18 = jI n) (hn2 : n ≤ 16) (hc : M.1 2 = jI c) (hc2 : c ≤ 4) (hq : q < 4) (hne : M.1 4 = jI p) (hp2 : p ≤ 16) (he : e < p) {np : Nat} (hnp : np ≤ 8) (hw : edOK M c np e) (hst : whOK M c (eTo M e)) : fn_X4_step N E t (jI q) (jI e) (tw t (ws M d v m) S) = bcS t M S n q c (nowV M q || stpV FRE isF M e (c + 1) (fil (c + 1) (nowM M q) m)) (stpM FRE isF M e (c + 1) (fil (c + 1) (nowM M q) m)) := by
  unfold fn_X4_step
  rw [xwr_s (x_thr0 hb), xal_s (x_isTable _ _), isTab hq, xbr_0 (by decide)]
  rw [xrd_s t_qV, xal_s (x_isEdge _), show (tsf M 0 0).1 4 = jI p from hne, isCl (by omega) he, xbr_0 (by decide), xrd_s t_qV, xal_s (x_loads (M := tsf M 0 0) (c := c) hb hc hc2 (by omega) hq), xrd_s t_qV, xal_s (x_steps (M := tsf M 0 0) (c := c) (p := np) hb (by omega) (by omega) (by omega) hw hst hnp (by omega)), xrd_s t_qV]
  exact xal_s (x_bec (M := tsf M 0 0) hb hN (by omega) hn hn2 hq)
theorem T_back {e p : Nat} {n q : Nat} (hb : E 0 0 ≤ t) (hN : 2000 < N) (hn : M.1 18 = jI n) (hn2 : n ≤ 16) (hc : M.1 2 = jI c) (hc2 : c ≤ 4) (hq : q < 4) (hne : M.1 4 = jI p) (hp2 : p ≤ 16) (he : e < p) {np : Nat} (hnp : np ≤ 8) (hw : edOK M c np e) (hst : whOK M c (eTo M e)) : fn_X4_back N E t (jI q) (jI e) (tw t (ws M d v m) S) = bcS t M S n q c (nowV M q || bkV FRE isF M e (c + 1) (fil (c + 1) (nowM M q) m)) (bkM FRE isF M e (c + 1) (fil (c + 1) (nowM M q) m)) := by
  unfold fn_X4_back
  rw [xwr_s (x_thr0 hb), xal_s (x_isTable _ _), isTab hq, xbr_0 (by decide)]
  rw [xrd_s t_qV, xal_s (x_isEdge _), show (tsf M 0 0).1 4 = jI p from hne, isCl (by omega) he, xbr_0 (by decide), xrd_s t_qV, xal_s (x_loads (M := tsf M 0 0) (c := c) hb hc hc2 (by omega) hq), xrd_s t_qV, xal_s (x_backs (M := tsf M 0 0) (c := c) (p := np) hb (by omega) (by omega) (by omega) hw hst hnp (by omega)), xrd_s t_qV]
  exact xal_s (x_bec (M := tsf M 0 0) hb hN (by omega) hn hn2 hq)
theorem T_stay {e p : Nat} {n q : Nat} (hb : E 0 0 ≤ t) (hN : 2000 < N) (hn : M.1 18 = jI n) (hn2 : n ≤ 16) (hc : M.1 2 = jI c) (hc2 : c ≤ 4) (hq : q < 4) (hne : M.1 3 = jI p) (hp2 : p ≤ 8) (he : e < p) (hst : whOK M c e) : fn_X4_stay N E t (jI q) (jI e) (tw t (ws M d v m) S) = bcS t M S n q c (nowV M q || styV FRE isF M e (c + 1) (fil (c + 1) (nowM M q) m)) (styM FRE isF M e (c + 1) (fil (c + 1) (nowM M q) m)) := by
  unfold fn_X4_stay
  rw [xwr_s (x_thr0 hb), xal_s (x_isTable _ _), isTab hq, xbr_0 (by decide)]
  rw [xrd_s t_qV, xal_s (x_isPlace _), show (tsf M 0 0).1 3 = jI p from hne, isCl (by omega) he, xbr_0 (by decide), xrd_s t_qV, xal_s (x_loads (M := tsf M 0 0) (c := c) hb hc hc2 (by omega) hq), xrd_s t_qV, xal_s (x_stays (M := tsf M 0 0) (c := c) hb (by omega) (by omega) (by omega) hst (by omega)), xrd_s t_qV]
  exact xal_s (x_bec (M := tsf M 0 0) hb hN (by omega) hn hn2 hq)
def rgV (M : TM) (d : Nat) (v : Bool) (m : Mx) : Bool := v || ngd d (rghM FRE isF (M.2 10) d m)
def rgM (M : TM) (d : Nat) (v : Bool) (m : Mx) : Mx := if v = true then m else rghM FRE isF (M.2 10) d m
theorem x_rgh (hb : E 0 0 ≤ t) (hd2 : d ≤ 5) (hN : 62 < N) : fn_X4_roughens N E t (tw t (ws M d v m) S) = some ((), tw t (ws M d (rgV M d v m) (rgM M d v m)) S) := by
  rw [x_roughens hb hd2 hN]
  cases v <;> rfl
theorem T_rough {n q : Nat} (hb : E 0 0 ≤ t) (hN : 2000 < N) (hn : M.1 18 = jI n) (hn2 : n ≤ 16) (hc : M.1 2 = jI c) (hc2 : c ≤ 4) (hq : q < 4) : fn_X4_rough N E t (jI q) (tw t (ws M d v m) S) = bcS t M S n q c (rgV M (c + 1) (nowV M q) (fil (c + 1) (nowM M q) m)) (rgM M (c + 1) (nowV M q) (fil (c + 1) (nowM M q) m)) := by
  unfold fn_X4_rough
  rw [xwr_s (x_thr0 hb), xal_s (x_isTable _ _), isTab hq, xbr_0 (by decide)]
  rw [xrd_s t_qV, xal_s (x_loads (M := tsf M 0 0) (c := c) hb hc hc2 (by omega) hq), xrd_s t_qV, xal_s (x_rgh (M := tsf M 0 0) hb (by omega) (by omega)), xrd_s t_qV]
  exact xal_s (x_bec (M := tsf M 0 0) hb hN (by omega) hn hn2 hq)
theorem T_take {k nn : Nat} {n q : Nat} (hb : E 0 0 ≤ t) (hN : 2000 < N) (hn : M.1 18 = jI n) (hn2 : n ≤ 16) (hc : M.1 2 = jI c) (hc2 : c ≤ 4) (hq : q < 4) (hnn : M.1 23 = jI nn) (hn3 : nn ≤ 60) (hk : k < nn) : fn_X4_take N E t (jI q) (jI k) (tw t (ws M d v m) S) = bcS t M S n q c false (fil (c + 1) (nodM M k) m) := by
  unfold fn_X4_take
  rw [xwr_s (x_thr0 hb), xal_s (x_isTable _ _), isTab hq, xbr_0 (by decide)]
  rw [xrd_s (x_qf 23 (by decide) rfl (by decide) (by decide)), show (tsf M 0 0).1 23 = jI nn from hnn, xal_s (x_isIn _ _ _ _), isCl (by omega) hk, xbr_0 (by decide), xrd_s t_qV, xal_s (x_loadsNode (M := tsf M 0 0) (c := c) hb hc hc2 (by omega) (by omega)), xrd_s t_qV]
  exact xal_s (x_bec (M := tsf M 0 0) hb hN (by omega) hn hn2 hq)
theorem x_other {q i j : Nat} (hq : q < 4) (hi : i < 5) (hj : j < 5) : fn_X4_other N E t (jI q) (jI i) (jI j) (tw t (ws M d v m) S) = some (nowM M q i j, tw t (ws M d v m) S) := by
  unfold fn_X4_other
  rw [xrd_s (t_qR 11 (by decide) rfl (by decide)), jI25, xrd_s (x_qa 11 (by decide) (by decide) (by decide) (by decide) (show 25 * q + 5 * i + j < 125 by omega) (by decide))]
  rfl
end TW6

set_option maxRecDepth 100000
theorem xlp2_fup {ρ α : Type} {B : (Int32 → Int32 → XS → Option ρ) → Int32 → Int32 → XS → Option ρ} (d : Nat) (f : Nat → α → α) (ac : α → Int32) (st : α → XS) (a : α) (P : α → Prop) {res : Option ρ} (ha : P a) (hp : ∀ i b, i < d → P b → P (f i b)) (hs : ∀ i b, i < d → P b → ∀ k, B k (ac b) (jI i) (st b) = k (ac (f i b)) (jI (i + 1)) (st (f i b))) (he : ∀ k, B k (ac (fup f d a)) (jI d) (st (fup f d a)) = res) {n : Nat} (hn : d < n) : xlp2 B n (ac a) 0 (st a) = res := by
  have key : ∀ (n i : Nat), i ≤ d → d - i < n → xlp2 B n (ac (fup f i a)) (jI i) (st (fup f i a)) = res := by
    intro n
    induction n with
    | zero => intro i _ h; omega
    | succ n ih =>
      intro i hi hn
      show B (xlp2 B n) _ (jI i) _ = res
      by_cases h : i < d
      · rw [hs i _ h (fup_inv hp ha i (by omega))]
        exact ih (i + 1) (by omega) (by omega)
      · have : i = d := by omega
        subst this
        exact he _
  exact key n 0 (Nat.zero_le _) (by omega)
theorem fup2_upd {m : Mx} {h : Nat → Nat → Int32 → Int32} {d : Nat} : fup (fun i m => fup (fun j m => u2 m i j (h i j (m i j))) d m) d m = fun a b => if a < d ∧ b < d then h a b (m a b) else m a b := map2 d
theorem tgt_u2 (m : Mx) (i j : Nat) (b : Int32) : tgt m i j b = u2 m i j (if b < m i j then b else m i j) := by
  unfold tgt
  by_cases h : b < m i j
  · rw [if_pos h, if_pos h]
  · rw [if_neg h, if_neg h, u2_self]
/-- a square met with another, joined with another -/
def mtM (d : Nat) (g m : Mx) : Mx := fun a b => if a < d ∧ b < d then (if g a b < m a b then g a b else m a b) else m a b
def jnM (d : Nat) (g m : Mx) : Mx := fun a b => if a < d ∧ b < d then (if m a b < g a b then g a b else m a b) else m a b
def sumB (a b : Int32) : Int32 := gpl FRE isF a b
/-- told of a bound -/
def tldF (b what : Int32) : Int32 := if what = 0 then (if b < 1000000 then b >>> 1 else 1000) else if b < 1000000 then b &&& 1 else 0
section TW7
variable {N : Nat} {E : Nat → Nat → Nat} {t : Nat} {M : TM} {m : Mx} {S : XS} {i j d c o : Nat} {v : Bool}
theorem x_meetsTable {u : Nat} {n q : Nat} (hb : E 0 0 ≤ t) (hN : 2000 < N) (hn : M.1 18 = jI n) (hn2 : n ≤ 16) (hc : M.1 2 = jI c) (hc2 : c ≤ 4) (hq : q < 4) (hu : u < 4) : fn_X4_meetsTable N E t (jI q) (jI u) (tw t (ws M d v m) S) = some ((), tw t (ws M (c + 1) ((nowV M q || nowV M u) || ngd (c + 1) (clK FRE isF (c + 1) (mtM (c + 1) (nowM M u) (fil (c + 1) (nowM M q) m)))) (clK FRE isF (c + 1) (mtM (c + 1) (nowM M u) (fil (c + 1) (nowM M q) m)))) S) := by
  have key : ∀ (w : Bool) (m : Mx), xlp1 (fn_X4_meetsTable_34 N E t (jI u)) N 0 (tw t (ws M (c + 1) w m) S) = some ((), tw t (ws M (c + 1) (w || ngd (c + 1) (clK FRE isF (c + 1) (mtM (c + 1) (nowM M u) m))) (clK FRE isF (c + 1) (mtM (c + 1) (nowM M u) m))) S) := by
    intro w m
    refine xlp1_fup (c + 1) (fun i m => fup (fun j m => u2 m i j (if nowM M u i j < m i j then nowM M u i j else m i j)) (c + 1) m) (fun m => tw t (ws M (c + 1) w m) S) m (fun _ => True) trivial (fun _ _ _ _ => trivial) (fun i b hi _ kk => ?_) (fun kk => ?_) (by omega)
    · unfold fn_X4_meetsTable_34
      rw [xrd_s x_qd, xbr_0 (decide_eq_false (by rw [jI_le (by omega) (by omega)]; omega))]
      refine xlp1_fup (c + 1) (fun j m => u2 m i j (if nowM M u i j < m i j then nowM M u i j else m i j)) (fun m => tw t (ws M (c + 1) w m) S) b (fun _ => True) trivial (fun _ _ _ _ => trivial) (fun j b hj _ k => ?_) (fun k => ?_) (by omega)
      · unfold fn_X4_meetsTable_45
        rw [xrd_s x_qd, xbr_0 (decide_eq_false (by rw [jI_le (by omega) (by omega)]; omega)), xrd_s t_qV, xal_s (x_other hu (by omega) (by omega)), xrd_s t_qV, xal_s (x_tgt hb (by omega) (by omega) _), jI_succ, tgt_u2]
      · unfold fn_X4_meetsTable_45 fn_X4_meetsTable_75
        rw [xrd_s x_qd, xbr_1 (decide_eq_true (by rw [jI_le (by omega) (by omega)]; omega)), jI_succ]
    · unfold fn_X4_meetsTable_34 fn_X4_meetsTable_81
      rw [xrd_s x_qd, xbr_1 (decide_eq_true (by rw [jI_le (by omega) (by omega)]; omega)), fup2_upd (h := fun i j b => if nowM M u i j < b then nowM M u i j else b), xrd_s t_qV, xal_s (x_clos hb (by omega) (by omega))]
      rfl
  unfold fn_X4_meetsTable
  rw [xrd_s t_qV, xal_s (x_loads hb hc hc2 (by omega) hq), xrd_s x_qv, xrd_s (t_qR 11 (by decide) rfl (by decide)), show (100 : Int32) = jI 100 from rfl, jI_add, xrd_s (x_qa 11 (by decide) (by decide) (by decide) (by decide) (show 100 + u < 125 by omega) (by decide)), xbr_if]
  have k28 : ∀ w : Bool, fn_X4_meetsTable_28 N E t (bI (nowV M q)) (jI u) (bI w) (tw t (ws M (c + 1) (nowV M q) (fil (c + 1) (nowM M q) m)) S) = xlp1 (fn_X4_meetsTable_34 N E t (jI u)) N 0 (tw t (ws M (c + 1) (nowV M q || w) (fil (c + 1) (nowM M q) m)) S) := by
    intro w
    unfold fn_X4_meetsTable_28
    rw [bI_or, xwr_s (x_wvv hb _)]
  by_cases h : M.2 11 (100 + u) = 1
  · rw [if_pos h, show (1 : Int32) = bI true from rfl, k28, key, show nowV M u = true from decide_eq_true h]
  · rw [if_neg h, show (0 : Int32) = bI false from rfl, k28, key, show nowV M u = false from decide_eq_false h]
theorem T_both {u : Nat} {n q : Nat} (hb : E 0 0 ≤ t) (hN : 2000 < N) (hn : M.1 18 = jI n) (hn2 : n ≤ 16) (hc : M.1 2 = jI c) (hc2 : c ≤ 4) (hq : q < 4) (hu : u < 4) : fn_X4_both N E t (jI q) (jI u) (tw t (ws M d v m) S) = bcS t M S n q c ((nowV M q || nowV M u) || ngd (c + 1) (clK FRE isF (c + 1) (mtM (c + 1) (nowM M u) (fil (c + 1) (nowM M q) m)))) (clK FRE isF (c + 1) (mtM (c + 1) (nowM M u) (fil (c + 1) (nowM M q) m))) := by
  unfold fn_X4_both
  rw [xwr_s (x_thr0 hb), xal_s (x_isTable _ _), isTab hq, xbr_0 (by decide)]
  rw [xal_s (x_isTable _ _), isTab hu, xbr_0 (by decide), xrd_s t_qV, xal_s (x_meetsTable (M := tsf M 0 0) (c := c) hb hN hn hn2 hc hc2 hq hu), xrd_s t_qV]
  exact xal_s (x_bec (M := tsf M 0 0) hb hN (by omega) hn hn2 hq)
theorem T_touch {u : Nat} {n q : Nat} (hb : E 0 0 ≤ t) (hN : 2000 < N) (hn : M.1 18 = jI n) (hn2 : n ≤ 16) (hc : M.1 2 = jI c) (hc2 : c ≤ 4) (hq : q < 4) (hu : u < 4) {v2 : Bool} {m2 : Mx} (hm2 : m2 = clK FRE isF (c + 1) (mtM (c + 1) (nowM M u) (fil (c + 1) (nowM M q) m))) (hv2 : v2 = ((nowV M q || nowV M u) || ngd (c + 1) m2)) : fn_X4_touch N E t (jI q) (jI u) (tw t (ws M d v m) S) = some (bI !v2, tw t (ws (tsf M 0 0) (c + 1) v2 m2) S) := by
  unfold fn_X4_touch
  rw [xwr_s (x_thr0 hb), xal_s (x_isTable _ _), isTab hq, xbr_0 (by decide)]
  rw [xal_s (x_isTable _ _), isTab hu, xbr_0 (by decide), xrd_s t_qV, xal_s (x_meetsTable (M := tsf M 0 0) (c := c) hb hN hn hn2 hc hc2 hq hu), xrd_s x_qv, hv2, hm2]
  show xbr (decide (bI (nowV M q || nowV M u || ngd (c + 1) (clK FRE isF (c + 1) (mtM (c + 1) (nowM M u) (fil (c + 1) (nowM M q) m)))) = 0)) _ _ _ = _
  cases hq9 : (nowV M q || nowV M u || ngd (c + 1) (clK FRE isF (c + 1) (mtM (c + 1) (nowM M u) (fil (c + 1) (nowM M q) m)))) with
  | true => rw [xbr_0 (by decide)]; exact congrArg (fun b => some ((0 : Int32), tw t (ws (tsf M 0 0) (c + 1) b _) S)) hq9
  | false => rw [xbr_1 (by decide)]; exact congrArg (fun b => some ((1 : Int32), tw t (ws (tsf M 0 0) (c + 1) b _) S)) hq9
/-- void flags of tables are 0 or 1 -/
def vdOK (M : TM) : Prop := ∀ q, q < 4 → M.2 11 (100 + q) = bI (nowV M q)
theorem T_join {u : Nat} {n q : Nat} (hb : E 0 0 ≤ t) (hN : 2000 < N) (hn : M.1 18 = jI n) (hn2 : n ≤ 16) (hc : M.1 2 = jI c) (hc2 : c ≤ 4) (hq : q < 4) (hu : u < 4) (hvd : vdOK M) : fn_X4_join N E t (jI q) (jI u) (tw t (ws M d v m) S) = bcS t M S n q c (if nowV M q = true then nowV M u else false) (if nowV M q = true then fil (c + 1) (nowM M u) m else if nowV M u = true then (fil (c + 1) (nowM M q) m) else jnM (c + 1) (nowM M u) (fil (c + 1) (nowM M q) m)) := by
  have h132 : ∀ (w : Bool) (m2 : Mx), fn_X4_join_132 N E t (jI q) (tw t (ws (tsf M 0 0) (c + 1) w m2) S) = bcS t M S n q c w m2 := by
    intro w m2
    unfold fn_X4_join_132
    rw [xrd_s t_qV]
    exact xal_s (x_bec (M := tsf M 0 0) hb hN (by omega) hn hn2 hq)
  unfold fn_X4_join
  rw [xwr_s (x_thr0 hb), xal_s (x_isTable _ _), isTab hq, xbr_0 (by decide)]
  rw [xal_s (x_isTable _ _), isTab hu, xbr_0 (by decide), xrd_s (t_qR 11 (by decide) rfl (by decide)), show (100 : Int32) = jI 100 from rfl, jI_add, xrd_s (x_qa 11 (by decide) (by decide) (by decide) (by decide) (show 100 + q < 125 by omega) (by decide)), show (tsf M 0 0).2 11 (100 + q) = bI (nowV M q) from hvd q hq, xbr_if]
  have h40 : ∀ w, w < 4 → fn_X4_join_40 N E t (jI q) (jI u) (jI w) (tw t (ws (tsf M 0 0) d v m) S) = xbr (decide (bI (nowV M q) + bI (nowV M u) = 0)) (xlp1 (fn_X4_join_67 N E t (jI q) (jI u)) N 0) (fn_X4_join_132 N E t (jI q)) (tw t (ws (tsf M 0 0) (c + 1) (nowV M w) (fil (c + 1) (nowM M w) m)) S) := by
    intro w hw
    unfold fn_X4_join_40
    rw [xrd_s t_qV, xal_s (x_loads (M := tsf M 0 0) hb hc hc2 (by omega) hw), xrd_s (t_qR 11 (by decide) rfl (by decide)), show (100 : Int32) = jI 100 from rfl, jI_add, xrd_s (x_qa 11 (by decide) (by decide) (by decide) (by decide) (show 100 + q < 125 by omega) (by decide)), xrd_s (t_qR 11 (by decide) rfl (by decide)), jI_add, xrd_s (x_qa 11 (by decide) (by decide) (by decide) (by decide) (show 100 + u < 125 by omega) (by decide)), show (tsf M 0 0).2 11 (100 + q) = bI (nowV M q) from hvd q hq, show (tsf M 0 0).2 11 (100 + u) = bI (nowV M u) from hvd u hu]
    rfl
  cases hvq : nowV M q with
  | true =>
    rw [if_pos (show bI true = (1 : Int32) from rfl), h40 u hu, hvq, if_pos rfl, if_pos rfl, xbr_0 (by cases nowV M u <;> decide), h132]
  | false =>
    rw [if_neg (show ¬ bI false = (1 : Int32) by decide), h40 q hq, hvq, if_neg Bool.false_ne_true, if_neg Bool.false_ne_true]
    cases hvu : nowV M u with
    | true => rw [xbr_0 (by decide), h132]; rfl
    | false =>
      rw [xbr_1 (by decide), if_neg Bool.false_ne_true]
      refine xlp1_fup (c + 1) (fun i m => fup (fun j m => u2 m i j (if m i j < nowM M u i j then nowM M u i j else m i j)) (c + 1) m) (fun m => tw t (ws (tsf M 0 0) (c + 1) false m) S) (fil (c + 1) (nowM M q) m) (fun _ => True) trivial (fun _ _ _ _ => trivial) (fun i b hi _ kk => ?_) (fun kk => ?_) (by omega)
      · unfold fn_X4_join_67
        rw [xrd_s x_qd, xbr_0 (decide_eq_false (by rw [jI_le (by omega) (by omega)]; omega))]
        refine xlp1_fup (c + 1) (fun j m => u2 m i j (if m i j < nowM M u i j then nowM M u i j else m i j)) (fun m => tw t (ws (tsf M 0 0) (c + 1) false m) S) b (fun _ => True) trivial (fun _ _ _ _ => trivial) (fun j b hj _ k => ?_) (fun k => ?_) (by omega)
        · unfold fn_X4_join_78 fn_X4_join_120
          rw [xrd_s x_qd, xbr_0 (decide_eq_false (by rw [jI_le (by omega) (by omega)]; omega)), xrd_s t_qV, xal_s (x_other (M := tsf M 0 0) hu (by omega) (by omega)), xrd_s t_qV, xal_s (x_gt (by omega) (by omega)), xbr_if]
          show (if nowM M u i j ≤ b i j then _ else _) = _
          by_cases h : b i j < nowM M u i j
          · rw [if_neg (Int32.not_le.mpr h), if_pos h, xrd_s t_qV, xal_s (x_other (M := tsf M 0 0) hu (by omega) (by omega)), xrd_s t_qV, xal_s (x_pt hb (by omega) (by omega) _), jI_succ]
            rfl
          · rw [if_pos (Int32.not_lt.mp h), if_neg h, u2_self, jI_succ]
        · unfold fn_X4_join_78 fn_X4_join_126
          rw [xrd_s x_qd, xbr_1 (decide_eq_true (by rw [jI_le (by omega) (by omega)]; omega)), jI_succ]
      · unfold fn_X4_join_67
        rw [xrd_s x_qd, xbr_1 (decide_eq_true (by rw [jI_le (by omega) (by omega)]; omega)), fup2_upd (h := fun i j b => if b < nowM M u i j then nowM M u i j else b), h132]
        rfl
end TW7

set_option maxRecDepth 100000
/-! the twin as it works on a square m of size d, empty if v; M: all else of it -/
def ws (M : TM) (d : Nat) (v : Bool) (m : Mx) : TM := tq (tsf (tsf M 52 (jI d)) 53 (bI v)) m
theorem ws_f {M : TM} {d : Nat} {v : Bool} {m : Mx} {k : Nat} (h1 : k ≠ 52) (h2 : k ≠ 53) : (ws M d v m).1 k = M.1 k := by
  simp [ws, tq, tar, tsf, h1, h2]
theorem ws_d {M : TM} {d : Nat} {v : Bool} {m : Mx} : (ws M d v m).1 52 = jI d := by simp [ws, tq, tar, tsf]
theorem ws_v {M : TM} {d : Nat} {v : Bool} {m : Mx} : (ws M d v m).1 53 = bI v := by simp [ws, tq, tar, tsf]
theorem ws_a {M : TM} {d : Nat} {v : Bool} {m : Mx} {o : Nat} (h : o ≠ 29) : (ws M d v m).2 o = M.2 o := by
  simp [ws, tq, tar, tsf, h]
theorem tsf_cm {M : TM} {k j : Nat} {v w : Int32} (h : k ≠ j) : tsf (tsf M k v) j w = tsf (tsf M j w) k v := by
  refine Prod.ext (funext fun i => ?_) rfl
  simp only [tsf]
  by_cases h1 : i = j
  · subst h1; simp [Ne.symm h]
  · simp [h1]
theorem ws_tq {M : TM} {d : Nat} {v : Bool} {m n : Mx} : tq (ws M d v m) n = ws M d v n := tq_tq
theorem ws_sd {M : TM} {d c : Nat} {v : Bool} {m : Mx} : tsf (ws M d v m) 52 (jI c) = ws M c v m := by
  unfold ws
  rw [tsf_tq, tsf_cm (by decide), tsf_tsf]
theorem ws_sv {M : TM} {d : Nat} {v u : Bool} {m : Mx} : tsf (ws M d v m) 53 (bI u) = ws M d u m := by
  unfold ws
  rw [tsf_tq, tsf_tsf]
theorem ws_self {M : TM} {d : Nat} {v : Bool} (h1 : M.1 52 = jI d) (h2 : M.1 53 = bI v) : ws M d v (fun i j => M.2 29 (62 * i + j)) = M := by
  unfold ws
  rw [← h1, tsf_self, ← h2, tsf_self, tq_eta]
/-- what is said of i less j by a relation and a number -/
def mts (m : Mx) (i j r : Nat) (n : Int32) : Mx :=
  if 2 ≤ r then tgt (if r ≤ 2 then tgt m i j (if r = 0 then 2 * n else 2 * n + 1) else m) j i (if r = 4 then -2 * n else 2 * -n + 1) else (if r ≤ 2 then tgt m i j (if r = 0 then 2 * n else 2 * n + 1) else m)
def wMany (M : TM) (o : Nat) : Nat := (M.2 1 o).toNatClampNeg
def wClk (M : TM) (o k : Nat) : Nat := (M.2 2 (6 * o + k)).toNatClampNeg
def wRel (M : TM) (o k : Nat) : Nat := (M.2 3 (6 * o + k)).toNatClampNeg
def wNum (M : TM) (o k : Nat) : Int32 := M.2 4 (6 * o + k)
/-- whens of an owner are well told, of clocks below c -/
def whOK (M : TM) (c o : Nat) : Prop := M.2 1 o = jI (wMany M o) ∧ wMany M o ≤ 6 ∧ ∀ k, k < wMany M o → M.2 2 (6 * o + k) = jI (wClk M o k) ∧ wClk M o k < c ∧ M.2 3 (6 * o + k) = jI (wRel M o k) ∧ wRel M o k ≤ 4
def whL (M : TM) (o : Nat) (m : Mx) : Mx := fup (fun k m => mts m (wClk M o k + 1) 0 (wRel M o k) (wNum M o k)) (wMany M o) m
/-- whens kept, closed -/
def whM (inf : Int32) (P : Int32 → Bool) (M : TM) (o d : Nat) (m : Mx) : Mx := clK inf P d (whL M o m)
theorem jIc (c i : Nat) : jI c * jI i = jI (c * i) := jI_mul c i
section TW3
variable {N : Nat} {E : Nat → Nat → Nat} {t : Nat} {M : TM} {m : Mx} {S : XS} {i j d c o : Nat} {v : Bool}
theorem x_clos (hb : E 0 0 ≤ t) (hd2 : d ≤ 62) (hN : 62 < N) : fn_X4_closes N E t (tw t (ws M d v m) S) = some ((), tw t (ws M d (v || ngd d (clK FRE isF d m)) (clK FRE isF d m)) S) := by
  have h := x_closes (M := tsf (tsf M 52 (jI d)) 53 (bI v)) (m := m) (S := S) (b0 := v) hb (by simp [tsf]) hd2 hN (by simp [tsf])
  rw [tsf_tsf] at h
  exact h
theorem x_tgt (hb : E 0 0 ≤ t) (hi : i < 62) (hj : j < 62) (b : Int32) : fn_X4_tightens N E t (jI i) (jI j) b (tw t (ws M d v m) S) = some ((), tw t (ws M d v (tgt m i j b)) S) := x_tightens hb hi hj
theorem x_gt (hi : i < 62) (hj : j < 62) : fn_X4_get N E t (jI i) (jI j) (tw t (ws M d v m) S) = some (m i j, tw t (ws M d v m) S) := x_get hi hj
theorem x_pt (hb : E 0 0 ≤ t) (hi : i < 62) (hj : j < 62) (b : Int32) : fn_X4_put N E t (jI i) (jI j) b (tw t (ws M d v m) S) = some ((), tw t (ws M d v (u2 m i j b)) S) := x_put hb hi hj
theorem x_qd : qI (some t) [3] 52 (tw t (ws M d v m) S) = some (jI d) := by rw [t_qI (by decide) rfl, ws_d]
theorem x_qv : qI (some t) [3] 53 (tw t (ws M d v m) S) = some (bI v) := by rw [t_qI (by decide) rfl, ws_v]
/-- a number of the twin's, an array of it, read -/
theorem x_qf (k : Nat) (hk : k < 61) (h : tOrd k = 0) (h1 : k ≠ 52) (h2 : k ≠ 53) : qI (some t) [3] k (tw t (ws M d v m) S) = some (M.1 k) := by
  rw [t_qI hk h, ws_f h1 h2]
theorem x_qa (o : Nat) {i : Nat} (h0 : 0 < o) (h1 : o ≤ 35) (h2 : o ≠ 17) (h3 : o ≠ 29) (hi : i < tLen o) (hl : tLen o < 2147483648) : qA 0 (some (t + o)) (jI i) (tw t (ws M d v m) S) = some (M.2 o i) := by
  rw [t_qA o 0 h0 h1 (by simp [tKd, h2]) hi hl, ws_a h3]
theorem x_meets (hb : E 0 0 ≤ t) (hi : i < 62) (hj : j < 62) {r : Nat} (hr : r ≤ 4) (n : Int32) : fn_X4_meets N E t (jI i) (jI j) (jI r) n (tw t (ws M d v m) S) = some ((), tw t (ws M d v (mts m i j r n)) S) := by
  have h27 : ∀ m1 : Mx, fn_X4_meets_27 N E (jI r) t (jI j) (jI i) n (tw t (ws M d v m1) S) = some ((), tw t (ws M d v (if 2 ≤ r then tgt m1 j i (if r = 4 then -2 * n else 2 * -n + 1) else m1)) S) := by
    intro m1
    unfold fn_X4_meets_27
    by_cases h2 : r < 2
    · rw [xbr_1 (decide_eq_true (by rw [show (2 : Int32) = jI 2 from rfl, jI_lt (by omega) (by omega)]; exact h2)), if_neg (by omega)]
      rfl
    · rw [xbr_0 (decide_eq_false (by rw [show (2 : Int32) = jI 2 from rfl, jI_lt (by omega) (by omega)]; exact h2)), if_pos (by omega)]
      by_cases h4 : r = 4
      · rw [xbr_1 (decide_eq_true (by rw [h4]; rfl)), if_pos h4]
        unfold fn_X4_meets_54
        rw [xrd_s t_qV, xal_s (x_tgt hb hj hi _)]
        rfl
      · rw [xbr_0 (decide_eq_false (by rw [show (4 : Int32) = jI 4 from rfl, jI_inj (by omega) (by omega)]; exact h4)), if_neg h4, xal_s (x_reached _ _)]
        unfold fn_X4_meets_54
        rw [xrd_s t_qV, xal_s (x_tgt hb hj hi _)]
        rfl
  have h24 : ∀ b, fn_X4_meets_24 N E t (jI i) (jI j) (jI r) n b (tw t (ws M d v m) S) = some ((), tw t (ws M d v (if 2 ≤ r then tgt (tgt m i j b) j i (if r = 4 then -2 * n else 2 * -n + 1) else (tgt m i j b))) S) := by
    intro b
    unfold fn_X4_meets_24
    rw [xrd_s t_qV, xal_s (x_tgt hb hi hj _), h27]
  unfold fn_X4_meets mts
  by_cases h2 : 2 < r
  · rw [xbr_1 (decide_eq_true (by rw [show (2 : Int32) = jI 2 from rfl, jI_lt (by omega) (by omega)]; exact h2)), h27, if_neg (show ¬ r ≤ 2 by omega)]
  · rw [xbr_0 (decide_eq_false (by rw [show (2 : Int32) = jI 2 from rfl, jI_lt (by omega) (by omega)]; exact h2)), if_pos (show r ≤ 2 by omega)]
    by_cases h0 : r = 0
    · rw [xbr_1 (decide_eq_true (by rw [h0]; rfl)), h24, if_pos h0]
    · rw [xbr_0 (decide_eq_false (by rw [show (0 : Int32) = jI 0 from rfl, jI_inj (by omega) (by omega)]; exact h0)), xal_s (x_reached _ _), h24, if_neg h0]
theorem x_whens (hb : E 0 0 ≤ t) (hd2 : d ≤ 62) (hN : 62 < N) (ho : o < 24) (hw : whOK M c o) (hc : c < d) :
    fn_X4_whens N E t (jI o) (tw t (ws M d v m) S) = some ((), tw t (ws M d (v || ngd d (whM FRE isF M o d m)) (whM FRE isF M o d m)) S) := by
  obtain ⟨w1, w2, w3⟩ := hw
  unfold fn_X4_whens
  have e6 : (6 : Int32) * jI o = jI (6 * o) := by rw [show (6 : Int32) = jI 6 from rfl, jI_mul]
  rw [e6]
  refine xlp1_fof (6 * o) (wMany M o) (fun k m => mts m (wClk M o k + 1) 0 (wRel M o k) (wNum M o k)) (fun m => tw t (ws M d v m) S) m (fun _ => True) trivial (fun _ _ _ _ => trivial) (fun z b hz _ k => ?_) (fun k => ?_) (by omega)
  · obtain ⟨a1, a2, a3, a4⟩ := w3 z hz
    unfold fn_X4_whens_5
    rw [xrd_s (t_qR 1 (by decide) rfl (by decide)), xrd_s (x_qa 1 (by decide) (by decide) (by decide) (by decide) ho (by decide)), w1, e6, jI_add, xbr_0 (decide_eq_false (by rw [jI_le (by omega) (by omega)]; omega))]
    rw [xrd_s (t_qR 2 (by decide) rfl (by decide)), xrd_s (x_qa 2 (by decide) (by decide) (by decide) (by decide) (show 6 * o + z < 144 by omega) (by decide)), xrd_s (t_qR 3 (by decide) rfl (by decide)), xrd_s (x_qa 3 (by decide) (by decide) (by decide) (by decide) (show 6 * o + z < 144 by omega) (by decide)), xrd_s (t_qR 4 (by decide) rfl (by decide)), xrd_s (x_qa 4 (by decide) (by decide) (by decide) (by decide) (show 6 * o + z < 144 by omega) (by decide)), a1, a3, jI_succ, xrd_s t_qV, show (0 : Int32) = jI 0 from rfl, xal_s (x_meets (i := wClk M o z + 1) (j := 0) hb (by omega) (by omega) a4 _), jI_succ]
    rfl
  · unfold fn_X4_whens_5 fn_X4_whens_51
    rw [xrd_s (t_qR 1 (by decide) rfl (by decide)), xrd_s (x_qa 1 (by decide) (by decide) (by decide) (by decide) ho (by decide)), w1, e6, jI_add, xbr_1 (decide_eq_true (by rw [jI_le (by omega) (by omega)]; omega)), xrd_s t_qV, xal_s (x_clos hb hd2 hN)]
    rfl
theorem x_up (hb : E 0 0 ≤ t) (hd0 : 1 ≤ d) (hd2 : d ≤ 62) (hN : 62 < N) : fn_X4_ups N E t (tw t (ws M d v m) S) = some ((), tw t (ws M d v (upsM FRE d m)) S) := x_ups hb (by simp [tsf]) hd0 hd2 hN
theorem x_down (hb : E 0 0 ≤ t) (hd0 : 1 ≤ d) (hd2 : d ≤ 62) (hN : 62 < N) : fn_X4_downs N E t (tw t (ws M d v m) S) = some ((), tw t (ws M d (v || ngd d (clK FRE isF d (dnM d m))) (clK FRE isF d (dnM d m))) S) := by
  have h := x_downs (M := tsf (tsf M 52 (jI d)) 53 (bI v)) (m := m) (S := S) (b0 := v) hb (by simp [tsf]) hd0 hd2 hN (by simp [tsf])
  rw [tsf_tsf] at h
  exact h
theorem x_set (hb : E 0 0 ≤ t) (hd2 : d ≤ 62) (hN : 62 < N) {x : Nat} (h0 : 0 < x) (hx : x < d) (n : Int32) : fn_X4_sets N E t (jI x) n (tw t (ws M d v m) S) = some ((), tw t (ws M d v (setsM FRE isF x n d m)) S) := x_sets hb (by simp [tsf]) hd2 hN h0 hx n
theorem x_free (hb : E 0 0 ≤ t) (hd2 : d ≤ 62) (hN : 62 < N) {x : Nat} (h0 : 0 < x) (hx : x < d) : fn_X4_frees N E t (jI x) (tw t (ws M d v m) S) = some ((), tw t (ws M d v (u2 (freM FRE x d m) 0 x 1)) S) := x_frees hb (by simp [tsf]) hd2 hN h0 hx
theorem x_nght (hb : E 0 0 ≤ t) (hc : M.1 2 = jI c) (hc2 : c < 62) (hN : 62 < N) : fn_X4_nought N E t (tw t (ws M d v m) S) = some ((), tw t (ws M (c + 1) false (fil (c + 1) (fun _ _ => 1) m)) S) := by
  have h := x_nought (M := tsf (tsf M 52 (jI d)) 53 (bI v)) (m := m) (S := S) hb (show _ = jI c by simp [tsf, hc]) hc2 hN
  refine h.trans ?_
  congr 3
  show tq (tsf (tsf (tsf (tsf M 52 (jI d)) 53 (bI v)) 52 (jI (c + 1))) 53 (bI false)) _ = _
  rw [tsf_cm (show (53 : Nat) ≠ 52 by decide), tsf_tsf, tsf_tsf]
  rfl
theorem x_wde (hb : E 0 0 ≤ t) (hd2 : d ≤ 62) (hN : 62 < N) : fn_X4_wide N E t (tw t (ws M d v m) S) = some ((), tw t (ws M d false (fil d (fun i j => if i = 0 ∨ i = j then 1 else FRE) m)) S) := by
  have h := x_wide (M := tsf (tsf M 52 (jI d)) 53 (bI v)) (m := m) (S := S) hb (by simp [tsf]) hd2 hN
  rw [tsf_tsf] at h
  exact h
/-- stays: whens, time, whens -/
def styM (inf : Int32) (P : Int32 → Bool) (M : TM) (o d : Nat) (m : Mx) : Mx := whM inf P M o d (upsM inf d (whM inf P M o d m))
def styV (inf : Int32) (P : Int32 → Bool) (M : TM) (o d : Nat) (m : Mx) : Bool := ngd d (whM inf P M o d m) || ngd d (styM inf P M o d m)
theorem x_stays (hb : E 0 0 ≤ t) (hd2 : d ≤ 62) (hN : 62 < N) (ho : o < 24) (hw : whOK M c o) (hc : c < d) :
    fn_X4_stays N E t (jI o) (tw t (ws M d v m) S) = some ((), tw t (ws M d (v || styV FRE isF M o d m) (styM FRE isF M o d m)) S) := by
  unfold fn_X4_stays
  rw [xrd_s t_qV, xal_s (x_whens hb hd2 hN ho hw hc), xrd_s t_qV, xal_s (x_up hb (by omega) hd2 hN), xrd_s t_qV, xal_s (x_whens hb hd2 hN ho hw hc), Bool.or_assoc]
  rfl
/-- the sets of an edge -/
def sMany (M : TM) (e : Nat) : Nat := (M.2 7 e).toNatClampNeg
def sClk (M : TM) (e k : Nat) : Nat := (M.2 8 (4 * e + k)).toNatClampNeg
def sNum (M : TM) (e k : Nat) : Int32 := M.2 9 (4 * e + k)
def seOK (M : TM) (c e : Nat) : Prop := M.2 7 e = jI (sMany M e) ∧ sMany M e ≤ 4 ∧ ∀ k, k < sMany M e → M.2 8 (4 * e + k) = jI (sClk M e k) ∧ sClk M e k < c
def seL (inf : Int32) (P : Int32 → Bool) (M : TM) (e d : Nat) (m : Mx) : Mx := fup (fun k m => setsM inf P (sClk M e k + 1) (sNum M e k) d m) (sMany M e) m
def eTo (M : TM) (e : Nat) : Nat := (M.2 6 e).toNatClampNeg
def eFrom (M : TM) (e : Nat) : Nat := (M.2 5 e).toNatClampNeg
/-- an edge is well told: c clocks, p places -/
def edOK (M : TM) (c p e : Nat) : Prop := whOK M c (8 + e) ∧ seOK M c e ∧ M.2 5 e = jI (eFrom M e) ∧ eFrom M e < p ∧ M.2 6 e = jI (eTo M e) ∧ eTo M e < p
def stpM (inf : Int32) (P : Int32 → Bool) (M : TM) (e d : Nat) (m : Mx) : Mx := styM inf P M (eTo M e) d (seL inf P M e d (whM inf P M (8 + e) d m))
def stpV (inf : Int32) (P : Int32 → Bool) (M : TM) (e d : Nat) (m : Mx) : Bool := ngd d (whM inf P M (8 + e) d m) || styV inf P M (eTo M e) d (seL inf P M e d (whM inf P M (8 + e) d m))
theorem x_steps {p e : Nat} (hb : E 0 0 ≤ t) (hd2 : d ≤ 62) (hN : 62 < N) (he : e < 16) (hw : edOK M c p e) (hst : whOK M c (eTo M e)) (hp : p ≤ 8) (hc : c < d) :
    fn_X4_steps N E t (jI e) (tw t (ws M d v m) S) = some ((), tw t (ws M d (v || stpV FRE isF M e d m) (stpM FRE isF M e d m)) S) := by
  obtain ⟨w1, ⟨s1, s2, s3⟩, w3, w4, w5, w6⟩ := hw
  unfold fn_X4_steps
  rw [xrd_s t_qV, show (8 : Int32) = jI 8 from rfl, jI_add, xal_s (x_whens hb hd2 hN (by omega) w1 hc)]
  have e6 : (4 : Int32) * jI e = jI (4 * e) := by rw [show (4 : Int32) = jI 4 from rfl, jI_mul]
  rw [e6]
  generalize hv1 : (v || ngd d (whM FRE isF M (8 + e) d m)) = v1
  have hres : (v || stpV FRE isF M e d m) = (v1 || styV FRE isF M (eTo M e) d (seL FRE isF M e d (whM FRE isF M (8 + e) d m))) := by rw [← hv1, Bool.or_assoc]; rfl
  rw [hres]
  unfold stpM seL
  generalize whM FRE isF M (8 + e) d m = m1
  refine xlp1_fof (4 * e) (sMany M e) (fun k m => setsM FRE isF (sClk M e k + 1) (sNum M e k) d m) (fun m => tw t (ws M d v1 m) S) m1 (fun _ => True) trivial (fun _ _ _ _ => trivial) (fun z b hz _ k => ?_) (fun k => ?_) (by omega)
  · obtain ⟨a1, a2⟩ := s3 z hz
    unfold fn_X4_steps_12
    rw [xrd_s (t_qR 7 (by decide) rfl (by decide)), xrd_s (x_qa 7 (by decide) (by decide) (by decide) (by decide) he (by decide)), s1, e6, jI_add, xbr_0 (decide_eq_false (by rw [jI_le (by omega) (by omega)]; omega)), xrd_s (t_qR 8 (by decide) rfl (by decide)), xrd_s (x_qa 8 (by decide) (by decide) (by decide) (by decide) (show 4 * e + z < 64 by omega) (by decide)), xrd_s (t_qR 9 (by decide) rfl (by decide)), xrd_s (x_qa 9 (by decide) (by decide) (by decide) (by decide) (show 4 * e + z < 64 by omega) (by decide)), a1, jI_succ, xrd_s t_qV, xal_s (x_set (x := sClk M e z + 1) hb hd2 hN (by omega) (by omega) _), jI_succ]
    rfl
  · unfold fn_X4_steps_12 fn_X4_steps_50
    rw [xrd_s (t_qR 7 (by decide) rfl (by decide)), xrd_s (x_qa 7 (by decide) (by decide) (by decide) (by decide) he (by decide)), s1, e6, jI_add, xbr_1 (decide_eq_true (by rw [jI_le (by omega) (by omega)]; omega)), xrd_s (t_qR 6 (by decide) rfl (by decide)), xrd_s (x_qa 6 (by decide) (by decide) (by decide) (by decide) he (by decide)), w5, xrd_s t_qV, xal_s (x_stays hb hd2 hN (by omega) hst hc)]
    rfl
end TW3

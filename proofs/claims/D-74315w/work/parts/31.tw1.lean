set_option maxRecDepth 100000
/-! squares of bounds -/
abbrev Mx : Type := Nat → Nat → Int32
def u2 (m : Mx) (i j : Nat) (v : Int32) : Mx := fun a b => if a = i ∧ b = j then v else m a b
/-- the sum of two finite bounds -/
def ps (a b : Int32) : Int32 := ((a &&& (-2 : Int32)) + (b &&& (-2 : Int32))) ||| ((a &&& b) &&& (1 : Int32))
def gpl (inf : Int32) (P : Int32 → Bool) (a b : Int32) : Int32 := if (P a || P b) = true then inf else ps a b
def tgt (m : Mx) (i j : Nat) (b : Int32) : Mx := if b < m i j then u2 m i j b else m
def clJ (inf : Int32) (P : Int32 → Bool) (k i d : Nat) (m : Mx) : Mx := fup (fun j m => tgt m i j (gpl inf P (m i k) (m k j))) d m
def clI (inf : Int32) (P : Int32 → Bool) (k d : Nat) (m : Mx) : Mx := fup (fun i m => if P (m i k) = true then m else clJ inf P k i d m) d m
def clK (inf : Int32) (P : Int32 → Bool) (d : Nat) (m : Mx) : Mx := fup (fun k m => clI inf P k d m) d m
/-- a diagonal below 0 -/
def ngd (d : Nat) (m : Mx) : Bool := (List.range d).any fun x => decide (m x x < 1)
def bI (b : Bool) : Int32 := if b then 1 else 0
def FRE : Int32 := 1000000
def isF (a : Int32) : Bool := decide (FRE ≤ a)
theorem isF_lt {a : Int32} (h : a < 1000000) : isF a = false := decide_eq_false (Int32.not_le.mpr h)
theorem isF_ge {a : Int32} (h : ¬ a < 1000000) : isF a = true := decide_eq_true (Int32.not_lt.mp h)
/-! the twin's square -/
def tq (M : TM) (m : Mx) : TM := tar M 29 (fun q => m (q / 62) (q % 62))
theorem tq_at {M : TM} {m : Mx} {i j : Nat} (hj : j < 62) : (tq M m).2 29 (62 * i + j) = m i j := by
  have h1 : (62 * i + j) / 62 = i := by omega
  have h2 : (62 * i + j) % 62 = j := by omega
  simp only [tq, tar, if_pos, h1, h2]
theorem tq_set {M : TM} {m : Mx} {i j : Nat} {v : Int32} (hj : j < 62) : tsa (tq M m) 29 (62 * i + j) v = tq M (u2 m i j v) := by
  refine Prod.ext rfl (funext fun p => funext fun q => ?_)
  simp only [tq, tar, tsa, u2]
  by_cases hp : p = 29
  · subst hp
    simp only [true_and, if_true]
    by_cases hq : q = 62 * i + j
    · subst hq
      have h1 : (62 * i + j) / 62 = i := by omega
      have h2 : (62 * i + j) % 62 = j := by omega
      simp [h1, h2]
    · rw [if_neg hq, if_neg]
      rintro ⟨h1, h2⟩
      omega
  · simp only [hp, false_and, if_false]
theorem tq_eta (M : TM) : tq M (fun i j => M.2 29 (62 * i + j)) = M := by
  refine Prod.ext rfl (funext fun p => funext fun q => ?_)
  simp only [tq, tar]
  by_cases hp : p = 29
  · subst hp
    rw [if_pos rfl, show 62 * (q / 62) + q % 62 = q by omega]
  · simp only [hp, if_false]
theorem tsf_tq {M : TM} {m : Mx} {k : Nat} {v : Int32} : tsf (tq M m) k v = tq (tsf M k v) m := rfl
theorem tq_tq {M : TM} {m n : Mx} : tq (tq M m) n = tq M n := by
  refine Prod.ext rfl (funext fun p => funext fun q => ?_)
  simp only [tq, tar]
  by_cases hp : p = 29 <;> simp [hp]
theorem jI62 (i j : Nat) : (62 : Int32) * jI i + jI j = jI (62 * i + j) := by
  rw [show (62 : Int32) = jI 62 from rfl, jI_mul, jI_add]
section TWQ
variable {N : Nat} {E : Nat → Nat → Nat} {t : Nat} {M : TM} {m : Mx} {S : XS} {i j d : Nat} {v : Int32}
theorem x_get (hi : i < 62) (hj : j < 62) : fn_X4_get N E t (jI i) (jI j) (tw t (tq M m) S) = some (m i j, tw t (tq M m) S) := by
  unfold fn_X4_get
  rw [xrd_s (t_qR 29 (by decide) rfl (by decide)), jI62, xrd_s (t_qA 29 0 (by decide) (by decide) rfl (show 62 * i + j < 3844 by omega) (by decide)), tq_at hj]
  rfl
theorem x_put (hb : E 0 0 ≤ t) (hi : i < 62) (hj : j < 62) : fn_X4_put N E t (jI i) (jI j) v (tw t (tq M m) S) = some ((), tw t (tq M (u2 m i j v)) S) := by
  unfold fn_X4_put
  rw [xrd_s (t_qR 29 (by decide) rfl (by decide)), jI62, xwr_s (t_wA 29 0 hb (by decide) (by decide) rfl (show 62 * i + j < 3844 by omega) (by decide)), tq_set hj]
  rfl
theorem x_plus (a b : Int32) (T : XS) : fn_X4_plus N E a b T = some (gpl FRE isF a b, T) := by
  unfold fn_X4_plus fn_X4_plus_14 gpl isF FRE
  by_cases h1 : (1000000 : Int32) ≤ a
  · rw [xbr_1 (decide_eq_true h1)]; simp [h1, xrt]
  · rw [xbr_0 (decide_eq_false h1)]
    by_cases h2 : b < (1000000 : Int32)
    · rw [xbr_1 (decide_eq_true h2)]
      have h3 : ¬ (1000000 : Int32) ≤ b := Int32.not_le.mpr h2
      simp [h1, h3, xrt, ps]
    · rw [xbr_0 (decide_eq_false h2)]
      have h3 : (1000000 : Int32) ≤ b := Int32.not_lt.mp h2
      simp [h1, h3, xrt]
theorem x_tightens (hb : E 0 0 ≤ t) (hi : i < 62) (hj : j < 62) : fn_X4_tightens N E t (jI i) (jI j) v (tw t (tq M m) S) = some ((), tw t (tq M (tgt m i j v)) S) := by
  unfold fn_X4_tightens
  rw [xrd_s t_qV, xal_s (x_get hi hj)]
  by_cases h : v < m i j
  · rw [xbr_0 (decide_eq_false (Int32.not_le.mpr h)), xrd_s t_qV, xal_s (x_put hb hi hj)]
    simp [tgt, h, xrt]
  · rw [xbr_1 (decide_eq_true (Int32.not_lt.mp h))]
    simp [tgt, h, xrt]
/-- the fields that matter here -/
theorem x_dim (hd : M.1 52 = v) : qI (some t) [3] 52 (tw t (tq M m) S) = some v := by
  rw [t_qI (by decide) rfl]; exact congrArg some hd
theorem x_void (hd : M.1 53 = v) : qI (some t) [3] 53 (tw t (tq M m) S) = some v := by
  rw [t_qI (by decide) rfl]; exact congrArg some hd
theorem x_closesJ (hb : E 0 0 ≤ t) (hd : M.1 52 = jI d) (hd2 : d ≤ 62) (hN : 62 < N) {k : Nat} (hk : k < d) (hi : i < d) (kb : Int32 → XS → Option (Unit × XS)) :
    xlp1 (fn_X4_closes_37 N E t kb (jI i) (jI k)) N 0 (tw t (tq M m) S) = kb (jI (i + 1)) (tw t (tq M (clJ FRE isF k i d m)) S) := by
  refine xlp1_fup d (fun j m => tgt m i j (gpl FRE isF (m i k) (m k j))) (fun m => tw t (tq M m) S) m (fun _ => True) trivial (fun _ _ _ _ => trivial) (fun j b hj _ kk => ?_) (fun kk => ?_) (by omega)
  · unfold fn_X4_closes_37
    rw [xrd_s (x_dim hd), xbr_0 (decide_eq_false (by rw [jI_le (by omega) (by omega)]; omega)), xrd_s t_qV, xal_s (x_get (by omega) (by omega)), xrd_s t_qV, xal_s (x_get (by omega) (by omega)), xal_s (x_plus _ _ _), xrd_s t_qV, xal_s (x_tightens hb (by omega) (by omega)), jI_succ]
  · unfold fn_X4_closes_37 fn_X4_closes_72
    rw [xrd_s (x_dim hd), xbr_1 (decide_eq_true (by rw [jI_le (by omega) (by omega)]; exact Nat.le_refl _)), jI_succ]
    rfl
theorem x_closesI (hb : E 0 0 ≤ t) (hd : M.1 52 = jI d) (hd2 : d ≤ 62) (hN : 62 < N) {k : Nat} (hk : k < d) (kb : Int32 → XS → Option (Unit × XS)) :
    xlp1 (fn_X4_closes_12 N E t kb (jI k)) N 0 (tw t (tq M m) S) = kb (jI (k + 1)) (tw t (tq M (clI FRE isF k d m)) S) := by
  refine xlp1_fup d (fun i m => if isF (m i k) = true then m else clJ FRE isF k i d m) (fun m => tw t (tq M m) S) m (fun _ => True) trivial (fun _ _ _ _ => trivial) (fun i b hi _ kk => ?_) (fun kk => ?_) (by omega)
  · unfold fn_X4_closes_12
    rw [xrd_s (x_dim hd), xbr_0 (decide_eq_false (by rw [jI_le (by omega) (by omega)]; omega)), xrd_s t_qV, xal_s (x_get (by omega) (by omega))]
    by_cases h : b i k < 1000000
    · rw [xbr_1 (decide_eq_true h), x_closesJ hb hd hd2 hN hk hi, if_neg (by rw [isF_lt h]; exact Bool.false_ne_true)]
    · rw [xbr_0 (decide_eq_false h), if_pos (isF_ge h)]
      unfold fn_X4_closes_72
      rw [jI_succ]
  · unfold fn_X4_closes_12 fn_X4_closes_78
    rw [xrd_s (x_dim hd), xbr_1 (decide_eq_true (by rw [jI_le (by omega) (by omega)]; exact Nat.le_refl _)), jI_succ]
    rfl
theorem bI_or {a b : Bool} : bI a ||| bI b = bI (a || b) := by cases a <;> cases b <;> rfl
theorem bI_fit (b : Bool) : xfit 1 (bI b) = true := by cases b <;> rfl
theorem x_wv {b0 : Bool} (hb : E 0 0 ≤ t) : wI (E 0 0) (some t) [3] 53 1 (bI b0) (tw t (tq M m) S) = some (tw t (tq (tsf M 53 (bI b0)) m) S) := by
  rw [t_wI hb (by decide) rfl (bI_fit _)]; rfl
theorem tsf_at {M : TM} {k : Nat} {v : Int32} : (tsf M k v).1 k = v := by simp [tsf]
theorem tsf_ne {M : TM} {k j : Nat} {v : Int32} (h : j ≠ k) : (tsf M k v).1 j = M.1 j := by simp [tsf, h]
theorem tsf_tsf {M : TM} {k : Nat} {v w : Int32} : tsf (tsf M k v) k w = tsf M k w := by
  refine Prod.ext (funext fun j => ?_) rfl
  simp only [tsf]
  by_cases h : j = k <;> simp [h]
theorem tsf_self {M : TM} {k : Nat} : tsf M k (M.1 k) = M := by
  refine Prod.ext (funext fun j => ?_) rfl
  simp only [tsf]
  by_cases h : j = k <;> simp [h]
theorem x_closesV (hb : E 0 0 ≤ t) (hd : M.1 52 = jI d) (hd2 : d ≤ 62) (hN : 62 < N) {b0 : Bool} (hv : M.1 53 = bI b0) :
    xlp1 (fn_X4_closes_86 N E t) N 0 (tw t (tq M m) S) = some ((), tw t (tq (tsf M 53 (bI (b0 || ngd d m))) m) S) := by
  have key : ∀ i, i ≤ d → fup (fun i (b : Bool) => b || decide (m i i < 1)) i b0 = (b0 || (List.range i).any fun x => decide (m x x < 1)) := by
    intro i
    induction i with
    | zero => intro _; simp [fup]
    | succ i ih =>
      intro h
      show (_ || _) = _
      rw [ih (by omega), List.range_succ, List.any_append]
      simp [Bool.or_assoc]
  have h0 : tw t (tq M m) S = tw t (tq (tsf M 53 (bI b0)) m) S := by rw [← hv, tsf_self]
  rw [h0]
  refine xlp1_fup d (fun i b => b || decide (m i i < 1)) (fun b => tw t (tq (tsf M 53 (bI b)) m) S) b0 (fun _ => True) trivial (fun _ _ _ _ => trivial) (fun i b hi _ kk => ?_) (fun kk => ?_) (by omega)
  · unfold fn_X4_closes_86 fn_X4_closes_114
    rw [xrd_s (x_dim (v := jI d) (by rw [tsf_ne (by decide)]; exact hd)), xbr_0 (decide_eq_false (by rw [jI_le (by omega) (by omega)]; omega)), xrd_s (x_void tsf_at), xrd_s t_qV, xal_s (x_get (by omega) (by omega))]
    by_cases h : m i i < 1
    · rw [xbr_0 (decide_eq_false (Int32.not_le.mpr h)), xwr_s (T := tw t (tq (tsf M 53 (bI (b || true))) m) S), jI_succ, decide_eq_true h]
      rw [show bI b ||| (1 : Int32) = bI (b || true) from bI_or (b := true), x_wv hb, tsf_tsf]
    · rw [xbr_1 (decide_eq_true (Int32.not_lt.mp h)), xwr_s (T := tw t (tq (tsf M 53 (bI (b || false))) m) S), jI_succ, decide_eq_false h]
      rw [show bI b ||| (0 : Int32) = bI (b || false) from bI_or (b := false), x_wv hb, tsf_tsf]
  · unfold fn_X4_closes_86
    rw [xrd_s (x_dim (v := jI d) (by rw [tsf_ne (by decide)]; exact hd)), xbr_1 (decide_eq_true (by rw [jI_le (by omega) (by omega)]; exact Nat.le_refl _)), key d (Nat.le_refl _)]
    rfl
theorem x_closes (hb : E 0 0 ≤ t) (hd : M.1 52 = jI d) (hd2 : d ≤ 62) (hN : 62 < N) {b0 : Bool} (hv : M.1 53 = bI b0) :
    fn_X4_closes N E t (tw t (tq M m) S) = some ((), tw t (tq (tsf M 53 (bI (b0 || ngd d (clK FRE isF d m)))) (clK FRE isF d m)) S) := by
  unfold fn_X4_closes
  refine xlp1_fup d (fun k m => clI FRE isF k d m) (fun m => tw t (tq M m) S) m (fun _ => True) trivial (fun _ _ _ _ => trivial) (fun k b hk _ kk => ?_) (fun kk => ?_) (by omega)
  · unfold fn_X4_closes_2
    rw [xrd_s (x_dim hd), xbr_0 (decide_eq_false (by rw [jI_le (by omega) (by omega)]; omega)), x_closesI hb hd hd2 hN hk]
  · unfold fn_X4_closes_2 fn_X4_closes_84
    rw [xrd_s (x_dim hd), xbr_1 (decide_eq_true (by rw [jI_le (by omega) (by omega)]; exact Nat.le_refl _)), x_closesV hb hd hd2 hN hv]
    rfl
end TWQ

set_option maxRecDepth 100000
theorem u2_at {m : Mx} {i j : Nat} {v : Int32} : u2 m i j v i j = v := by simp [u2]
/-- two loops that lay a square, whatever it held -/
theorem fill1 {m : Mx} {g : Nat → Nat → Int32} {i : Nat} : ∀ d, fup (fun j m => u2 m i j (g i j)) d m = fun a b => if a = i ∧ b < d then g a b else m a b
  | 0 => by funext a b; simp [fup]
  | d + 1 => by
    show u2 (fup _ d m) i d (g i d) = _
    rw [fill1 d]
    funext a b
    simp only [u2]
    by_cases h : a = i ∧ b = d
    · rw [if_pos h, if_pos ⟨h.1, by omega⟩, h.1, h.2]
    · rw [if_neg h]
      by_cases h2 : a = i ∧ b < d
      · rw [if_pos h2, if_pos ⟨h2.1, by omega⟩]
      · rw [if_neg h2, if_neg]
        rintro ⟨h3, h4⟩
        by_cases h5 : b = d
        · exact h ⟨h3, h5⟩
        · exact h2 ⟨h3, by omega⟩
def fil (d : Nat) (g : Nat → Nat → Int32) (m : Mx) : Mx := fun a b => if a < d ∧ b < d then g a b else m a b
theorem fill2 {m : Mx} {g : Nat → Nat → Int32} {c : Nat} : ∀ d, fup (fun i m => fup (fun j m => u2 m i j (g i j)) c m) d m = fun a b => if a < d ∧ b < c then g a b else m a b
  | 0 => by funext a b; simp [fup]
  | d + 1 => by
    show fup (fun j m => u2 m d j (g d j)) c (fup _ d m) = _
    rw [fill2 d, fill1]
    funext a b
    by_cases h : a = d ∧ b < c
    · rw [if_pos h, if_pos ⟨by omega, h.2⟩]
    · rw [if_neg h]
      by_cases h2 : a < d ∧ b < c
      · rw [if_pos h2, if_pos ⟨by omega, h2.2⟩]
      · rw [if_neg h2, if_neg]
        rintro ⟨h3, h4⟩
        by_cases h5 : a = d
        · exact h ⟨h5, h4⟩
        · exact h2 ⟨by omega, h4⟩
section TW2
variable {N : Nat} {E : Nat → Nat → Nat} {t : Nat} {M : TM} {m : Mx} {S : XS} {i j d : Nat} {v : Int32}
theorem x_nought {c : Nat} (hb : E 0 0 ≤ t) (hc : M.1 2 = jI c) (hc2 : c < 62) (hN : 62 < N) :
    fn_X4_nought N E t (tw t (tq M m) S) = some ((), tw t (tq (tsf (tsf M 52 (jI (c + 1))) 53 0) (fil (c + 1) (fun _ _ => 1) m)) S) := by
  unfold fn_X4_nought
  have h2 : (tq M m).1 2 = jI c := hc
  rw [xrd_s (t_qI (by decide) rfl), h2, jI_succ, xwr_s (t_wI hb (by decide) rfl rfl), xwr_s (t_wI hb (by decide) rfl rfl)]
  have hd : (tsf (tsf M 52 (jI (c + 1))) 53 0).1 52 = jI (c + 1) := by simp [tsf]
  show xlp1 _ N 0 (tw t (tq (tsf (tsf M 52 (jI (c + 1))) 53 0) m) S) = _
  generalize tsf (tsf M 52 (jI (c + 1))) 53 0 = M1 at *
  refine xlp1_fup (c + 1) (fun i m => fup (fun j m => u2 m i j 1) (c + 1) m) (fun m => tw t (tq M1 m) S) m (fun _ => True) trivial (fun _ _ _ _ => trivial) (fun i b hi _ kk => ?_) (fun kk => ?_) (by omega)
  · unfold fn_X4_nought_17
    rw [xrd_s (x_dim hd), xbr_0 (decide_eq_false (by rw [jI_le (by omega) (by omega)]; omega))]
    refine xlp1_fup (c + 1) (fun j m => u2 m i j 1) (fun m => tw t (tq M1 m) S) b (fun _ => True) trivial (fun _ _ _ _ => trivial) (fun j b2 hj _ kk2 => ?_) (fun kk2 => ?_) (by omega)
    · unfold fn_X4_nought_27
      rw [xrd_s (x_dim hd), xbr_0 (decide_eq_false (by rw [jI_le (by omega) (by omega)]; omega)), xrd_s t_qV, xal_s (x_put (i := i) (j := j) hb (by omega) (by omega)), jI_succ]
    · unfold fn_X4_nought_27 fn_X4_nought_48
      rw [xrd_s (x_dim hd), xbr_1 (decide_eq_true (by rw [jI_le (by omega) (by omega)]; omega)), jI_succ]
  · unfold fn_X4_nought_17
    rw [xrd_s (x_dim hd), xbr_1 (decide_eq_true (by rw [jI_le (by omega) (by omega)]; omega)), fill2 (g := fun _ _ => 1)]
    rfl
theorem x_wide (hb : E 0 0 ≤ t) (hd : M.1 52 = jI d) (hd2 : d ≤ 62) (hN : 62 < N) :
    fn_X4_wide N E t (tw t (tq M m) S) = some ((), tw t (tq (tsf M 53 0) (fil d (fun i j => if i = 0 ∨ i = j then 1 else FRE) m)) S) := by
  unfold fn_X4_wide
  rw [xwr_s (t_wI hb (by decide) rfl rfl)]
  have hd1 : (tsf M 53 0).1 52 = jI d := hd
  show xlp1 _ N 0 (tw t (tq (tsf M 53 0) m) S) = _
  generalize tsf M 53 0 = M1 at *
  refine xlp1_fup d (fun i m => fup (fun j m => u2 m i j (if i = 0 ∨ i = j then 1 else FRE)) d m) (fun m => tw t (tq M1 m) S) m (fun _ => True) trivial (fun _ _ _ _ => trivial) (fun i b hi _ kk => ?_) (fun kk => ?_) (by omega)
  · unfold fn_X4_wide_7
    rw [xrd_s (x_dim hd1), xbr_0 (decide_eq_false (by rw [jI_le (by omega) (by omega)]; omega))]
    refine xlp1_fup d (fun j m => u2 m i j (if i = 0 ∨ i = j then 1 else FRE)) (fun m => tw t (tq M1 m) S) b (fun _ => True) trivial (fun _ _ _ _ => trivial) (fun j b2 hj _ kk2 => ?_) (fun kk2 => ?_) (by omega)
    · unfold fn_X4_wide_17 fn_X4_wide_37
      rw [xrd_s (x_dim hd1), xbr_0 (decide_eq_false (by rw [jI_le (by omega) (by omega)]; omega)), xbr_if, xbr_if]
      have e1 : (jI i = 0) ↔ i = 0 := jI_inj (b := 0) (by omega) (by omega)
      have e2 : (jI i = jI j) ↔ i = j := jI_inj (by omega) (by omega)
      unfold fn_X4_wide_44
      simp only [e1, e2, xrd_s t_qV, xal_s (x_put hb (show i < 62 by omega) (show j < 62 by omega)), jI_succ, FRE]
      by_cases h1 : i = 0 <;> by_cases h2 : i = j <;> simp [h1, h2]
    · unfold fn_X4_wide_17 fn_X4_wide_53
      rw [xrd_s (x_dim hd1), xbr_1 (decide_eq_true (by rw [jI_le (by omega) (by omega)]; omega)), jI_succ]
  · unfold fn_X4_wide_7
    rw [xrd_s (x_dim hd1), xbr_1 (decide_eq_true (by rw [jI_le (by omega) (by omega)]; omega)), fill2 (g := fun i j => if i = 0 ∨ i = j then 1 else FRE)]
    rfl
/-- what the time goes on by, forgotten -/
def upsM (inf : Int32) (d : Nat) (m : Mx) : Mx := fun a b => if 1 ≤ a ∧ a < d ∧ b = 0 then inf else m a b
theorem x_ups (hb : E 0 0 ≤ t) (hd : M.1 52 = jI d) (hd0 : 1 ≤ d) (hd2 : d ≤ 62) (hN : 62 < N) :
    fn_X4_ups N E t (tw t (tq M m) S) = some ((), tw t (tq M (upsM FRE d m)) S) := by
  unfold fn_X4_ups
  have h0 : m = upsM FRE 1 m := by funext a b; simp only [upsM]; rw [if_neg (by omega)]
  rw [show tw t (tq M m) S = tw t (tq M (upsM FRE 1 m)) S by rw [← h0]]
  refine xlp1_from _ 1 d (fun i => tw t (tq M (upsM FRE i m)) S) _ hd0 (fun i h1 hi k => ?_) (fun k => ?_) (by omega)
  · unfold fn_X4_ups_2
    rw [xrd_s (x_dim hd), xbr_0 (decide_eq_false (by rw [jI_le (by omega) (by omega)]; omega)), xrd_s t_qV, show (0 : Int32) = jI 0 from rfl, xal_s (x_put (i := i) (j := 0) hb (by omega) (by omega)), jI_succ]
    congr 3
    funext a b
    simp only [u2, upsM, FRE]
    by_cases h : a = i ∧ b = 0
    · rw [if_pos h, if_pos (by omega)]
    · rw [if_neg h]
      by_cases h3 : 1 ≤ a ∧ a < i ∧ b = 0
      · rw [if_pos h3, if_pos (by omega)]
      · rw [if_neg h3, if_neg (by omega)]
  · unfold fn_X4_ups_2
    rw [xrd_s (x_dim hd), xbr_1 (decide_eq_true (by rw [jI_le (by omega) (by omega)]; omega))]
    rfl
/-- row 0 anew -/
def dnM (d : Nat) (m : Mx) : Mx := fun a b => if a = 0 ∧ 1 ≤ b ∧ b < d then 1 else m a b
theorem x_downs (hb : E 0 0 ≤ t) (hd : M.1 52 = jI d) (hd0 : 1 ≤ d) (hd2 : d ≤ 62) (hN : 62 < N) {b0 : Bool} (hv : M.1 53 = bI b0) :
    fn_X4_downs N E t (tw t (tq M m) S) = some ((), tw t (tq (tsf M 53 (bI (b0 || ngd d (clK FRE isF d (dnM d m))))) (clK FRE isF d (dnM d m))) S) := by
  unfold fn_X4_downs
  have h0 : m = dnM 1 m := by funext a b; simp only [dnM]; rw [if_neg (by omega)]
  rw [show tw t (tq M m) S = tw t (tq M (dnM 1 m)) S by rw [← h0]]
  refine xlp1_from _ 1 d (fun i => tw t (tq M (dnM i m)) S) _ hd0 (fun i h1 hi k => ?_) (fun k => ?_) (by omega)
  · unfold fn_X4_downs_2
    rw [xrd_s (x_dim hd), xbr_0 (decide_eq_false (by rw [jI_le (by omega) (by omega)]; omega)), xrd_s t_qV, show (0 : Int32) = jI 0 from rfl, xal_s (x_put (i := 0) (j := i) hb (by omega) (by omega)), jI_succ]
    congr 3
    funext a b
    simp only [u2, dnM]
    by_cases h : a = 0 ∧ b = i
    · rw [if_pos h, if_pos (by omega)]
    · rw [if_neg h]
      by_cases h3 : a = 0 ∧ 1 ≤ b ∧ b < i
      · rw [if_pos h3, if_pos (by omega)]
      · rw [if_neg h3, if_neg (by omega)]
  · unfold fn_X4_downs_2 fn_X4_downs_23
    rw [xrd_s (x_dim hd), xbr_1 (decide_eq_true (by rw [jI_le (by omega) (by omega)]; omega)), xrd_s t_qV, xal_s (x_closes hb hd hd2 hN hv)]
    rfl
theorem x_reached (n : Int32) (T : XS) : fn_X4_reached N E n T = some (2 * n + 1, T) := rfl
theorem x_numberOf (n : Int32) (T : XS) : fn_X4_numberOf N E n T = some (n >>> 1, T) := rfl
/-- a clock set -/
def setsM (inf : Int32) (P : Int32 → Bool) (x : Nat) (n : Int32) (d : Nat) (m : Mx) : Mx := fun a b =>
  if a = x ∧ b ≠ x ∧ b < d then gpl inf P (2 * n + 1) (m 0 b) else if b = x ∧ a ≠ x ∧ a < d then gpl inf P (m a 0) (2 * -n + 1) else m a b
theorem setsM_s {inf : Int32} {P : Int32 → Bool} {x : Nat} {n : Int32} {j : Nat} (h0 : 0 < x) (hj : j ≠ x) : u2 (u2 (setsM inf P x n j m) x j (gpl inf P (2 * n + 1) (setsM inf P x n j m 0 j))) j x (gpl inf P (u2 (setsM inf P x n j m) x j (gpl inf P (2 * n + 1) (setsM inf P x n j m 0 j)) j 0) (2 * -n + 1)) = setsM inf P x n (j + 1) m := by
  have e1 : setsM inf P x n j m 0 j = m 0 j := by simp only [setsM]; rw [if_neg (by omega), if_neg (by omega)]
  have e2 : ∀ v, u2 (setsM inf P x n j m) x j v j 0 = m j 0 := by
    intro v
    simp only [u2, setsM]
    rw [if_neg (by omega), if_neg (by omega), if_neg (by omega)]
  rw [e1, e2]
  funext a b
  simp only [u2, setsM]
  by_cases h1 : a = j ∧ b = x
  · rw [if_pos h1, if_neg (by omega), if_pos (by omega), h1.1]
  · rw [if_neg h1]
    by_cases h2 : a = x ∧ b = j
    · rw [if_pos h2, if_pos (by omega), h2.2]
    · rw [if_neg h2]
      by_cases h3 : a = x ∧ b ≠ x ∧ b < j
      · rw [if_pos h3, if_pos (by omega)]
      · rw [if_neg h3, if_neg (show ¬ (a = x ∧ b ≠ x ∧ b < j + 1) by omega)]
        by_cases h4 : b = x ∧ a ≠ x ∧ a < j
        · rw [if_pos h4, if_pos (by omega)]
        · rw [if_neg h4, if_neg (by omega)]
theorem setsM_x {inf : Int32} {P : Int32 → Bool} {x : Nat} {n : Int32} : setsM inf P x n (x + 1) m = setsM inf P x n x m := by
  funext a b
  simp only [setsM]
  by_cases h3 : a = x ∧ b ≠ x ∧ b < x
  · rw [if_pos h3, if_pos (by omega)]
  · rw [if_neg h3, if_neg (show ¬ (a = x ∧ b ≠ x ∧ b < x + 1) by omega)]
    by_cases h4 : b = x ∧ a ≠ x ∧ a < x
    · rw [if_pos h4, if_pos (by omega)]
    · rw [if_neg h4, if_neg (by omega)]
theorem x_sets (hb : E 0 0 ≤ t) (hd : M.1 52 = jI d) (hd2 : d ≤ 62) (hN : 62 < N) {x : Nat} (h0 : 0 < x) (hx : x < d) (n : Int32) :
    fn_X4_sets N E t (jI x) n (tw t (tq M m) S) = some ((), tw t (tq M (setsM FRE isF x n d m)) S) := by
  unfold fn_X4_sets
  have e0 : m = setsM FRE isF x n 0 m := by funext a b; simp only [setsM]; rw [if_neg (by omega), if_neg (by omega)]
  rw [show tw t (tq M m) S = tw t (tq M (setsM FRE isF x n 0 m)) S by rw [← e0]]
  refine xlp1_up0 _ d (fun i => tw t (tq M (setsM FRE isF x n i m)) S) _ (fun j hj k => ?_) (fun k => ?_) (by omega)
  · unfold fn_X4_sets_2 fn_X4_sets_57
    rw [xrd_s (x_dim hd), xbr_0 (decide_eq_false (by rw [jI_le (by omega) (by omega)]; omega))]
    by_cases hjx : j = x
    · subst hjx
      rw [xbr_1 (decide_eq_true rfl), setsM_x, jI_succ]
    · rw [xbr_0 (decide_eq_false (by rw [jI_inj (by omega) (by omega)]; exact hjx)), xal_s (x_reached _ _), xrd_s t_qV, show (0 : Int32) = jI 0 from rfl, xal_s (x_get (i := 0) (j := j) (by omega) (by omega)), xal_s (x_plus _ _ _), xrd_s t_qV, xal_s (x_put (i := x) (j := j) hb (by omega) (by omega)), xrd_s t_qV, xal_s (x_get (i := j) (j := 0) (by omega) (by omega)), xal_s (x_reached _ _), xal_s (x_plus _ _ _), xrd_s t_qV, xal_s (x_put (i := j) (j := x) hb (by omega) (by omega)), jI_succ, setsM_s h0 hjx]
  · unfold fn_X4_sets_2
    rw [xrd_s (x_dim hd), xbr_1 (decide_eq_true (by rw [jI_le (by omega) (by omega)]; omega))]
    rfl
/-- a clock freed -/
def freM (inf : Int32) (x d : Nat) (m : Mx) : Mx := fun a b => if a = x ∧ b ≠ x ∧ b < d then inf else if b = x ∧ a ≠ x ∧ a < d then m a 0 else m a b
theorem freM_s {inf : Int32} {x j : Nat} (h0 : 0 < x) (hj : j ≠ x) : u2 (u2 (freM inf x j m) x j inf) j x (u2 (freM inf x j m) x j inf j 0) = freM inf x (j + 1) m := by
  have e2 : u2 (freM inf x j m) x j inf j 0 = m j 0 := by
    simp only [u2, freM]
    rw [if_neg (by omega), if_neg (by omega), if_neg (by omega)]
  rw [e2]
  funext a b
  simp only [u2, freM]
  by_cases h1 : a = j ∧ b = x
  · rw [if_pos h1, if_neg (by omega), if_pos (by omega), h1.1]
  · rw [if_neg h1]
    by_cases h2 : a = x ∧ b = j
    · rw [if_pos h2, if_pos (by omega)]
    · rw [if_neg h2]
      by_cases h3 : a = x ∧ b ≠ x ∧ b < j
      · rw [if_pos h3, if_pos (by omega)]
      · rw [if_neg h3, if_neg (show ¬ (a = x ∧ b ≠ x ∧ b < j + 1) by omega)]
        by_cases h4 : b = x ∧ a ≠ x ∧ a < j
        · rw [if_pos h4, if_pos (by omega)]
        · rw [if_neg h4, if_neg (by omega)]
theorem freM_x {inf : Int32} {x : Nat} : freM inf x (x + 1) m = freM inf x x m := by
  funext a b
  simp only [freM]
  by_cases h3 : a = x ∧ b ≠ x ∧ b < x
  · rw [if_pos h3, if_pos (by omega)]
  · rw [if_neg h3, if_neg (show ¬ (a = x ∧ b ≠ x ∧ b < x + 1) by omega)]
    by_cases h4 : b = x ∧ a ≠ x ∧ a < x
    · rw [if_pos h4, if_pos (by omega)]
    · rw [if_neg h4, if_neg (by omega)]
theorem x_frees (hb : E 0 0 ≤ t) (hd : M.1 52 = jI d) (hd2 : d ≤ 62) (hN : 62 < N) {x : Nat} (h0 : 0 < x) (hx : x < d) :
    fn_X4_frees N E t (jI x) (tw t (tq M m) S) = some ((), tw t (tq M (u2 (freM FRE x d m) 0 x 1)) S) := by
  unfold fn_X4_frees
  have e0 : m = freM FRE x 0 m := by funext a b; simp only [freM]; rw [if_neg (by omega), if_neg (by omega)]
  rw [show tw t (tq M m) S = tw t (tq M (freM FRE x 0 m)) S by rw [← e0]]
  refine xlp1_up0 _ d (fun i => tw t (tq M (freM FRE x i m)) S) _ (fun j hj k => ?_) (fun k => ?_) (by omega)
  · unfold fn_X4_frees_2 fn_X4_frees_39
    rw [xrd_s (x_dim hd), xbr_0 (decide_eq_false (by rw [jI_le (by omega) (by omega)]; omega))]
    by_cases hjx : j = x
    · subst hjx
      rw [xbr_1 (decide_eq_true rfl), freM_x, jI_succ]
    · rw [xbr_0 (decide_eq_false (by rw [jI_inj (by omega) (by omega)]; exact hjx)), xrd_s t_qV, xal_s (x_put (i := x) (j := j) hb (by omega) (by omega)), xrd_s t_qV, show (0 : Int32) = jI 0 from rfl, xal_s (x_get (i := j) (j := 0) (by omega) (by omega)), xrd_s t_qV, xal_s (x_put (i := j) (j := x) hb (by omega) (by omega)), jI_succ]
      exact congrArg (fun z => k (jI (j + 1)) (tw t (tq M z) S)) (freM_s h0 hjx)
  · unfold fn_X4_frees_2 fn_X4_frees_45
    rw [xrd_s (x_dim hd), xbr_1 (decide_eq_true (by rw [jI_le (by omega) (by omega)]; omega)), xrd_s t_qV, show (0 : Int32) = jI 0 from rfl, xal_s (x_put (i := 0) (j := x) hb (by omega) (by omega))]
    rfl
end TW2

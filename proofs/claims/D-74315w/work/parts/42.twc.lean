set_option maxRecDepth 100000
/-- how many of the whole times below b for each of c clocks are in it -/
def whoN (g : Nat → Int32) (c b : Nat) (v : Bool) (m : Mx) : Int32 := fup (fun k n => n + bI (!v && hasB isF (c + 1) 1 (digA (updA g 0 0) b k c) m)) (b ^ c) 0
theorem digA_dig {g : Nat → Int32} {b k l j : Nat} : digA (digA g b k j) b l j = digA g b l j := by
  funext z
  simp only [digA]
  by_cases h : 1 ≤ z ∧ z ≤ j
  · rw [if_pos h, if_pos h]
  · rw [if_neg h, if_neg h, if_neg h]
theorem digA_s {g : Nat → Int32} {b k j : Nat} : updA (digA g b k j) (j + 1) (jI (k / b ^ j % b)) = digA g b k (j + 1) := by
  funext z
  simp only [updA, digA]
  by_cases h : z = j + 1
  · rw [if_pos h, if_pos (by omega), h, Nat.add_sub_cancel]
  · rw [if_neg h]
    by_cases h2 : 1 ≤ z ∧ z ≤ j
    · rw [if_pos h2, if_pos (by omega)]
    · rw [if_neg h2, if_neg (by omega)]
section TWC
variable {N : Nat} {E : Nat → Nat → Nat} {t : Nat} {M : TM} {m : Mx} {S : XS} {i j d c o : Nat} {v : Bool}
theorem x_whole81 {b k : Nat} {x5 x6 : Int32} (hb : E 0 0 ≤ t) (hN : 20000 < N) (hc : M.1 2 = jI c) (hc2 : c ≤ 4) (hb1 : 1 ≤ b) (hb2 : b ≤ 10) (hk : k < 2147483648) (kb : Int32 → Int32 → XS → Option (Int32 × XS)) :
    xlp2 (fn_X4_whole_81 N E t kb x5 x6 (jI (b - 1))) N (jI k) 1 (tw t (ws M d v m) S) = fn_X4_whole_117 N E t kb x5 x6 (tw t (ws (tar M 30 (digA (M.2 30) b k c)) d v m) S) := by
  have hp1 : jI (b - 1) + 1 = jI b := by rw [jI_succ]; congr 1; omega
  have key : ∀ (n j : Nat), j ≤ c → c - j < n → xlp2 (fn_X4_whole_81 N E t kb x5 x6 (jI (b - 1))) n (jI (k / b ^ j)) (jI (j + 1)) (tw t (ws (tar M 30 (digA (M.2 30) b k j)) d v m) S) = fn_X4_whole_117 N E t kb x5 x6 (tw t (ws (tar M 30 (digA (M.2 30) b k c)) d v m) S) := by
    intro n
    induction n with
    | zero => intro j _ h; omega
    | succ n ih =>
      intro j hj hn
      have hq : k / b ^ j < 2147483648 := Nat.lt_of_le_of_lt (Nat.div_le_self _ _) hk
      show fn_X4_whole_81 N E t kb x5 x6 (jI (b - 1)) (xlp2 (fn_X4_whole_81 N E t kb x5 x6 (jI (b - 1))) n) (jI (k / b ^ j)) (jI (j + 1)) _ = _
      generalize xlp2 (fn_X4_whole_81 N E t kb x5 x6 (jI (b - 1))) n = KB at ih ⊢
      unfold fn_X4_whole_81
      rw [xrd_s (x_qf 2 (by decide) rfl (by decide) (by decide)), show (tar M 30 (digA (M.2 30) b k j)).1 2 = jI c from hc]
      by_cases h : j < c
      · rw [xbr_0 (decide_eq_false (by rw [jI_lt (by omega) (by omega)]; omega)), xrd_s (t_qR 30 (by decide) rfl (by decide)), hp1]
        have hb0 : ¬ (jI b = 0) := by rw [show (0 : Int32) = jI 0 from rfl, jI_inj (by omega) (by omega)]; omega
        rw [xrd_s (v := jI (k / b ^ j % b)) (by unfold xrm; rw [if_neg hb0, jI_mod hq (by omega)]), xwr_s (x_wa 30 hb (by decide) (by decide) (by decide) (by decide) (show j + 1 < 5 by omega) (by decide)), xrd_s (v := jI (k / b ^ j / b)) (by unfold xdv; rw [if_neg hb0, jI_div hq (by omega)]), tar_tar, tar_at, digA_s, jI_succ, Nat.div_div_eq_div_mul, ← Nat.pow_succ]
        exact ih (j + 1) (by omega) (by omega)
      · have hjc : j = c := by omega
        subst hjc
        rw [xbr_1 (decide_eq_true (by rw [jI_lt (by omega) (by omega)]; omega))]
  have h := key N 0 (Nat.zero_le _) (by omega)
  rw [Nat.pow_zero, Nat.div_one] at h
  have e : digA (M.2 30) b k 0 = M.2 30 := by funext z; simp only [digA]; rw [if_neg (by omega)]
  rw [e, tar_self] at h
  exact h
theorem fup_fst {β : Type} {f : Nat → Int32 × β → Int32 × β} {g : Nat → Int32 → Int32} (h : ∀ k a, (f k a).1 = g k a.1) (a : Int32 × β) : ∀ n, (fup f n a).1 = fup g n a.1
  | 0 => rfl
  | n + 1 => by
    show (f n (fup f n a)).1 = g n (fup g n a.1)
    rw [h, fup_fst h a n]
theorem x_whole117 {x5 x6 : Int32} (hd : d ≤ 5) (hN : 62 < N) (kb : Int32 → Int32 → XS → Option (Int32 × XS)) : fn_X4_whole_117 N E t kb x5 x6 (tw t (ws M d v m) S) = kb (x5 + bI (!v && hasB isF d 1 (M.2 30) m)) (x6 + 1) (tw t (ws M d v m) S) := by
  unfold fn_X4_whole_117 fn_X4_whole_132
  rw [xrd_s t_qV, xal_s (x_hasTimes hd hN)]
  cases !v && hasB isF d 1 (M.2 30) m with
  | true => rw [xbr_0 (by decide)]; rfl
  | false => rw [xbr_1 (by decide)]; rfl
theorem pow_le4 {b c : Nat} (hb : b ≤ 10) (hb1 : 1 ≤ b) (hc : c ≤ 4) : b ^ c ≤ 10000 := by
  have h1 : b ^ c ≤ b ^ 4 := Nat.pow_le_pow_right hb1 hc
  have h2 : b ^ 4 ≤ 10 ^ 4 := Nat.pow_le_pow_left hb 4
  omega
theorem T_whole {w : Nat} {n q : Nat} (hb : E 0 0 ≤ t) (hN : 2000 < N) (hn : M.1 18 = jI n) (hn2 : n ≤ 16) (hc : M.1 2 = jI c) (hc2 : c ≤ 4) (hq : q < 4) (hN2 : 20000 < N) (hw : w ≤ 9) : ∃ h : Nat → Int32, fn_X4_whole N E t (jI q) (jI w) (tw t (ws M d v m) S) = some (whoN (M.2 30) c (w + 1) (nowV M q) (fil (c + 1) (nowM M q) m), tw t (ws (tar (tsf M 0 0) 30 h) (c + 1) (nowV M q) (fil (c + 1) (nowM M q) m)) S) := by
  have hp := pow_le4 (show w + 1 ≤ 10 by omega) (by omega) hc2
  -- the loop over all times
  have h68 : ∀ x3, x3 = jI ((w + 1) ^ c) → ∃ h : Nat → Int32, fn_X4_whole_55 N E t (jI w) x3 (tw t (ws (tsf M 0 0) (c + 1) (nowV M q) (fil (c + 1) (nowM M q) m)) S) = some (whoN (M.2 30) c (w + 1) (nowV M q) (fil (c + 1) (nowM M q) m), tw t (ws (tar (tsf M 0 0) 30 h) (c + 1) (nowV M q) (fil (c + 1) (nowM M q) m)) S) := by
    rintro x3 rfl
    unfold fn_X4_whole_55
    rw [xrd_s (t_qR 30 (by decide) rfl (by decide)), xwr_s (x_wax 30 0 (x := 0) rfl hb (by decide) (by decide) (by decide) (by decide) (show 0 < 5 by omega) (by decide))]
    generalize hg0 : updA ((tsf M 0 0).2 30) 0 0 = g0
    have hwho : ∀ a : Int32 × (Nat → Int32), a.1 = 0 → (fup (fun k (a : Int32 × (Nat → Int32)) => (a.1 + bI (!nowV M q && hasB isF (c + 1) 1 (digA g0 (w + 1) k c) (fil (c + 1) (nowM M q) m)), digA g0 (w + 1) k c)) ((w + 1) ^ c) a).1 = whoN (M.2 30) c (w + 1) (nowV M q) (fil (c + 1) (nowM M q) m) := by
      intro a ha
      rw [fup_fst (g := fun k n => n + bI (!nowV M q && hasB isF (c + 1) 1 (digA g0 (w + 1) k c) (fil (c + 1) (nowM M q) m))) (fun _ _ => rfl), ha, ← hg0]
      rfl
    refine ⟨(fup (fun k (a : Int32 × (Nat → Int32)) => (a.1 + bI (!nowV M q && hasB isF (c + 1) 1 (digA g0 (w + 1) k c) (fil (c + 1) (nowM M q) m)), digA g0 (w + 1) k c)) ((w + 1) ^ c) (0, g0)).2, ?_⟩
    refine xlp2_fup ((w + 1) ^ c) (fun k (a : Int32 × (Nat → Int32)) => (a.1 + bI (!nowV M q && hasB isF (c + 1) 1 (digA g0 (w + 1) k c) (fil (c + 1) (nowM M q) m)), digA g0 (w + 1) k c)) Prod.fst (fun a => tw t (ws (tar (tsf M 0 0) 30 a.2) (c + 1) (nowV M q) (fil (c + 1) (nowM M q) m)) S) (0, g0) (fun a => ∀ l, digA a.2 (w + 1) l c = digA g0 (w + 1) l c) (fun _ => rfl) (fun i b _ _ l => digA_dig) (fun k a hk ha kb => ?_) (fun kb => ?_) (by omega)
    · unfold fn_X4_whole_68
      rw [xbr_0 (decide_eq_false (by rw [jI_le (by omega) (by omega)]; omega)), show jI w = jI (w + 1 - 1) from rfl, show (1 : Int32) = jI 1 from rfl]
      have h81 := x_whole81 (M := tar (tsf M 0 0) 30 a.2) (m := (fil (c + 1) (nowM M q) m)) (S := S) (d := c + 1) (v := nowV M q) (b := w + 1) (k := k) (x5 := a.1) (x6 := jI k) hb hN2 hc hc2 (by omega) (by omega) (by omega) kb
      refine h81.trans ?_
      rw [tar_tar, tar_at, x_whole117 (by omega) (by omega), tar_at, ha k, jI_succ]
      rfl
    · unfold fn_X4_whole_68
      rw [xbr_1 (decide_eq_true (by rw [jI_le (by omega) (by omega)]; omega)), hwho _ rfl]
      rfl
  unfold fn_X4_whole
  rw [xwr_s (x_thr0 hb), xal_s (x_isTable _ _), isTab hq, xbr_0 (by decide)]
  have hw9 : isInB (jI w) 0 9 = true := isInB_iff.mpr ⟨(jI_le (a := 0) (by omega) (by omega)).mpr (by omega), (jI_le (b := 9) (by omega) (by omega)).mpr (by omega)⟩
  rw [xal_s (x_isIn _ _ _ _), hw9, xbr_0 (by decide), xrd_s t_qV, xal_s (x_loads (M := tsf M 0 0) (c := c) hb hc hc2 (by omega) hq)]
  obtain ⟨h, hh⟩ := h68 _ rfl
  refine ⟨h, ?_⟩
  have hpw : ∀ k, fup (fun _ n => n * jI (w + 1)) k (1 : Int32) = jI ((w + 1) ^ k) := by
    intro k
    induction k with
    | zero => rfl
    | succ k ih =>
      show fup _ k 1 * jI (w + 1) = _
      rw [ih, jI_mul, Nat.pow_succ]
  refine xlp2_fup c (fun _ n => n * jI (w + 1)) id (fun _ => tw t (ws (tsf M 0 0) (c + 1) (nowV M q) (fil (c + 1) (nowM M q) m)) S) 1 (fun _ => True) trivial (fun _ _ _ _ => trivial) (fun k n hk _ kb => ?_) (fun kb => ?_) (by omega)
  · unfold fn_X4_whole_34
    rw [xrd_s (x_qf 2 (by decide) rfl (by decide) (by decide)), show (tsf M 0 0).1 2 = jI c from hc, xbr_0 (decide_eq_false (by rw [jI_le (by omega) (by omega)]; omega)), jI_succ, jI_succ]
    rfl
  · unfold fn_X4_whole_34
    rw [xrd_s (x_qf 2 (by decide) rfl (by decide) (by decide)), show (tsf M 0 0).1 2 = jI c from hc, xbr_1 (decide_eq_true (by rw [jI_le (by omega) (by omega)]; omega)), hpw]
    exact hh
end TWC

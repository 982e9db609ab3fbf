set_option maxRecDepth 100000
theorem ws_sa {M : TM} {d : Nat} {v : Bool} {m : Mx} {o i : Nat} {w : Int32} (h : o ≠ 29) : tsa (ws M d v m) o i w = ws (tsa M o i w) d v m := by
  refine Prod.ext rfl (funext fun p => funext fun q => ?_)
  simp only [ws, tq, tar, tsf, tsa]
  by_cases hp : p = 29
  · subst hp; simp [Ne.symm h]
  · simp [hp]
theorem ws_sf {M : TM} {d : Nat} {v : Bool} {m : Mx} {k : Nat} {w : Int32} (h1 : k ≠ 52) (h2 : k ≠ 53) : tsf (ws M d v m) k w = ws (tsf M k w) d v m := by
  unfold ws
  rw [tsf_tq, tsf_cm (Ne.symm h2), tsf_cm (Ne.symm h1)]
theorem jI_sub {a b : Nat} (h : b ≤ a) : jI a - jI b = jI (a - b) := by
  obtain ⟨c, rfl⟩ : ∃ c, a = c + b := ⟨a - b, by omega⟩
  rw [Nat.add_sub_cancel, ← jI_add]
  exact Int32.add_sub_cancel ..
def updA (a : Nat → Int32) (z : Nat) (v : Int32) : Nat → Int32 := fun y => if y = z then v else a y
theorem tsa_tar {M : TM} {o z : Nat} {v : Int32} : tsa M o z v = tar M o (updA (M.2 o) z v) := by
  refine Prod.ext rfl (funext fun p => funext fun q => ?_)
  simp only [tsa, tar]
  by_cases hp : p = o
  · subst hp; by_cases hq : q = z <;> simp [hq, updA]
  · simp [hp]
theorem tar_tar {M : TM} {o : Nat} {g h : Nat → Int32} : tar (tar M o g) o h = tar M o h := by
  refine Prod.ext rfl (funext fun p => ?_)
  simp only [tar]
  by_cases hp : p = o <;> simp [hp]
theorem tar_at {M : TM} {o : Nat} {g : Nat → Int32} : (tar M o g).2 o = g := by simp [tar]
theorem tar_ne {M : TM} {o p : Nat} {g : Nat → Int32} (h : p ≠ o) : (tar M o g).2 p = M.2 p := by simp [tar, h]
theorem tar_self {M : TM} {o : Nat} : tar M o (M.2 o) = M := by
  refine Prod.ext rfl (funext fun p => ?_)
  simp only [tar]
  by_cases hp : p = o <;> simp [hp]
theorem tar_fup {M : TM} {o : Nat} {h : Nat → (Nat → Int32) → Nat → Int32} : ∀ n, fup (fun i M => tar M o (h i (M.2 o))) n M = tar M o (fup h n (M.2 o))
  | 0 => (tar_self).symm
  | n + 1 => by
    show tar (fup _ n M) o (h n ((fup _ n M).2 o)) = _
    rw [tar_fup n, tar_tar, tar_at]
    rfl
theorem row_fup {a : Nat → Int32} {b : Nat} {g : Nat → Int32} : ∀ n, fup (fun j A => updA A (b + j) (g j)) n a = fun z => if b ≤ z ∧ z < b + n then g (z - b) else a z
  | 0 => by
    funext z
    show a z = _
    rw [if_neg (by omega)]
  | n + 1 => by
    show updA (fup _ n a) (b + n) (g n) = _
    rw [row_fup n]
    funext z
    simp only [updA]
    by_cases h : z = b + n
    · rw [if_pos h, if_pos (by omega), h, show b + n - b = n by omega]
    · rw [if_neg h]
      by_cases h2 : b ≤ z ∧ z < b + n
      · rw [if_pos h2, if_pos (by omega)]
      · rw [if_neg h2, if_neg (by omega)]
/-- a square laid into a row, five to a line -/
def sqA (a : Nat → Int32) (b d : Nat) (g : Mx) : Nat → Int32 := fun z => if b ≤ z ∧ (z - b) / 5 < d ∧ (z - b) % 5 < d then g ((z - b) / 5) ((z - b) % 5) else a z
theorem sqA_fup {a : Nat → Int32} {b d : Nat} {g : Mx} (hd : d ≤ 5) : ∀ n, fup (fun i A => fun z => if b + 5 * i ≤ z ∧ z < b + 5 * i + d then g i (z - (b + 5 * i)) else A z) n a = fun z => if b ≤ z ∧ (z - b) / 5 < n ∧ (z - b) % 5 < d then g ((z - b) / 5) ((z - b) % 5) else a z
  | 0 => by
    funext z
    show a z = _
    rw [if_neg (by omega)]
  | n + 1 => by
    show (fun z => if b + 5 * n ≤ z ∧ z < b + 5 * n + d then g n (z - (b + 5 * n)) else (fup _ n a) z) = _
    rw [sqA_fup hd n]
    funext z
    dsimp only
    by_cases h : b + 5 * n ≤ z ∧ z < b + 5 * n + d
    · have h1 : (z - b) / 5 = n := by omega
      have h2 : (z - b) % 5 = z - (b + 5 * n) := by omega
      rw [if_pos h, if_pos (by omega), h1, h2]
    · rw [if_neg h]
      by_cases h2 : b ≤ z ∧ (z - b) / 5 < n ∧ (z - b) % 5 < d
      · rw [if_pos h2, if_pos (by omega)]
      · rw [if_neg h2, if_neg (by omega)]
section TW5
variable {N : Nat} {E : Nat → Nat → Nat} {t : Nat} {M : TM} {m : Mx} {S : XS} {i j d c o : Nat} {v : Bool}
theorem x_wf {w : Int32} (hb : E 0 0 ≤ t) (k ty : Nat) (hk : k < 61) (h : tOrd k = 0) (h1 : k ≠ 52) (h2 : k ≠ 53) (hf : xfit ty w = true) : wI (E 0 0) (some t) [3] k ty w (tw t (ws M d v m) S) = some (tw t (ws (tsf M k w) d v m) S) := by
  rw [t_wI hb hk h hf, ws_sf h1 h2]
theorem x_wd (hb : E 0 0 ≤ t) : wI (E 0 0) (some t) [3] 52 0 (jI c) (tw t (ws M d v m) S) = some (tw t (ws M c v m) S) := by
  rw [t_wI hb (by decide) rfl rfl, ws_sd]
theorem x_wvv (hb : E 0 0 ≤ t) (u : Bool) : wI (E 0 0) (some t) [3] 53 1 (bI u) (tw t (ws M d v m) S) = some (tw t (ws M d u m) S) := by
  rw [t_wI hb (by decide) rfl (bI_fit _), ws_sv]
/-- an array of the twin's, written -/
theorem x_wa (o : Nat) {i : Nat} {w : Int32} (hb : E 0 0 ≤ t) (h0 : 0 < o) (h1 : o ≤ 35) (h2 : o ≠ 17) (h3 : o ≠ 29) (hi : i < tLen o) (hl : tLen o < 2147483648) : wA (E 0 0) 0 (some (t + o)) (jI i) w (tw t (ws M d v m) S) = some (tw t (ws (tar M o (updA (M.2 o) i w)) d v m) S) := by
  rw [t_wA o 0 hb h0 h1 (by simp [tKd, h2]) hi hl, ws_sa h3, tsa_tar]
  rfl
/-- a table of the row 'now' -/
def nowM (M : TM) (q : Nat) : Mx := fun i j => M.2 11 (25 * q + 5 * i + j)
def nowV (M : TM) (q : Nat) : Bool := decide (M.2 11 (100 + q) = 1)
theorem jI25 (q i j : Nat) : (25 : Int32) * jI q + (5 : Int32) * jI i + jI j = jI (25 * q + 5 * i + j) := by
  rw [show (25 : Int32) = jI 25 from rfl, show (5 : Int32) = jI 5 from rfl, jI_mul, jI_mul, jI_add, jI_add]
theorem x_loads {q : Nat} (hb : E 0 0 ≤ t) (hc : M.1 2 = jI c) (hc2 : c ≤ 4) (hN : 62 < N) (hq : q < 4) :
    fn_X4_loads N E t (jI q) (tw t (ws M d v m) S) = some ((), tw t (ws M (c + 1) (nowV M q) (fil (c + 1) (nowM M q) m)) S) := by
  have key : ∀ u : Bool, fn_X4_loads_29 N E t (jI q) (bI u) (tw t (ws M (c + 1) v m) S) = some ((), tw t (ws M (c + 1) u (fil (c + 1) (nowM M q) m)) S) := by
    intro u
    unfold fn_X4_loads_29
    rw [xwr_s (x_wvv hb u)]
    refine xlp1_fup (c + 1) (fun i m => fup (fun j m => u2 m i j (nowM M q i j)) (c + 1) m) (fun m => tw t (ws M (c + 1) u m) S) m (fun _ => True) trivial (fun _ _ _ _ => trivial) (fun i b hi _ kk => ?_) (fun kk => ?_) (by omega)
    · unfold fn_X4_loads_34
      rw [xrd_s x_qd, xbr_0 (decide_eq_false (by rw [jI_le (by omega) (by omega)]; omega))]
      refine xlp1_fup (c + 1) (fun j m => u2 m i j (nowM M q i j)) (fun m => tw t (ws M (c + 1) u m) S) b (fun _ => True) trivial (fun _ _ _ _ => trivial) (fun j b hj _ k => ?_) (fun k => ?_) (by omega)
      · unfold fn_X4_loads_44
        rw [xrd_s x_qd, xbr_0 (decide_eq_false (by rw [jI_le (by omega) (by omega)]; omega)), xrd_s (t_qR 11 (by decide) rfl (by decide)), jI25, xrd_s (x_qa 11 (by decide) (by decide) (by decide) (by decide) (show 25 * q + 5 * i + j < 125 by omega) (by decide)), xrd_s t_qV, xal_s (x_pt hb (by omega) (by omega) _), jI_succ]
        rfl
      · unfold fn_X4_loads_44 fn_X4_loads_79
        rw [xrd_s x_qd, xbr_1 (decide_eq_true (by rw [jI_le (by omega) (by omega)]; omega)), jI_succ]
    · unfold fn_X4_loads_34
      rw [xrd_s x_qd, xbr_1 (decide_eq_true (by rw [jI_le (by omega) (by omega)]; omega)), fill2 (g := nowM M q)]
      rfl
  unfold fn_X4_loads
  rw [xrd_s (x_qf 2 (by decide) rfl (by decide) (by decide)), hc, jI_succ, xwr_s (x_wd hb), xrd_s (t_qR 11 (by decide) rfl (by decide)), show (100 : Int32) = jI 100 from rfl, jI_add, xrd_s (x_qa 11 (by decide) (by decide) (by decide) (by decide) (show 100 + q < 125 by omega) (by decide)), xbr_if]
  by_cases h : M.2 11 (100 + q) = 1
  · rw [if_pos h]
    have e : nowV M q = true := decide_eq_true h
    rw [e]
    exact key true
  · rw [if_neg h]
    have e : nowV M q = false := decide_eq_false h
    rw [e]
    exact key false
def nodM (M : TM) (k : Nat) : Mx := fun i j => M.2 16 (25 * k + 5 * i + j)
theorem x_loadsNode {q : Nat} (hb : E 0 0 ≤ t) (hc : M.1 2 = jI c) (hc2 : c ≤ 4) (hN : 62 < N) (hq : q < 60) :
    fn_X4_loadsNode N E t (jI q) (tw t (ws M d v m) S) = some ((), tw t (ws M (c + 1) false (fil (c + 1) (nodM M q) m)) S) := by
  unfold fn_X4_loadsNode
  rw [xrd_s (x_qf 2 (by decide) rfl (by decide) (by decide)), hc, jI_succ, xwr_s (x_wd hb), show (0 : Int32) = bI false from rfl, xwr_s (x_wvv hb false)]
  refine xlp1_fup (c + 1) (fun i m => fup (fun j m => u2 m i j (nodM M q i j)) (c + 1) m) (fun m => tw t (ws M (c + 1) false m) S) m (fun _ => True) trivial (fun _ _ _ _ => trivial) (fun i b hi _ kk => ?_) (fun kk => ?_) (by omega)
  · unfold fn_X4_loadsNode_17
    rw [xrd_s x_qd, xbr_0 (decide_eq_false (by rw [jI_le (by omega) (by omega)]; omega))]
    refine xlp1_fup (c + 1) (fun j m => u2 m i j (nodM M q i j)) (fun m => tw t (ws M (c + 1) false m) S) b (fun _ => True) trivial (fun _ _ _ _ => trivial) (fun j b hj _ k => ?_) (fun k => ?_) (by omega)
    · unfold fn_X4_loadsNode_27
      rw [xrd_s x_qd, xbr_0 (decide_eq_false (by rw [jI_le (by omega) (by omega)]; omega)), xrd_s (t_qR 16 (by decide) rfl (by decide)), jI25, xrd_s (x_qa 16 (by decide) (by decide) (by decide) (by decide) (show 25 * q + 5 * i + j < 1500 by omega) (by decide)), xrd_s t_qV, xal_s (x_pt hb (by omega) (by omega) _), jI_succ]
      rfl
    · unfold fn_X4_loadsNode_27 fn_X4_loadsNode_62
      rw [xrd_s x_qd, xbr_1 (decide_eq_true (by rw [jI_le (by omega) (by omega)]; omega)), jI_succ]
  · unfold fn_X4_loadsNode_17
    rw [xrd_s x_qd, xbr_1 (decide_eq_true (by rw [jI_le (by omega) (by omega)]; omega)), fill2 (g := nodM M q)]
    rfl
/-- the square, laid as table q -/
def stoA (a : Nat → Int32) (q d : Nat) (v : Bool) (m : Mx) : Nat → Int32 := updA (sqA a (25 * q) d m) (100 + q) (bI v)
theorem x_stores {q : Nat} (hb : E 0 0 ≤ t) (hd : d ≤ 5) (hN : 62 < N) (hq : q < 4) :
    fn_X4_stores N E t (jI q) (tw t (ws M d v m) S) = some ((), tw t (ws (tar M 11 (stoA (M.2 11) q d v m)) d v m) S) := by
  unfold fn_X4_stores
  refine xlp1_fup d (fun i M => tar M 11 (fun z => if 25 * q + 5 * i ≤ z ∧ z < 25 * q + 5 * i + d then m i (z - (25 * q + 5 * i)) else M.2 11 z)) (fun M => tw t (ws M d v m) S) M (fun _ => True) trivial (fun _ _ _ _ => trivial) (fun i b hi _ kk => ?_) (fun kk => ?_) (by omega)
  · unfold fn_X4_stores_2
    rw [xrd_s x_qd, xbr_0 (decide_eq_false (by rw [jI_le (by omega) (by omega)]; omega))]
    refine xlp1_fup d (fun j M => tar M 11 (updA (M.2 11) (25 * q + 5 * i + j) (m i j))) (fun M => tw t (ws M d v m) S) b (fun _ => True) trivial (fun _ _ _ _ => trivial) (fun j b hj _ k => ?_) (fun k => ?_) (by omega)
    · unfold fn_X4_stores_12
      rw [xrd_s x_qd, xbr_0 (decide_eq_false (by rw [jI_le (by omega) (by omega)]; omega)), xrd_s (t_qR 11 (by decide) rfl (by decide)), xrd_s t_qV, xal_s (x_gt (by omega) (by omega)), jI25, xwr_s (x_wa 11 hb (by decide) (by decide) (by decide) (by decide) (show 25 * q + 5 * i + j < 125 by omega) (by decide)), jI_succ]
    · unfold fn_X4_stores_12 fn_X4_stores_47
      rw [xrd_s x_qd, xbr_1 (decide_eq_true (by rw [jI_le (by omega) (by omega)]; omega)), jI_succ, tar_fup (h := fun j A => updA A (25 * q + 5 * i + j) (m i j)), row_fup]
  · unfold fn_X4_stores_2 fn_X4_stores_53
    rw [xrd_s x_qd, xbr_1 (decide_eq_true (by rw [jI_le (by omega) (by omega)]; omega)), tar_fup (h := fun i A => fun z => if 25 * q + 5 * i ≤ z ∧ z < 25 * q + 5 * i + d then m i (z - (25 * q + 5 * i)) else A z), sqA_fup hd, xrd_s (t_qR 11 (by decide) rfl (by decide)), xrd_s x_qv]
    have key : ∀ u : Bool, fn_X4_stores_73 N E (some (t + 11)) (jI q) (bI u) (tw t (ws (tar M 11 (sqA (M.2 11) (25 * q) d m)) d v m) S) = some ((), tw t (ws (tar M 11 (updA (sqA (M.2 11) (25 * q) d m) (100 + q) (bI u))) d v m) S) := by
      intro u
      unfold fn_X4_stores_73
      rw [show (100 : Int32) = jI 100 from rfl, jI_add, xwr_s (x_wa 11 hb (by decide) (by decide) (by decide) (by decide) (show 100 + q < 125 by omega) (by decide)), tar_tar, tar_at]
      rfl
    cases v with
    | true => rw [xbr_0 (by decide)]; exact key true
    | false => rw [xbr_1 (by decide)]; exact key false
/-- what can be undone, one more -/
def kpN (n : Nat) : Nat := if n = 16 then 15 else n
def kpA (p w : Nat → Int32) (n : Nat) : Nat → Int32 := fun z => if 125 * kpN n ≤ z ∧ z < 125 * kpN n + 125 then w (z - 125 * kpN n) else if n = 16 ∧ z < 1875 then p (z + 125) else p z
def kpT (M : TM) (n : Nat) : TM := tsf (tar M 12 (kpA (M.2 12) (M.2 11) n)) 18 (jI (kpN n + 1))
theorem x_keeps {n : Nat} (hb : E 0 0 ≤ t) (hN : 2000 < N) (hn : M.1 18 = jI n) (hn2 : n ≤ 16) : fn_X4_keeps N E t (tw t (ws M d v m) S) = some ((), tw t (ws (kpT M n) d v m) S) := by
  have key : ∀ (M : TM) (q : Nat), M.1 18 = jI q → q ≤ 15 → fn_X4_keeps_50 N E t (tw t (ws M d v m) S) = some ((), tw t (ws (tsf (tar M 12 (fun z => if 125 * q ≤ z ∧ z < 125 * q + 125 then M.2 11 (z - 125 * q) else M.2 12 z)) 18 (jI (q + 1))) d v m) S) := by
    intro M q hq hq2
    unfold fn_X4_keeps_50
    refine xlp1_fup 125 (fun k M' => tar M' 12 (updA (M'.2 12) (125 * q + k) (M.2 11 k))) (fun M => tw t (ws M d v m) S) M (fun M' => M'.1 = M.1 ∧ M'.2 11 = M.2 11) ⟨rfl, rfl⟩ (fun _ M' _ hM => ⟨hM.1, by rw [tar_ne (by decide)]; exact hM.2⟩) (fun i b hi hM k => ?_) (fun k => ?_) (by omega)
    · unfold fn_X4_keeps_52
      rw [xbr_0 (decide_eq_false (by rw [show (125 : Int32) = jI 125 from rfl, jI_le (by omega) (by omega)]; omega)), xrd_s (t_qR 12 (by decide) rfl (by decide)), xrd_s (x_qf 18 (by decide) rfl (by decide) (by decide)), hM.1, hq, xrd_s (t_qR 11 (by decide) rfl (by decide)), xrd_s (x_qa 11 (by decide) (by decide) (by decide) (by decide) hi (by decide)), show (125 : Int32) = jI 125 from rfl, jI_mul, jI_add, xwr_s (x_wa 12 hb (by decide) (by decide) (by decide) (by decide) (show 125 * q + i < 2000 by omega) (by decide)), jI_succ, hM.2]
    · unfold fn_X4_keeps_52 fn_X4_keeps_84
      rw [xbr_1 (by decide), tar_fup (h := fun k A => updA A (125 * q + k) (M.2 11 k)), row_fup, xrd_s (x_qf 18 (by decide) rfl (by decide) (by decide)), show (tar M 12 (fun z => if 125 * q ≤ z ∧ z < 125 * q + 125 then M.2 11 (z - 125 * q) else M.2 12 z)).1 18 = jI q from hq, jI_succ, xwr_s (x_wf hb 18 0 (by decide) rfl (by decide) (by decide) rfl)]
      rfl
  unfold fn_X4_keeps
  rw [xrd_s (x_qf 18 (by decide) rfl (by decide) (by decide)), hn, xbr_if]
  by_cases h16 : n = 16
  · subst h16
    rw [if_pos (show jI 16 = (16 : Int32) from rfl)]
    refine (xlp1_fof (a := M) 125 1875 (fun k M' => tar M' 12 (updA (M'.2 12) (0 + k) (M'.2 12 (k + 125)))) (fun M => tw t (ws M d v m) S) (fun M' => M'.1 = M.1 ∧ M'.2 11 = M.2 11) ⟨rfl, rfl⟩ (fun _ M' _ hM => ⟨hM.1, by rw [tar_ne (by decide)]; exact hM.2⟩) (fun i b hi hM k => ?_) (fun k => ?_) (by omega))
    · unfold fn_X4_keeps_12
      rw [xbr_0 (decide_eq_false (by rw [show (2000 : Int32) = jI 2000 from rfl, jI_le (by omega) (by omega)]; omega)), xrd_s (t_qR 12 (by decide) rfl (by decide)), xrd_s (t_qR 12 (by decide) rfl (by decide)), xrd_s (x_qa 12 (by decide) (by decide) (by decide) (by decide) (show 125 + i < 2000 by omega) (by decide)), show jI (125 + i) - 125 = jI (0 + i) by (rw [show (125 : Int32) = jI 125 from rfl, jI_sub (by omega)]; congr 1; omega), xwr_s (x_wa 12 hb (by decide) (by decide) (by decide) (by decide) (show 0 + i < 2000 by omega) (by decide)), jI_succ, Nat.add_comm 125 i]
    · have hsh : ∀ q, q ≤ 1875 → fup (fun k A => updA A (0 + k) (A (k + 125))) q (M.2 12) = fun z => if z < q then M.2 12 (z + 125) else M.2 12 z := by
        intro q
        induction q with
        | zero => intro _; funext z; show M.2 12 z = _; rw [if_neg (by omega)]
        | succ q ih =>
          intro hq
          show updA (fup _ q (M.2 12)) (0 + q) (fup _ q (M.2 12) (q + 125)) = _
          rw [ih (by omega)]
          funext z
          simp only [updA]
          by_cases h : z = 0 + q
          · rw [if_pos h, if_neg (by omega), if_pos (by omega), h, Nat.zero_add]
          · rw [if_neg h]
            by_cases h2 : z < q
            · rw [if_pos h2, if_pos (by omega)]
            · rw [if_neg h2, if_neg (by omega)]
      unfold fn_X4_keeps_12 fn_X4_keeps_40
      rw [xbr_1 (by decide), tar_fup (h := fun k A => updA A (0 + k) (A (k + 125))), hsh 1875 (Nat.le_refl _), xrd_s (x_qf 18 (by decide) rfl (by decide) (by decide)), show (tar M 12 (fun z => if z < 1875 then M.2 12 (z + 125) else M.2 12 z)).1 18 = jI 16 from hn, show jI 16 - (1 : Int32) = jI 15 from rfl, xwr_s (x_wf hb 18 0 (by decide) rfl (by decide) (by decide) rfl), key _ 15 (by simp [tsf]) (by omega)]
      congr 4
      unfold kpT
      refine Prod.ext (funext fun z => ?_) (funext fun p => funext fun z => ?_)
      · simp only [tsf, tar, kpN]
        by_cases hz : z = 18 <;> simp [hz]
      · simp only [tsf, tar, kpA, kpN]
        by_cases hp : p = 12
        · subst hp; simp [kpA, kpN]
        · simp [hp]
  · rw [if_neg (by rw [show (16 : Int32) = jI 16 from rfl, jI_inj (by omega) (by omega)]; exact h16), key M n hn (by omega)]
    unfold kpT kpA kpN
    simp only [if_neg h16, h16, false_and, if_false]
theorem x_becomes {n q : Nat} (hb : E 0 0 ≤ t) (hN : 2000 < N) (hd : d ≤ 5) (hn : M.1 18 = jI n) (hn2 : n ≤ 16) (hq : q < 4) :
    fn_X4_becomesTable N E t (jI q) (tw t (ws M d v m) S) = some (if (!v && farB isF d m) = true then -2 else bI !v, tw t (ws (if (!v && farB isF d m) = true then M else tar (kpT M n) 11 (stoA (M.2 11) q d v m)) d v m) S) := by
  unfold fn_X4_becomesTable
  rw [xrd_s t_qV, xal_s (x_isFar (by omega) (by omega))]
  cases hF : (!v && farB isF d m) with
  | true => rw [xbr_0 (by decide)]; rfl
  | false =>
    rw [xbr_1 (by decide), xrd_s t_qV, xal_s (x_keeps hb hN hn hn2), xrd_s t_qV, xal_s (x_stores hb hd (by omega) hq), xrd_s x_qv, if_neg Bool.false_ne_true, if_neg Bool.false_ne_true, show (kpT M n).2 11 = M.2 11 by simp [kpT, tsf, tar]]
    cases v <;> rfl
/-- the last that was done, undone -/
def unT (M : TM) (n : Nat) : TM := tar (tsf M 18 (jI (n - 1))) 11 (fun z => if z < 125 then M.2 12 (125 * (n - 1) + z) else M.2 11 z)
theorem x_undo {n : Nat} (hb : E 0 0 ≤ t) (hN : 2000 < N) (hn : M.1 18 = jI n) (hn2 : n ≤ 16) :
    fn_X4_undo N E t (tw t (ws M d v m) S) = some (if n = 0 then -1 else jI (n - 1), tw t (ws (if n = 0 then tsf M 0 0 else unT (tsf M 0 0) n) d v m) S) := by
  unfold fn_X4_undo
  rw [xwr_s (x_wf hb 0 0 (by decide) rfl (by decide) (by decide) rfl), xrd_s (x_qf 18 (by decide) rfl (by decide) (by decide)), show (tsf M 0 0).1 18 = jI n from hn, xbr_if]
  by_cases h0 : n = 0
  · subst h0
    rw [if_pos (show jI 0 = (0 : Int32) from rfl)]
    rfl
  · rw [if_neg (by rw [show (0 : Int32) = jI 0 from rfl, jI_inj (by omega) (by omega)]; exact h0), if_neg h0, if_neg h0, xrd_s (x_qf 18 (by decide) rfl (by decide) (by decide)), show (tsf M 0 0).1 18 = jI n from hn]
    obtain ⟨q, rfl⟩ : ∃ q, n = q + 1 := ⟨n - 1, by omega⟩
    rw [show jI (q + 1) - 1 = jI q by (rw [show (1 : Int32) = jI 1 from rfl, jI_sub (by omega)]; rfl), xwr_s (x_wf hb 18 0 (by decide) rfl (by decide) (by decide) rfl), show q + 1 - 1 = q from rfl]
    have h18 : (tsf (tsf M 0 0) 18 (jI q)).1 18 = jI q := by simp [tsf]
    have e : unT (tsf M 0 0) (q + 1) = tar (tsf (tsf M 0 0) 18 (jI q)) 11 (fun z => if 0 ≤ z ∧ z < 0 + 125 then (tsf (tsf M 0 0) 18 (jI q)).2 12 (125 * q + (z - 0)) else (tsf (tsf M 0 0) 18 (jI q)).2 11 z) := by
      unfold unT
      simp only [Nat.add_sub_cancel, Nat.zero_le, true_and, Nat.zero_add, Nat.sub_zero]
      rfl
    rw [e]
    generalize tsf (tsf M 0 0) 18 (jI q) = M1 at *
    refine xlp1_fup 125 (fun k M' => tar M' 11 (updA (M'.2 11) (0 + k) (M1.2 12 (125 * q + k)))) (fun M => tw t (ws M d v m) S) M1 (fun M' => M'.1 = M1.1 ∧ M'.2 12 = M1.2 12) ⟨rfl, rfl⟩ (fun _ M' _ hM => ⟨hM.1, by rw [tar_ne (by decide)]; exact hM.2⟩) (fun i b hi hM k => ?_) (fun k => ?_) (by omega)
    · unfold fn_X4_undo_26
      rw [xbr_0 (decide_eq_false (by rw [show (125 : Int32) = jI 125 from rfl, jI_le (by omega) (by omega)]; omega)), xrd_s (t_qR 11 (by decide) rfl (by decide)), xrd_s (t_qR 12 (by decide) rfl (by decide)), xrd_s (x_qf 18 (by decide) rfl (by decide) (by decide)), hM.1, h18, show (125 : Int32) = jI 125 from rfl, jI_mul, jI_add, xrd_s (x_qa 12 (by decide) (by decide) (by decide) (by decide) (show 125 * q + i < 2000 by omega) (by decide)), xwr_s (x_wa 11 hb (by decide) (by decide) (by decide) (by decide) (show i < 125 by omega) (by decide)), jI_succ, hM.2, Nat.zero_add]
    · unfold fn_X4_undo_26
      rw [xbr_1 (by decide), tar_fup (h := fun k A => updA A (0 + k) (M1.2 12 (125 * q + k))), row_fup (g := fun k => M1.2 12 (125 * q + k)), xrd_s (x_qf 18 (by decide) rfl (by decide) (by decide)), show (tar M1 11 _).1 18 = jI q from h18]
      rfl
/-- back over an edge -/
def bseL (M : TM) (e : Nat) (m : Mx) : Mx := fup (fun k m => mts m (sClk M e k + 1) 0 2 (sNum M e k)) (sMany M e) m
def bfrL (inf : Int32) (M : TM) (e d : Nat) (m : Mx) : Mx := fup (fun k m => u2 (freM inf (sClk M e k + 1) d m) 0 (sClk M e k + 1) 1) (sMany M e) m
def bk1 (inf : Int32) (P : Int32 → Bool) (M : TM) (e d : Nat) (m : Mx) : Mx := clK inf P d (bseL M e (whM inf P M (eTo M e) d m))
def bkM (inf : Int32) (P : Int32 → Bool) (M : TM) (e d : Nat) (m : Mx) : Mx := whM inf P M (8 + e) d (bfrL inf M e d (bk1 inf P M e d m))
def bkV (inf : Int32) (P : Int32 → Bool) (M : TM) (e d : Nat) (m : Mx) : Bool := (ngd d (whM inf P M (eTo M e) d m) || ngd d (bk1 inf P M e d m)) || ngd d (bkM inf P M e d m)
theorem x_backs {p e : Nat} (hb : E 0 0 ≤ t) (hd2 : d ≤ 62) (hN : 62 < N) (he : e < 16) (hw : edOK M c p e) (hst : whOK M c (eTo M e)) (hp : p ≤ 8) (hc : c < d) :
    fn_X4_backs N E t (jI e) (tw t (ws M d v m) S) = some ((), tw t (ws M d (v || bkV FRE isF M e d m) (bkM FRE isF M e d m)) S) := by
  obtain ⟨w1, ⟨s1, s2, s3⟩, w3, w4, w5, w6⟩ := hw
  unfold fn_X4_backs
  have e6 : (4 : Int32) * jI e = jI (4 * e) := by rw [show (4 : Int32) = jI 4 from rfl, jI_mul]
  rw [xrd_s (t_qR 6 (by decide) rfl (by decide)), xrd_s (x_qa 6 (by decide) (by decide) (by decide) (by decide) he (by decide)), w5, xrd_s t_qV, xal_s (x_whens hb hd2 hN (by omega) hst hc), e6]
  have hres : (v || bkV FRE isF M e d m) = (((v || ngd d (whM FRE isF M (eTo M e) d m)) || ngd d (bk1 FRE isF M e d m)) || ngd d (bkM FRE isF M e d m)) := by
    unfold bkV
    simp only [Bool.or_assoc]
  rw [hres]
  generalize hv1 : (v || ngd d (whM FRE isF M (eTo M e) d m)) = v1
  unfold bkM bk1 bseL
  generalize whM FRE isF M (eTo M e) d m = m1
  refine xlp1_fof (4 * e) (sMany M e) (fun k m => mts m (sClk M e k + 1) 0 2 (sNum M e k)) (fun m => tw t (ws M d v1 m) S) m1 (fun _ => True) trivial (fun _ _ _ _ => trivial) (fun z b hz _ k => ?_) (fun k => ?_) (by omega)
  · obtain ⟨a1, a2⟩ := s3 z hz
    unfold fn_X4_backs_14
    rw [xrd_s (t_qR 7 (by decide) rfl (by decide)), xrd_s (x_qa 7 (by decide) (by decide) (by decide) (by decide) he (by decide)), s1, e6, jI_add, xbr_0 (decide_eq_false (by rw [jI_le (by omega) (by omega)]; omega)), xrd_s (t_qR 8 (by decide) rfl (by decide)), xrd_s (x_qa 8 (by decide) (by decide) (by decide) (by decide) (show 4 * e + z < 64 by omega) (by decide)), xrd_s (t_qR 9 (by decide) rfl (by decide)), xrd_s (x_qa 9 (by decide) (by decide) (by decide) (by decide) (show 4 * e + z < 64 by omega) (by decide)), a1, jI_succ, xrd_s t_qV, show (0 : Int32) = jI 0 from rfl, show (2 : Int32) = jI 2 from rfl, xal_s (x_meets (i := sClk M e z + 1) (j := 0) hb (by omega) (by omega) (show 2 ≤ 4 by omega) _), jI_succ]
    rfl
  · unfold fn_X4_backs_14 fn_X4_backs_54
    rw [xrd_s (t_qR 7 (by decide) rfl (by decide)), xrd_s (x_qa 7 (by decide) (by decide) (by decide) (by decide) he (by decide)), s1, e6, jI_add, xbr_1 (decide_eq_true (by rw [jI_le (by omega) (by omega)]; omega)), xrd_s t_qV, xal_s (x_clos hb hd2 hN)]
    unfold bfrL
    generalize clK FRE isF d _ = m2
    refine xlp1_fof (4 * e) (sMany M e) (fun k m => u2 (freM FRE (sClk M e k + 1) d m) 0 (sClk M e k + 1) 1) (fun m => tw t (ws M d (v1 || ngd d m2) m) S) m2 (fun _ => True) trivial (fun _ _ _ _ => trivial) (fun z b hz _ k => ?_) (fun k => ?_) (by omega)
    · obtain ⟨a1, a2⟩ := s3 z hz
      unfold fn_X4_backs_62
      rw [xrd_s (t_qR 7 (by decide) rfl (by decide)), xrd_s (x_qa 7 (by decide) (by decide) (by decide) (by decide) he (by decide)), s1, e6, jI_add, xbr_0 (decide_eq_false (by rw [jI_le (by omega) (by omega)]; omega)), xrd_s (t_qR 8 (by decide) rfl (by decide)), xrd_s (x_qa 8 (by decide) (by decide) (by decide) (by decide) (show 4 * e + z < 64 by omega) (by decide)), a1, jI_succ, xrd_s t_qV, xal_s (x_free (x := sClk M e z + 1) hb hd2 hN (by omega) (by omega)), jI_succ]
    · unfold fn_X4_backs_62 fn_X4_backs_94
      rw [xrd_s (t_qR 7 (by decide) rfl (by decide)), xrd_s (x_qa 7 (by decide) (by decide) (by decide) (by decide) he (by decide)), s1, e6, jI_add, xbr_1 (decide_eq_true (by rw [jI_le (by omega) (by omega)]; omega)), xrd_s t_qV, show (8 : Int32) = jI 8 from rfl, jI_add, xal_s (x_whens hb hd2 hN (by omega) w1 hc)]
      rfl
end TW5

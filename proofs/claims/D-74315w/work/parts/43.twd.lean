set_option maxRecDepth 100000
/-! the twin's nodes: nn of them; places, by, edges, squares -/
section TWD
variable {N : Nat} {E : Nat → Nat → Nat} {t : Nat} {M : TM} {m : Mx} {S : XS} {i j d c o : Nat} {v : Bool}
/-- a node more -/
def addT (M : TM) (nn d : Nat) (p b e : Int32) (m : Mx) : TM := tsf (tar (tar (tar (tar M 13 (updA (M.2 13) nn p)) 14 (updA (M.2 14) nn b)) 15 (updA (M.2 15) nn e)) 16 (sqA (M.2 16) (25 * nn) d m)) 23 (jI (nn + 1))
theorem x_adds {nn : Nat} {p b e : Int32} (hb : E 0 0 ≤ t) (hN : 62 < N) (hd : d ≤ 5) (hnn : M.1 23 = jI nn) (hn : nn < 60) : fn_X4_adds N E t p b e (tw t (ws M d v m) S) = some ((), tw t (ws (addT M nn d p b e m) d v m) S) := by
  unfold fn_X4_adds
  rw [xrd_s (t_qR 13 (by decide) rfl (by decide)), xrd_s (x_qf 23 (by decide) rfl (by decide) (by decide)), hnn, xwr_s (x_wa 13 hb (by decide) (by decide) (by decide) (by decide) (show nn < 60 by omega) (by decide)),
    xrd_s (t_qR 14 (by decide) rfl (by decide)), xrd_s (x_qf 23 (by decide) rfl (by decide) (by decide)), show (tar M 13 (updA (M.2 13) nn p)).1 23 = jI nn from hnn, xwr_s (x_wa 14 hb (by decide) (by decide) (by decide) (by decide) (show nn < 60 by omega) (by decide)), tar_ne (show (14 : Nat) ≠ 13 by decide),
    xrd_s (t_qR 15 (by decide) rfl (by decide)), xrd_s (x_qf 23 (by decide) rfl (by decide) (by decide)), show (tar (tar M 13 (updA (M.2 13) nn p)) 14 (updA (M.2 14) nn b)).1 23 = jI nn from hnn, xwr_s (x_wa 15 hb (by decide) (by decide) (by decide) (by decide) (show nn < 60 by omega) (by decide)), tar_ne (show (15 : Nat) ≠ 14 by decide), tar_ne (show (15 : Nat) ≠ 13 by decide)]
  have h23 : (tar (tar (tar M 13 (updA (M.2 13) nn p)) 14 (updA (M.2 14) nn b)) 15 (updA (M.2 15) nn e)).1 23 = jI nn := hnn
  have h16 : (tar (tar (tar M 13 (updA (M.2 13) nn p)) 14 (updA (M.2 14) nn b)) 15 (updA (M.2 15) nn e)).2 16 = M.2 16 := by rw [tar_ne (by decide), tar_ne (by decide), tar_ne (by decide)]
  unfold addT
  rw [← h16]
  generalize tar (tar (tar M 13 (updA (M.2 13) nn p)) 14 (updA (M.2 14) nn b)) 15 (updA (M.2 15) nn e) = M1 at *
  refine xlp1_fup d (fun i M => tar M 16 (fun z => if 25 * nn + 5 * i ≤ z ∧ z < 25 * nn + 5 * i + d then m i (z - (25 * nn + 5 * i)) else M.2 16 z)) (fun M => tw t (ws M d v m) S) M1 (fun M' => M'.1 = M1.1) rfl (fun _ _ _ h => h) (fun i b hi hM kk => ?_) (fun kk => ?_) (by omega)
  · unfold fn_X4_adds_33
    rw [xrd_s x_qd, xbr_0 (decide_eq_false (by rw [jI_le (by omega) (by omega)]; omega))]
    refine xlp1_fup d (fun j M => tar M 16 (updA (M.2 16) (25 * nn + 5 * i + j) (m i j))) (fun M => tw t (ws M d v m) S) b (fun M' => M'.1 = M1.1) hM (fun _ _ _ h => h) (fun j b hj hM k => ?_) (fun k => ?_) (by omega)
    · unfold fn_X4_adds_45
      rw [xrd_s x_qd, xbr_0 (decide_eq_false (by rw [jI_le (by omega) (by omega)]; omega)), xrd_s (t_qR 16 (by decide) rfl (by decide)), xrd_s (x_qf 23 (by decide) rfl (by decide) (by decide)), hM, h23, xrd_s t_qV, xal_s (x_gt (by omega) (by omega)), jI25, xwr_s (x_wa 16 hb (by decide) (by decide) (by decide) (by decide) (show 25 * nn + 5 * i + j < 1500 by omega) (by decide)), jI_succ]
    · unfold fn_X4_adds_45 fn_X4_adds_88
      rw [xrd_s x_qd, xbr_1 (decide_eq_true (by rw [jI_le (by omega) (by omega)]; omega)), jI_succ, tar_fup (h := fun j A => updA A (25 * nn + 5 * i + j) (m i j)), row_fup]
  · unfold fn_X4_adds_33 fn_X4_adds_94
    rw [xrd_s x_qd, xbr_1 (decide_eq_true (by rw [jI_le (by omega) (by omega)]; omega)), tar_fup (h := fun i A => fun z => if 25 * nn + 5 * i ≤ z ∧ z < 25 * nn + 5 * i + d then m i (z - (25 * nn + 5 * i)) else A z), sqA_fup hd, xrd_s (x_qf 23 (by decide) rfl (by decide) (by decide)), show (tar M1 16 _).1 23 = jI nn from h23, jI_succ, xwr_s (x_wf hb 23 0 (by decide) rfl (by decide) (by decide) rfl)]
    rfl
end TWD

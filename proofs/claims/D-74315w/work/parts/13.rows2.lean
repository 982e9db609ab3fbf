set_option maxRecDepth 100000
/-- a field instruction's facts: class own, entry idx; the object is of one of the classes cs, its field k has that name and descriptor -/
def XF (own : String) (idx : Nat) (cs : List Nat) (k : Nat) (name desc : String) : Prop := ∃ ref : String, ((Cond.fieldLink own idx ref name desc ∈ lw_all) ∨ ∃ host, Cond.fieldLinkNest own idx ref name desc host ∈ xnw) ∧
  ∀ ci ∈ cs, ∃ q : vw_C, xcl[ci]? = some q ∧ k < q.2.2 ∧ (q.2.1 k).2.1 = name ∧ (q.2.1 k).2.2.1 = desc ∧ ((q.2.1 k).1 = ref ∨ Cond.sameField ref (q.2.1 k).1 name desc ∈ lw_all)
def XFn (own : String) (cs : List Nat) (k : Nat) (meth : Method) : Prop := (∀ ci ∈ cs, ∀ q : vw_C, xcl[ci]? = some q → (q.2.1 k).2.2.2 = false) ∨ (meth.name = "<init>" ∧ ∀ ci ∈ cs, ∀ q : vw_C, xcl[ci]? = some q → (q.2.1 k).2.2.2 = true ∧ (q.2.1 k).1 = own)
section XROWS
variable {p : Program} {l : Launch} {e : Env} {R : Room} {s : State} {m : MethodId} {args : Array Value} {below : List Frame} {meth : Method} {c : Code} {H : Heap} {locs : List Loc} {cells slots : Nat} {Q : State → Prop}
variable {cc : ByteArray} {pc nL : Nat} {ls : Array Slot} {rest : List Value} {D : va_G} {dA : Nat → ClassId} {E : Nat → Nat → Nat} {Hb : Heap} {own : String} {S : XS} {ρ : Type} {res : ρ}
theorem XG.set {a j : Nat} {ev : va_E} {H1 : Heap} (hG : XG D dA Hb R s S H locs cells slots) (hz : H1.size = H.size) (oq : ∀ q : Nat, q ≠ a → H1[q]? = H[q]?) (hb : Hb.size ≤ a) (hx : xat D dA Hb.size s a ev H1) : XG D dA Hb R s (xset S a ev) H1 (locs ++ [⟨a, j⟩]) cells slots := by
  obtain ⟨⟨g1, g2, g3, g4⟩, g5, g6⟩ := hG
  refine ⟨⟨hz.trans g1, fun q ev' hq => ?_, by rw [hz]; exact g3, fun q hq => ?_⟩, fun q hq => ?_, g6⟩
  · by_cases h : q = a
    · subst h
      simp only [xset, if_pos] at hq
      cases hq
      exact hx
    · simp only [xset, if_neg h] at hq
      exact (g2 q ev' hq).kept (oq q h)
  · rw [oq q (by omega)]
    exact g4 q hq
  · rcases List.mem_append.mp hq with h | h
    · exact g5 q h
    · rw [List.mem_singleton.mp h]
      exact hb
theorem XG.add {n : Nat} {ev : va_E} {H1 : Heap} (hG : XG D dA Hb R s S H locs cells slots) (hz : H1.size = H.size + 1) (oq : ∀ q : Nat, q < H.size → H1[q]? = H[q]?) (h1 : 1 ≤ S.2.2.1) (h2 : n ≤ S.2.2.2) (hx : xat D dA Hb.size s H.size ev H1) : XG D dA Hb R s (xadd S n ev) H1 locs (cells + 1) (slots + n) := by
  obtain ⟨⟨g1, g2, g3, g4⟩, g5, g6, g7⟩ := hG
  refine ⟨⟨by rw [hz, g1]; rfl, fun q ev' hq => ?_, by omega, fun q hq => ?_⟩, g5, ?_, ?_⟩
  · by_cases h : q = S.2.1
    · rw [← g1] at h
      subst h
      simp only [xadd, g1, if_pos] at hq
      cases hq
      exact hx
    · simp only [xadd, if_neg h] at hq
      exact (g2 q ev' hq).kept (oq q (g2 q ev' hq).lt)
  · rw [oq q (by omega)]
    exact g4 q hq
  · show cells + 1 + (S.2.2.1 - 1) = R.cells
    omega
  · show slots + n + (S.2.2.2 - n) = R.slots
    omega
theorem XX.hap {X : XX D dA E Hb p s m args c cc nL own} {ci : Nat} {q : vw_C} (hq : xcl[ci]? = some q) : ∀ x y, x < q.2.2 → y < q.2.2 → x ≠ y → (D.2 ci) x ≠ (D.2 ci) y := by
  intro x y hx hy hne
  obtain ⟨hS, -⟩ := X.2.2.2.2.2.1 ci q hq
  obtain ⟨ty, hty⟩ := xcl_ty ci q hq
  obtain ⟨_, _, _, fa, hia, ea⟩ := hS x hx
  obtain ⟨_, _, _, fb, hib, eb⟩ := hS y hy
  rw [← ea, ← eb]
  refine u_apart (u_lays X.2.2.2.2.1 (xcl_in ci q hq) hx) (u_lays X.2.2.2.2.1 (xcl_in ci q hq) hy) hia hib ?_
  rw [(State.fieldFound?_type hia (hty x hx)).1, (State.fieldFound?_type hib (hty y hy)).1]
  exact xcl_nm ci q hq x hx y hy hne
theorem x_getv (X : XX D dA E Hb p s m args c cc nL own) (hG : XG D dA Hb R s S H locs cells slots) {idx k a ci : Nat} {cs : List Nat} {fs : List Value} {v : Value} {name desc : String} (F : XF own idx cs k name desc) (hs : S.1 a = some (.inr (ci, fs))) (hci : ci ∈ cs) (hv : fs[k]? = some v) (d : decode cc pc = .ok (.getfield idx, 3))
    (kk : W p l e R s m args below meth c H locs cells slots Q (F0 m (pc + 3) ls (v :: rest))) : W p l e R s m args below meth c H locs cells slots Q (F0 m pc ls (.ref a :: rest)) := by
  obtain ⟨ref, hlink, hcs⟩ := F
  obtain ⟨q, hq, hk, hnm, hds, hsame⟩ := hcs ci hci
  obtain ⟨q', cell, e1, e2, e3, e4, e5, e6, e7, e8⟩ := hG.1.2.1 a _ hs
  cases hq.symm.trans e1
  obtain ⟨hx, hb, -, hown, hts, hU⟩ := X
  obtain ⟨hS, hfc, kC, hkC, hkind⟩ := hU.1 ci q hq
  obtain ⟨cf, kf, fi, f, hi, hsl⟩ := hS k hk
  have hst := (u_facts hfc hkC (u_lays hts (xcl_in ci q hq) hk) hi).1
  have hi2 : s.fieldFound? ref name desc = some (cf, kf, fi, f) := by
    rw [hnm, hds] at hi
    rcases hsame with h | h
    · rw [← h]; exact hi
    · exact u_same (hts _ h) _ hi
  have hsv : cell.slots[f.slot]? = some v := by
    rw [hsl, e7 k hk]
    simp [vp_V, hv]
  rcases hlink with hl | ⟨host, hl⟩
  · exact W.getf hx hb hown (hts _ hl) hi2 hst e2 e5 hsv rfl rfl d kk
  · exact va_Wgetf hx hb hown (va_Nw.use rfl (hU.2.2.1 _ hl)) hi2 hst e2 e5 hsv rfl rfl d kk
theorem s_qI (X : XX D dA E Hb p s m args c cc nL own) (hG : XG D dA Hb R s S H locs cells slots) {r : Option Nat} {cs : List Nat} {idx k : Nat} {name desc : String} {K : Int32 → XS → Option ρ} (F : XF own idx cs k name desc) (h : xrd (qI r cs k) K S = some res) (d : decode cc pc = .ok (.getfield idx, 3))
    (kk : ∀ v, K v S = some res → W p l e R s m args below meth c H locs cells slots Q (F0 m (pc + 3) ls (.int v :: rest))) : W p l e R s m args below meth c H locs cells slots Q (F0 m pc ls (va_rf r :: rest)) := by
  obtain ⟨v, h1, h2⟩ := xrd_inv h
  obtain ⟨a, ci, fs, rfl, hs, hci, hv⟩ := qI_inv h1
  exact x_getv X hG F hs hci hv d (kk v h2)
theorem s_qR (X : XX D dA E Hb p s m args c cc nL own) (hG : XG D dA Hb R s S H locs cells slots) {r : Option Nat} {cs : List Nat} {idx k : Nat} {name desc : String} {K : Option Nat → XS → Option ρ} (F : XF own idx cs k name desc) (h : xrd (qR r cs k) K S = some res) (d : decode cc pc = .ok (.getfield idx, 3))
    (kk : ∀ v, K v S = some res → W p l e R s m args below meth c H locs cells slots Q (F0 m (pc + 3) ls (va_rf v :: rest))) : W p l e R s m args below meth c H locs cells slots Q (F0 m pc ls (va_rf r :: rest)) := by
  obtain ⟨v, h1, h2⟩ := xrd_inv h
  obtain ⟨a, ci, fs, rfl, hs, hci, hv⟩ := qR_inv h1
  exact x_getv X hG F hs hci hv d (kk v h2)
theorem x_putv (X : XX D dA E Hb p s m args c cc nL own) (hG : XG D dA Hb R s S H locs cells slots) {idx k a ci : Nat} {cs : List Nat} {fs : List Value} {v : Value} {name desc : String} {ty : FieldType} (F : XF own idx cs k name desc) (Fn : XFn own cs k meth) (hs : S.1 a = some (.inr (ci, fs))) (hci : ci ∈ cs) (hba : Hb.size ≤ a) (hk0 : k < fs.length) (hd : parseFieldDescriptor desc = some ty) (hn : narrow ty v = v) (hfit : fits ty v = true) (d : decode cc pc = .ok (.putfield idx, 3))
    (kk : ∀ (H1 : Heap) (locs1 : List Loc), XG D dA Hb R s (xset S a (.inr (ci, fs.set k v))) H1 locs1 cells slots → W p l e R s m args below meth c H1 locs1 cells slots Q (F0 m (pc + 3) ls rest)) : W p l e R s m args below meth c H locs cells slots Q (F0 m pc ls (v :: .ref a :: rest)) := by
  obtain ⟨ref, hlink, hcs⟩ := F
  obtain ⟨q, hq, hk, hnm, hds, hsame⟩ := hcs ci hci
  obtain ⟨q', cell, e1, e2, e3, e4, e5, e6, e7, e8⟩ := hG.1.2.1 a _ hs
  cases hq.symm.trans e1
  have hap := XX.hap (X := X) hq
  obtain ⟨hx, hb, -, hown, hts, hU⟩ := X
  obtain ⟨hS, hfc, kC, hkC, hkind⟩ := hU.1 ci q hq
  obtain ⟨cf, kf, fi, f, hi, hsl⟩ := hS k hk
  have hst := (u_facts hfc hkC (u_lays hts (xcl_in ci q hq) hk) hi).1
  have hlay := hts _ (xcl_in ci q hq _ (u_in_lay hk))
  unfold u_lay at hlay
  have hi2 : s.fieldFound? ref name desc = some (cf, kf, fi, f) := by
    have hi' := hi
    rw [hnm, hds] at hi'
    rcases hsame with h | h
    · rw [← h]; exact hi'
    · exact u_same (hts _ h) _ hi'
  rw [hds.symm] at hd
  have fin : ∀ H' : Heap, H'[a]? = some (cell.setSlot f.slot v) → H'.size = H.size → (∀ q, q ≠ a → H'[q]? = H[q]?) → W p l e R s m args below meth c H' (locs ++ [⟨a, f.slot⟩]) cells slots Q (F0 m (pc + 3) ls rest) := by
    intro H' f1 f2 f3
    refine kk H' _ (hG.set f2 f3 hba ⟨q, _, hq, f1, e3, e4, e5, e6, fun j hj => ?_, by simpa using e8⟩)
    rw [hsl, t_set e7 hap hk v j hj]
    rw [vp_updV_set hk0]
  rcases Fn with hnf | ⟨hin, hff⟩
  · rw [if_neg (by rw [hnf ci hci q hq]; decide)] at hlay
    have h6 := u_store hfc hkC hkind hlay hi hd hn hfit
    rcases hlink with hl | ⟨host, hl⟩
    · exact W.putK hx hb (f := f) ⟨hown, hts _ hl, ⟨_, _, _, hi2⟩, hst⟩ (by rw [e3]; exact h6) e2 (e6 hba) (by rw [hsl]; exact k2_hasslot (e7 k hk)) rfl rfl d fin
    · exact va_WputK hx hb (f := f) hown (va_Nw.use rfl (hU.2.2.1 _ hl)) hi2 hst (by rw [e3]; exact h6) e2 (e6 hba) (by rw [hsl]; exact k2_hasslot (e7 k hk)) rfl rfl d fin
  · obtain ⟨hfin, hdecl⟩ := hff ci hci q hq
    rw [if_pos hfin] at hlay
    have hcf : m.cls = cf := by
      obtain ⟨_, _, c', _, _, _, -, -, hf', -, -, -, hown2, -⟩ := Cond.laysFinal_spec hlay
      have e1 : c' = cf := by have := hi.symm.trans hf'; simp at this; exact this.1.symm
      rw [hdecl] at hown2
      rw [← e1]; exact Option.some.inj (hown.symm.trans hown2)
    have h6 := u_fits hfc hkC hkind (Or.inr hlay) hi hd hn hfit
    rcases hlink with hl | ⟨host, hl⟩
    · exact W.putFinK hx hb hown (hts _ hl) hi2 hst hcf hin (by rw [e3]; exact h6) e2 (e6 hba) (by rw [hsl]; exact k2_hasslot (e7 k hk)) rfl rfl d fin
    · refine va_Wputf hx hb hown (va_Nw.use rfl (hU.2.2.1 _ hl)) hi2 hst (Or.inr ⟨hcf, hin⟩) e2 e5 (by rw [hsl]; exact k2_hasslot (e7 k hk)) h6.1 (by rw [e3, e6 hba]; exact h6.2) rfl rfl d ?_
      have ha : a < H.size := (Array.getElem?_eq_some_iff.mp e2).1
      exact fin _ (by simp [Array.getElem?_setIfInBounds, ha]) (by simp) (fun q hq => by simp [Array.getElem?_setIfInBounds, Ne.symm hq])
theorem s_wI (X : XX D dA E Hb p s m args c cc nL own) (hG : XG D dA Hb R s S H locs cells slots) {r : Option Nat} {cs : List Nat} {idx k t : Nat} {v : Int32} {name desc : String} {K : XS → Option ρ} (F : XF own idx cs k name desc) (Fn : XFn own cs k meth) (hd : parseFieldDescriptor desc = some (xdt t)) (h : xwr (wI (E 0 0) r cs k t v) K S = some res) (d : decode cc pc = .ok (.putfield idx, 3))
    (kk : ∀ (S : XS) (H1 : Heap) (locs1 : List Loc), XG D dA Hb R s S H1 locs1 cells slots → K S = some res → W p l e R s m args below meth c H1 locs1 cells slots Q (F0 m (pc + 3) ls rest)) : W p l e R s m args below meth c H locs cells slots Q (F0 m pc ls (.int v :: va_rf r :: rest)) := by
  obtain ⟨T, h1, h2⟩ := xwr_inv h
  obtain ⟨a, ci, fs, rfl, hs, hci, hb, hk, hf, rfl⟩ := wI_inv h1
  have hE : E 0 0 = Hb.size := X.2.2.2.2.2.2.2.2.2.2.2.2.2.2
  exact x_putv X hG F Fn hs hci (by rw [← hE]; exact hb) hk hd (xfit_ok hf).1 (xfit_ok hf).2 d (fun H1 locs1 g => kk _ H1 locs1 g h2)
theorem s_wR (X : XX D dA E Hb p s m args c cc nL own) (hG : XG D dA Hb R s S H locs cells slots) {r : Option Nat} {cs : List Nat} {idx k : Nat} {v : Option Nat} {name desc : String} {ty : FieldType} {K : XS → Option ρ} (F : XF own idx cs k name desc) (Fn : XFn own cs k meth) (hd : parseFieldDescriptor desc = some ty) (hr : ty.isReference = true) (h : xwr (wR (E 0 0) r cs k v) K S = some res) (d : decode cc pc = .ok (.putfield idx, 3))
    (kk : ∀ (S : XS) (H1 : Heap) (locs1 : List Loc), XG D dA Hb R s S H1 locs1 cells slots → K S = some res → W p l e R s m args below meth c H1 locs1 cells slots Q (F0 m (pc + 3) ls rest)) : W p l e R s m args below meth c H locs cells slots Q (F0 m pc ls (va_rf v :: va_rf r :: rest)) := by
  obtain ⟨T, h1, h2⟩ := xwr_inv h
  obtain ⟨a, ci, fs, rfl, hs, hci, hb, hk, rfl⟩ := wR_inv h1
  have hE : E 0 0 = Hb.size := X.2.2.2.2.2.2.2.2.2.2.2.2.2.2
  exact x_putv X hG F Fn hs hci (by rw [← hE]; exact hb) hk hd (xfit_ref hr v).1 (xfit_ref hr v).2 d (fun H1 locs1 g => kk _ H1 locs1 g h2)
theorem s_iald (X : XX D dA E Hb p s m args c cc nL own) (hG : XG D dA Hb R s S H locs cells slots) {r : Option Nat} {i : Int32} {K : Int32 → XS → Option ρ} (h : xrd (qA 0 r i) K S = some res) (d : decode cc pc = .ok (.iaload, 1))
    (kk : ∀ v, K v S = some res → W p l e R s m args below meth c H locs cells slots Q (F0 m (pc + 1) ls (.int v :: rest))) : W p l e R s m args below meth c H locs cells slots Q (F0 m pc ls (.int i :: va_rf r :: rest)) := by
  obtain ⟨v, h1, h2⟩ := xrd_inv h
  obtain ⟨a, n, f, rfl, hs, hin, rfl⟩ := qA_inv h1
  obtain ⟨cell, e1, e2, e3, e4, e5, e6, e7⟩ := hG.1.2.1 a _ hs
  have hin' := xin_in hin
  exact W.iald X.1 X.2.1 e1 e2 e3 (by rw [e4]; exact hin') (e5 _ (Nat.not_le.mp fun q => hin' (Or.inr q))) rfl rfl d (kk _ h2)
theorem s_bald (X : XX D dA E Hb p s m args c cc nL own) (hG : XG D dA Hb R s S H locs cells slots) {r : Option Nat} {i : Int32} {K : Int32 → XS → Option ρ} (h : xrd (qA 1 r i) K S = some res) (d : decode cc pc = .ok (.baload, 1))
    (kk : ∀ v, K v S = some res → W p l e R s m args below meth c H locs cells slots Q (F0 m (pc + 1) ls (.int v :: rest))) : W p l e R s m args below meth c H locs cells slots Q (F0 m pc ls (.int i :: va_rf r :: rest)) := by
  obtain ⟨v, h1, h2⟩ := xrd_inv h
  obtain ⟨a, n, f, rfl, hs, hin, rfl⟩ := qA_inv h1
  obtain ⟨cell, e1, e2, e3, e4, e5, e6, e7⟩ := hG.1.2.1 a _ hs
  have hin' := xin_in hin
  exact W.bald X.1 X.2.1 e1 e2 e3 (by rw [e4]; exact hin') (e5 _ (Nat.not_le.mp fun q => hin' (Or.inr q))) rfl rfl d (kk _ h2)
theorem s_lald (X : XX D dA E Hb p s m args c cc nL own) (hG : XG D dA Hb R s S H locs cells slots) {r : Option Nat} {i : Int32} {K : Int64 → XS → Option ρ} (h : xrd (qL r i) K S = some res) (d : decode cc pc = .ok (.laload, 1))
    (kk : ∀ v, K v S = some res → W p l e R s m args below meth c H locs cells slots Q (F0 m (pc + 1) ls (.long v :: rest))) : W p l e R s m args below meth c H locs cells slots Q (F0 m pc ls (.int i :: va_rf r :: rest)) := by
  obtain ⟨v, h1, h2⟩ := xrd_inv h
  obtain ⟨a, n, f, rfl, hs, hin, rfl⟩ := qL_inv h1
  obtain ⟨cell, e1, e2, e3, e4, e5, e6, e7⟩ := hG.1.2.1 a _ hs
  have hin' := xin_in hin
  exact W.lald X.1 X.2.1 e1 e2 e3 (by rw [e4]; exact hin') (e5 _ (Nat.not_le.mp fun q => hin' (Or.inr q))) rfl rfl d (kk _ h2)
theorem xty_ref {k : Nat} (h : 3 ≤ k) (h8 : k < 8) : (xty k).isReference = true := by
  match k, h, h8 with
  | 3, _, _ => rfl
  | 4, _, _ => rfl
  | 5, _, _ => rfl
  | 6, _, _ => rfl
  | 7, _, _ => rfl
theorem s_aald (X : XX D dA E Hb p s m args c cc nL own) (hG : XG D dA Hb R s S H locs cells slots) {r : Option Nat} {i : Int32} {K : Option Nat → XS → Option ρ} (h : xrd (qQ r i) K S = some res) (d : decode cc pc = .ok (.aaload, 1))
    (kk : ∀ v, K v S = some res → W p l e R s m args below meth c H locs cells slots Q (F0 m (pc + 1) ls (va_rf v :: rest))) : W p l e R s m args below meth c H locs cells slots Q (F0 m pc ls (.int i :: va_rf r :: rest)) := by
  obtain ⟨v, h1, h2⟩ := xrd_inv h
  obtain ⟨a, k, n, f, rfl, hs, hk, hin, rfl⟩ := qQ_inv h1
  obtain ⟨cell, e1, e2, e3, e4, e5, e6, e7⟩ := hG.1.2.1 a _ hs
  have hin' := xin_in hin
  exact W.aald X.1 X.2.1 e1 e2 (xty_ref hk.1 hk.2) e3 (by rw [e4]; exact hin') (e5 _ (Nat.not_le.mp fun q => hin' (Or.inr q))) rfl rfl d (kk _ h2)
theorem s_alen (X : XX D dA E Hb p s m args c cc nL own) (hG : XG D dA Hb R s S H locs cells slots) {r : Option Nat} {K : Int32 → XS → Option ρ} (h : xrd (qN r) K S = some res) (d : decode cc pc = .ok (.arraylength, 1))
    (kk : ∀ v, K v S = some res → W p l e R s m args below meth c H locs cells slots Q (F0 m (pc + 1) ls (.int v :: rest))) : W p l e R s m args below meth c H locs cells slots Q (F0 m pc ls (va_rf r :: rest)) := by
  obtain ⟨v, h1, h2⟩ := xrd_inv h
  obtain ⟨a, k, x, rfl, hs, rfl⟩ := qN_inv h1
  obtain ⟨cell, e1, e2, e3, e4, e5, e6, e7⟩ := hG.1.2.1 a _ hs
  exact W.alen X.1 X.2.1 e1 e2 (by rw [e4] <;> rfl) rfl rfl d (kk _ h2)
theorem xat_arr {b a n k j : Nat} {x : vp_A} {v : Value} {H1 : Heap} {cell : Cell} (hA : ArrOfT s (dA k) (xty k)) (hk : k < 7) (he : cell = arrV (dA k) n (xel x)) (h1 : H1[a]? = some (cell.setSlot j v)) {y : vp_A} (hy : y.1 = n) (hf : xel y = updV (xel x) j v) : xat D dA b s a (.inl (k, y)) H1 := by
  subst hy
  rw [he, arrV_store, ← hf] at h1
  exact ⟨_, h1, hA _ _, (fun z => nomatch z), arrV_size _ _ _, fun i hi => arrV_read _ _ hi, fun _ => ⟨rfl, hk⟩, fun h4 => by subst h4; rfl⟩
theorem s_iast (X : XX D dA E Hb p s m args c cc nL own) (hG : XG D dA Hb R s S H locs cells slots) {r : Option Nat} {i v : Int32} {K : XS → Option ρ} (h : xwr (wA (E 0 0) 0 r i v) K S = some res) (d : decode cc pc = .ok (.iastore, 1))
    (kk : ∀ (S : XS) (H1 : Heap) (locs1 : List Loc), XG D dA Hb R s S H1 locs1 cells slots → K S = some res → W p l e R s m args below meth c H1 locs1 cells slots Q (F0 m (pc + 1) ls rest)) : W p l e R s m args below meth c H locs cells slots Q (F0 m pc ls (.int v :: .int i :: va_rf r :: rest)) := by
  obtain ⟨T, h1, h2⟩ := xwr_inv h
  obtain ⟨a, n, f, rfl, hs, hb, hin, rfl⟩ := wA_inv h1
  have hE : E 0 0 = Hb.size := X.2.2.2.2.2.2.2.2.2.2.2.2.2.2
  rw [hE] at hb
  obtain ⟨cell, e1, e2, e3, e4, e5, e6, e7⟩ := hG.1.2.1 a _ hs
  have hin' := xin_in hin
  refine W.iast X.1 X.2.1 e1 e2 e3 (by rw [e4]; exact hin') rfl rfl d fun H1 f1 f2 f3 => ?_
  refine kk _ H1 _ (hG.set f2 f3 hb (xat_arr (y := (n, .inl (upd f i.toNatClampNeg (xkeep 0 v)))) ((X.2.2.2.2.2.2.1 0 (by decide)).1) (by decide) (e6 hb).1 f1 rfl ?_)) h2
  funext j
  simp only [xel, updV, upd, xkeep]
  split <;> rfl
theorem s_bast (X : XX D dA E Hb p s m args c cc nL own) (hG : XG D dA Hb R s S H locs cells slots) {r : Option Nat} {i v : Int32} {K : XS → Option ρ} (h : xwr (wA (E 0 0) 1 r i v) K S = some res) (d : decode cc pc = .ok (.bastore, 1))
    (kk : ∀ (S : XS) (H1 : Heap) (locs1 : List Loc), XG D dA Hb R s S H1 locs1 cells slots → K S = some res → W p l e R s m args below meth c H1 locs1 cells slots Q (F0 m (pc + 1) ls rest)) : W p l e R s m args below meth c H locs cells slots Q (F0 m pc ls (.int v :: .int i :: va_rf r :: rest)) := by
  obtain ⟨T, h1, h2⟩ := xwr_inv h
  obtain ⟨a, n, f, rfl, hs, hb, hin, rfl⟩ := wA_inv h1
  have hE : E 0 0 = Hb.size := X.2.2.2.2.2.2.2.2.2.2.2.2.2.2
  rw [hE] at hb
  obtain ⟨cell, e1, e2, e3, e4, e5, e6, e7⟩ := hG.1.2.1 a _ hs
  have hin' := xin_in hin
  refine W.bast X.1 X.2.1 e1 e2 e3 (by rw [e4]; exact hin') rfl rfl d fun H1 f1 f2 f3 => ?_
  refine kk _ H1 _ (hG.set f2 f3 hb (xat_arr (y := (n, .inl (upd f i.toNatClampNeg (xkeep 1 v)))) ((X.2.2.2.2.2.2.1 1 (by decide)).1) (by decide) (e6 hb).1 f1 rfl ?_)) h2
  funext j
  simp only [xel, updV, upd, xkeep]
  split <;> rfl
theorem s_last (X : XX D dA E Hb p s m args c cc nL own) (hG : XG D dA Hb R s S H locs cells slots) {r : Option Nat} {i : Int32} {v : Int64} {K : XS → Option ρ} (h : xwr (wL (E 0 0) r i v) K S = some res) (d : decode cc pc = .ok (.lastore, 1))
    (kk : ∀ (S : XS) (H1 : Heap) (locs1 : List Loc), XG D dA Hb R s S H1 locs1 cells slots → K S = some res → W p l e R s m args below meth c H1 locs1 cells slots Q (F0 m (pc + 1) ls rest)) : W p l e R s m args below meth c H locs cells slots Q (F0 m pc ls (.long v :: .int i :: va_rf r :: rest)) := by
  obtain ⟨T, h1, h2⟩ := xwr_inv h
  obtain ⟨a, n, f, rfl, hs, hb, hin, rfl⟩ := wL_inv h1
  have hE : E 0 0 = Hb.size := X.2.2.2.2.2.2.2.2.2.2.2.2.2.2
  rw [hE] at hb
  obtain ⟨cell, e1, e2, e3, e4, e5, e6, e7⟩ := hG.1.2.1 a _ hs
  have hin' := xin_in hin
  refine W.last X.1 X.2.1 e1 e2 e3 (by rw [e4]; exact hin') rfl rfl d fun H1 f1 f2 f3 => ?_
  refine kk _ H1 _ (hG.set f2 f3 hb (xat_arr (y := (n, .inr (.inl (vp_updL f i.toNatClampNeg v)))) ((X.2.2.2.2.2.2.1 2 (by decide)).1) (by decide) (e6 hb).1 f1 rfl ?_)) h2
  funext j
  simp only [xel, updV, vp_updL]
  split <;> rfl
end XROWS

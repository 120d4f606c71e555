/-! a token that may be here; a plain number -/
def isH (T : Nat → Tok) (k i : Nat) : Rs (Nat × Bool) := if tK (T i) = k then bd (mNx T i) (fun j => .inr (j, true)) else .inr (i, false)
theorem p_isHere {d : Nat} (hd : 9 ≤ d) {σ : SG} {b : Nat → Nat} {n N m : Nat} {mn : Bool} {K : Nat} (hc : PC σ b n N m mn K) {v0 : Int64} {w0 : Int32} {i o : Nat} {sg pl wd cd : List Int32} {c : Nat} (h1 : sg.length ≤ K) (h2 : pl.length ≤ K) (h3 : wd.length ≤ K) (hi : i ≤ N) (hg : tK (sq b n 0 i) ≠ 404) {k : Nat} (hk : VK k) (hk3 : k ≠ 403) : CV σ K (mS true d 45 [.ref 27, .int (z3 (kC k))] (ps (sq b n 0) v0 w0 m σ i o sg pl wd cd c)) (bd (isH (sq b n 0) k i) (fun q => .inr (some (.int (zb q.2)), ps (sq b n 0) v0 w0 m σ q.1 o sg pl wd cd c))) := by
  have hv := sq_VK hc.1 i hg
  have l1 := kC_lt hv
  have l2 := kC_lt hk
  rw [sX2_isHere_0 _ _ (by omega), ps_kind]
  unfold isH
  by_cases g : tK (sq b n 0 i) = k
  · rw [if_pos g, if_pos (by rw [g])]
    have P := p_next (d := d - 1) (by omega) hc (v0 := v0) (w0 := w0) (o := o) (cd := cd) (c := c) h1 h2 h3 (TN_lt hc.2.1 hi hg (by omega))
    cases hx : mNx (sq b n 0) i with
    | inl e =>
      rw [hx] at P
      obtain ⟨σ', e1, e2⟩ := P
      exact ⟨σ', by rw [e1, kV_thr], e2⟩
    | inr j =>
      rw [hx] at P
      have P : mS true (d - 1) 30 [.ref 27] (ps (sq b n 0) v0 w0 m σ i o sg pl wd cd c) = some (.inl none, ps (sq b n 0) v0 w0 m σ j o sg pl wd cd c) := P
      rw [P, kV_some, nlit]
      exact CV_ok ..
  · rw [if_neg g, if_neg (by rw [z3_inj (by omega) (by omega), kC_eq hv hk]; exact g), nlit]
    exact CV_ok ..
def mPl (T : Nat → Tok) (i : Nat) : Rs Nat := if tK (T i) = 401 then mNx T i else .inl (2, tF (T i))
theorem p_plain {d : Nat} (hd : 9 ≤ d) {σ : SG} {b : Nat → Nat} {n N m : Nat} {mn : Bool} {K : Nat} (hc : PC σ b n N m mn K) {v0 : Int64} {w0 : Int32} {i o : Nat} {sg pl wd cd : List Int32} {c : Nat} (h1 : sg.length ≤ K) (h2 : pl.length ≤ K) (h3 : wd.length ≤ K) (hi : i ≤ N) (hg : tK (sq b n 0 i) ≠ 404) : CV σ K (mS true d 54 [.ref 31] (ps (sq b n 0) v0 w0 m σ i o sg pl wd cd c)) (bd (mPl (sq b n 0) i) (fun j => .inr (some (.int (z6 (tV (sq b n 0 i))).toInt32), ps (sq b n 0) v0 w0 m σ j o sg pl wd cd c))) := by
  have hv := sq_VK hc.1 i hg
  have l1 := kC_lt hv
  rw [sX3_plain_0 _ (by omega), ps_kind, show (258 : Int32) = z3 (kC 401) by rw [nlit]; rfl]
  unfold mPl
  by_cases g : tK (sq b n 0 i) = 401
  · rw [if_pos g, if_pos (by rw [g]), sX3_plain_19 _ (by omega), ps_from, show (1 : Int32) = z3 1 by rw [nlit], show (2 : Int32) = z3 2 by rw [nlit], ← zb_t, p_need (by omega), if_pos rfl, kV_some, ps_val, sv_num _ _ (by simp [tNum, g])]
    refine CV_V (p_next (by omega) hc h1 h2 h3 (TN_lt hc.2.1 hi hg (by omega))) (fun a _ => CV_ok ..)
  · rw [if_neg g, if_neg (by rw [z3_inj (by omega) (by decide), kC_eq hv (by unfold VK; omega)]; exact g), sX3_plain_19 _ (by omega), ps_from, show (0 : Int32) = z3 0 by rw [nlit], show (2 : Int32) = z3 2 by rw [nlit], ← zb_f, p_need (by omega), if_neg (by simp), kV_thr]
    exact p_flw h1 h2 h3 _ _

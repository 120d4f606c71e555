/-! codes, widths, costs, signs that wait -/
theorem lim_codes : limS 102 = 16384 := by decide
theorem p_code1 {d : Nat} (hd : 4 ≤ d) {σ : SG} {mn : Bool} (hm : sF σ 31 2 = zb mn) {T : Nat → Tok} {v0 : Int64} {w0 : Int32} {m i o : Nat} {sg pl wd cd : List Int32} {c : Nat} (hl : cd.length < 16384) (x : Int32) : mS true d 66 [.ref 31, .int x] (ps T v0 w0 m σ i o sg pl wd cd c) = some (.inl none, ps T v0 w0 m σ i o sg pl wd (cd ++ (bif mn then [x] else [])) c) := by
  rw [sX3_code_2_0 _ hd, ps_F, hm, nlit]
  cases mn
  · rw [if_pos ((zb_eq0 false).2 rfl), cond_false, List.append_nil]
  · rw [if_neg (by rw [zb_eq0]; simp), rAdd_ok (l := cd) (by rw [ps_W]; rfl) (by rw [lim_codes]; exact hl), ob_v, ps_u102, cond_true]
theorem p_code {d : Nat} (hd : 5 ≤ d) {σ : SG} {mn : Bool} (hm : sF σ 31 2 = zb mn) {T : Nat → Tok} {v0 : Int64} {w0 : Int32} {m i o : Nat} {sg pl wd cd : List Int32} {c : Nat} (hl : cd.length < 16383) (x y : Int32) : mS true d 65 [.ref 31, .int x, .int y] (ps T v0 w0 m σ i o sg pl wd cd c) = some (.inl none, ps T v0 w0 m σ i o sg pl wd (cd ++ (bif mn then [x, y] else [])) c) := by
  rw [sX3_code_0 _ (by omega), p_code1 (by omega) hm (by omega), kV_some, p_code1 (by omega) hm (by cases mn <;> simp <;> omega), kV_some]
  cases mn <;> simp
theorem p_wide {d : Nat} (hd : 4 ≤ d) {σ : SG} {mn : Bool} (hm : sF σ 31 2 = zb mn) {T : Nat → Tok} {v0 : Int64} {w0 : Int32} {m i o : Nat} {sg pl wd cd : List Int32} {c : Nat} (hl : wd.length < 131072) (x : Int32) : mS true d 67 [.ref 31, .int x] (ps T v0 w0 m σ i o sg pl wd cd c) = some (.inl none, ps T v0 w0 m σ i o sg pl (wd ++ (bif mn then [x] else [])) cd c) := by
  rw [sX3_wide_0 _ hd, ps_F, hm, nlit]
  cases mn
  · rw [if_pos ((zb_eq0 false).2 rfl), cond_false, List.append_nil]
  · rw [if_neg (by rw [zb_eq0]; simp), rAdd_ok (l := wd) (by rw [ps_W]; rfl) (by rw [lim_rows.2.2]; exact hl), ob_v, ps_u36, cond_true]
theorem p_wait {d : Nat} (hd : 4 ≤ d) {σ : SG} {T : Nat → Tok} {v0 : Int64} {w0 : Int32} {m i o : Nat} {sg pl wd cd : List Int32} {c : Nat} (h1 : sg.length < 131072) (h2 : pl.length < 131072) (k r : Nat) : mS true d 63 [.ref 31, .int (z3 k), .int (z3 r)] (ps T v0 w0 m σ i o sg pl wd cd c) = some (.inl none, ps T v0 w0 m σ i o (sg ++ [z3 (16 * k + r)]) (pl ++ [z3 (tF (T i))]) wd cd c) := by
  rw [sX3_wait_0 _ hd, nlit, z3_mul, z3_add, rAdd_ok (l := sg) (by rw [ps_W]; rfl) (by rw [lim_rows.1]; exact h1), ob_v]
  simp only [ps_u32]
  rw [ps_from, rAdd_ok (l := pl) (by rw [ps_W]; rfl) (by rw [lim_rows.2.1]; exact h2), ob_v, ps_u34]
theorem p_cost {d : Nat} (hd : 4 ≤ d) {σ : SG} {T : Nat → Tok} {v0 : Int64} {w0 : Int32} {m i o : Nat} {sg pl wd cd : List Int32} {c : Nat} (hm : sF σ 31 3 = z3 m) (hm2 : m ≤ 2000) (hl : 7 * m + 6 < (sW σ 96).length) (k : Nat) (hk : k < 100000) : mS true d 70 [.ref 31, .int (z3 k)] (ps T v0 w0 m σ i o sg pl wd cd c) = some (.inl none, ps T v0 w0 m σ i o sg pl wd cd (c + k)) := by
  rw [sX3_cost_0 _ hd, ps_F, hm]
  have e : ∀ x : Int32, mnI 1501 x = mnI (z3 1501) x := fun x => by rw [nlit]
  rw [show (7 : Int32) = z3 7 by rw [nlit], show (6 : Int32) = z3 6 by rw [nlit], z3_mul, z3_add, rAt_ok (l := (sW σ 96).set (7 * m + 6) (z3 (min 1501 c))) (x := z3 (min 1501 c)) (by rw [ps_W]; rfl) (by omega) (by rw [List.getElem?_set_self (by omega)]), ob_v, z3_add, e, z3_mn (by omega) (by omega), rSet_ok (l := (sW σ 96).set (7 * m + 6) (z3 (min 1501 c))) (by rw [ps_W]; rfl) (by rw [List.length_set]; omega) (by omega), ob_v, List.set_set, show min 1501 (min 1501 c + k) = min 1501 (c + k) by omega, ps_u96]

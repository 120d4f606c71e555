/-! a binary sign is done -/
theorem zrk_op {op : Nat} (h : 0 < zrk op) : VK op ∧ zrk op < 11 ∧ kC op < 300 ∧ ((kC op = 266 ∨ kC op = 267) ↔ zrk op = 8) ∧ ((kC op = 260 ∨ kC op = 261) ↔ zrk op < 3) ∧ (kC op = 42 ↔ op = 42) ∧ op < 264 := by
  have : ∀ k, k < 264 → 0 < zrk k → zrk k < 11 ∧ kC k < 300 ∧ ((kC k = 266 ∨ kC k = 267) ↔ zrk k = 8) ∧ ((kC k = 260 ∨ kC k = 261) ↔ zrk k < 3) ∧ (kC k = 42 ↔ k = 42) := by decide +kernel
  have h2 : op < 264 := by
    unfold zrk at h
    repeat' split at h
    all_goals omega
  have := this op h2 h
  exact ⟨.inl h2, this.1, this.2.1, this.2.2.1, this.2.2.2.1, this.2.2.2.2, h2⟩
theorem p_done213 {d : Nat} (hd : 6 ≤ d) {σ : SG} (hm : sF σ 31 2 = z3 1) {T : Nat → Tok} {v0 : Int64} {w0 : Int32} {m i o : Nat} {sg pl wd cd : List Int32} {c : Nat} (hM : sF σ 31 3 = z3 m) (hm2 : m ≤ 2000) (hl : 7 * m + 6 < (sW σ 96).length) (hc : cd.length < 16000) (hw : wd.length < 131072) {op a k : Nat} (hop : 0 < zrk op) (hk : k < 100000) (ha : a < 1000) : evS true d 73 213 [(0, .ref 31), (1, .int (z3 (kC op))), (5, .int (z3 a)), (7, .int (zb (decide (zrk op < 3))))] [.int (z3 k), .ref 31] (ps T v0 w0 m σ i o sg pl wd cd c) = some (.inl none, ps T v0 w0 m σ i o sg pl (wd ++ [z3 (mMd op a)]) (cd ++ [z3 5, z3 (kC op)]) (c + k)) := by
  have hm' : sF σ 31 2 = zb true := hm
  have Z := zrk_op hop
  have hr : zrk op < 100 := by omega
  rw [sX3_done_213 _ (by omega), p_cost (by omega) hM hm2 hl _ hk, kV_some, p_rank Z.1, kI_some]
  have hadd : ∀ v, rAdd (ps T v0 w0 m σ i o sg pl wd cd (c + k)) 36 v = some (z3 wd.length, ps T v0 w0 m σ i o sg pl (wd ++ [v]) cd (c + k)) := fun v => by
    rw [rAdd_ok (l := wd) (by rw [ps_W]; rfl) (by rw [lim_rows.2.2]; exact hw), ps_u36]
  have hcod : ∀ wd' x y, mS true (d - 1) 65 [.ref 31, .int x, .int y] (ps T v0 w0 m σ i o sg pl wd' cd (c + k)) = some (.inl none, ps T v0 w0 m σ i o sg pl wd' (cd ++ [x, y]) (c + k)) := fun wd' x y => by
    rw [p_code (by omega) hm' (by omega), cond_true]
  rw [hadd, hadd, ob_v, ob_v]
  simp only [hcod, kV_some]
  unfold mMd
  rw [show (5 : Int32) = z3 5 by rw [nlit], show (1 : Int32) = z3 1 by rw [nlit], show (0 : Int32) = z3 0 by rw [nlit], show (6 : Int32) = z3 6 by rw [nlit], show (7 : Int32) = z3 7 by rw [nlit]]
  by_cases g : zrk op < 3
  · rw [decide_eq_true g, if_neg (by decide), if_pos (.inl g)]
  · rw [decide_eq_false g, if_pos (by decide)]
    by_cases g6 : zrk op = 6
    · rw [if_pos (by rw [g6]), if_pos (.inr (.inl g6))]
    · rw [if_neg (by rw [z3_inj (by omega) (by omega)]; exact g6)]
      by_cases g7 : zrk op = 7
      · rw [if_pos (by rw [g7]), if_pos (.inr (.inr g7))]
      · rw [if_neg (by rw [z3_inj (by omega) (by omega)]; exact g7), if_neg (by omega)]
theorem p_done145 {d : Nat} (hd : 6 ≤ d) {σ : SG} {K : Nat} (hm : sF σ 31 2 = z3 1) {T : Nat → Tok} {v0 : Int64} {w0 : Int32} {m i o : Nat} {sg pl wd cd : List Int32} {c : Nat} (hM : sF σ 31 3 = z3 m) (hm2 : m ≤ 2000) (hl : 7 * m + 6 < (sW σ 96).length) (hc : cd.length < 16000) (hw : wd.length < 131072) (k1 : sg.length ≤ K) (k2 : pl.length ≤ K) (k3 : wd.length ≤ K) {op a e p : Nat} (hop : 0 < zrk op) (ha : a < 100) (he : e < 100) : CV σ K (evS true d 73 145 [(0, .ref 31), (1, .int (z3 (kC op))), (2, .int (z3 p)), (4, .int (z3 e)), (5, .int (z3 a)), (6, .int (zb (decide (zrk op = 8))))] [.int (zb (decide (zrk op < 3)))] (ps T v0 w0 m σ i o sg pl wd cd c)) (if (zrk op < 3 ∨ zrk op = 8) ∨ a = e then .inr (none, ps T v0 w0 m σ i o sg pl (wd ++ [z3 (mMd op a)]) (cd ++ [z3 5, z3 (kC op)]) (c + mCt op a e)) else .inl (30, p)) := by
  have Z := zrk_op hop
  have haa : a * a ≤ 100 * 100 := Nat.mul_le_mul (by omega) (by omega)
  have hn : ∀ x : Bool, mS true (d - 1) 49 [.ref 31, .int (zb x), .int (z3 30), .int (z3 p)] (ps T v0 w0 m σ i o sg pl wd cd c) = if x = true then some (.inl none, ps T v0 w0 m σ i o sg pl wd cd c) else some (.inr 0, flw (ps T v0 w0 m σ i o sg pl wd cd c) 30 p) := fun x => p_need (by omega)
  have n1 := hn true
  have n0 := hn false
  rw [if_pos rfl, zb_t] at n1
  rw [if_neg (by simp), zb_f] at n0
  have tail : (if zb (decide (zrk op = 8)) = 0 then
          if z3 (kC op) = 42 then
            evS true d 73 213 [(0, .ref 31), (1, .int (z3 (kC op))), (5, .int (z3 a)), (7, .int (zb (decide (zrk op < 3))))] [.int (z3 a * z3 a), .ref 31] (ps T v0 w0 m σ i o sg pl wd cd c)
          else
            evS true d 73 213 [(0, .ref 31), (1, .int (z3 (kC op))), (5, .int (z3 a)), (7, .int (zb (decide (zrk op < 3))))] [.int (mxI (z3 a) (z3 e)), .ref 31] (ps T v0 w0 m σ i o sg pl wd cd c)
        else
          evS true d 73 213 [(0, .ref 31), (1, .int (z3 (kC op))), (5, .int (z3 a)), (7, .int (zb (decide (zrk op < 3))))] [.int (3 * z3 a + z3 e), .ref 31] (ps T v0 w0 m σ i o sg pl wd cd c)) = some (.inl none, ps T v0 w0 m σ i o sg pl (wd ++ [z3 (mMd op a)]) (cd ++ [z3 5, z3 (kC op)]) (c + mCt op a e)) := by
    unfold mCt
    by_cases g8 : zrk op = 8
    · rw [decide_eq_true g8, if_neg (by decide), if_pos g8, show (3 : Int32) = z3 3 by rw [nlit], z3_mul, z3_add, p_done213 hd hm hM hm2 hl hc hw hop (by omega) (by omega)]
    · rw [decide_eq_false g8, if_pos (by decide), if_neg g8, show (42 : Int32) = z3 42 by rw [nlit]]
      by_cases g42 : op = 42
      · rw [if_pos (by rw [Z.2.2.2.2.2.1.2 g42]), if_pos g42, z3_mul, p_done213 hd hm hM hm2 hl hc hw hop (by omega) (by omega)]
      · rw [if_neg (by rw [z3_inj (by omega) (by omega), Z.2.2.2.2.2.1]; exact g42), if_neg g42, z3_mx (by omega) (by omega), p_done213 hd hm hM hm2 hl hc hw hop (by omega) (by omega)]
  rw [sX3_done_145 _ (by omega), show (30 : Int32) = z3 30 by rw [nlit], show (1 : Int32) = z3 1 by rw [nlit], n1, kV_some, tail]
  by_cases g8 : zrk op = 8
  · rw [decide_eq_true g8, if_neg (by decide), if_pos (.inl (.inr g8))]
    exact CV_ok ..
  · rw [decide_eq_false g8, if_pos (by decide)]
    by_cases g3 : zrk op < 3
    · rw [decide_eq_true g3, if_neg (by decide), if_pos (.inl (.inl g3))]
      exact CV_ok ..
    · rw [decide_eq_false g3, if_pos (by decide)]
      by_cases g : a = e
      · rw [if_pos (by rw [g]), if_pos (.inr g)]
        exact CV_ok ..
      · rw [if_neg (by rw [z3_inj (by omega) (by omega)]; exact g), if_neg (by omega), show (0 : Int32) = z3 0 by rw [nlit], n0, kV_thr]
        exact p_flw k1 k2 k3 _ _

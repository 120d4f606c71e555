theorem p_doneB {d : Nat} (hd : 6 ≤ d) {σ : SG} {K : Nat} (hm : sF σ 31 2 = z3 1) {T : Nat → Tok} {v0 : Int64} {w0 : Int32} {m i o : Nat} {sg pl wd cd : List Int32} {c : Nat} (hM : sF σ 31 3 = z3 m) (hm2 : m ≤ 2000) (hl : 7 * m + 6 < (sW σ 96).length) (hc : cd.length < 16000) (hw : wd.length < 131072) (k1 : sg.length ≤ K) (k2 : pl.length ≤ K) (k3 : wd.length ≤ K) {op a e p : Nat} (hop : 0 < zrk op) (ha : a < 100) (he : e < 100) : CV σ K (mS true d 73 [.ref 31] (ps T v0 w0 m σ i o (sg ++ [z3 (16 * kC op + zrk op)]) (pl ++ [z3 p]) (wd ++ [z3 a] ++ [z3 e]) cd c)) (if (zrk op < 3 ∨ zrk op = 8) ∨ a = e then .inr (none, ps T v0 w0 m σ i o sg pl (wd ++ [z3 (mMd op a)]) (cd ++ [z3 5, z3 (kC op)]) (c + mCt op a e)) else .inl (30, p)) := by
  have Z := zrk_op hop
  have E := z3_sg (k := kC op) (r := zrk op) (by omega) (by omega)
  have D := p_done145 hd hm (T := T) (v0 := v0) (w0 := w0) (i := i) (o := o) (c := c) (K := K) (p := p) hM hm2 hl hc hw k1 k2 k3 hop ha he
  have key : mS true d 73 [.ref 31] (ps T v0 w0 m σ i o (sg ++ [z3 (16 * kC op + zrk op)]) (pl ++ [z3 p]) (wd ++ [z3 a] ++ [z3 e]) cd c) = evS true d 73 145 [(0, .ref 31), (1, .int (z3 (kC op))), (2, .int (z3 p)), (4, .int (z3 e)), (5, .int (z3 a)), (6, .int (zb (decide (zrk op = 8))))] [.int (zb (decide (zrk op < 3)))] (ps T v0 w0 m σ i o sg pl wd cd c) := by
    rw [sX3_done_0 _ (by omega), rTake_ok (l := sg) (v := z3 (16 * kC op + zrk op)) (by rw [ps_W]; rfl), ob_v, ps_u32, rTake_ok (l := pl) (v := z3 p) (by rw [ps_W]; rfl), ob_v, ps_u34, ps_F, hm, show (0 : Int32) = z3 0 by rw [nlit], if_neg (by decide), show (16 : Int32) = z3 16 by rw [nlit]]
    simp only []
    rw [E.2, if_neg (by rw [nlit, z3_inj (by omega) (by omega)]; show ¬ zrk op = 11; omega), sX3_done_38 _ (by omega), rTake_ok (l := wd ++ [z3 a]) (v := z3 e) (by rw [ps_W]; rfl), ob_v, ps_u36]
    rw [if_pos (by rw [nlit]), rTake_ok (l := wd) (v := z3 a) (by rw [ps_W]; rfl), ob_v, ps_u36]
    simp only [show (16 : Int32) = z3 16 by rw [nlit], E.1]
    have q : ∀ v : Nat, v < 1000 → (z3 (kC op) = @OfNat.ofNat Int32 v _ ↔ kC op = v) := fun v hv => z3_inj (a := kC op) (b := v) (by omega) (by omega)
    have q1 := q 266 (by omega)
    have q2 := q 267 (by omega)
    have q3 := q 260 (by omega)
    have q4 := q 261 (by omega)
    have s8 : (kC op = 266 ∨ kC op = 267) ↔ zrk op = 8 := Z.2.2.2.1
    have s3 : (kC op = 260 ∨ kC op = 261) ↔ zrk op < 3 := Z.2.2.2.2.1
    by_cases t1 : kC op = 266
    · have h8 : zrk op = 8 := s8.1 (.inl t1)
      rw [if_pos (q1.2 t1), if_neg (fun g => by have := q3.1 g; omega), if_neg (fun g => by have := q4.1 g; omega), decide_eq_true h8, decide_eq_false (by omega)]; rfl
    · rw [if_neg (fun g => t1 (q1.1 g))]
      by_cases t2 : kC op = 267
      · have h8 : zrk op = 8 := s8.1 (.inr t2)
        rw [if_pos (q2.2 t2), if_neg (fun g => by have := q3.1 g; omega), if_neg (fun g => by have := q4.1 g; omega), decide_eq_true h8, decide_eq_false (by omega)]; rfl
      · have h8 : ¬ zrk op = 8 := fun g => by have := s8.2 g; omega
        rw [if_neg (fun g => t2 (q2.1 g)), decide_eq_false h8]
        by_cases t3 : kC op = 260
        · rw [if_pos (q3.2 t3), decide_eq_true (s3.1 (.inl t3))]; rfl
        · rw [if_neg (fun g => t3 (q3.1 g))]
          by_cases t4 : kC op = 261
          · rw [if_pos (q4.2 t4), decide_eq_true (s3.1 (.inr t4))]; rfl
          · rw [if_neg (fun g => t4 (q4.1 g)), decide_eq_false (fun g => by have := s3.2 g; omega)]; rfl
  rw [key]; exact D

/-! ranks; the latest sign is done -/
def rC (x : Nat) : Nat := if x = 38 then 5 else if x = 42 then 10 else if x = 43 then 9 else if x = 45 then 9 else if x = 60 then 7 else if x = 62 then 7 else if x = 94 then 4 else if x = 124 then 3 else if x = 260 then 2 else if x = 261 then 1 else if x = 262 then 6 else if x = 263 then 6 else if x = 264 then 7 else if x = 265 then 7 else if x = 266 then 8 else if x = 267 then 8 else 0
theorem ite_z3 {c : Prop} [Decidable c] (a b : Nat) (h : SG) : (if c then (some (.inl (some (.int (z3 a))), h) : RSG) else some (.inl (some (.int (z3 b))), h)) = some (.inl (some (.int (z3 (if c then a else b)))), h) := by
  split <;> rfl
theorem p_rank0 {d : Nat} {h : SG} {x : Nat} (hx : x < 100000) : mS true d 74 [.int (z3 x)] h = some (.inl (some (.int (z3 (rC x)))), h) := by
  rw [sX3_rank_0]
  have q : ∀ v : Nat, v < 1000 → (z3 x = @OfNat.ofNat Int32 v _ ↔ x = v) := fun v hv => z3_inj (a := x) (b := v) (by omega) (by omega)
  by_cases h38 : x = 38
  · subst h38; rfl
  rw [if_neg (fun g => h38 ((q 38 (by omega)).1 g))]
  by_cases h42 : x = 42
  · subst h42; rfl
  rw [if_neg (fun g => h42 ((q 42 (by omega)).1 g))]
  by_cases h43 : x = 43
  · subst h43; rfl
  rw [if_neg (fun g => h43 ((q 43 (by omega)).1 g))]
  by_cases h45 : x = 45
  · subst h45; rfl
  rw [if_neg (fun g => h45 ((q 45 (by omega)).1 g))]
  by_cases h60 : x = 60
  · subst h60; rfl
  rw [if_neg (fun g => h60 ((q 60 (by omega)).1 g))]
  by_cases h62 : x = 62
  · subst h62; rfl
  rw [if_neg (fun g => h62 ((q 62 (by omega)).1 g))]
  by_cases h94 : x = 94
  · subst h94; rfl
  rw [if_neg (fun g => h94 ((q 94 (by omega)).1 g))]
  by_cases h124 : x = 124
  · subst h124; rfl
  rw [if_neg (fun g => h124 ((q 124 (by omega)).1 g))]
  by_cases h260 : x = 260
  · subst h260; rfl
  rw [if_neg (fun g => h260 ((q 260 (by omega)).1 g))]
  by_cases h261 : x = 261
  · subst h261; rfl
  rw [if_neg (fun g => h261 ((q 261 (by omega)).1 g))]
  by_cases h262 : x = 262
  · subst h262; rfl
  rw [if_neg (fun g => h262 ((q 262 (by omega)).1 g))]
  by_cases h263 : x = 263
  · subst h263; rfl
  rw [if_neg (fun g => h263 ((q 263 (by omega)).1 g))]
  by_cases h264 : x = 264
  · subst h264; rfl
  rw [if_neg (fun g => h264 ((q 264 (by omega)).1 g))]
  by_cases h265 : x = 265
  · subst h265; rfl
  rw [if_neg (fun g => h265 ((q 265 (by omega)).1 g))]
  by_cases h266 : x = 266
  · subst h266; rfl
  rw [if_neg (fun g => h266 ((q 266 (by omega)).1 g))]
  by_cases h267 : x = 267
  · subst h267; rfl
  rw [if_neg (fun g => h267 ((q 267 (by omega)).1 g))]
  have : rC x = 0 := by unfold rC; rw [if_neg h38, if_neg h42, if_neg h43, if_neg h45, if_neg h60, if_neg h62, if_neg h94, if_neg h124, if_neg h260, if_neg h261, if_neg h262, if_neg h263, if_neg h264, if_neg h265, if_neg h266, if_neg h267]
  rw [this, nlit]
theorem rC_kC : ∀ k, k < 404 → (k < 264 ∨ (300 ≤ k ∧ k < 318) ∨ (400 ≤ k ∧ k < 404)) → rC (kC k) = zrk k := by decide +kernel
theorem p_rank {d : Nat} {h : SG} {k : Nat} (hk : VK k) : mS true d 74 [.int (z3 (kC k))] h = some (.inl (some (.int (z3 (zrk k)))), h) := by
  have := kC_lt hk
  rw [p_rank0 (by omega), rC_kC k (by unfold VK at hk; omega) hk]
theorem p_isUnary {d : Nat} {h : SG} {k : Nat} (hk : VK k) : mS true d 62 [.int (z3 (kC k))] h = some (.inl (some (.int (zb (zun k)))), h) := by
  have l := kC_lt hk
  rw [sX3_isUnary_0]
  simp (disch := omega) only [nlit, z3_inj, ite_z3]
  congr 4
  have : ∀ k, k < 404 → (k < 264 ∨ (300 ≤ k ∧ k < 318) ∨ (400 ≤ k ∧ k < 404)) → z3 (if kC k = 126 then 1 else if kC k = 33 then 1 else if kC k = 45 then 1 else if kC k = 38 then 1 else if kC k = 124 then 1 else if kC k = 94 then 1 else 0) = zb (zun k) := by decide +kernel
  rw [this k (by unfold VK at hk; omega) hk]
theorem p_done0 {d : Nat} (hd : 4 ≤ d) {σ : SG} (hm : sF σ 31 2 = z3 0) {T : Nat → Tok} {v0 : Int64} {w0 : Int32} {m i o : Nat} {sg pl wd cd : List Int32} {c : Nat} (x y : Int32) : mS true d 73 [.ref 31] (ps T v0 w0 m σ i o (sg ++ [x]) (pl ++ [y]) wd cd c) = some (.inl none, ps T v0 w0 m σ i o sg pl wd cd c) := by
  rw [sX3_done_0 _ hd, rTake_ok (l := sg) (v := x) (by rw [ps_W]; rfl), ob_v, ps_u32, rTake_ok (l := pl) (v := y) (by rw [ps_W]; rfl), ob_v, ps_u34, ps_F, hm, nlit, if_pos rfl]
theorem z3_sg {k r : Nat} (hk : k < 1000) (hr : r < 16) : z3 (16 * k + r) / z3 16 = z3 k ∧ z3 (16 * k + r) - z3 (16 * k + r) / z3 16 * z3 16 = z3 r := by
  have e : z3 (16 * k + r) / z3 16 = z3 k := by
    rw [z3_div (by omega) (by omega)]; congr 1; omega
  refine ⟨e, ?_⟩
  rw [e, z3_mul, z3_sub (by omega)]; congr 1; omega
theorem p_doneU {d : Nat} (hd : 6 ≤ d) {σ : SG} (hm : sF σ 31 2 = z3 1) {T : Nat → Tok} {v0 : Int64} {w0 : Int32} {m i o : Nat} {sg pl wd cd : List Int32} {c : Nat} (hM : sF σ 31 3 = z3 m) (hm2 : m ≤ 2000) (hl : 7 * m + 6 < (sW σ 96).length) (hc : cd.length < 16000) (hw : wd.length < 131072) {k : Nat} (hk : k < 256) (y : Int32) {w : Nat} (hw2 : w < 1000) : mS true d 73 [.ref 31] (ps T v0 w0 m σ i o (sg ++ [z3 (16 * k + 11)]) (pl ++ [y]) (wd ++ [z3 w]) cd c) = some (.inl none, ps T v0 w0 m σ i o sg pl (wd ++ [z3 (if k = 126 ∨ k = 45 then w else 1)]) (cd ++ [z3 4, z3 k]) (c + w)) := by
  have E := z3_sg (k := k) (r := 11) (by omega) (by omega)
  have hm' : sF σ 31 2 = zb true := hm
  rw [sX3_done_0 _ (by omega), rTake_ok (l := sg) (v := z3 (16 * k + 11)) (by rw [ps_W]; rfl), ob_v, ps_u32, rTake_ok (l := pl) (v := y) (by rw [ps_W]; rfl), ob_v, ps_u34, ps_F, hm, show (0 : Int32) = z3 0 by rw [nlit], if_neg (by decide), show (16 : Int32) = z3 16 by rw [nlit]]
  simp only []
  rw [E.2, if_pos (by rw [nlit]), sX3_done_38 _ (by omega), rTake_ok (l := wd) (v := z3 w) (by rw [ps_W]; rfl), ob_v, ps_u36]
  simp only [show (16 : Int32) = z3 16 by rw [nlit], E.1]
  rw [if_neg (by decide), p_cost (by omega) hM hm2 hl _ (by omega), kV_some]
  simp only [rAdd_ok (l := wd) (show sW (ps T v0 w0 m σ i o sg pl wd cd (c + w)) 36 = wd by rw [ps_W]; rfl) (by rw [lim_rows.2.2]; exact hw), ob_v, ps_u36, p_code (by omega : 5 ≤ d - 1) hm' (by omega : cd.length < 16383), kV_some, cond_true]
  simp (disch := omega) only [nlit, z3_inj]
  by_cases g1 : k = 126
  · simp [g1]
  · by_cases g2 : k = 45
    · simp [g2]
    · simp [g1, g2]

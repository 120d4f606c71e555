/-! the rows' methods, and what is read and written, in the heap of a state -/
set_option maxRecDepth 100000
theorem tn_of {n : Nat} (h : n < 2 ^ 31) : (Int32.ofNat n).toNatClampNeg = n ∧ (0 : Int32) ≤ Int32.ofNat n := by
  have h1 : (Int32.ofNat n).toInt = n := Int32.toInt_ofNat_of_lt h
  refine ⟨?_, ?_⟩
  · show (Int32.ofNat n).toInt.toNat = n
    rw [h1]; rfl
  · rw [Int32.le_iff_toInt_le, h1]
    show (0 : Int) ≤ n
    omega
theorem ix_of {k : Int32} {n : Nat} (h0 : 0 ≤ k) (h1 : k.toNatClampNeg < n) : ixN k n = true := by
  unfold ixN
  rw [decide_eq_true h0, decide_eq_true h1]; rfl
theorem ofNat_succ' (n : Nat) : Int32.ofNat n + 1 = Int32.ofNat (n + 1) := by
  rw [Int32.ofNat_add]; rfl
theorem ofNat_pred {n : Nat} (h : 0 < n) : Int32.ofNat n - 1 = Int32.ofNat (n - 1) := by
  obtain ⟨m, rfl⟩ : ∃ m, n = m + 1 := ⟨n - 1, by omega⟩
  rw [← ofNat_succ', Nat.add_sub_cancel]
  exact Int32.add_sub_cancel _ _
section
variable {b sw : Bool} {σ : SG} {h : AH} {d : Nat}
theorem row_len (hp : Rep b sw σ h) {r : Nat} (hr : r ∈ rowIds) : (sW σ r).length ≤ 262144 := by
  obtain ⟨e, cel, r1, r2, r3, r4, r5, r6, r7, r8⟩ := hp
  obtain ⟨g1, g2, g3, g4, g5, g6, -⟩ := r6 r hr
  have h12 : e r ≤ 12 := Nat.le_trans g4 (row_tg r hr).2.2.2.2
  have : 2 ^ e r ≤ 2 ^ 12 := Nat.pow_le_pow_right (by decide) h12
  have h13 : (2 : Nat) ^ 12 = 4096 := by decide
  omega
theorem rep_at {r : Nat} {k x : Int32} (hp : Rep b sw σ h) (hr : r ∈ rowIds) (hx : rAt σ r k = some x) : mth d 89 [.ref (pr sw r), .int k] h = some (.inl (some (.int x)), h) := by
  obtain ⟨e, cel, r1, r2, r3, r4, r5, r6, r7, r8⟩ := hp
  obtain ⟨g1, g2, g3, g4, g5, g6, g7, g8, g9, g10⟩ := r6 r hr
  have ht : hT h (pr sw r) = 4 := (r1 r (row_K hr)).trans (row_tg r hr).1
  unfold rAt at hx
  by_cases h0 : 0 ≤ k
  · rw [if_pos h0] at hx
    have hk := (List.getElem?_eq_some_iff.mp hx).1
    rw [eX4_at_0]
    have e1 : gR h (pr sw r) 4 0 = some (cel r) := by unfold gR; rw [if_pos ht, g1]; rfl
    have e2 : aI h (cel r) k = some x := by
      unfold aI
      rw [if_pos ⟨g2, ix_of h0 (by rw [g3]; omega)⟩, g7 _ hk, List.getD_eq_getElem?_getD, hx]; rfl
    rw [e1, ob_ok, e2, ob_ok]
  · rw [if_neg h0] at hx; cases hx
theorem rep_top {r : Nat} {x : Int32} (hp : Rep b sw σ h) (hr : r ∈ rowIds) (hx : rTop σ r = some x) : mth d 93 [.ref (pr sw r)] h = some (.inl (some (.int x)), h) := by
  have hlen := row_len hp hr
  obtain ⟨e, cel, r1, r2, r3, r4, r5, r6, r7, r8⟩ := hp
  obtain ⟨g1, g2, g3, g4, g5, g6, g7, g8, g9, g10⟩ := r6 r hr
  have ht : hT h (pr sw r) = 4 := (r1 r (row_K hr)).trans (row_tg r hr).1
  unfold rTop at hx
  rw [List.getLast?_eq_getElem?] at hx
  have hk := (List.getElem?_eq_some_iff.mp hx).1
  have hpos : 0 < (sW σ r).length := by omega
  rw [eX4_top_0]
  have e1 : gR h (pr sw r) 4 0 = some (cel r) := by unfold gR; rw [if_pos ht, g1]; rfl
  have e2 : gI h (pr sw r) 4 1 = some (Int32.ofNat (sW σ r).length) := by unfold gI; rw [if_pos ht, g5]
  have t1 := tn_of (n := (sW σ r).length - 1) (by omega)
  have e3 : aI h (cel r) (Int32.ofNat (sW σ r).length - 1) = some x := by
    rw [ofNat_pred hpos]
    unfold aI
    rw [if_pos ⟨g2, ix_of t1.2 (by rw [g3, t1.1]; omega)⟩, t1.1, g7 _ hk, List.getD_eq_getElem?_getD, hx]; rfl
  rw [e1, ob_ok, e2, ob_ok]
  show ob (aI h (cel r) (Int32.ofNat (sW σ r).length - 1)) _ = _
  rw [e3, ob_ok]
theorem rep_rset {r : Nat} {k v : Int32} {σ' : SG} (hp : Rep b sw σ h) (hr : r ∈ rowIds) (hx : rSet σ r k v = some σ') : ∃ h', mth d 91 [.ref (pr sw r), .int k, .int v] h = some (.inl none, h') ∧ Rep b sw σ' h' := by
  obtain ⟨e, cel, hp⟩ := hp
  have hpp := hp
  obtain ⟨r1, r2, r3, r4, r5, r6, r7, r8⟩ := hp
  obtain ⟨g1, g2, g3, g4, g5, g6, g7, g8, g9, g10⟩ := r6 r hr
  have ht : hT h (pr sw r) = 4 := (r1 r (row_K hr)).trans (row_tg r hr).1
  obtain ⟨⟨h0, hk⟩, rfl⟩ := if_some hx
  refine ⟨sI h (cel r) k.toNatClampNeg v, ?_, e, cel, repU_cell hr hpp (by rw [List.length_set]) ?_⟩
  · rw [eX4_set_0]
    have e1 : gR h (pr sw r) 4 0 = some (cel r) := by unfold gR; rw [if_pos ht, g1]; rfl
    have e2 : bI h (cel r) k v = some (sI h (cel r) k.toNatClampNeg v) := by
      unfold bI
      rw [if_pos ⟨g8, g2, ix_of h0 (by rw [g3]; omega)⟩]
    rw [e1, ob_ok, e2, ob_ok]
  · intro i hi
    rw [List.length_set] at hi
    rw [List.getD_eq_getElem?_getD, List.getD_eq_getElem?_getD, List.getElem?_set]
    by_cases hik : k.toNatClampNeg = i
    · rw [if_pos hik, if_pos hk, if_pos hik.symm]; rfl
    · rw [if_neg hik, if_neg (fun z => hik z.symm)]
theorem rep_take {r : Nat} {x : Int32 × SG} (hp : Rep b sw σ h) (hr : r ∈ rowIds) (hx : rTake σ r = some x) : ∃ h', mth d 92 [.ref (pr sw r)] h = some (.inl (some (.int x.1)), h') ∧ Rep b sw x.2 h' := by
  have hlen := row_len hp hr
  obtain ⟨e, cel, hp⟩ := hp
  have hpp := hp
  obtain ⟨r1, r2, r3, r4, r5, r6, r7, r8⟩ := hp
  obtain ⟨g1, g2, g3, g4, g5, g6, g7, g8, g9, g10⟩ := r6 r hr
  have ht : hT h (pr sw r) = 4 := (r1 r (row_K hr)).trans (row_tg r hr).1
  unfold rTake at hx
  cases hg : (sW σ r).getLast? with
  | none => rw [hg] at hx; cases hx
  | some v =>
    rw [hg] at hx
    cases hx
    rw [List.getLast?_eq_getElem?] at hg
    have hk := (List.getElem?_eq_some_iff.mp hg).1
    have hpos : 0 < (sW σ r).length := by omega
    have t1 := tn_of (n := (sW σ r).length - 1) (by omega)
    refine ⟨sI h (pr sw r) 1 (Int32.ofNat ((sW σ r).length - 1)), ?_, e, cel, repU_row hr hpp (by rw [List.length_dropLast]) (by omega) ?_⟩
    · rw [eX4_take_0]
      have e1 : gR h (pr sw r) 4 0 = some (cel r) := by unfold gR; rw [if_pos ht, g1]; rfl
      have e2 : gI h (pr sw r) 4 1 = some (Int32.ofNat (sW σ r).length) := by unfold gI; rw [if_pos ht, g5]
      have e3 : pI h (pr sw r) 4 1 (Int32.ofNat ((sW σ r).length - 1)) = some (sI h (pr sw r) 1 (Int32.ofNat ((sW σ r).length - 1))) := by unfold pI; rw [if_pos ht]
      have e4 : aI (sI h (pr sw r) 1 (Int32.ofNat ((sW σ r).length - 1))) (cel r) (Int32.ofNat ((sW σ r).length - 1)) = some v := by
        unfold aI
        have e5 : hI (sI h (pr sw r) 1 (Int32.ofNat ((sW σ r).length - 1))) (cel r) ((sW σ r).length - 1) = hI h (cel r) ((sW σ r).length - 1) := if_neg (fun z => g10 r (row_K hr) z.1.symm)
        have g2' : hT (sI h (pr sw r) 1 (Int32.ofNat ((sW σ r).length - 1))) (cel r) = 20 := g2
        have g3' : hN (sI h (pr sw r) 1 (Int32.ofNat ((sW σ r).length - 1))) (cel r) = 64 * 2 ^ e r := g3
        rw [if_pos ⟨g2', ix_of t1.2 (by rw [g3', t1.1]; omega)⟩, t1.1, e5, g7 _ hk, List.getD_eq_getElem?_getD, hg]; rfl
      rw [e1, ob_ok, e2, ob_ok]
      show ob (pI h (pr sw r) 4 1 (Int32.ofNat (sW σ r).length - 1)) (fun h3 => ob (aI h3 (cel r) (Int32.ofNat (sW σ r).length - 1)) _) = _
      rw [ofNat_pred hpos, e3, ob_ok, e4, ob_ok]
    · intro i hi
      rw [g7 i (by omega), List.getD_eq_getElem?_getD, List.getD_eq_getElem?_getD, List.dropLast_eq_take, List.getElem?_take, if_pos hi]
theorem rep_sz {r : Nat} {x : Int32} {σ' : SG} (hp : Rep b sw σ h) (hr : r ∈ rowIds) (hx : pSz σ r x = some σ') : pI h (pr sw r) 4 1 x = some (sI h (pr sw r) 1 x) ∧ Rep b sw σ' (sI h (pr sw r) 1 x) := by
  have hlen := row_len hp hr
  obtain ⟨e, cel, hp⟩ := hp
  have hpp := hp
  obtain ⟨r1, r2, r3, r4, r5, r6, r7, r8⟩ := hp
  obtain ⟨g1, g2, g3, g4, g5, g6, g7, g8, g9, g10⟩ := r6 r hr
  have ht : hT h (pr sw r) = 4 := (r1 r (row_K hr)).trans (row_tg r hr).1
  obtain ⟨⟨h0, hk⟩, rfl⟩ := if_some hx
  have hxe : x = Int32.ofNat x.toNatClampNeg := by
    apply Int32.toInt.inj
    rw [Int32.toInt_ofNat_of_lt (by omega)]
    have h1 := Int32.le_iff_toInt_le.mp h0
    have h2 : (0 : Int32).toInt = 0 := rfl
    have h3 : x.toNatClampNeg = x.toInt.toNat := rfl
    omega
  refine ⟨by unfold pI; rw [if_pos ht], e, cel, ?_⟩
  have key := repU_row (n := x.toNatClampNeg) (l := (sW σ r).take x.toNatClampNeg) hr hpp (by rw [List.length_take]; omega) (by omega) (fun i hi => by
    rw [g7 i (by omega), List.getD_eq_getElem?_getD, List.getD_eq_getElem?_getD, List.getElem?_take, if_pos hi])
  rw [← hxe] at key
  exact key
theorem two_mul' (n : Nat) : (2 : Int32) * Int32.ofNat n = Int32.ofNat (2 * n) := by
  rw [Int32.ofNat_mul]; rfl
theorem rep_add {r : Nat} {v : Int32} {x : Int32 × SG} (hp : Rep b sw σ h) (hr : r ∈ rowIds) (hx : rAdd σ r v = some x) : ∃ h', mth (d + 1) 90 [.ref (pr sw r), .int v] h = some (.inl (some (.int x.1)), h') ∧ Rep b sw x.2 h' := by
  have hlen := row_len hp hr
  obtain ⟨e, cel, hp⟩ := hp
  obtain ⟨hlt, rfl⟩ := if_some hx
  -- the end of the method, with room in the cells
  have fin : ∀ (h : AH) (e cel : Nat → Nat), RepU b sw σ h e cel → (sW σ r).length < 64 * 2 ^ e r → ∃ h', ev (d + 1) 90 40 [(0, .ref (pr sw r)), (1, .int v)] [] h = some (.inl (some (.int (Int32.ofNat (sW σ r).length))), h') ∧ Rep b sw (uW σ r (sW σ r ++ [v])) h' := by
    intro h e cel hp hc
    have hpp := hp
    obtain ⟨r1, r2, r3, r4, r5, r6, r7, r8⟩ := hp
    obtain ⟨g1, g2, g3, g4, g5, g6, g7, g8, g9, g10⟩ := r6 r hr
    have ht : hT h (pr sw r) = 4 := (r1 r (row_K hr)).trans (row_tg r hr).1
    have t1 := tn_of (n := (sW σ r).length) (by omega)
    have k1 := repU_cell (k := (sW σ r).length) (x := v) (l := sW σ r) hr hpp rfl (fun i hi => by rw [if_neg (by omega)])
    have hWW : sW (uW σ r (sW σ r)) r = sW σ r := if_pos rfl
    have hcel : hI (sI h (cel r) (sW σ r).length v) (cel r) (sW σ r).length = v := if_pos ⟨rfl, rfl⟩
    have k2 := repU_row (n := (sW σ r).length + 1) (l := sW σ r ++ [v]) hr k1 (by simp) (by omega) (fun i hi => by
      rw [List.getD_eq_getElem?_getD]
      by_cases hi2 : i = (sW σ r).length
      · rw [hi2, hcel, List.getElem?_append_right (Nat.le_refl _), Nat.sub_self]; rfl
      · rw [List.getElem?_append_left (by omega), ← List.getD_eq_getElem?_getD]
        show (if cel r = cel r ∧ i = (sW σ r).length then v else hI h (cel r) i) = _
        rw [if_neg (fun z => hi2 z.2), g7 i (by omega)])
    have hUU : uW (uW σ r (sW σ r)) r (sW σ r ++ [v]) = uW σ r (sW σ r ++ [v]) := by
      unfold uW
      congr 3
      funext q
      by_cases hq : q = r
      · rw [if_pos hq, if_pos hq]
      · rw [if_neg hq, if_neg hq]; exact if_neg hq
    rw [hUU] at k2
    refine ⟨_, ?_, e, cel, k2⟩
    rw [eX4_add_40]
    have e1 : gR h (pr sw r) 4 0 = some (cel r) := by unfold gR; rw [if_pos ht, g1]; rfl
    have e2 : gI h (pr sw r) 4 1 = some (Int32.ofNat (sW σ r).length) := by unfold gI; rw [if_pos ht, g5]
    have e3 : bI h (cel r) (Int32.ofNat (sW σ r).length) v = some (sI h (cel r) (sW σ r).length v) := by
      unfold bI
      rw [if_pos ⟨g8, g2, ix_of t1.2 (by rw [g3, t1.1]; omega)⟩, t1.1]
    have e4 : gI (sI h (cel r) (sW σ r).length v) (pr sw r) 4 1 = some (Int32.ofNat (sW σ r).length) := by
      unfold gI
      rw [if_pos (show hT (sI h (cel r) (sW σ r).length v) (pr sw r) = 4 from ht)]
      congr 1
      exact (if_neg (fun z => g10 r (row_K hr) z.1)).trans g5
    have e5 : pI (sI h (cel r) (sW σ r).length v) (pr sw r) 4 1 (Int32.ofNat ((sW σ r).length + 1)) = some (sI (sI h (cel r) (sW σ r).length v) (pr sw r) 1 (Int32.ofNat ((sW σ r).length + 1))) := by
      unfold pI
      rw [if_pos (show hT (sI h (cel r) (sW σ r).length v) (pr sw r) = 4 from ht)]
    rw [e1, ob_ok, e2, ob_ok, e3, ob_ok, e4, ob_ok]
    show ob (pI (sI h (cel r) (sW σ r).length v) (pr sw r) 4 1 (Int32.ofNat (sW σ r).length + 1)) _ = _
    rw [ofNat_succ', e5, ob_ok]
  have hpp := hp
  obtain ⟨r1, r2, r3, r4, r5, r6, r7, r8⟩ := hp
  obtain ⟨g1, g2, g3, g4, g5, g6, g7, g8, g9, g10⟩ := r6 r hr
  have ht : hT h (pr sw r) = 4 := (r1 r (row_K hr)).trans (row_tg r hr).1
  have e12 : e r ≤ 12 := Nat.le_trans g4 (row_tg r hr).2.2.2.2
  have hcap : 64 * 2 ^ e r ≤ 262144 := by
    have : 2 ^ e r ≤ 2 ^ 12 := Nat.pow_le_pow_right (by decide) e12
    have h13 : (2 : Nat) ^ 12 = 4096 := by decide
    omega
  have e1 : gR h (pr sw r) 4 0 = some (cel r) := by unfold gR; rw [if_pos ht, g1]; rfl
  have e2 : gI h (pr sw r) 4 1 = some (Int32.ofNat (sW σ r).length) := by unfold gI; rw [if_pos ht, g5]
  have e3 : aN h (cel r) = some (Int32.ofNat (64 * 2 ^ e r)) := by unfold aN; rw [if_pos (by rw [g2]; decide), g3]
  rw [eX4_add_0, e2, ob_ok, e1, ob_ok, e3, ob_ok]
  by_cases hful : (sW σ r).length = 64 * 2 ^ e r
  · rw [if_pos (by rw [hful]), ob_ok]
    have her : e r < emS r := by
      unfold limS at hlt
      rcases Nat.lt_or_ge (e r) (emS r) with z | z
      · exact z
      · exfalso
        have : 2 ^ emS r ≤ 2 ^ e r := Nat.pow_le_pow_right (by decide) z
        omega
    obtain ⟨k1, k2, k3⟩ := repU_grow (n := 64 * 2 ^ e r) hr hpp rfl hful her
    have t1 := tn_of (n := 64 * 2 ^ e r) (by omega)
    have t2 := tn_of (n := 2 * (64 * 2 ^ e r)) (by omega)
    have e4 : nA h 20 ((2 : Int32) * Int32.ofNat (sW σ r).length) = some (hC h, mkC h 20 (2 * (64 * 2 ^ e r)) (2 * (64 * 2 ^ e r))) := by
      rw [hful, two_mul']
      unfold nA
      rw [if_pos ⟨t2.2, by rw [t2.1]; omega, k2, by rw [t2.1]; exact k3⟩, t2.1]
    have hne : pr sw r ≠ hC h := by have := pr_lt (sw := sw) (tgK_lt (row_K hr)); omega
    have hcne : cel r ≠ hC h := by omega
    rw [e4, ob_ok]
    have e5 : gR (mkC h 20 (2 * (64 * 2 ^ e r)) (2 * (64 * 2 ^ e r))) (pr sw r) 4 0 = some (cel r) := by
      unfold gR
      rw [if_pos (show hT (mkC h 20 (2 * (64 * 2 ^ e r)) (2 * (64 * 2 ^ e r))) (pr sw r) = 4 from (if_neg hne).trans ht)]
      rw [show hR (mkC h 20 (2 * (64 * 2 ^ e r)) (2 * (64 * 2 ^ e r))) (pr sw r) 0 = hR h (pr sw r) 0 from if_neg hne, g1]; rfl
    have e6 : gI (mkC h 20 (2 * (64 * 2 ^ e r)) (2 * (64 * 2 ^ e r))) (pr sw r) 4 1 = some (Int32.ofNat (64 * 2 ^ e r)) := by
      unfold gI
      rw [if_pos (show hT (mkC h 20 (2 * (64 * 2 ^ e r)) (2 * (64 * 2 ^ e r))) (pr sw r) = 4 from (if_neg hne).trans ht)]
      rw [show hI (mkC h 20 (2 * (64 * 2 ^ e r)) (2 * (64 * 2 ^ e r))) (pr sw r) 1 = hI h (pr sw r) 1 from if_neg hne, g5, hful]
    rw [e5, ob_ok, e6, ob_ok]
    have e7 : acp (mkC h 20 (2 * (64 * 2 ^ e r)) (2 * (64 * 2 ^ e r))) (cel r) (hC h) 0 0 (Int32.ofNat (64 * 2 ^ e r)) = some (cpI (mkC h 20 (2 * (64 * 2 ^ e r)) (2 * (64 * 2 ^ e r))) (cel r) (hC h) 0 0 (64 * 2 ^ e r)) := by
      unfold acp
      have hz : (0 : Int32).toNatClampNeg = 0 := rfl
      rw [if_pos ⟨g8, by have : K0 = 26 := rfl; omega, (if_neg hcne).trans g2, if_pos rfl, Int32.le_refl _, Int32.le_refl _, t1.2, by
        rw [hz, t1.1, show hN (mkC h 20 (2 * (64 * 2 ^ e r)) (2 * (64 * 2 ^ e r))) (cel r) = hN h (cel r) from if_neg hcne, g3]; omega, by
        rw [hz, t1.1, show hN (mkC h 20 (2 * (64 * 2 ^ e r)) (2 * (64 * 2 ^ e r))) (hC h) = 2 * (64 * 2 ^ e r) from if_pos rfl]; omega⟩, hz, t1.1]
    rw [e7, ob_ok]
    have e8 : pR (cpI (mkC h 20 (2 * (64 * 2 ^ e r)) (2 * (64 * 2 ^ e r))) (cel r) (hC h) 0 0 (64 * 2 ^ e r)) (pr sw r) 4 0 (hC h) = some (sR (cpI (mkC h 20 (2 * (64 * 2 ^ e r)) (2 * (64 * 2 ^ e r))) (cel r) (hC h) 0 0 (64 * 2 ^ e r)) (pr sw r) 0 (.ref (hC h))) := by
      unfold pR
      rw [if_pos (show hT (cpI (mkC h 20 (2 * (64 * 2 ^ e r)) (2 * (64 * 2 ^ e r))) (cel r) (hC h) 0 0 (64 * 2 ^ e r)) (pr sw r) = 4 from (if_neg hne).trans ht)]
    rw [e8, ob_ok]
    refine fin _ _ _ k1 ?_
    rw [if_pos rfl, Nat.pow_succ]
    have : 0 < 2 ^ e r := Nat.two_pow_pos _
    omega
  · rw [if_neg (fun z => hful (by
      have h1 := congrArg Int32.toNatClampNeg z
      rw [(tn_of (by omega)).1, (tn_of (by omega)).1] at h1
      exact h1))]
    exact fin h e cel hpp (by omega)
end

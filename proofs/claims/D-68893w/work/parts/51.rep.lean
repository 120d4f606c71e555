/-! the second machine's states in the abstract heap -/
set_option maxRecDepth 100000
def pr (sw : Bool) (a : Nat) : Nat := bif sw then (if 40 ≤ a ∧ a < 92 then a + 52 else if 92 ≤ a ∧ a < 144 then a - 52 else a) else a
theorem pr_inj {sw : Bool} {a b : Nat} (h : pr sw a = pr sw b) : a = b := by
  cases sw with
  | false => exact h
  | true =>
    simp only [pr, cond_true] at h
    split at h <;> split at h <;> (try split at h) <;> (try split at h) <;> omega
theorem pr_lt {sw : Bool} {a : Nat} (h : a < 207) : pr sw a < 207 := by
  cases sw with
  | false => exact h
  | true =>
    simp only [pr, cond_true]
    split
    · omega
    · split <;> omega
theorem pr_lo {sw : Bool} {a : Nat} (h : a < 40) : pr sw a = a := by
  cases sw with
  | false => rfl
  | true =>
    simp only [pr, cond_true]
    rw [if_neg (by omega), if_neg (by omega)]
theorem pr_hi {sw : Bool} {a : Nat} (h : 40 ≤ a) : 40 ≤ pr sw a := by
  cases sw with
  | false => exact h
  | true =>
    simp only [pr, cond_true]
    split
    · omega
    · split <;> omega
/-- cells of ints and longs -/
def isPl (a : Nat) : Bool := (Nat.ble (tgS a) 10 && !Nat.beq (tgS a) 4) || (Nat.ble 20 (tgS a) && Nat.ble (tgS a) 23 && !Nat.beq a 1)
def tgK (a : Nat) : Bool := Nat.ble (tgS a) 30
theorem tg_207 : ∀ a, 207 ≤ a → tgS a = 99 := by
  intro a ha
  have h1 : ∀ n, n < 207 → Nat.beq a n = false := by
    intro n hn
    cases h : Nat.beq a n with
    | false => rfl
    | true => have := Nat.eq_of_beq_eq_true h; omega
  have h2 : ∀ n, n < 207 → Nat.ble a n = false := by
    intro n hn
    cases h : Nat.ble a n with
    | false => rfl
    | true => have := Nat.le_of_ble_eq_true h; omega
  unfold tgS
  simp only [h1 _ (show (206 : Nat) < 207 by decide), h2, show ∀ n, n < 207 → Nat.ble a n = false from h2, Nat.reduceLT, cond_false, h1]
theorem rf_207 {b : Bool} (a f : Nat) (ha : 207 ≤ a) : rfS b a f = none := by
  have h31 : Nat.beq a 31 = false := by
    cases h : Nat.beq a 31 with
    | false => rfl
    | true => have := Nat.eq_of_beq_eq_true h; omega
  have h1 : ∀ n, n < 20700 → Nat.beq (100 * a + f) n = false := by
    intro n hn
    cases h : Nat.beq (100 * a + f) n with
    | false => rfl
    | true => have := Nat.eq_of_beq_eq_true h; omega
  have h2 : ∀ n, n < 20700 → Nat.ble (100 * a + f) n = false := by
    intro n hn
    cases h : Nat.ble (100 * a + f) n with
    | false => rfl
    | true => have := Nat.le_of_ble_eq_true h; omega
  unfold rfS
  rw [h31, Bool.false_and, cond_false]
  unfold rfT
  simp only [h2, Nat.reduceLT, cond_false, h1]
theorem tgK_lt {a : Nat} (h : tgK a = true) : a < 207 := by
  rcases Nat.lt_or_ge a 207 with z | z
  · exact z
  · unfold tgK at h
    rw [tg_207 a z] at h
    cases h
theorem pl_K {a : Nat} (h : isPl a = true) : tgK a = true := by
  unfold isPl at h
  unfold tgK
  simp only [Bool.or_eq_true, Bool.and_eq_true] at h
  refine Nat.ble_eq_true_of_le ?_
  rcases h with h | h
  · have := Nat.le_of_ble_eq_true h.1; omega
  · have := Nat.le_of_ble_eq_true h.1.2; omega
theorem row_tg : ∀ r ∈ rowIds, tgS r = 4 ∧ isPl r = false ∧ r < 207 ∧ 32 ≤ r ∧ emS r ≤ 12 := by decide +kernel
theorem tg_row : ∀ a, a < 207 → tgS a = 4 → a ∈ rowIds := by decide +kernel
theorem row_nodup : rowIds.Nodup := by decide +kernel
theorem pl_lo : ∀ a, a < 40 → isPl a = true → a = 26 ∨ a = 27 ∨ a = 29 ∨ a = 30 ∨ a = 31 := by decide +kernel
/-- the heap of a state -/
def RepU (b sw : Bool) (σ : SG) (h : AH) (e cel : Nat → Nat) : Prop :=
  (∀ a, tgK a = true → hT h (pr sw a) = tgS a) ∧
  (∀ a, (Nat.ble 20 (tgS a) && Nat.ble (tgS a) 23) = true → hN h (pr sw a) = lnS a) ∧
  (∀ a, isPl a = true → hI h (pr sw a) = sF σ a ∧ hL h (pr sw a) = sJ σ a) ∧
  (∀ a f v, rfS b a f = some v → hR h (pr sw a) f = .ref (pr sw v)) ∧
  ((hI h 1 = fun j => wdB.getD j 0) ∧ (∀ a, 2 ≤ a → a < 26 → hN h a = stLn.getD (a - 2) 0 ∧ hI h a = fun j => (stBy.getD (a - 2) []).getD j 0) ∧ hN h 28 = 18 ∧ ∀ j, j < 18 → hR h 28 j = .ref (7 + j)) ∧
  (∀ r ∈ rowIds, hR h (pr sw r) 0 = .ref (cel r) ∧ hT h (cel r) = 20 ∧ hN h (cel r) = 64 * 2 ^ e r ∧ e r ≤ emS r ∧ hI h (pr sw r) 1 = Int32.ofNat (sW σ r).length ∧ (sW σ r).length ≤ 64 * 2 ^ e r ∧ (∀ i, i < (sW σ r).length → hI h (cel r) i = (sW σ r).getD i 0) ∧ K0 ≤ cel r ∧ cel r < hC h ∧ ∀ a, tgK a = true → pr sw a ≠ cel r) ∧
  (∀ r ∈ rowIds, ∀ q ∈ rowIds, cel r = cel q → r = q) ∧
  207 ≤ hC h ∧ hC h ≤ 207 + (rowIds.map e).sum + sX σ ∧ hS h ≤ S0S + (rowIds.map (fun r => 128 * 2 ^ e r)).sum + 6 * sX σ ∧ sX σ ≤ 200
def Rep (b sw : Bool) (σ : SG) (h : AH) : Prop := ∃ e cel : Nat → Nat, RepU b sw σ h e cel
section
variable {b sw : Bool} {σ : SG} {h : AH}
theorem rep_uF {a i : Nat} {x : Int32} (ha : isPl a = true) (hR : Rep b sw σ h) : Rep b sw (uF σ a i x) (sI h (pr sw a) i x) := by
  obtain ⟨e, cel, r1, r2, r3, r4, ⟨s1, s2, s3, s4⟩, r6, r7, r8⟩ := hR
  have hne : ∀ c, c ≠ pr sw a → hI (sI h (pr sw a) i x) c = hI h c := fun c hc => by funext j; exact if_neg (fun z => hc z.1)
  have haK := pl_K ha
  have hlo : ∀ c, c < 26 → c ≠ pr sw a := by
    intro c hc z
    rcases Nat.lt_or_ge a 40 with y | y
    · rw [pr_lo y] at z
      have := pl_lo a y ha
      omega
    · have := pr_hi (sw := sw) y
      omega
  refine ⟨e, cel, r1, r2, ?_, r4, ⟨?_, ?_, s3, s4⟩, ?_, r7, r8⟩
  · intro c hc
    refine ⟨?_, (r3 c hc).2⟩
    by_cases hca : c = a
    · subst hca
      funext j
      have h1 := congrFun (r3 c hc).1 j
      show (if pr sw c = pr sw c ∧ j = i then x else hI h (pr sw c) j) = (if c = c ∧ j = i then x else sF σ c j)
      by_cases hj : j = i
      · rw [if_pos ⟨rfl, hj⟩, if_pos ⟨rfl, hj⟩]
      · rw [if_neg (fun z => hj z.2), if_neg (fun z => hj z.2), h1]
    · rw [hne _ (fun z => hca (pr_inj z)), (r3 c hc).1]
      funext j
      exact (if_neg (fun z => hca z.1)).symm
  · rw [hne 1 (hlo 1 (by decide))]; exact s1
  · intro c h2 h26
    rw [hne c (hlo c h26)]
    exact s2 c h2 h26
  · intro r hr
    obtain ⟨g1, g2, g3, g4, g5, g6, g7, g8, g9, g10⟩ := r6 r hr
    have hra : r ≠ a := by
      intro z
      have := (row_tg r hr).2.1
      rw [z, ha] at this; cases this
    refine ⟨g1, g2, g3, g4, ?_, g6, ?_, g8, g9, g10⟩
    · rw [hne _ (fun z => hra (pr_inj z))]; exact g5
    · intro j hj
      rw [hne _ (fun z => g10 a haK z.symm)]; exact g7 j hj
theorem rep_uJ {a i : Nat} {x : Int64} (ha : isPl a = true) (hR : Rep b sw σ h) : Rep b sw (uJ σ a i x) (sL h (pr sw a) i x) := by
  obtain ⟨e, cel, r1, r2, r3, r4, r5, r6, r7, r8⟩ := hR
  refine ⟨e, cel, r1, r2, ?_, r4, r5, r6, r7, r8⟩
  intro c hc
  refine ⟨(r3 c hc).1, ?_⟩
  by_cases hca : c = a
  · subst hca
    funext j
    have h1 := congrFun (r3 c hc).2 j
    show (if pr sw c = pr sw c ∧ j = i then x else hL h (pr sw c) j) = (if c = c ∧ j = i then x else sJ σ c j)
    by_cases hj : j = i
    · rw [if_pos ⟨rfl, hj⟩, if_pos ⟨rfl, hj⟩]
    · rw [if_neg (fun z => hj z.2), if_neg (fun z => hj z.2), h1]
  · funext j
    show (if pr sw c = pr sw a ∧ j = i then x else hL h (pr sw c) j) = (if c = a ∧ j = i then x else sJ σ c j)
    rw [if_neg (fun z => hca (pr_inj z.1)), if_neg (fun z => hca z.1), (r3 c hc).2]
theorem lo_row {r : Nat} (hr : r ∈ rowIds) : ∀ c, c < 26 → c ≠ pr sw r := by
  intro c hc z
  have hrt := row_tg r hr
  rcases Nat.lt_or_ge r 40 with y | y
  · rw [pr_lo y] at z; omega
  · have := pr_hi (sw := sw) y; omega
theorem row_K {r : Nat} (hr : r ∈ rowIds) : tgK r = true := by unfold tgK; rw [(row_tg r hr).1]; rfl
variable {e cel : Nat → Nat}
/-- a row's size and numbers: the list that they are -/
theorem repU_row {r n : Nat} {l : List Int32} (hr : r ∈ rowIds) (hp : RepU b sw σ h e cel) (hl : l.length = n) (hn : n ≤ 64 * 2 ^ e r) (hi : ∀ i, i < n → hI h (cel r) i = l.getD i 0) : RepU b sw (uW σ r l) (sI h (pr sw r) 1 (Int32.ofNat n)) e cel := by
  obtain ⟨r1, r2, r3, r4, ⟨s1, s2, s3, s4⟩, r6, r7, r8⟩ := hp
  have hne : ∀ c, c ≠ pr sw r → hI (sI h (pr sw r) 1 (Int32.ofNat n)) c = hI h c := fun c hc => by funext j; exact if_neg (fun z => hc z.1)
  have hrt := row_tg r hr
  have hlo := lo_row (sw := sw) hr
  refine ⟨r1, r2, ?_, r4, ⟨?_, ?_, s3, s4⟩, ?_, r7, r8⟩
  · intro c hc
    refine ⟨?_, (r3 c hc).2⟩
    rw [hne _ (fun z => by have := pr_inj z; rw [this, hrt.2.1] at hc; cases hc)]
    exact (r3 c hc).1
  · rw [hne 1 (hlo 1 (by decide))]; exact s1
  · intro c h2 h26
    rw [hne c (hlo c h26)]; exact s2 c h2 h26
  · intro q hq
    obtain ⟨g1, g2, g3, g4, g5, g6, g7, g8, g9, g10⟩ := r6 q hq
    have hcr : cel q ≠ pr sw r := fun z => g10 r (row_K hr) z.symm
    by_cases hqr : q = r
    · subst hqr
      have e1 : sW (uW σ q l) q = l := if_pos rfl
      rw [e1, hl]
      refine ⟨g1, g2, g3, g4, if_pos ⟨rfl, rfl⟩, hn, ?_, g8, g9, g10⟩
      intro j hj
      rw [hne _ hcr]; exact hi j hj
    · have e1 : sW (uW σ r l) q = sW σ q := if_neg hqr
      rw [e1]
      refine ⟨g1, g2, g3, g4, ?_, g6, ?_, g8, g9, g10⟩
      · rw [hne _ (fun z => hqr (pr_inj z))]; exact g5
      · intro j hj
        rw [hne _ hcr]; exact g7 j hj
/-- a number of a row -/
theorem repU_cell {r k : Nat} {x : Int32} {l : List Int32} (hr : r ∈ rowIds) (hp : RepU b sw σ h e cel) (hl : l.length = (sW σ r).length) (hi : ∀ i, i < l.length → l.getD i 0 = if i = k then x else (sW σ r).getD i 0) : RepU b sw (uW σ r l) (sI h (cel r) k x) e cel := by
  obtain ⟨r1, r2, r3, r4, ⟨s1, s2, s3, s4⟩, r6, r7, r8⟩ := hp
  obtain ⟨f1, f2, f3, f4, f5, f6, f7, f8, f9, f10⟩ := r6 r hr
  have hne : ∀ c, c ≠ cel r → hI (sI h (cel r) k x) c = hI h c := fun c hc => by funext j; exact if_neg (fun z => hc z.1)
  have hlo : ∀ c, c < 26 → c ≠ cel r := fun c hc z => by have : K0 = 26 := rfl; omega
  refine ⟨r1, r2, ?_, r4, ⟨?_, ?_, s3, s4⟩, ?_, r7, r8⟩
  · intro c hc
    refine ⟨?_, (r3 c hc).2⟩
    rw [hne _ (f10 c (pl_K hc))]
    exact (r3 c hc).1
  · rw [hne 1 (hlo 1 (by decide))]; exact s1
  · intro c h2 h26
    rw [hne c (hlo c h26)]; exact s2 c h2 h26
  · intro q hq
    obtain ⟨g1, g2, g3, g4, g5, g6, g7, g8, g9, g10⟩ := r6 q hq
    have hpq : pr sw q ≠ cel r := f10 q (row_K hq)
    by_cases hqr : q = r
    · subst hqr
      have e1 : sW (uW σ q l) q = l := if_pos rfl
      rw [e1, hl]
      refine ⟨g1, g2, g3, g4, ?_, g6, ?_, g8, g9, g10⟩
      · rw [hne _ hpq]; exact g5
      · intro j hj
        rw [hi j (by omega)]
        show (if cel q = cel q ∧ j = k then x else hI h (cel q) j) = _
        by_cases hj2 : j = k
        · rw [if_pos ⟨rfl, hj2⟩, if_pos hj2]
        · rw [if_neg (fun z => hj2 z.2), if_neg hj2, g7 j hj]
    · have e1 : sW (uW σ r l) q = sW σ q := if_neg hqr
      rw [e1]
      refine ⟨g1, g2, g3, g4, ?_, g6, ?_, g8, g9, g10⟩
      · rw [hne _ hpq]; exact g5
      · intro j hj
        rw [hne _ (fun z => hqr (r7 q hq r hr z))]; exact g7 j hj
theorem sum_upd {l : List Nat} {g : Nat → Nat} {r x : Nat} (hn : l.Nodup) (hr : r ∈ l) : (l.map (fun q => if q = r then x else g q)).sum + g r = (l.map g).sum + x := by
  induction l with
  | nil => cases hr
  | cons a t ih =>
    rw [List.nodup_cons] at hn
    simp only [List.map_cons, List.sum_cons]
    by_cases har : a = r
    · subst har
      have : t.map (fun q => if q = a then x else g q) = t.map g := List.map_congr_left fun q hq => if_neg (fun z => hn.1 (by rw [← z]; exact hq))
      rw [this, if_pos rfl]
      omega
    · rw [if_neg har]
      have := ih hn.2 (by rcases List.mem_cons.mp hr with z | z; exact absurd z.symm har; exact z)
      omega
theorem sum_mono {l : List Nat} {f g : Nat → Nat} (h : ∀ q ∈ l, f q ≤ g q) : (l.map f).sum ≤ (l.map g).sum := by
  induction l with
  | nil => exact Nat.le_refl _
  | cons a t ih =>
    simp only [List.map_cons, List.sum_cons]
    have h1 := h a List.mem_cons_self
    have h2 := ih fun q hq => h q (List.mem_cons_of_mem _ hq)
    omega
theorem budgets : (rowIds.map emS).sum = 324 ∧ (rowIds.map (fun r => 128 * 2 ^ emS r)).sum = 4690688 ∧ S0S = 1076242 := by decide +kernel
/-- the room that is left -/
theorem repU_room (hp : RepU b sw σ h e cel) : hC h + 1 ≤ MC ∧ hS h + 6 ≤ MS := by
  obtain ⟨r1, r2, r3, r4, r5, r6, r7, r8, r9, r10, r11⟩ := hp
  have h1 := sum_mono (l := rowIds) (f := e) (g := emS) (fun q hq => (r6 q hq).2.2.2.1)
  have h2 := sum_mono (l := rowIds) (f := fun r => 128 * 2 ^ e r) (g := fun r => 128 * 2 ^ emS r) (fun q hq => Nat.mul_le_mul_left _ (Nat.pow_le_pow_right (by decide) (r6 q hq).2.2.2.1))
  obtain ⟨b1, b2, b3⟩ := budgets
  have m1 : MC = 600410 := rfl
  have m2 : MS = 7289834 := rfl
  omega
/-- a row grows -/
theorem repU_grow {r n : Nat} (hr : r ∈ rowIds) (hp : RepU b sw σ h e cel) (hn : n = 64 * 2 ^ e r) (hl : (sW σ r).length = n) (he : e r < emS r) :
    RepU b sw σ (sR (cpI (mkC h 20 (2 * n) (2 * n)) (cel r) (hC h) 0 0 n) (pr sw r) 0 (.ref (hC h))) (fun q => if q = r then e r + 1 else e q) (fun q => if q = r then hC h else cel q) ∧ hC h + 1 ≤ MC ∧ hS h + 2 * n ≤ MS := by
  have hpp := hp
  obtain ⟨r1, r2, r3, r4, ⟨s1, s2, s3, s4⟩, r6, r7, r8, r9, r10, r11⟩ := hp
  obtain ⟨f1, f2, f3, f4, f5, f6, f7, f8, f9, f10⟩ := r6 r hr
  have hw2 : 2 ^ (e r + 1) = 2 * 2 ^ e r := by rw [Nat.pow_succ]; omega
  have hroom := repU_room hpp
  have hu := sum_upd (g := e) (x := e r + 1) row_nodup hr
  have hu2 := sum_upd (g := fun q => 128 * 2 ^ e q) (x := 128 * 2 ^ (e r + 1)) row_nodup hr
  have hu3 : (rowIds.map (fun q => 128 * 2 ^ (if q = r then e r + 1 else e q))).sum = (rowIds.map (fun q => if q = r then 128 * 2 ^ (e r + 1) else 128 * 2 ^ e q)).sum := by
    congr 1
    refine List.map_congr_left fun q _ => ?_
    by_cases hq : q = r
    · rw [if_pos hq, if_pos hq]
    · rw [if_neg hq, if_neg hq]
  have hbud := sum_mono (l := rowIds) (f := fun q => 128 * 2 ^ (if q = r then e r + 1 else e q)) (g := fun r => 128 * 2 ^ emS r) (fun q hq => Nat.mul_le_mul_left _ (Nat.pow_le_pow_right (by decide) (by
    by_cases hqr : q = r
    · rw [if_pos hqr, hqr]; exact he
    · rw [if_neg hqr]; exact (r6 q hq).2.2.2.1)))
  obtain ⟨b1, b2, b3⟩ := budgets
  have m2 : MS = 7289834 := rfl
  have hcne : ∀ a, tgK a = true → pr sw a ≠ hC h := fun a ha => by have := pr_lt (sw := sw) (tgK_lt ha); omega
  have hI1 : ∀ c, c ≠ hC h → hI (sR (cpI (mkC h 20 (2 * n) (2 * n)) (cel r) (hC h) 0 0 n) (pr sw r) 0 (.ref (hC h))) c = hI h c := by
    intro c hc
    funext j
    show (if c = hC h then _ else hI (mkC h 20 (2 * n) (2 * n)) c j) = _
    rw [if_neg hc]
    exact if_neg hc
  have hT1 : ∀ c, c ≠ hC h → hT (sR (cpI (mkC h 20 (2 * n) (2 * n)) (cel r) (hC h) 0 0 n) (pr sw r) 0 (.ref (hC h))) c = hT h c := fun c hc => if_neg hc
  have hN1 : ∀ c, c ≠ hC h → hN (sR (cpI (mkC h 20 (2 * n) (2 * n)) (cel r) (hC h) 0 0 n) (pr sw r) 0 (.ref (hC h))) c = hN h c := fun c hc => if_neg hc
  have hL1 : ∀ c, c ≠ hC h → hL (sR (cpI (mkC h 20 (2 * n) (2 * n)) (cel r) (hC h) 0 0 n) (pr sw r) 0 (.ref (hC h))) c = hL h c := fun c hc => by funext j; exact if_neg hc
  have hR1 : ∀ c f, c ≠ hC h → ¬ (c = pr sw r ∧ f = 0) → hR (sR (cpI (mkC h 20 (2 * n) (2 * n)) (cel r) (hC h) 0 0 n) (pr sw r) 0 (.ref (hC h))) c f = hR h c f := by
    intro c f hc hz
    show (if c = pr sw r ∧ f = 0 then _ else hR (mkC h 20 (2 * n) (2 * n)) c f) = _
    rw [if_neg hz]
    exact if_neg hc
  have hC1 : hC (sR (cpI (mkC h 20 (2 * n) (2 * n)) (cel r) (hC h) 0 0 n) (pr sw r) 0 (.ref (hC h))) = hC h + 1 := rfl
  have hS1 : hS (sR (cpI (mkC h 20 (2 * n) (2 * n)) (cel r) (hC h) 0 0 n) (pr sw r) 0 (.ref (hC h))) = hS h + 2 * n := rfl
  have hx0 : sX σ ≤ 200 := r11
  refine ⟨⟨?_, ?_, ?_, ?_, ⟨?_, ?_, ?_, ?_⟩, ?_, ?_, ?_, ?_, ?_, r11⟩, hroom.1, ?_⟩
  · intro a ha; rw [hT1 _ (hcne a ha)]; exact r1 a ha
  · intro a ha
    have haK : tgK a = true := by
      unfold tgK
      rw [Bool.and_eq_true] at ha
      exact Nat.ble_eq_true_of_le (by have := Nat.le_of_ble_eq_true ha.2; omega)
    rw [hN1 _ (hcne a haK)]; exact r2 a ha
  · intro a ha
    rw [hI1 _ (hcne a (pl_K ha)), hL1 _ (hcne a (pl_K ha))]; exact r3 a ha
  · intro a f v hv
    have h1 := r4 a f v hv
    by_cases hz : pr sw a = pr sw r ∧ f = 0
    · exfalso
      have := pr_inj hz.1
      rw [this, hz.2] at hv
      have hno : ∀ r ∈ rowIds, ∀ b, rfS b r 0 = none := by decide +kernel
      rw [hno r hr b] at hv; cases hv
    · have hah : pr sw a ≠ hC h := by
        intro z
        have hak : a < 207 := by
          rcases Nat.lt_or_ge a 207 with y | y
          · exact y
          · exfalso
            have : rfS b a f = none := rf_207 a f y
            rw [this] at hv; cases hv
        have := pr_lt (sw := sw) hak
        omega
      rw [hR1 _ _ hah hz]; exact h1
  · rw [hI1 1 (by omega)]; exact s1
  · intro a h2 h26
    rw [hI1 a (by omega), hN1 a (by omega)]; exact s2 a h2 h26
  · rw [hN1 28 (by omega)]; exact s3
  · intro j hj
    have : (28 : Nat) ≠ pr sw r := by
      intro z
      rcases Nat.lt_or_ge r 40 with y | y
      · rw [pr_lo y] at z
        have := (row_tg r hr).2.2.2.1
        omega
      · have := pr_hi (sw := sw) y; omega
    rw [hR1 28 j (by omega) (fun z => this z.1)]; exact s4 j hj
  · intro q hq
    obtain ⟨g1, g2, g3, g4, g5, g6, g7, g8, g9, g10⟩ := r6 q hq
    by_cases hqr : q = r
    · subst hqr
      dsimp only
      rw [if_pos rfl, if_pos rfl]
      refine ⟨if_pos ⟨rfl, rfl⟩, if_pos rfl, ?_, he, ?_, ?_, ?_, by have : K0 = 26 := rfl; omega, by rw [hC1]; omega, hcne⟩
      · show (if hC h = hC h then 2 * n else _) = _
        rw [if_pos rfl, hw2]; omega
      · rw [hI1 _ (hcne q (row_K hq))]; exact g5
      · rw [hw2]; omega
      · intro j hj
        show (if hC h = hC h then va_cpy (hI (mkC h 20 (2 * n) (2 * n)) (cel q)) (hI (mkC h 20 (2 * n) (2 * n)) (hC h)) 0 0 n j else _) = _
        rw [if_pos rfl]
        unfold va_cpy
        rw [if_pos (by omega), show 0 + (j - 0) = j by omega]
        rw [show hI (mkC h 20 (2 * n) (2 * n)) (cel q) j = hI h (cel q) j from if_neg (by omega)]
        exact g7 j hj
    · dsimp only
      rw [if_neg hqr, if_neg hqr]
      have hcq : cel q ≠ hC h := by omega
      refine ⟨?_, ?_, ?_, g4, ?_, g6, ?_, g8, by rw [hC1]; omega, g10⟩
      · rw [hR1 _ _ (hcne q (row_K hq)) (fun z => hqr (pr_inj z.1))]; exact g1
      · rw [hT1 _ hcq]; exact g2
      · rw [hN1 _ hcq]; exact g3
      · rw [hI1 _ (hcne q (row_K hq))]; exact g5
      · intro j hj
        rw [hI1 _ hcq]; exact g7 j hj
  · intro q hq q2 hq2 hz
    have c1 := (r6 q hq).2.2.2.2.2.2.2.2.1
    have c2 := (r6 q2 hq2).2.2.2.2.2.2.2.2.1
    dsimp only at hz
    by_cases h1 : q = r
    · by_cases h2 : q2 = r
      · rw [h1, h2]
      · rw [if_pos h1, if_neg h2] at hz; omega
    · by_cases h2 : q2 = r
      · rw [if_neg h1, if_pos h2] at hz; omega
      · rw [if_neg h1, if_neg h2] at hz
        exact r7 q hq q2 hq2 hz
  · rw [hC1]; omega
  · rw [hC1]; omega
  · rw [hS1, hu3]
    have hpw : 128 * 2 ^ (e r + 1) = 128 * 2 ^ e r + 2 * n := by rw [hw2, hn]; omega
    omega
  · have hpw : 128 * 2 ^ (e r + 1) = 128 * 2 ^ e r + 2 * n := by rw [hw2, hn]; omega
    simp only [hu3] at hbud
    omega
/-- a new exception -/
theorem repU_exc {t : Nat} (hp : RepU b sw σ h e cel) (hx : sX σ < 200) : RepU b sw (uX σ) (mkC h t 6 6) e cel := by
  obtain ⟨r1, r2, r3, r4, ⟨s1, s2, s3, s4⟩, r6, r7, r8, r9, r10, r11⟩ := hp
  have hcne : ∀ a, tgK a = true → pr sw a ≠ hC h := fun a ha => by have := pr_lt (sw := sw) (tgK_lt ha); omega
  have hI1 : ∀ c, c ≠ hC h → hI (mkC h t 6 6) c = hI h c := fun c hc => by funext j; exact if_neg hc
  have hL1 : ∀ c, c ≠ hC h → hL (mkC h t 6 6) c = hL h c := fun c hc => by funext j; exact if_neg hc
  have hR1 : ∀ c, c ≠ hC h → hR (mkC h t 6 6) c = hR h c := fun c hc => by funext j; exact if_neg hc
  have hT1 : ∀ c, c ≠ hC h → hT (mkC h t 6 6) c = hT h c := fun c hc => if_neg hc
  have hN1 : ∀ c, c ≠ hC h → hN (mkC h t 6 6) c = hN h c := fun c hc => if_neg hc
  have hC1 : hC (mkC h t 6 6) = hC h + 1 := rfl
  have hS1 : hS (mkC h t 6 6) = hS h + 6 := rfl
  have hX1 : sX (uX σ) = sX σ + 1 := rfl
  refine ⟨?_, ?_, ?_, ?_, ⟨?_, ?_, ?_, ?_⟩, ?_, r7, ?_, ?_, ?_, ?_⟩
  · intro a ha; rw [hT1 _ (hcne a ha)]; exact r1 a ha
  · intro a ha
    have haK : tgK a = true := by
      unfold tgK
      rw [Bool.and_eq_true] at ha
      exact Nat.ble_eq_true_of_le (by have := Nat.le_of_ble_eq_true ha.2; omega)
    rw [hN1 _ (hcne a haK)]; exact r2 a ha
  · intro a ha
    rw [hI1 _ (hcne a (pl_K ha)), hL1 _ (hcne a (pl_K ha))]; exact r3 a ha
  · intro a f v hv
    have hah : pr sw a ≠ hC h := by
      intro z
      have hak : a < 207 := by
        rcases Nat.lt_or_ge a 207 with y | y
        · exact y
        · exfalso
          have : rfS b a f = none := rf_207 a f y
          rw [this] at hv; cases hv
      have := pr_lt (sw := sw) hak
      omega
    rw [hR1 _ hah]; exact r4 a f v hv
  · rw [hI1 1 (by omega)]; exact s1
  · intro a h2 h26
    rw [hI1 a (by omega), hN1 a (by omega)]; exact s2 a h2 h26
  · rw [hN1 28 (by omega)]; exact s3
  · intro j hj; rw [hR1 28 (by omega)]; exact s4 j hj
  · intro q hq
    obtain ⟨g1, g2, g3, g4, g5, g6, g7, g8, g9, g10⟩ := r6 q hq
    have hcq : cel q ≠ hC h := by omega
    refine ⟨?_, ?_, ?_, g4, ?_, g6, ?_, g8, by rw [hC1]; omega, g10⟩
    · rw [hR1 _ (hcne q (row_K hq))]; exact g1
    · rw [hT1 _ hcq]; exact g2
    · rw [hN1 _ hcq]; exact g3
    · rw [hI1 _ (hcne q (row_K hq))]; exact g5
    · intro j hj
      rw [hI1 _ hcq]; exact g7 j hj
  · rw [hC1]; omega
  · rw [hC1, hX1]; omega
  · rw [hS1, hX1]; omega
  · rw [hX1]; omega
end

/-! the component's numbers -/
def zany (p : Nat → Bool) : Nat → Nat → Bool
  | 0, _ => false
  | m + 1, k => p k || zany p m (k + 1)
theorem zany_iff {p : Nat → Bool} : ∀ {m k : Nat}, zany p m k = true ↔ ∃ j, k ≤ j ∧ j < k + m ∧ p j = true := by
  intro m
  induction m with
  | zero => intro k; simp [zany]; intro j h1 h2; omega
  | succ m ih =>
    intro k
    rw [zany, Bool.or_eq_true, ih]
    constructor
    · rintro (h | ⟨j, h1, h2, h3⟩)
      · exact ⟨k, Nat.le_refl _, by omega, h⟩
      · exact ⟨j, by omega, by omega, h3⟩
    · rintro ⟨j, h1, h2, h3⟩
      rcases Nat.lt_or_ge k j with g | g
      · exact .inr ⟨j, g, by omega, h3⟩
      · rw [show k = j by omega]; exact .inl h3
def zsz (b : Nat → Nat) (p q : Nat) : Bool := zany (fun j => b j == 39) (q - p) p
theorem x2_isSized_l {B : Bool} {d : Nat} {σ : SG} {b : Nat → Nat} {n q : Nat} (h : TX σ b n) (hq : sF σ 27 8 = z3 q) (hqn : q ≤ n) : ∀ (m k : Nat) (fl : Bool), k + m = q → evS B d 38 7 [(0, .ref 27), (1, .int (zb fl)), (2, .int (z3 k))] [] σ = some (.inl (some (.int (zb (fl || zany (fun j => b j == 39) m k)))), σ) := by
  have hn := h.2.1
  intro m
  induction m with
  | zero =>
    intro k fl hk
    rw [sX2_isSized_7, hq, if_pos ((z3_le (by omega) (by omega)).2 (by omega)), if_pos (by cases fl <;> decide)]
    simp [zany]
  | succ m ih =>
    intro k fl hk
    rw [sX2_isSized_7, hq, if_neg (by rw [z3_le (by omega) (by omega)]; omega)]
    simp (disch := omega) only [nlit, zb_eq0, z3_ix, z3_cl, (h.2.2 k (by omega)).2, sb_eq (h.2.2 k (by omega)).1 (by decide : 39 < 128), z3_add]
    have i1 := ih (k + 1) true (by omega)
    have i2 := ih (k + 1) false (by omega)
    rw [zb_t] at i1; rw [zb_f] at i2; rw [i1, i2]
    cases fl
    · rw [if_pos rfl, if_pos (by simp; omega)]
      by_cases e : b k = 39
      · simp [e, zany]
      · rw [if_neg e, zany, show (b k == 39) = false by simpa using e]; rfl
    · simp
theorem x2_isSized {B : Bool} {d : Nat} {σ : SG} {b : Nat → Nat} {n p q : Nat} (h : TX σ b n) (hp : sF σ 27 7 = z3 p) (hq : sF σ 27 8 = z3 q) (hqn : q ≤ n) (hpq : p ≤ q) : mS B d 38 [.ref 27] σ = some (.inl (some (.int (zb (zsz b p q)))), σ) := by
  rw [sX2_isSized_0, hp]
  exact (x2_isSized_l h hq hqn (q - p) p false (by omega)).trans (by simp [zsz])
def zdt (c : Nat) : Nat := if isD c then c - 48 else if 97 ≤ c ∧ c ≤ 102 then c - 97 + 10 else if 65 ≤ c ∧ c ≤ 70 then c - 65 + 10 else 99
theorem zdt_lt (c : Nat) : zdt c < 100 := by
  unfold zdt
  by_cases h : isD c = true
  · rw [if_pos h]; rw [isD_iff] at h; omega
  · rw [if_neg h]; split
    · omega
    · split <;> omega
theorem x2_digit (B : Bool) (d : Nat) (hd : 1 ≤ d) (h : SG) {c : Nat} (hc : c < 256) : mS B d 40 [.int (z3 c)] h = some (.inl (some (.int (z3 (zdt c)))), h) := by
  rw [sX2_digit_0 _ _ hd]
  simp (disch := omega) only [sX2_digit_36 _ _ hd, x2_isDigit, kI_some, zb_eq0, nlit, z3_lt]
  unfold zdt
  cases e : isD c
  · simp only [if_true, Bool.false_eq_true, if_false]
    by_cases h1 : 97 ≤ c ∧ c ≤ 102
    · rw [if_neg (by omega), if_neg (by omega), if_pos h1, z3_sub (by omega), z3_add]
    · rw [if_neg h1]
      by_cases h2 : 65 ≤ c ∧ c ≤ 70
      · rw [if_pos (by omega), if_neg (by omega), if_neg (by omega), if_pos h2, z3_sub (by omega), z3_add]
      · rw [if_neg h2]
        by_cases h3 : c < 97
        · rw [if_pos h3]; by_cases h4 : c < 65
          · rw [if_pos h4]
          · rw [if_neg h4, if_pos (by omega)]
        · rw [if_neg h3, if_pos (by omega), if_neg (by omega), if_pos (by omega)]
  · rw [isD_iff] at e
    simp only [Bool.true_eq_false, if_false, if_true]
    rw [z3_sub (by omega)]
theorem x2_isFar (B : Bool) (d : Nat) (σ : SG) {a s e : Nat} (hv : sJ σ 27 9 = z6 a) (ha : a < 18446744073709551616) (hs : s = 2 ∨ s = 8 ∨ s = 10 ∨ s = 16) (he : e < s) : mS B d 41 [.ref 27, .int (z3 s), .int (z3 e)] σ = some (.inl (some (.int (zb (decide (18446744073709551616 ≤ a * s + e))))), σ) := by
  rw [sX2_isFar_0, hv]
  simp (disch := omega) only [nlit, jlit, z3_inj, cmp_ge0, cmp_eq0, cmp_lt0, cmp_gt0, z3_le, z6_lus, z6_eq0, shr_eq0, ← Int64.not_lt, z6_neg]
  have e1 : ∀ c : Prop, ∀ [Decidable c], ∀ x y : RSG, (c → y = x) → (¬ c → y = x) → y = x := fun c _ x y h1 h2 => by by_cases h : c; exact h1 h; exact h2 h
  rcases hs with rfl | rfl | rfl | rfl
  · simp only [if_true]
    by_cases g : 9223372036854775808 ≤ a
    · rw [if_neg (by simpa using g), decide_eq_true (by omega)]; rfl
    · rw [if_pos g, decide_eq_false (by omega)]; rfl
  · simp only [show ¬ (8 = 2) by decide, if_false, if_true]
    by_cases g : a < 2 ^ 61
    · rw [if_pos g, decide_eq_false (by omega)]; rfl
    · rw [if_neg g, decide_eq_true (by omega)]; rfl
  · simp only [show ¬ (10 = 2) by decide, show ¬ (10 = 8) by decide, show ¬ (10 = 16) by decide, if_false]
    by_cases g : 9223372036854775808 ≤ a
    · rw [if_pos g, decide_eq_true (by omega)]; rfl
    · rw [if_neg g]
      by_cases g2 : 1844674407370955161 < a
      · rw [if_pos ((z6_lt (by omega) (by omega)).2 g2), decide_eq_true (by omega)]; rfl
      · rw [if_neg (by rw [z6_lt (by omega) (by omega)]; exact g2)]
        by_cases g3 : a = 1844674407370955161
        · rw [if_pos (by rw [g3])]
          by_cases g4 : e ≤ 5
          · rw [if_pos g4, decide_eq_false (by omega)]; rfl
          · rw [if_neg g4, decide_eq_true (by omega)]; rfl
        · rw [if_neg (by rw [z6_inj (by omega) (by omega)]; exact g3), decide_eq_false (by omega)]; rfl
  · simp only [show ¬ (16 = 2) by decide, show ¬ (16 = 8) by decide, if_false, if_true]
    by_cases g : a < 2 ^ 60
    · rw [if_pos g, decide_eq_false (by omega)]; rfl
    · rw [if_neg g, decide_eq_true (by omega)]; rfl
theorem fd_skip {p : Nat → Bool} {n k : Nat} : ∀ m, k ≤ m → m ≤ n → (∀ j, k ≤ j → j < m → p j = false) → fd p n k = fd p n m := by
  intro m
  induction m with
  | zero => intro h1 _ _; rw [show k = 0 by omega]
  | succ m ih =>
    intro h1 h2 h3
    rcases Nat.lt_or_ge k (m + 1) with g | g
    · rw [ih (by omega) (by omega) (fun j a b => h3 j a (by omega)), fd_step (by omega) (h3 m (by omega) (by omega))]
    · rw [show k = m + 1 by omega]
theorem fd_cg {p q : Nat → Bool} {n : Nat} (k : Nat) (h : ∀ j, k ≤ j → j < n → p j = q j) : fd p n k = fd q n k := by
  refine fd_ind (p := p) (n := n) (fun k e => (∀ j, k ≤ j → j < n → p j = q j) → e = fd q n k) ?_ ?_ ?_ k h
  · intro k h1 _; rw [fd_ge h1]
  · intro k h1 h2 h3; rw [fd_hit (by rw [← h3 k (by omega) h1]; exact h2)]
  · intro k e h1 h2 ih h3; rw [fd_step h1 (by rw [← h3 k (by omega) h1]; exact h2)]; exact ih fun j a b => h3 j (by omega) b
/-- a number's value -/
def zvl (b : Nat → Nat) (n s : Nat) : Nat → Nat → Nat → Nat
  | 0, _, a => a
  | m + 1, k, a => zvl b n s m (k + 1) (a * s + zdt (cA b n k))
def zsat (b : Nat → Nat) (n : Nat) : Nat → Nat → Nat → Nat
  | 0, _, a => a
  | m + 1, k, a => zsat b n m (k + 1) (if 65535 < a then a else 10 * a + (cA b n k - 48))
theorem zvl_ge (b : Nat → Nat) (n : Nat) {s : Nat} (hs : 0 < s) : ∀ m k a, a ≤ zvl b n s m k a := by
  intro m
  induction m with
  | zero => intro k a; exact Nat.le_refl _
  | succ m ih =>
    intro k a
    refine Nat.le_trans ?_ (ih (k + 1) _)
    have := Nat.le_mul_of_pos_right a hs
    omega
theorem zsat_big (b : Nat → Nat) (n : Nat) : ∀ m k a, 65535 < a → zsat b n m k a = a := by
  intro m
  induction m with
  | zero => intro k a _; rfl
  | succ m ih => intro k a h; rw [zsat, if_pos h, ih _ _ h]
theorem zsat_v (b : Nat → Nat) (n : Nat) : ∀ m k a, (∀ j, k ≤ j → j < k + m → isD (cA b n j) = true) → a < 700000 → zsat b n m k a < 700000 ∧ (zvl b n 10 m k a ≤ 65535 → zsat b n m k a = zvl b n 10 m k a) ∧ (65535 < zvl b n 10 m k a → 65535 < zsat b n m k a) := by
  intro m
  induction m with
  | zero => intro k a _ h; exact ⟨h, fun _ => rfl, fun h => h⟩
  | succ m ih =>
    intro k a hd h
    have h0 := hd k (Nat.le_refl _) (by omega)
    have hz : zdt (cA b n k) = cA b n k - 48 := by unfold zdt; rw [if_pos h0]
    rw [isD_iff] at h0
    simp only [zsat, zvl]
    by_cases g : 65535 < a
    · rw [if_pos g, zsat_big _ _ _ _ _ g]
      have := zvl_ge b n (s := 10) (by omega) m (k + 1) (a * 10 + zdt (cA b n k))
      refine ⟨h, fun q => by omega, fun _ => g⟩
    · rw [if_neg g, hz, Nat.mul_comm a 10]
      exact ih (k + 1) _ (fun j h1 h2 => hd j (by omega) (by omega)) (by omega)
theorem x2_num7 {B : Bool} {d : Nat} (hd : 1 ≤ d) {σ : SG} {b : Nat → Nat} {n q : Nat} (h : TX σ b n) (hq : sF σ 27 8 = z3 q) (hqn : q ≤ n) : ∀ (m k a : Nat), k + m ≤ q → (∀ j, k ≤ j → j < k + m → isD (cA b n j) = true) → (k + m < q → isD (cA b n (k + m)) = false) → a < 700000 → evS B d 39 7 [(0, .ref 27), (1, .int (z3 k)), (2, .int (z3 a))] [] σ = evS B d 39 56 [(0, .ref 27), (1, .int (z3 (k + m))), (2, .int (z3 (zsat b n m k a)))] [] σ := by
  have hn := h.2.1
  intro m
  induction m with
  | zero =>
    intro k a h1 h2 h3 h4
    rw [sX2_number_7 _ _ hd, hq]
    have := cA_lt h k
    simp (disch := omega) only [z3_le, x2_at h, kI_some, x2_isDigit, zb_eq0, nlit]
    by_cases g : q ≤ k
    · rw [if_pos g]; rfl
    · rw [if_neg g, if_pos (by simpa using h3 (by omega))]; rfl
  | succ m ih =>
    intro k a h1 h2 h3 h4
    rw [sX2_number_7 _ _ hd, hq]
    have := cA_lt h k
    have h0 := h2 k (Nat.le_refl _) (by omega)
    have h5 := (isD_iff _).1 h0
    simp (disch := omega) only [z3_le, x2_at h, kI_some, x2_isDigit, zb_eq0, nlit, h0, z3_mul, z3_add, z3_sub]
    rw [if_neg (by omega), if_neg (by simp)]
    have := ih (k + 1) (if 65535 < a then a else 10 * a + (cA b n k - 48)) (by omega) (fun j a b => h2 j (by omega) (by omega)) (fun g => by rw [show k + 1 + m = k + (m + 1) by omega]; exact h3 (by omega)) (by split <;> omega)
    rw [show k + (m + 1) = k + 1 + m by omega, zsat, ← this]
    by_cases g : a ≤ 65535
    · rw [if_pos g, if_neg (by omega), show 10 * a + cA b n k - 48 = 10 * a + (cA b n k - 48) by omega]
    · rw [if_neg g, if_pos (by omega)]
def zdg (b : Nat → Nat) (n s v : Nat) : Nat → Nat → Nat → Option Nat
  | 0, _, a => some a
  | m + 1, k, a => if zdt (cA b n k) < s ∧ a * s + zdt (cA b n k) < 2 ^ v then zdg b n s v m (k + 1) (a * s + zdt (cA b n k)) else none
theorem x2_num214 {B : Bool} {d : Nat} (hd : 3 ≤ d) {σ : SG} {b : Nat → Nat} {n q p s v : Nat} (h : TX σ b n) (hq : sF σ 27 8 = z3 q) (hp : sF σ 27 7 = z3 p) (hqn : q ≤ n) (hs : s = 2 ∨ s = 8 ∨ s = 10 ∨ s = 16) (hv : 1 ≤ v ∧ v ≤ 64) : ∀ (m k a : Nat), k + m = q → a < 2 ^ v → (∀ r, zdg b n s v m k a = some r → evS B d 39 214 [(0, .ref 27), (1, .int (z3 k)), (2, .int (z3 v)), (4, .int (z3 s))] [] (uJ σ 27 9 (z6 a)) = some (.inl none, uJ σ 27 9 (z6 r))) ∧ (zdg b n s v m k a = none → ∃ x, evS B d 39 214 [(0, .ref 27), (1, .int (z3 k)), (2, .int (z3 v)), (4, .int (z3 s))] [] (uJ σ 27 9 (z6 a)) = some (.inr 0, flw (uJ σ 27 9 x) 1 p)) := by
  have hn := h.2.1
  have hv2 : 2 ^ v ≤ 18446744073709551616 := Nat.le_trans (Nat.pow_le_pow_right (by omega : 0 < 2) hv.2) (by decide)
  intro m
  induction m with
  | zero =>
    intro k a h1 h2
    refine ⟨fun r e => ?_, fun e => by simp [zdg] at e⟩
    simp only [zdg, Option.some.injEq] at e
    rw [sX2_number_214 _ _ (by omega), show sF (uJ σ 27 9 (z6 a)) 27 8 = z3 q from hq, if_pos ((z3_le (by omega) (by omega)).2 (by omega)), e]
  | succ m ih =>
    intro k a h1 h2
    have c1 := cA_lt h k
    have c2 := zdt_lt (cA b n k)
    have hT := TX_uJ (a := 27) (i := 9) (x := z6 a) h
    have hs16 : s ≤ 16 := by omega
    have key := sX2_number_214 B d (by omega) (uJ σ 27 9 (z6 a)) (z3 k) (z3 v) (z3 s)
    rw [show sF (uJ σ 27 9 (z6 a)) 27 8 = z3 q from hq, if_neg (by rw [z3_le (by omega) (by omega)]; omega)] at key
    simp (disch := omega) only [(show sF (uJ σ 27 9 (z6 a)) 27 7 = z3 p from hp), x2_at hT, kI_some, x2_digit, z3_le, nlit, x2_flaw] at key
    have hz : ∀ x : Nat, x < 2 ^ v → x < 18446744073709551616 := fun x g => Nat.lt_of_lt_of_le g hv2
    have hp7 : ∀ (x : Int64), sF (uJ σ 27 9 x) 27 7 = z3 p := fun _ => hp
    by_cases g : zdt (cA b n k) < s
    · rw [if_neg (by omega)] at key
      have hj : sJ (uJ σ 27 9 (z6 a)) 27 9 = z6 a := by rw [sJ_uJ, if_pos ⟨rfl, rfl⟩]
      rw [x2_isFar _ _ _ hj (hz a h2) hs g] at key
      simp (disch := omega) only [kI_some, zb_eq0, hj, sJ_uJ, and_self, if_true, z3_64, z6_mul, z6_add, uJ_uJ, decide_eq_false_iff_not, jlit, cmp_eq0, nlit, hp7, x2_flaw, z3_le, z3_add] at key
      simp only [zdg]
      generalize hr : a * s + zdt (cA b n k) = r at *
      by_cases g2 : r < 2 ^ v
      · have g3 := hz r g2
        rw [if_pos ⟨g, g2⟩]
        rw [if_pos (by omega)] at key
        have e : evS B d 39 214 [(0, .ref 27), (1, .int (z3 k)), (2, .int (z3 v)), (4, .int (z3 s))] [] (uJ σ 27 9 (z6 a)) = evS B d 39 214 [(0, .ref 27), (1, .int (z3 (k + 1))), (2, .int (z3 v)), (4, .int (z3 s))] [] (uJ σ 27 9 (z6 r)) := by
          by_cases g4 : 64 ≤ v
          · rw [if_pos g4] at key; exact key
          · rw [if_neg g4, z6_lus g3 (by omega), if_pos] at key
            · exact key
            · rw [z6_eq0 (Nat.lt_of_le_of_lt (Nat.shiftRight_le _ _) g3), shr_eq0]; exact g2
        rw [e]
        exact ih (k + 1) r (by omega) g2
      · rw [if_neg (fun q => g2 q.2)]
        refine ⟨fun r e => by simp at e, fun _ => ?_⟩
        by_cases g3 : 18446744073709551616 ≤ r
        · rw [if_neg (by omega)] at key; exact ⟨_, key⟩
        · rw [if_pos g3] at key
          have g4 : ¬ 64 ≤ v := fun g4 => by
            have : v = 64 := by omega
            subst this; omega
          rw [if_neg g4, z6_lus (by omega) (by omega), if_neg] at key
          · exact ⟨_, key⟩
          · rw [z6_eq0 (Nat.lt_of_le_of_lt (Nat.shiftRight_le _ _) (by omega)), shr_eq0]; exact g2
    · rw [if_pos (by omega)] at key
      simp only [zdg]
      rw [if_neg (fun q => g q.1)]
      exact ⟨fun r e => by simp at e, fun _ => ⟨_, key⟩⟩

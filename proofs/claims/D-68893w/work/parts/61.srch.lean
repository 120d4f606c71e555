/-! long numbers; searches -/
theorem cmp_lt0 (x y : Int64) : (lg_cmp x y < z3 0) ↔ x < y := by
  unfold lg_cmp
  by_cases h : x > y
  · rw [if_pos h]
    have h1 : ¬ ((1 : Int32) < z3 0) := by decide
    have : ¬ x < y := fun g => by have := Int64.lt_trans g h; exact absurd this (Int64.lt_irrefl)
    simp [h1, this]
  · rw [if_neg h]
    by_cases h2 : x = y
    · rw [if_pos h2]; subst h2
      have h1 : ¬ ((0 : Int32) < z3 0) := by decide
      simp [h1, Int64.lt_irrefl]
    · rw [if_neg h2]
      have h1 : ((-1 : Int32) < z3 0) := by decide
      have : x < y := by
        rw [Int64.lt_iff_toInt_lt] at *
        rw [← Int64.toInt_inj] at h2
        simp [GT.gt, Int64.lt_iff_toInt_lt] at h
        omega
      simp [h1, this]
theorem cmp_eq0 (x y : Int64) : (lg_cmp x y = z3 0) ↔ x = y := by
  unfold lg_cmp
  by_cases h : x > y
  · rw [if_pos h]
    have h1 : ¬ ((1 : Int32) = z3 0) := by decide
    have : ¬ x = y := fun g => by subst g; exact absurd h (Int64.lt_irrefl)
    simp [h1, this]
  · rw [if_neg h]
    by_cases h2 : x = y
    · rw [if_pos h2]
      have h1 : ((0 : Int32) = z3 0) := by decide
      simp [h1, h2]
    · rw [if_neg h2]
      have h1 : ¬ ((-1 : Int32) = z3 0) := by decide
      simp [h1, h2]
theorem cmp_gt0 (x y : Int64) : (z3 0 < lg_cmp x y) ↔ y < x := by
  unfold lg_cmp
  by_cases h : x > y
  · rw [if_pos h]
    have h1 : (z3 0 < (1 : Int32)) := by decide
    simp [h1]; exact h
  · rw [if_neg h]
    by_cases h2 : x = y
    · rw [if_pos h2]
      have h1 : ¬ (z3 0 < (0 : Int32)) := by decide
      simp [h1, h2, Int64.lt_irrefl]
    · rw [if_neg h2]
      have h1 : ¬ (z3 0 < (-1 : Int32)) := by decide
      simp [h1]; simpa using h
theorem cmp_ge0 (x y : Int64) : (z3 0 ≤ lg_cmp x y) ↔ y ≤ x := by
  rw [← Int32.not_lt, ← Int64.not_lt, cmp_lt0]
theorem cmp_le0 (x y : Int64) : (lg_cmp x y ≤ z3 0) ↔ x ≤ y := by
  rw [← Int32.not_lt, ← Int64.not_lt, cmp_gt0]
theorem z6_neg {a : Nat} (h : a < 18446744073709551616) : z6 a < z6 0 ↔ 9223372036854775808 ≤ a := by
  rw [Int64.lt_iff_toInt_lt]
  show (Int64.ofNat a).toInt < (Int64.ofNat 0).toInt ↔ _
  rw [Int64.toInt_ofNat', Int64.toInt_ofNat']
  simp only [Int64.size, Int.bmod]
  omega
theorem z6_lus {a n : Nat} (h : a < 18446744073709551616) (hn : n < 64) : lus (z6 a) (z3 n) = z6 (a >>> n) := by
  unfold lus
  rw [z3_64 (by omega)]
  show ((Int64.ofNat a).toUInt64 >>> ((Int64.ofNat n).toUInt64 &&& Int64.toUInt64 63)).toInt64 = Int64.ofNat (a >>> n)
  rw [Int64.toUInt64_ofNat', Int64.toUInt64_ofNat']
  have : (UInt64.ofNat a >>> (UInt64.ofNat n &&& Int64.toUInt64 63)) = UInt64.ofNat (a >>> n) := by
    apply UInt64.toNat.inj
    have h63 : (Int64.toUInt64 63).toNat = 63 := by decide
    rw [UInt64.toNat_shiftRight, UInt64.toNat_ofNat', UInt64.toNat_and, h63, UInt64.toNat_ofNat', UInt64.toNat_ofNat', show (63 : Nat) = 2 ^ 6 - 1 from rfl, Nat.and_two_pow_sub_one_eq_mod, Nat.mod_eq_of_lt (a := a) (by omega)]
    rw [show n % 2 ^ 64 % 2 ^ 6 % 64 = n by omega, Nat.mod_eq_of_lt]
    exact Nat.lt_of_le_of_lt (Nat.shiftRight_le a n) (by omega)
  rw [this]
  rfl
theorem z6_eq0 {a : Nat} (h : a < 18446744073709551616) : z6 a = z6 0 ↔ a = 0 := by
  rw [← Int64.toInt_inj]
  show (Int64.ofNat a).toInt = (Int64.ofNat 0).toInt ↔ _
  rw [Int64.toInt_ofNat', Int64.toInt_ofNat']
  simp only [Int64.size, Int.bmod]
  omega
theorem z6_eq {a b : Nat} (h : a < 18446744073709551616) (hb : b < 18446744073709551616) : z6 a = z6 b ↔ a = b := by
  rw [← Int64.toInt_inj]
  show (Int64.ofNat a).toInt = (Int64.ofNat b).toInt ↔ _
  rw [Int64.toInt_ofNat', Int64.toInt_ofNat']
  simp only [Int64.size, Int.bmod]
  omega
theorem shr_eq0 (a n : Nat) : a >>> n = 0 ↔ a < 2 ^ n := by
  rw [Nat.shiftRight_eq_div_pow, Nat.div_eq_zero_iff]
  have := Nat.two_pow_pos n
  omega
/-- the first place from k on, below n, with p; else n -/
def fnd (p : Nat → Bool) : Nat → Nat → Nat
  | 0, k => k
  | f + 1, k => bif p k then k else fnd p f (k + 1)
def fd (p : Nat → Bool) (n k : Nat) : Nat := fnd p (n - k) k
theorem fd_ge {p : Nat → Bool} {n k : Nat} (h : n ≤ k) : fd p n k = k := by
  unfold fd; rw [show n - k = 0 by omega]; rfl
theorem fd_hit {p : Nat → Bool} {n k : Nat} (h : p k = true) : fd p n k = k := by
  unfold fd; cases n - k <;> simp [fnd, h]
theorem fd_step {p : Nat → Bool} {n k : Nat} (h : k < n) (hp : p k = false) : fd p n k = fd p n (k + 1) := by
  unfold fd; rw [show n - k = (n - (k + 1)) + 1 by omega]; simp [fnd, hp]
theorem fd_ind {p : Nat → Bool} {n : Nat} (P : Nat → Nat → Prop) (h1 : ∀ k, n ≤ k → P k k) (h2 : ∀ k, k < n → p k = true → P k k) (h3 : ∀ k j, k < n → p k = false → P (k + 1) j → P k j) (k : Nat) : P k (fd p n k) := by
  by_cases h : k < n
  · cases hp : p k
    · rw [fd_step h hp]; exact h3 k _ h hp (fd_ind P h1 h2 h3 (k + 1))
    · rw [fd_hit hp]; exact h2 k h hp
  · rw [fd_ge (by omega)]; exact h1 k (by omega)
  termination_by n - k
theorem fd_lo (p : Nat → Bool) (n k : Nat) : k ≤ fd p n k := fd_ind (p := p) (n := n) (fun k j => k ≤ j) (fun _ _ => Nat.le_refl _) (fun _ _ _ => Nat.le_refl _) (fun k j _ _ h => by omega) k
theorem fd_hi {p : Nat → Bool} {n k : Nat} (h : k ≤ n) : fd p n k ≤ n := fd_ind (p := p) (n := n) (fun k j => k ≤ n → j ≤ n) (fun _ _ h => h) (fun _ _ _ h => h) (fun k j h1 _ h2 _ => h2 (by omega)) k h
theorem fd_at {p : Nat → Bool} {n k : Nat} : fd p n k < n → p (fd p n k) = true := fd_ind (p := p) (n := n) (fun k j => j < n → p j = true) (fun _ h g => by omega) (fun _ _ h _ => h) (fun k j h1 _ h2 => h2) k
theorem fd_mid {p : Nat → Bool} {n k : Nat} : ∀ j, k ≤ j → j < fd p n k → p j = false := fd_ind (p := p) (n := n) (fun k e => ∀ j, k ≤ j → j < e → p j = false) (fun _ _ _ _ _ => by omega) (fun _ _ _ _ _ _ => by omega) (fun k e _ hp h j h1 h2 => by
  rcases Nat.lt_or_ge k j with g | g
  · exact h j g h2
  · rw [show j = k by omega]; exact hp) k
/-- bytes -/
def sb (x : Nat) : Int32 := (z3 x).toInt8.toInt32
theorem sb_and : ∀ x, x < 256 → sb x &&& z3 255 = z3 x := by decide +kernel
theorem sbq_dec : ∀ x, x < 256 → (sb x = z3 (x % 128) ↔ x < 128) ∧ (x < 128 ∨ sb x < z3 0) := by decide +kernel
theorem sb_lo {x : Nat} (h : x < 128) : sb x = z3 x := by
  have := (sbq_dec x (by omega)).1.2 h
  rwa [Nat.mod_eq_of_lt h] at this
theorem sb_inj {x y : Nat} (hx : x < 256) (hy : y < 256) : sb x = sb y ↔ x = y := by
  constructor
  · intro e
    have e2 := congrArg (· &&& z3 255) e
    simp only [sb_and x hx, sb_and y hy] at e2
    exact (z3_inj (by omega) (by omega)).1 e2
  · intro e; rw [e]
theorem sb_eq {x y : Nat} (hx : x < 256) (hy : y < 128) : sb x = z3 y ↔ x = y := by
  rw [← sb_lo hy]; exact sb_inj hx (by omega)
def cA (b : Nat → Nat) (n k : Nat) : Nat := if k < n then b k else 0
def TX (σ : SG) (b : Nat → Nat) (n : Nat) : Prop := sF σ 27 3 = z3 n ∧ n < 60000 ∧ ∀ k, k < n → b k < 256 ∧ sF σ 30 k = sb (b k)
theorem cA_lt {b : Nat → Nat} {n : Nat} {σ : SG} (h : TX σ b n) (k : Nat) : cA b n k < 256 := by
  unfold cA; split
  · next g => exact (h.2.2 k g).1
  · omega
theorem TX_uF {b : Nat → Nat} {n : Nat} {σ : SG} (h : TX σ b n) {a i : Nat} {x : Int32} (hq : (a == 30 || (a == 27 && i == 3)) = false := by rfl) : TX (uF σ a i x) b n := by
  simp at hq
  refine ⟨?_, h.2.1, fun k hk => ⟨(h.2.2 k hk).1, ?_⟩⟩
  · rw [sF_uF, if_neg (by rintro ⟨e1, e2⟩; exact hq.2 e1.symm e2.symm)]; exact h.1
  · rw [sF_uF, if_neg (by rintro ⟨e1, e2⟩; exact hq.1 e1.symm)]; exact (h.2.2 k hk).2
theorem TX_uJ {b : Nat → Nat} {n : Nat} {σ : SG} (h : TX σ b n) {a i : Nat} {x : Int64} : TX (uJ σ a i x) b n := h
theorem TX_uW {b : Nat → Nat} {n : Nat} {σ : SG} (h : TX σ b n) {r : Nat} {l : List Int32} : TX (uW σ r l) b n := h
theorem x2_at {B : Bool} {d : Nat} {σ : SG} {b : Nat → Nat} {n k : Nat} (h : TX σ b n) (hk : k < 65536) : mS B d 32 [.ref 27, .int (z3 k)] σ = some (.inl (some (.int (z3 (cA b n k)))), σ) := by
  have := h.2.1
  rw [sX2_at_0, h.1]
  simp (disch := omega) only [nlit, z3_le, z3_ix, z3_cl]
  unfold cA
  by_cases g : k < n
  · rw [if_neg (by omega), if_pos (by simp; omega), if_pos g, (h.2.2 k g).2, sb_and _ (h.2.2 k g).1]
  · rw [if_pos (by omega), if_neg g]
def zb (x : Bool) : Int32 := bif x then z3 1 else z3 0
def isD (c : Nat) : Bool := decide (48 ≤ c) && decide (c ≤ 57)
def isL (c : Nat) : Bool := (decide (97 ≤ c) && decide (c ≤ 122)) || (decide (65 ≤ c) && decide (c ≤ 90)) || decide (c = 95)
def isW (c : Nat) : Bool := isL c || isD c || decide (c = 36)
theorem zb_eq0 (x : Bool) : (zb x = z3 0) ↔ x = false := by cases x <;> decide
theorem zb_t : zb true = z3 1 := rfl
theorem zb_f : zb false = z3 0 := rfl
theorem zb_ok (x : Bool) : (zb x = z3 0 ∨ zb x = z3 1) ↔ True := by cases x <;> decide
theorem isD_iff (c : Nat) : isD c = true ↔ 48 ≤ c ∧ c ≤ 57 := by simp [isD]
theorem isL_iff (c : Nat) : isL c = true ↔ (97 ≤ c ∧ c ≤ 122) ∨ (65 ≤ c ∧ c ≤ 90) ∨ c = 95 := by simp [isL, or_assoc]
theorem isW_iff (c : Nat) : isW c = true ↔ isL c = true ∨ isD c = true ∨ c = 36 := by simp [isW, or_assoc]
theorem x2_isDigit (B : Bool) (d : Nat) (h : SG) {c : Nat} (hc : c < 2147483648) : mS B d 36 [.int (z3 c)] h = some (.inl (some (.int (zb (isD c)))), h) := by
  rw [sX2_isDigit_0]
  simp (disch := omega) only [nlit, z3_lt]
  repeat' split
  all_goals (cases e : isD c <;> simp [← Bool.not_eq_true, isD_iff] at e <;> first | rfl | (exfalso; omega))
theorem x2_isLetter (B : Bool) (d : Nat) (h : SG) {c : Nat} (hc : c < 2147483648) : mS B d 34 [.int (z3 c)] h = some (.inl (some (.int (zb (isL c)))), h) := by
  rw [sX2_isLetter_0]
  simp (disch := omega) only [sX2_isLetter_12, nlit, z3_lt, z3_le, z3_inj]
  repeat' split
  all_goals (cases e : isL c <;> simp [← Bool.not_eq_true, isL_iff] at e <;> first | rfl | (exfalso; omega))
theorem x2_isWord (B : Bool) (d : Nat) (hd : 1 ≤ d) (h : SG) {c : Nat} (hc : c < 2147483648) : mS B d 35 [.int (z3 c)] h = some (.inl (some (.int (zb (isW c)))), h) := by
  rw [sX2_isWord_0 _ _ hd]
  simp (disch := omega) only [x2_isDigit, x2_isLetter, kI_some, zb_eq0, nlit, z3_inj]
  cases e1 : isL c <;> cases e2 : isD c <;> simp [isW, e1, e2] <;> try rfl
  by_cases h3 : c = 36 <;> simp [h3, zb_f, zb_t]

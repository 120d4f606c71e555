/-! the reference's tokens -/
theorem z6_and (a b : Nat) : z6 a &&& z6 b = z6 (a &&& b) := by
  apply Int64.toBitVec.inj
  show BitVec.ofNat 64 a &&& BitVec.ofNat 64 b = BitVec.ofNat 64 (a &&& b)
  exact (BitVec.ofNat_and ..).symm
theorem z6_or (a b : Nat) : z6 a ||| z6 b = z6 (a ||| b) := by
  apply Int64.toBitVec.inj
  show BitVec.ofNat 64 a ||| BitVec.ofNat 64 b = BitVec.ofNat 64 (a ||| b)
  exact (BitVec.ofNat_or ..).symm
theorem z6_sh {n : Nat} (hn : n < 64) : (z3 n).toInt64 &&& z6 63 = z6 n := by
  rw [z3_64 (by omega), z6_and, show (63 : Nat) = 2 ^ 6 - 1 from rfl, Nat.and_two_pow_sub_one_eq_mod, Nat.mod_eq_of_lt (by omega)]
theorem z6_shl (a : Nat) {n : Nat} (hn : n < 64) : z6 a <<< z6 n = z6 (a <<< n) := by
  apply Int64.toBitVec.inj
  rw [Int64.toBitVec_shiftLeft]
  have e : (z6 n).toBitVec.smod 64 = BitVec.ofNat 64 n := by
    show (BitVec.ofNat 64 n).smod 64 = BitVec.ofNat 64 n
    have : ∀ n, n < 64 → (BitVec.ofNat 64 n).smod 64 = BitVec.ofNat 64 n := by decide +kernel
    exact this n hn
  rw [e]
  show BitVec.ofNat 64 a <<< BitVec.ofNat 64 n = BitVec.ofNat 64 (a <<< n)
  apply BitVec.eq_of_toNat_eq
  simp [Nat.shiftLeft_eq, Nat.mod_eq_of_lt (show n < 18446744073709551616 by omega)]
theorem z6_shr {a n : Nat} (ha : a < 9223372036854775808) (hn : n < 64) : z6 a >>> z6 n = z6 (a >>> n) := by
  apply Int64.toBitVec.inj
  rw [Int64.toBitVec_shiftRight]
  have e : (z6 n).toBitVec.smod 64 = BitVec.ofNat 64 n := by
    show (BitVec.ofNat 64 n).smod 64 = BitVec.ofNat 64 n
    have : ∀ n, n < 64 → (BitVec.ofNat 64 n).smod 64 = BitVec.ofNat 64 n := by decide +kernel
    exact this n hn
  rw [e]
  show (BitVec.ofNat 64 a).sshiftRight' (BitVec.ofNat 64 n) = BitVec.ofNat 64 (a >>> n)
  rw [BitVec.sshiftRight', BitVec.sshiftRight_eq_of_msb_false (by rw [BitVec.msb_eq_decide]; simp; omega)]
  apply BitVec.eq_of_toNat_eq
  have : a >>> n ≤ a := Nat.shiftRight_le a n
  simp [Nat.mod_eq_of_lt (show n < 18446744073709551616 by omega), Nat.mod_eq_of_lt (show a < 18446744073709551616 by omega)]
  rw [Nat.mod_eq_of_lt]; omega
def TM (σ : SG) (b : Nat → Nat) (n : Nat) : Prop := sF σ 146 2 = z3 n ∧ n < 60000 ∧ ∀ k, k < n → b k < 256 ∧ sF σ 205 k = sb (b k)
def mA (b : Nat → Nat) (n k : Nat) : Int32 := if k < n then z3 (b k) else -z3 1
theorem TM_uF {b : Nat → Nat} {n : Nat} {σ : SG} (h : TM σ b n) {a i : Nat} {x : Int32} (hq : (a == 205 || (a == 146 && i == 2)) = false := by rfl) : TM (uF σ a i x) b n := by
  simp at hq
  refine ⟨?_, h.2.1, fun k hk => ⟨(h.2.2 k hk).1, ?_⟩⟩
  · rw [sF_uF, if_neg (by rintro ⟨e1, e2⟩; exact hq.2 e1.symm e2.symm)]; exact h.1
  · rw [sF_uF, if_neg (by rintro ⟨e1, e2⟩; exact hq.1 e1.symm)]; exact (h.2.2 k hk).2
theorem TM_lt {b : Nat → Nat} {n : Nat} {σ : SG} (h : TM σ b n) (k : Nat) : cA b n k < 256 := by
  unfold cA; split
  · next g => exact (h.2.2 k g).1
  · omega
theorem mA_eq {b : Nat → Nat} {n : Nat} {σ : SG} (h : TM σ b n) {k c : Nat} (hc : 0 < c) (hc2 : c < 2147483648) : mA b n k = z3 c ↔ cA b n k = c := by
  unfold mA cA
  by_cases g : k < n
  · rw [if_pos g, if_pos g, z3_inj (by have := (h.2.2 k g).1; omega) hc2]
  · rw [if_neg g, if_neg g]
    constructor
    · intro e; exact absurd e.symm (by rw [z3_n1 hc2]; simp)
    · intro e; omega
theorem m_at {B : Bool} {d : Nat} {σ : SG} {b : Nat → Nat} {n k : Nat} (h : TM σ b n) (hk : k < 65536) : mS B d 188 [.ref 146, .int (z3 k)] σ = some (.inl (some (.int (mA b n k))), σ) := by
  have := h.2.1
  rw [sX10_at_0, h.1]
  simp (disch := omega) only [nlit, z3_le, z3_ix, z3_cl]
  unfold mA
  by_cases g : k < n
  · rw [if_neg (by omega), if_pos (by simp; omega), if_pos g, (h.2.2 k g).2, sb_and _ (h.2.2 k g).1]
  · rw [if_pos (by omega), if_neg g]
theorem m_isDigit {B : Bool} {d : Nat} {σ τ : SG} {b : Nat → Nat} {n k : Nat} (h : TM σ b n) : mS B d 192 [.int (mA b n k)] τ = some (.inl (some (.int (zb (isD (cA b n k))))), τ) := by
  rw [sX10_isDigit_0]
  unfold mA cA
  by_cases g : k < n
  · rw [if_pos g, if_pos g]
    have := (h.2.2 k g).1
    simp (disch := omega) only [nlit, z3_lt]
    generalize b k = c at *
    repeat' split
    all_goals (cases e : isD c <;> simp [← Bool.not_eq_true, isD_iff] at e <;> first | rfl | (exfalso; omega))
  · rw [if_neg g, if_neg g]; rfl
theorem m_isLetter {B : Bool} {d : Nat} {σ τ : SG} {b : Nat → Nat} {n k : Nat} (h : TM σ b n) : mS B d 190 [.int (mA b n k)] τ = some (.inl (some (.int (zb (isL (cA b n k))))), τ) := by
  rw [sX10_isLetter_0]
  unfold mA cA
  by_cases g : k < n
  · rw [if_pos g, if_pos g]
    have := (h.2.2 k g).1
    simp (disch := omega) only [sX10_isLetter_12, nlit, z3_lt, z3_le, z3_inj]
    generalize b k = c at *
    repeat' split
    all_goals (cases e : isL c <;> simp [← Bool.not_eq_true, isL_iff] at e <;> first | rfl | (exfalso; omega))
  · rw [if_neg g, if_neg g, sX10_isLetter_12]; rfl
theorem m_isIn {B : Bool} {d : Nat} (hd : 1 ≤ d) {σ τ : SG} {b : Nat → Nat} {n k : Nat} (h : TM σ b n) : mS B d 191 [.int (mA b n k)] τ = some (.inl (some (.int (zb (isW (cA b n k))))), τ) := by
  rw [sX10_isIn_0 _ _ hd]
  simp (disch := omega) only [m_isDigit h, m_isLetter h, kI_some, nlit, zb_eq0, mA_eq h]
  cases e1 : isL (cA b n k) <;> cases e2 : isD (cA b n k) <;> simp [isW, e1, e2] <;> try rfl
  by_cases h3 : cA b n k = 36 <;> simp [h3, zb_f, zb_t]
theorem m_digit {B : Bool} {d : Nat} (hd : 1 ≤ d) {σ τ : SG} {b : Nat → Nat} {n k : Nat} (h : TM σ b n) : mS B d 197 [.int (mA b n k)] τ = some (.inl (some (.int (z3 (zdt (cA b n k))))), τ) := by
  rw [sX10_digit_0 _ _ hd]
  simp only [sX10_digit_36 _ _ hd, m_isDigit h, kI_some, zb_eq0, nlit]
  by_cases g : k < n
  · have hb := (h.2.2 k g).1
    rw [mA, cA, if_pos g, if_pos g]
    generalize b k = c at *
    simp (disch := omega) only [z3_lt]
    unfold zdt
    cases e : isD c
    · simp only [if_true, Bool.false_eq_true, if_false]
      by_cases h1 : 97 ≤ c ∧ c ≤ 102
      · rw [if_neg (by omega), if_neg (by omega), if_pos h1, z3_sub (by omega), z3_add]
      · rw [if_neg h1]
        by_cases h2 : 65 ≤ c ∧ c ≤ 70
        · rw [if_pos (by omega), if_neg (by omega), if_neg (by omega), if_pos h2, z3_sub (by omega), z3_add]
        · rw [if_neg h2]
          by_cases h3 : c < 97
          · rw [if_pos h3]; by_cases h4 : c < 65
            · rw [if_pos h4]
            · rw [if_neg h4, if_pos (by omega)]
          · rw [if_neg h3, if_pos (by omega), if_neg (by omega), if_pos (by omega)]
    · rw [isD_iff] at e
      simp only [Bool.true_eq_false, if_false, if_true]
      rw [z3_sub (by omega)]
  · rw [mA, cA, if_neg g, if_neg g]; rfl
theorem m_line {B : Bool} {d : Nat} (hd : 1 ≤ d) {σ : SG} {b : Nat → Nat} {n : Nat} (h : TM σ b n) (k : Nat) (hk : k ≤ n) : evS B d 187 56 [(0, .ref 146), (2, .int (z3 k))] [] σ = evS B d 187 2 [(0, .ref 146), (2, .int (z3 (fd (fun j => cA b n j == 10) n k)))] [] σ := by
  refine fd_ind (p := fun j => cA b n j == 10) (n := n) (fun k e => k ≤ n → evS B d 187 56 [(0, .ref 146), (2, .int (z3 k))] [] σ = evS B d 187 2 [(0, .ref 146), (2, .int (z3 e))] [] σ) ?_ ?_ ?_ k hk
  all_goals have hn := h.2.1
  · intro k h1 h2
    rw [sX10_skip_56 _ _ hd, h.1, if_pos ((z3_le (by omega) (by omega)).2 h1)]
  · intro k h1 hp h2
    rw [sX10_skip_56 _ _ hd, h.1, if_neg (by rw [z3_le (by omega) (by omega)]; omega), m_at h (by omega), kI_some, nlit, if_pos ((mA_eq h (by omega) (by omega)).2 (by simpa using hp))]
  · intro k e h1 hp ih h2
    rw [sX10_skip_56 _ _ hd, h.1, if_neg (by rw [z3_le (by omega) (by omega)]; omega), m_at h (by omega), kI_some, nlit, if_neg (by rw [mA_eq h (by omega) (by omega)]; simpa using hp), show (1 : Int32) = z3 1 from rfl, z3_add, ih (by omega)]
theorem m_cmt {B : Bool} {d : Nat} (hd : 1 ≤ d) {σ : SG} {b : Nat → Nat} {n : Nat} (h : TM σ b n) (x k : Nat) (hk : k < 65000) : evS B d 187 103 [(0, .ref 146), (2, .int (z3 x)), (4, .int (z3 k))] [] σ = if n ≤ fd (fun j => cA b n j == 42 && cA b n (j + 1) == 47) n k then some (.inl (some (.int (-z3 1 - z3 x))), σ) else evS B d 187 2 [(0, .ref 146), (2, .int (z3 (fd (fun j => cA b n j == 42 && cA b n (j + 1) == 47) n k + 2)))] [] σ := by
  refine fd_ind (p := fun j => cA b n j == 42 && cA b n (j + 1) == 47) (n := n) (fun k e => k < 65000 → evS B d 187 103 [(0, .ref 146), (2, .int (z3 x)), (4, .int (z3 k))] [] σ = if n ≤ e then some (.inl (some (.int (-z3 1 - z3 x))), σ) else evS B d 187 2 [(0, .ref 146), (2, .int (z3 (e + 2)))] [] σ) ?_ ?_ ?_ k hk
  all_goals have hn := h.2.1
  · intro k h1 h2
    rw [sX10_skip_103 _ _ hd, h.1, if_pos ((z3_le (by omega) (by omega)).2 h1), if_neg (by rw [z3_lt (by omega) (by omega)]; omega), if_pos h1]; rfl
  · intro k h1 hp h2
    have hp : cA b n k = 42 ∧ cA b n (k + 1) = 47 := by simpa using hp
    rw [sX10_skip_103 _ _ hd]
    simp (disch := omega) only [h.1, z3_le, m_at h, kI_some, nlit, mA_eq h, hp, z3_add, z3_lt, if_true]
    rw [if_neg (by omega), if_pos h1, if_neg (by omega)]
  · intro k e h1 hp ih h2
    have hp : ¬ (cA b n k = 42 ∧ cA b n (k + 1) = 47) := by simpa using hp
    rw [sX10_skip_103 _ _ hd]
    simp (disch := omega) only [h.1, z3_le, m_at h, kI_some, nlit, mA_eq h, z3_add, z3_lt]
    rw [if_neg (by omega : ¬ n ≤ k), ih (by omega)]
    split
    · rw [if_neg (by omega)]
    · rfl
theorem m_skip {B : Bool} {d : Nat} (hd : 1 ≤ d) {σ : SG} {b : Nat → Nat} {n : Nat} (h : TM σ b n) : ∀ (f k : Nat), n < f + k → k ≤ n → evS B d 187 2 [(0, .ref 146), (2, .int (z3 k))] [] σ = match zblk b n f k with
    | .inl q => some (.inl (some (.int (-z3 1 - z3 q))), σ)
    | .inr q => some (.inl (some (.int (z3 q))), σ) := by
  intro f
  induction f with
  | zero => intro k h1 h2; omega
  | succ f ih =>
    intro k h1 h2
    have hn := h.2.1
    have c1 := TM_lt h k
    have key : evS B d 187 80 [(0, .ref 146), (2, .int (z3 k)), (3, .int (mA b n k))] [] σ = match (if cA b n k = 47 ∧ cA b n (k + 1) = 42 then
      (if n ≤ fd (fun j => cA b n j == 42 && cA b n (j + 1) == 47) n (k + 2) then .inl k else zblk b n f (fd (fun j => cA b n j == 42 && cA b n (j + 1) == 47) n (k + 2) + 2))
    else .inr k) with
      | Sum.inl q => some (.inl (some (.int (-z3 1 - z3 q))), σ)
      | Sum.inr q => some (.inl (some (.int (z3 q))), σ) := by
      rw [sX10_skip_80 _ _ hd]
      simp (disch := omega) only [m_at h, kI_some, nlit, mA_eq h, z3_add]
      by_cases e1 : cA b n k = 47
      · have hk := cA_pos (b := b) (n := n) (k := k) (by omega)
        by_cases e2 : cA b n (k + 1) = 42
        · have hk2 := cA_pos (b := b) (n := n) (k := k + 1) (by omega)
          rw [if_pos e1, if_pos e2, if_pos ⟨e1, e2⟩, m_cmt hd h _ _ (by omega)]
          have q1 := fd_lo (fun j => cA b n j == 42 && cA b n (j + 1) == 47) n (k + 2)
          have q2 := fd_hi (p := fun j => cA b n j == 42 && cA b n (j + 1) == 47) (n := n) (k := k + 2) (by omega)
          have q3 := fd_at (p := fun j => cA b n j == 42 && cA b n (j + 1) == 47) (n := n) (k := k + 2)
          generalize fd (fun j => cA b n j == 42 && cA b n (j + 1) == 47) n (k + 2) = e at *
          by_cases g : n ≤ e
          · rw [if_pos g, if_pos g]
          · have q4 : cA b n (e + 1) = 47 := by have := q3 (by omega); simp at this; exact this.2
            have := cA_pos (b := b) (n := n) (k := e + 1) (by omega)
            rw [if_neg g, if_neg g, ih (e + 2) (by omega) (by omega)]
        · rw [if_pos e1, if_neg e2, if_neg (fun g => e2 g.2)]
      · rw [if_neg e1, if_neg (fun g => e1 g.1)]
    rw [sX10_skip_2 _ _ hd]
    simp (disch := omega) only [m_at h, kI_some, nlit, mA_eq h, z3_add]
    rw [key]
    by_cases w : cA b n k = 32 ∨ cA b n k = 9 ∨ cA b n k = 10 ∨ cA b n k = 13
    · have hk := cA_pos (b := b) (n := n) (k := k) (by omega)
      rw [zblk1 hk w, ← ih (k + 1) (by omega) (by omega)]
      rcases w with w | w | w | w <;> rw [w] <;> rfl
    · rw [if_neg (by omega : ¬ cA b n k = 9), if_neg (by omega : ¬ cA b n k = 10), if_neg (by omega : ¬ cA b n k = 13), if_neg (by omega : ¬ cA b n k = 32)]
      by_cases e1 : cA b n k = 47
      · rw [if_pos e1]
        have hk := cA_pos (b := b) (n := n) (k := k) (by omega)
        by_cases e2 : cA b n (k + 1) = 47
        · rw [if_pos e2, zblk2 e1 e2, m_line hd h _ h2, ih _ _ (fd_hi h2)]
          have : fd (fun j => cA b n j == 10) n k = fd (fun j => cA b n j == 10) n (k + 1) := fd_step hk (by simp [e1])
          have := fd_lo (fun j => cA b n j == 10) n (k + 1)
          omega
        · rw [if_neg e2, zblk3 (fun q => w q.2) (fun q => e2 q.2)]
      · rw [if_neg e1, zblk3 (fun q => w q.2) (fun q => e1 q.1)]

/-! the design's symbols and modules -/
/-- from, length, kind, width, what it begins with, module of an instance -/
abbrev Sy : Type := Nat × Nat × Nat × Nat × Nat × Nat
def eSy (s : Sy) : List Int32 := [z3 s.1, z3 s.2.1, z3 s.2.2.1, z3 s.2.2.2.1, (z6 s.2.2.2.2.1).toInt32, (lus (z6 s.2.2.2.2.1) (z3 32)).toInt32, z3 s.1, z3 s.2.2.2.2.2]
/-- from, length, first symbol, first item, ports, the item behind the last, cost -/
abbrev Mo : Type := Nat × Nat × Nat × Nat × Nat × Nat × Nat
def eMo (s : Mo) : List Int32 := [z3 s.1, z3 s.2.1, z3 s.2.2.1, z3 s.2.2.2.1, z3 s.2.2.2.2.1, z3 s.2.2.2.2.2.1, z3 s.2.2.2.2.2.2]
theorem eSy_len (s : Sy) : (eSy s).length = 8 := rfl
theorem eMo_len (s : Mo) : (eMo s).length = 7 := rfl
/-- the first of a list of symbols, from a number on, with a name -/
def fSy (b : Nat → Nat) (p q : Nat) : List Sy → Nat → Option Nat
  | [], _ => none
  | s :: r, k => if s.2.1 = q ∧ zwd b q s.1 = zwd b q p then some k else fSy b p q r (k + 1)
theorem isText_l {B : Bool} {d : Nat} {τ : SG} {b : Nat → Nat} {n f p : Nat} (h1 : ∀ k, k < n → b k < 256 ∧ sF τ 106 k = sb (b k)) (h2 : ∀ k, k < n → sF τ 30 k = sb (b k)) (hn : n < 60000) : ∀ (m k : Nat), f + (k + m) ≤ n → p + (k + m) ≤ n → evS B d 132 6 [(0, .ref 93), (1, .int (z3 f)), (2, .int (z3 (k + m))), (3, .ref 30), (4, .int (z3 p)), (5, .int (z3 1)), (6, .int (z3 k))] [] τ = some (.inl (some (.int (zb (decide (zwd b m (f + k) = zwd b m (p + k)))))), τ) := by
  intro m
  induction m with
  | zero =>
    intro k a1 a2
    rw [sX6_isText_6, if_pos ((z3_le (by omega) (by omega)).2 (by omega)), if_pos (by decide), decide_eq_true (by simp [zwd])]; rfl
  | succ m ih =>
    intro k a1 a2
    rw [sX6_isText_6, if_neg (by rw [z3_le (by omega) (by omega)]; omega), if_neg (by decide), z3_add, z3_add, z3_ix (by omega), z3_ix (by omega), z3_cl (by omega), z3_cl (by omega), if_pos (by simp; omega), if_pos (by simp; omega), (h1 (f + k) (by omega)).2, h2 (p + k) (by omega), show (1 : Int32) = z3 1 by rw [nlit], z3_add, show k + (m + 1) = k + 1 + m by omega, ih (k + 1) (by omega) (by omega)]
    have e : ∀ x, zwd b (m + 1) x = b x :: zwd b m (x + 1) := fun x => by rw [zwd]
    by_cases g : b (f + k) = b (p + k)
    · rw [if_pos (by rw [g])]
      refine congrArg (fun x => (some (.inl (some (.int (zb x))), τ) : RSG)) (decide_eq_decide.2 ?_)
      rw [e, e, g, show f + (k + 1) = f + k + 1 by omega, show p + (k + 1) = p + k + 1 by omega]
      simp
    · rw [if_neg (by rw [sb_inj (h1 _ (by omega)).1 (h1 _ (by omega)).1]; exact g), sX6_isText_6, show (0 : Int32) = z3 0 by rw [nlit]]
      have e2 : decide (zwd b (m + 1) (f + k) = zwd b (m + 1) (p + k)) = false := decide_eq_false (by rw [e, e]; simp [g])
      rw [e2, if_pos (show z3 0 = z3 0 ∨ z3 0 = 1 from .inl rfl), if_pos (show z3 0 = z3 0 from rfl)]
      split <;> rfl

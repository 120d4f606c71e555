/-! the symbols of the module that is read -/
theorem z3_len (l : List Int32) : Int32.ofNat l.length = z3 l.length := nrfl rfl
/-- a state that holds symbols S and modules M, the last module being read, with its text -/
def DS (σ : SG) (b : Nat → Nat) (n : Nat) (S : List Sy) (M : List Mo) : Prop := sW σ 94 = S.flatMap eSy ∧ sW σ 96 = M.flatMap eMo ∧ (∀ k, k < n → sF σ 106 k = sb (b k)) ∧ (∀ y ∈ S, y.1 + y.2.1 ≤ n ∧ y.2.2.1 < 6 ∧ y.2.2.2.1 ≤ 64) ∧ S.length ≤ 2000 ∧ M.length ≤ 2000
def fSm (M : List Mo) (m : Nat) : Nat := ((M[m]?).getD (0, 0, 0, 0, 0, 0, 0)).2.2.1
/-- a symbol of a token's name in the module that is read -/
def lkS (b : Nat → Nat) (T : Nat → Tok) (S : List Sy) (f0 i : Nat) : Option Nat := fSy b (tF (T i)) (tT (T i) - tF (T i)) (S.drop f0) f0
def syAt (S : List Sy) (s : Nat) : Sy := (S[s]?).getD (0, 0, 0, 0, 0, 0)
def lkE (b : Nat → Nat) (T : Nat → Tok) (S : List Sy) (f0 i : Nat) : Option (Nat × Nat) := match lkS b T S f0 i with
  | some s => if (syAt S s).2.2.1 = 5 then none else some (s, (syAt S s).2.2.2.1)
  | none => none
theorem fSy_in {b : Nat → Nat} {p q : Nat} : ∀ (l : List Sy) (k s : Nat), fSy b p q l k = some s → k ≤ s ∧ s < k + l.length := by
  intro l
  induction l with
  | nil => intro k s h; simp [fSy] at h
  | cons a l ih =>
    intro k s h
    simp only [fSy] at h
    split at h
    · simp at h; simp; omega
    · have := ih (k + 1) s h; simp; omega

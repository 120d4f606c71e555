/-! rows of records -/
theorem fm_get {α : Type} (f : α → List Int32) {z : Nat} (hf : ∀ a, (f a).length = z) : ∀ (l : List α) (s k : Nat), k < z → (l.flatMap f)[z * s + k]? = (l[s]?).bind (fun a => (f a)[k]?) := by
  intro l
  induction l with
  | nil => intro s k h; simp
  | cons a l ih =>
    intro s k h
    rw [List.flatMap_cons]
    cases s with
    | zero =>
      rw [List.getElem?_append_left (by rw [hf]; omega)]
      simp
    | succ s =>
      rw [List.getElem?_append_right (by rw [hf, Nat.mul_succ]; omega), hf, show z * (s + 1) + k - z = z * s + k by rw [Nat.mul_succ]; omega, ih s k h]
      simp
theorem fm_len {α : Type} (f : α → List Int32) {z : Nat} (hf : ∀ a, (f a).length = z) (l : List α) : (l.flatMap f).length = z * l.length := by
  induction l with
  | nil => simp
  | cons a l ih => rw [List.flatMap_cons, List.length_append, hf, ih, List.length_cons, Nat.mul_succ]; omega
theorem fm_set {α : Type} (f : α → List Int32) {z : Nat} (hf : ∀ a, (f a).length = z) : ∀ (l : List α) (s k : Nat) (x : Int32) (a a' : α), k < z → l[s]? = some a → f a' = (f a).set k x → (l.flatMap f).set (z * s + k) x = (l.set s a').flatMap f := by
  intro l
  induction l with
  | nil => intro s k x a a' h1 h2; simp at h2
  | cons e l ih =>
    intro s k x a a' h1 h2 h3
    rw [List.flatMap_cons]
    cases s with
    | zero =>
      simp at h2; subst h2
      rw [Nat.mul_zero, Nat.zero_add, List.set_append_left _ _ (by rw [hf]; exact h1), ← h3, List.set_cons_zero, List.flatMap_cons]
    | succ s =>
      simp at h2
      rw [List.set_append_right _ _ (by rw [hf, Nat.mul_succ]; omega), hf, show z * (s + 1) + k - z = z * s + k by rw [Nat.mul_succ]; omega, ih s k x a a' h1 h2 h3, List.set_cons_succ, List.flatMap_cons]

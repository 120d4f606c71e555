theorem x6_symbol {B : Bool} {d : Nat} (hd : 4 ≤ d) {τ : SG} {S : List Sy} (hS : sW τ 94 = S.flatMap eSy) {s k : Nat} (hk : k < 8) (hs : s < 20000) {y : Sy} (hy : S[s]? = some y) {x : Int32} (hx : (eSy y)[k]? = some x) : mS B d 136 [.ref 93, .int (z3 s), .int (z3 k)] τ = some (.inl (some (.int x)), τ) := by
  rw [sX6_symbol_0 _ _ hd, show (8 : Int32) = z3 8 by rw [nlit], z3_mul, z3_add, rAt_ok (x := x) hS (by omega) (by rw [fm_get eSy eSy_len S s k hk, hy]; exact hx), ob_v]
theorem x6_find_l {B : Bool} {d : Nat} (hd : 6 ≤ d) {τ : SG} {b : Nat → Nat} {n p q l0 mo : Nat} (h1 : ∀ k, k < n → b k < 256 ∧ sF τ 106 k = sb (b k)) (h2 : ∀ k, k < n → sF τ 30 k = sb (b k)) (hn : n < 60000) {S : List Sy} (hS : sW τ 94 = S.flatMap eSy) (hw : ∀ y ∈ S, y.1 + y.2.1 ≤ n) (hpq : p + q ≤ n) (hl : mS B (d - 1) 135 [.ref 93, .int (z3 mo)] τ = some (.inl (some (.int (z3 l0))), τ)) (hl0 : l0 ≤ S.length) (hSl : S.length < 20000) : ∀ (m s : Nat), s + m = l0 → evS B d 133 7 [(0, .ref 93), (1, .int (z3 mo)), (2, .ref 30), (3, .int (z3 p)), (4, .int (z3 q)), (5, .int (z3 s))] [] τ = some (.inl (some (.int (match fSy b p q ((S.drop s).take m) s with
    | some k => z3 k
    | none => -z3 1))), τ) := by
  intro m
  induction m with
  | zero =>
    intro s e
    rw [sX6_find_7 _ _ (by omega), hl, kI_some, if_pos ((z3_le (by omega) (by omega)).2 (by omega)), List.take_zero]; rfl
  | succ m ih =>
    intro s e
    obtain ⟨y, hy⟩ : ∃ y, S[s]? = some y := ⟨S[s]'(by omega), List.getElem?_eq_getElem (by omega)⟩
    have hy2 : y.1 + y.2.1 ≤ n := hw y (List.mem_of_getElem? hy)
    have ed : (S.drop s).take (m + 1) = y :: (S.drop (s + 1)).take m := by
      have hlt : s < S.length := by omega
      rw [List.getElem?_eq_getElem hlt] at hy
      rw [List.drop_eq_getElem_cons hlt, List.take_succ_cons]
      injection hy with hy; rw [hy]
    rw [sX6_find_7 _ _ (by omega), hl, kI_some, if_neg (by rw [z3_le (by omega) (by omega)]; omega), show (1 : Int32) = z3 1 by rw [nlit], show (0 : Int32) = z3 0 by rw [nlit], x6_symbol (by omega) hS (by omega) (by omega) hy (x := z3 y.2.1) rfl, kI_some, x6_symbol (by omega) hS (by omega) (by omega) hy (x := z3 y.1) rfl, kI_some, z3_add, ih (s + 1) (by omega), ed, fSy]
    by_cases g : y.2.1 = q
    · subst g
      rw [if_pos rfl, sX6_isText_0]
      have T := isText_l (B := B) (d := d - 1) (f := y.1) (p := p) h1 h2 hn y.2.1 0 (by omega) (by omega)
      rw [Nat.zero_add, Nat.add_zero, Nat.add_zero] at T
      rw [show (1 : Int32) = z3 1 by rw [nlit], show (0 : Int32) = z3 0 by rw [nlit], T, kI_some]
      by_cases g2 : zwd b y.2.1 y.1 = zwd b y.2.1 p
      · rw [decide_eq_true g2, if_neg (by decide), if_pos ⟨rfl, g2⟩]
      · rw [decide_eq_false g2, if_pos (by decide), if_neg (fun g => g2 g.2), ih (s + 1) (by omega)]
    · rw [if_neg (by rw [z3_inj (by omega) (by omega)]; exact g), if_neg (fun g2 => g g2.1)]

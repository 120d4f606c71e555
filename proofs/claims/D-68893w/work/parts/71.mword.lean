/-! the reference's words and numbers -/
def kwO : List Nat := [0, 7, 17, 23, 30, 35, 39, 46, 53, 61, 67, 73, 77, 80, 85, 90, 98, 106, 113]
theorem kwO_st : ∀ w, w < 18 → kwO.getD (w + 1) 0 = kwO.getD w 0 + (kwL.getD w []).length + 1 ∧ kwO.getD (w + 1) 0 ≤ 113 ∧ wdB.getD (kwO.getD w 0 + (kwL.getD w []).length) (z3 0) = z3 32 ∧ (∀ i, i < (kwL.getD w []).length → wdB.getD (kwO.getD w 0 + i) (z3 0) = z3 ((kwL.getD w []).getD i 0) ∧ (kwL.getD w []).getD i 0 ≠ 32 ∧ 0 < (kwL.getD w []).getD i 0 ∧ (kwL.getD w []).getD i 0 < 128) := by decide +kernel
theorem m_word0 {B : Bool} {d : Nat} (hd : 1 ≤ d) {σ : SG} {b : Nat → Nat} {n p q w : Nat} (h : TM σ b n) (hqn : q ≤ n) (hpq : p ≤ q) (hw : w < 18) : ∀ (m i : Nat) (s : Bool), i + m = (kwL.getD w []).length → (s = false ∨ (kwL.getD w []).length ≠ q - p) → evS B d 193 19 [(0, .ref 146), (1, .int (z3 p)), (2, .int (z3 q)), (3, .int (z3 (kwO.getD w 0))), (4, .int (z3 w)), (5, .int (z3 i)), (6, .int (zb s))] [] σ = evS B d 193 5 [(0, .ref 146), (1, .int (z3 p)), (2, .int (z3 q)), (3, .int (z3 (kwO.getD (w + 1) 0))), (4, .int (z3 (w + 1)))] [] σ := by
  have hn := h.2.1
  have t := kwO_st w hw
  generalize kwL.getD w [] = l at *
  generalize kwO.getD w 0 = o at *
  generalize kwO.getD (w + 1) 0 = o' at *
  intro m
  induction m with
  | zero =>
    intro i s h1 h2
    rw [sX10_wordKind_19 _ _ hd]
    simp (disch := omega) only [z3_add, z3_ix, z3_cl, nlit, zb_eq0, z3_sub, z3_inj]
    rw [if_pos (by simp; omega), show o + i = o + l.length by omega, if_pos t.2.2.1, show o + l.length + 1 = o' by omega]
    by_cases g : s = false
    · rw [if_pos g]
    · rw [if_neg g, if_neg (by rcases h2 with q | q; exact absurd q g; omega)]
  | succ m ih =>
    intro i s h1 h2
    have ti := t.2.2.2 i (by omega)
    have i1 := ih (i + 1)
    rw [sX10_wordKind_19 _ _ hd]
    simp (disch := omega) only [z3_add, z3_ix, z3_cl, nlit, zb_eq0, z3_le, ti.1, z3_inj]
    rw [if_pos (by simp; omega), if_neg ti.2.1]
    have f0 := i1 false (by omega) (.inl rfl)
    rw [zb_f] at f0
    rw [f0]
    by_cases g : s = false
    · rw [if_pos g]
    · rw [if_neg g]
      by_cases g2 : q ≤ p + i
      · rw [if_pos g2]
      · rw [if_neg g2, m_at h (by omega), kI_some]
        have g3 : l.length ≠ q - p := by rcases h2 with q | q; exact absurd q g; exact q
        have f1 := i1 true (by omega) (.inr g3)
        rw [zb_t] at f1
        rw [if_pos (by simp; omega), f1, f0]
        split <;> rfl
theorem m_word1 {B : Bool} {d : Nat} (hd : 1 ≤ d) {σ : SG} {b : Nat → Nat} {n p q w : Nat} (h : TM σ b n) (hqn : q ≤ n) (hpq : p ≤ q) (hw : w < 18) (hl : (kwL.getD w []).length = q - p) : ∀ (m i : Nat), i + m = (kwL.getD w []).length → evS B d 193 19 [(0, .ref 146), (1, .int (z3 p)), (2, .int (z3 q)), (3, .int (z3 (kwO.getD w 0))), (4, .int (z3 w)), (5, .int (z3 i)), (6, .int (z3 1))] [] σ = if (kwL.getD w []).drop i = zwd b m (p + i) then some (.inl (some (.int (z3 (300 + w)))), σ) else evS B d 193 5 [(0, .ref 146), (1, .int (z3 p)), (2, .int (z3 q)), (3, .int (z3 (kwO.getD (w + 1) 0))), (4, .int (z3 (w + 1)))] [] σ := by
  have hn := h.2.1
  have t := kwO_st w hw
  have W0 := m_word0 (B := B) hd h hqn hpq hw
  generalize kwL.getD w [] = l at *
  generalize kwO.getD w 0 = o at *
  generalize kwO.getD (w + 1) 0 = o' at *
  intro m
  induction m with
  | zero =>
    intro i h1
    rw [sX10_wordKind_19 _ _ hd]
    simp (disch := omega) only [z3_add, z3_ix, z3_cl, nlit, z3_sub, z3_inj]
    rw [if_pos (by simp; omega), show o + i = o + l.length by omega, if_pos t.2.2.1, if_neg (by decide), if_pos (by omega), if_pos]
    rw [zwd, List.drop_eq_nil_iff]; omega
  | succ m ih =>
    intro i h1
    have ti := t.2.2.2 i (by omega)
    have f0 := W0 m (i + 1) false (by omega) (.inl rfl)
    rw [zb_f] at f0
    rw [sX10_wordKind_19 _ _ hd]
    simp (disch := omega) only [z3_add, z3_ix, z3_cl, nlit, z3_le, ti.1, z3_inj, m_at h, kI_some]
    rw [if_pos (by simp; omega), if_neg ti.2.1, if_neg (by decide), if_neg (by omega), if_pos (by simp; omega), f0, ih (i + 1) (by omega)]
    have e2 : l.drop i = l.getD i 0 :: l.drop (i + 1) := by
      rw [List.drop_eq_getElem_cons (by omega), List.getD_eq_getElem?_getD (l := l), List.getElem?_eq_getElem (by omega)]; rfl
    rw [e2, zwd]
    simp (disch := omega) only [mA_eq h]
    have hc : cA b n (p + i) = b (p + i) := by rw [cA, if_pos (by omega)]
    rw [hc]
    by_cases g : b (p + i) = l.getD i 0
    · rw [if_pos g, ← g]
      by_cases g2 : l.drop (i + 1) = zwd b m (p + (i + 1))
      · rw [if_pos g2, if_pos (by rw [g2]; rfl)]
      · rw [if_neg g2, if_neg (by intro e; injection e with _ e; exact g2 e)]
    · rw [if_neg g, if_neg (by intro e; injection e with e _; exact g e.symm)]
theorem m_word {B : Bool} {d : Nat} (hd : 1 ≤ d) {σ : SG} {b : Nat → Nat} {n p q : Nat} (h : TM σ b n) (hqn : q ≤ n) (hpq : p ≤ q) : ∀ (m w : Nat), w + m = 18 → evS B d 193 5 [(0, .ref 146), (1, .int (z3 p)), (2, .int (z3 q)), (3, .int (z3 (kwO.getD w 0))), (4, .int (z3 w))] [] σ = some (.inl (some (.int (z3 (zkf (zwd b (q - p) p) (kwL.drop w) w)))), σ) := by
  have hn := h.2.1
  intro m
  induction m with
  | zero =>
    intro w hw
    obtain rfl : w = 18 := by omega
    rw [sX10_wordKind_5 _ _ hd, show kwL.drop 18 = [] from rfl, zkf]; rfl
  | succ m ih =>
    intro w hw
    have hlen : kwL.length = 18 := rfl
    have t := kwO_st w (by omega)
    have e2 : kwL.drop w = kwL.getD w [] :: kwL.drop (w + 1) := by
      rw [List.drop_eq_getElem_cons (by omega), List.getD_eq_getElem?_getD, List.getElem?_eq_getElem (by omega)]; rfl
    rw [sX10_wordKind_5 _ _ hd, e2, zkf, nlit, if_neg (by rw [z3_le (by omega) (by omega)]; omega)]
    by_cases g : (kwL.getD w []).length = q - p
    · have := m_word1 (B := B) hd h hqn hpq (by omega) g (q - p) 0 (by omega)
      rw [show (0 : Int32) = z3 0 from rfl, show (1 : Int32) = z3 1 from rfl, this, ih (w + 1) (by omega), List.drop_zero, Nat.add_zero]
      by_cases g2 : kwL.getD w [] = zwd b (q - p) p
      · rw [if_pos g2, if_pos g2]
      · rw [if_neg g2, if_neg g2]
    · have := m_word0 (B := B) hd h hqn hpq (by omega : w < 18) ((kwL.getD w []).length) 0 true (by omega) (.inr g)
      rw [zb_t] at this
      rw [show (0 : Int32) = z3 0 from rfl, show (1 : Int32) = z3 1 from rfl, this, ih (w + 1) (by omega), if_neg (by intro e; apply g; rw [e, zwd_len])]
theorem m_wordKind {B : Bool} {d : Nat} (hd : 1 ≤ d) {σ : SG} {b : Nat → Nat} {n p q : Nat} (h : TM σ b n) (hqn : q ≤ n) (hpq : p ≤ q) : mS B d 193 [.ref 146, .int (z3 p), .int (z3 q)] σ = some (.inl (some (.int (z3 (zkw b p q)))), σ) := by
  rw [sX10_wordKind_0 _ _ hd]
  exact m_word hd h hqn hpq 18 0 rfl
theorem zbd_t {p : Prop} [Decidable p] (h : p) : z3 1 = zb (decide p) := by rw [decide_eq_true h]; rfl
theorem zbd_f {p : Prop} [Decidable p] (h : ¬ p) : z3 0 = zb (decide p) := by rw [decide_eq_false h]; rfl
theorem m_read_l {B : Bool} {d : Nat} (hd : 2 ≤ d) {σ : SG} {b : Nat → Nat} {n q s v : Nat} (h : TM σ b n) (hqn : q ≤ n) (hs : 2 ≤ s ∧ s ≤ 16) (hv : 1 ≤ v ∧ v ≤ 64) : ∀ (m k a hi lo : Nat) (ov : Bool), k + m = q → (∀ j, k ≤ j → j < q → zdt (cA b n j) < s) → hi < 4294967296 → lo < 4294967296 → (ov = false → a = hi * 4294967296 + lo) → (ov = true → 18446744073709551616 ≤ a) → ∃ V, evS B d 196 12 [(0, .ref 146), (2, .int (z3 q)), (3, .int (z3 s)), (4, .int (z3 v)), (5, .long (z6 hi)), (7, .long (z6 lo)), (9, .int (zb ov)), (10, .int (z3 k))] [] σ = some (.inl (some (.long V)), uF σ 146 87 (zb (decide (zvl b n s m k a < 2 ^ v)))) ∧ (zvl b n s m k a < 18446744073709551616 → V = z6 (zvl b n s m k a)) := by
  have hn := h.2.1
  have hv2 : 2 ^ v ≤ 18446744073709551616 := Nat.le_trans (Nat.pow_le_pow_right (by omega : 0 < 2) hv.2) (by decide)
  intro m
  induction m with
  | zero =>
    intro k a hi lo ov h1 h2 h3 h4 h5 h6
    simp only [zvl]
    have key := sX10_read_2_12 B d (by omega) σ (z3 q) (z3 s) (z3 v) (z6 hi) (z6 lo) (zb ov) (z3 k)
    rw [if_pos ((z3_le (by omega) (by omega)).2 (by omega : q ≤ k))] at key
    simp (disch := omega) only [nlit, jlit, zb_eq0, z3_le, z3_lt, cmp_eq0, z6_sh, z6_shl, z6_or, z6_inj, z6_shr, shr_eq0, z3_sub] at key
    cases ov
    · have ha := h5 rfl
      have hV : z6 (hi <<< 32 ||| lo) = z6 a := by
        rw [ha, ← Nat.shiftLeft_add_eq_or_of_lt (by omega), Nat.shiftLeft_eq]
      rw [hV] at key
      refine ⟨z6 a, ?_, fun _ => rfl⟩
      rw [key, if_pos rfl]
      by_cases g1 : 64 ≤ v
      · have : v = 64 := by omega
        subst this
        rw [if_pos (by omega)]; exact congrArg (fun x => (some (.inl (some (.long (z6 a))), uF σ 146 87 x) : RSG)) (zbd_t (by omega))
      · rw [if_neg g1]
        by_cases g2 : v < 32
        · rw [if_pos g2]
          have hp : 2 ^ v ≤ 2 ^ 32 := Nat.pow_le_pow_right (by omega) (by omega)
          by_cases g3 : hi = 0
          · rw [if_pos g3]
            have e4 : z6 (lo >>> v) = z6 0 ↔ lo < 2 ^ v := by rw [z6_eq0 (Nat.lt_of_le_of_lt (Nat.shiftRight_le _ _) (by omega)), shr_eq0]
            by_cases g4 : lo < 2 ^ v
            · rw [if_pos (e4.2 g4)]; exact congrArg (fun x => (some (.inl (some (.long (z6 a))), uF σ 146 87 x) : RSG)) (zbd_t (by omega))
            · rw [if_neg (fun q => g4 (e4.1 q))]; exact congrArg (fun x => (some (.inl (some (.long (z6 a))), uF σ 146 87 x) : RSG)) (zbd_f (by omega))
          · rw [if_neg g3]; exact congrArg (fun x => (some (.inl (some (.long (z6 a))), uF σ 146 87 x) : RSG)) (zbd_f (by omega))
        · rw [if_neg g2]
          have e4 : z6 (hi >>> (v - 32)) = z6 0 ↔ hi < 2 ^ (v - 32) := by rw [z6_eq0 (Nat.lt_of_le_of_lt (Nat.shiftRight_le _ _) (by omega)), shr_eq0]
          have hp : 2 ^ v = 2 ^ (v - 32) * 4294967296 := by
            rw [show (4294967296 : Nat) = 2 ^ 32 from rfl, ← Nat.pow_add]; congr 1; omega
          have hlt : a < 2 ^ v ↔ hi < 2 ^ (v - 32) := by
            rw [hp, ha]
            constructor
            · intro g
              apply Nat.lt_of_not_le; intro g'
              have := Nat.mul_le_mul_right 4294967296 g'
              omega
            · intro g
              have := Nat.mul_le_mul_right 4294967296 (show hi + 1 ≤ 2 ^ (v - 32) from g)
              omega
          by_cases g4 : hi < 2 ^ (v - 32)
          · rw [if_pos (e4.2 g4)]; exact congrArg (fun x => (some (.inl (some (.long (z6 a))), uF σ 146 87 x) : RSG)) (zbd_t (hlt.2 g4))
          · rw [if_neg (fun q => g4 (e4.1 q))]; exact congrArg (fun x => (some (.inl (some (.long (z6 a))), uF σ 146 87 x) : RSG)) (zbd_f (fun q => g4 (hlt.1 q)))
    · have ha := h6 rfl
      rw [if_neg (by simp)] at key
      exact ⟨_, by rw [key]; exact congrArg (fun x => (some (.inl (some (.long _)), uF σ 146 87 x) : RSG)) (zbd_f (by omega)), fun q => by omega⟩
  | succ m ih =>
    intro k a hi lo ov h1 h2 h3 h4 h5 h6
    have hz := h2 k (Nat.le_refl _) (by omega)
    have key := sX10_read_2_12 B d (by omega) σ (z3 q) (z3 s) (z3 v) (z6 hi) (z6 lo) (zb ov) (z3 k)
    rw [if_neg (by rw [z3_le (by omega) (by omega)]; omega)] at key
    have hm1 : lo * s ≤ 4294967295 * 16 := Nat.mul_le_mul (by omega) hs.2
    have hm2 : hi * s ≤ 4294967295 * 16 := Nat.mul_le_mul (by omega) hs.2
    simp (disch := omega) only [nlit, jlit, m_at h, m_digit _ h, kI_some, zb_eq0, z3_64, z6_mul, z6_add, z6_and, cmp_le0, z3_add] at key
    rw [show (32 &&& 63 : Nat) = 32 from rfl] at key
    simp (disch := omega) only [z6_shr, z6_add, z6_and] at key
    have hand : ∀ x : Nat, x &&& 4294967295 = x % 4294967296 := fun x => Nat.and_two_pow_sub_one_eq_mod x 32
    have hshr : ∀ x : Nat, x >>> 32 = x / 4294967296 := fun x => Nat.shiftRight_eq_div_pow x 32
    simp only [hand, hshr] at key
    simp (disch := omega) only [z6_le] at key
    simp only [zvl]
    generalize hl' : lo * s + zdt (cA b n k) = lo' at *
    generalize hh' : hi * s + lo' / 4294967296 = hi' at *
    have step := ih (k + 1) (a * s + zdt (cA b n k)) (hi' % 4294967296) (lo' % 4294967296)
    have heq : ov = false → a * s + zdt (cA b n k) = hi' * 4294967296 + lo' % 4294967296 := by
      intro e
      rw [h5 e, ← hh', Nat.add_mul, Nat.add_mul, Nat.mul_right_comm]
      omega
    by_cases g : ov = false
    · subst g
      rw [if_pos rfl] at key
      have e := heq rfl
      by_cases g2 : hi' ≤ 4294967295
      · rw [if_pos g2] at key
        rw [key]
        exact step false (by omega) (fun j a b => h2 j (by omega) b) (by omega) (by omega) (fun _ => by rw [e, Nat.mod_eq_of_lt (show hi' < 4294967296 by omega)]) (fun q => by cases q)
      · rw [if_neg g2] at key
        rw [key]
        exact step true (by omega) (fun j a b => h2 j (by omega) b) (by omega) (by omega) (fun q => by cases q) (fun _ => by omega)
    · rw [if_neg g] at key
      rw [key]
      have : ov = true := by simpa using g
      have hbig := h6 this
      have := Nat.mul_le_mul_left a (show 1 ≤ s by omega)
      exact step true (by omega) (fun j a b => h2 j (by omega) b) (by omega) (by omega) (fun q => by cases q) (fun _ => by omega)
theorem m_read {B : Bool} {d : Nat} (hd : 2 ≤ d) {σ : SG} {b : Nat → Nat} {n p q s v : Nat} (h : TM σ b n) (hpq : p ≤ q) (hqn : q ≤ n) (hs : 2 ≤ s ∧ s ≤ 16) (hv : 1 ≤ v ∧ v ≤ 64) (hdg : ∀ j, p ≤ j → j < q → zdt (cA b n j) < s) : ∃ V, mS B d 196 [.ref 146, .int (z3 p), .int (z3 q), .int (z3 s), .int (z3 v)] σ = some (.inl (some (.long V)), uF σ 146 87 (zb (decide (zvl b n s (q - p) p 0 < 2 ^ v)))) ∧ (zvl b n s (q - p) p 0 < 18446744073709551616 → V = z6 (zvl b n s (q - p) p 0)) := by
  rw [sX10_read_2_0 _ _ (by omega)]
  exact m_read_l hd h hqn hs hv (q - p) p 0 0 0 false (by omega) hdg (by omega) (by omega) (fun _ => rfl) (fun e => by cases e)

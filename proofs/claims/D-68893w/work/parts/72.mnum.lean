theorem m_nend1 {B : Bool} {d : Nat} (hd : 2 ≤ d) {σ : SG} {b : Nat → Nat} {n : Nat} (h : TM σ b n) (k : Nat) (hk : k ≤ n + 1) : evS B d 194 32 [(0, .ref 146), (2, .int (z3 k))] [] σ = some (.inl (some (.int (z3 (zwe b n k)))), σ) := by
  have hn := h.2.1
  refine fd_ind (p := fun j => !isW (cA b n j)) (n := n) (fun k e => k ≤ n + 1 → evS B d 194 32 [(0, .ref 146), (2, .int (z3 k))] [] σ = some (.inl (some (.int (z3 e))), σ)) ?_ ?_ ?_ k hk
  · intro k h1 h2
    rw [sX10_numberEnd_32 _ _ (by omega), m_at h (by omega), kI_some, m_isIn (by omega) h, kI_some, cA_out h1]; rfl
  · intro k h1 hb h2
    rw [sX10_numberEnd_32 _ _ (by omega), m_at h (by omega), kI_some, m_isIn (by omega) h, kI_some, nlit, if_pos ((zb_eq0 _).2 (by simpa using hb))]
  · intro k e h1 hb ih h2
    rw [sX10_numberEnd_32 _ _ (by omega), m_at h (by omega), kI_some, m_isIn (by omega) h, kI_some, nlit, if_neg (by rw [zb_eq0]; simpa using hb), show (1 : Int32) = z3 1 from rfl, z3_add, ih (by omega)]
def zne (b : Nat → Nat) (n d1 : Nat) : Nat := if cA b n d1 = 39 then zwe b n (d1 + 1) else zwe b n d1
theorem m_numberEnd {B : Bool} {d : Nat} (hd : 2 ≤ d) {σ : SG} {b : Nat → Nat} {n p : Nat} (h : TM σ b n) (hp : p ≤ n) : mS B d 194 [.ref 146, .int (z3 p)] σ = some (.inl (some (.int (z3 (zne b n (zd1 b n p))))), σ) := by
  have hn := h.2.1
  rw [sX10_numberEnd_0 _ _ (by omega)]
  refine fd_ind (p := fun j => !isD (cA b n j)) (n := n) (fun k e => k ≤ n → evS B d 194 2 [(0, .ref 146), (2, .int (z3 k))] [] σ = some (.inl (some (.int (z3 (zne b n e)))), σ)) ?_ ?_ ?_ p hp
  · intro k h1 h2
    have e0 : cA b n k = 0 := cA_out h1
    rw [sX10_numberEnd_2 _ _ (by omega)]
    simp (disch := omega) only [m_at h, kI_some, m_isDigit h, nlit, zb_eq0, mA_eq h, z3_add, m_nend1 hd h, e0]
    rw [if_pos (by decide), if_neg (by omega), zne, if_neg (by omega)]
  · intro k h1 hb h2
    have hb : isD (cA b n k) = false := by simpa using hb
    rw [sX10_numberEnd_2 _ _ (by omega)]
    simp (disch := omega) only [m_at h, kI_some, m_isDigit h, nlit, zb_eq0, mA_eq h, z3_add, m_nend1 hd h, hb, if_true]
    unfold zne
    split <;> rfl
  · intro k e h1 hb ih h2
    rw [sX10_numberEnd_2 _ _ (by omega), m_at h (by omega), kI_some, m_isDigit h, kI_some, nlit, if_neg (by rw [zb_eq0]; simpa using hb), show (1 : Int32) = z3 1 from rfl, z3_add, ih (by omega)]
def zall (b : Nat → Nat) (n s : Nat) : Nat → Nat → Bool
  | 0, _ => true
  | m + 1, k => decide (zdt (cA b n k) < s) && zall b n s m (k + 1)
theorem zall_iff {b : Nat → Nat} {n s : Nat} : ∀ {m k : Nat}, zall b n s m k = true ↔ ∀ j, k ≤ j → j < k + m → zdt (cA b n j) < s := by
  intro m
  induction m with
  | zero => intro k; simp [zall]; intro j h1 h2; omega
  | succ m ih =>
    intro k
    rw [zall, Bool.and_eq_true, decide_eq_true_eq, ih]
    constructor
    · rintro ⟨h1, h2⟩ j h3 h4
      rcases Nat.lt_or_ge k j with q | q
      · exact h2 j q (by omega)
      · rw [show j = k by omega]; exact h1
    · intro h
      exact ⟨h k (Nat.le_refl _) (by omega), fun j h1 h2 => h j (by omega) (by omega)⟩
theorem zdg_v (b : Nat → Nat) (n : Nat) {s : Nat} (v : Nat) (hs : 0 < s) : ∀ m k a, a < 2 ^ v → zdg b n s v m k a = if zall b n s m k = true ∧ zvl b n s m k a < 2 ^ v then some (zvl b n s m k a) else none := by
  intro m
  induction m with
  | zero => intro k a h; rw [zdg, if_pos ⟨rfl, h⟩]; rfl
  | succ m ih =>
    intro k a h
    simp only [zdg, zvl, zall, Bool.and_eq_true, decide_eq_true_eq]
    by_cases g : zdt (cA b n k) < s ∧ a * s + zdt (cA b n k) < 2 ^ v
    · rw [if_pos g, ih _ _ g.2]
      by_cases g2 : zall b n s m (k + 1) = true ∧ zvl b n s m (k + 1) (a * s + zdt (cA b n k)) < 2 ^ v
      · rw [if_pos g2, if_pos ⟨⟨g.1, g2.1⟩, g2.2⟩]
      · rw [if_neg g2, if_neg (fun q => g2 ⟨q.1.2, q.2⟩)]
    · rw [if_neg g, if_neg]
      rintro ⟨h1, h2⟩
      have := zvl_ge b n hs m (k + 1) (a * s + zdt (cA b n k))
      exact g ⟨h1.1, by omega⟩
theorem m_nk180 {B : Bool} {d : Nat} (hd : 2 ≤ d) {σ : SG} {b : Nat → Nat} {n q k0 s : Nat} (h : TM σ b n) (hqn : q ≤ n) (hs : s ≤ 16) (y : Int64) : ∀ (m j : Nat), j + m = q → evS B d 195 180 [(0, .ref 146), (2, .int (z3 q)), (3, .int (z3 k0)), (4, .long y), (8, .int (z3 s)), (9, .int (z3 1)), (10, .int (z3 j))] [] σ = if zall b n s m j = true then kJ (mS B (d - 1) 196 [.ref 146, .int (z3 k0 + z3 2), .int (z3 q), .int (z3 s), .int y.toInt32] σ) (fun _ h1 => evS B d 195 237 [(0, .ref 146), (9, .int (z3 1))] [] h1) else some (.inl (some (.int (z3 404))), σ) := by
  have hn := h.2.1
  intro m
  induction m with
  | zero =>
    intro j hj
    rw [sX10_numberKind_180 _ _ (by omega), if_pos ((z3_le (by omega) (by omega)).2 (by omega)), if_neg (by decide), if_pos (show zall b n s 0 j = true from rfl)]; rfl
  | succ m ih =>
    intro j hj
    have hz := zdt_lt (cA b n j)
    rw [sX10_numberKind_180 _ _ (by omega), if_neg (by rw [z3_le (by omega) (by omega)]; omega), if_neg (by decide), m_at h (by omega), kI_some, m_digit (by omega) h, kI_some]
    simp (disch := omega) only [nlit, z3_le, z3_add]
    rw [ih (j + 1) (by omega), zall]
    by_cases g : zdt (cA b n j) < s
    · rw [if_neg (by omega : ¬ s ≤ zdt (cA b n j)), decide_eq_true g, Bool.true_and]
      rw [z3_add]
    · rw [if_pos (by omega : s ≤ zdt (cA b n j)), decide_eq_false g, if_neg (by simp), sX10_numberKind_180 _ _ (by omega)]
      simp (disch := omega) only [nlit, sX10_numberKind_237 _ _ (show 1 ≤ d by omega), if_true]
      split <;> rfl
theorem zd1_facts {b : Nat → Nat} {n p : Nat} (hp : p ≤ n) : p ≤ zd1 b n p ∧ zd1 b n p ≤ n ∧ (∀ j, p ≤ j → j < zd1 b n p → isD (cA b n j) = true) ∧ isD (cA b n (zd1 b n p)) = false := by
  refine ⟨fd_lo .., fd_hi hp, fun j g1 g2 => by simpa using fd_mid j g1 g2, ?_⟩
  rcases Nat.lt_or_ge (zd1 b n p) n with g | g
  · have := fd_at g; simpa [zd1] using this
  · rw [cA_out g]; rfl
theorem zdt_D {c : Nat} (h : isD c = true) : zdt c < 10 := by
  unfold zdt; rw [if_pos h]; rw [isD_iff] at h; omega
theorem zwe_facts {b : Nat → Nat} {n p : Nat} (hp : p ≤ n) : p ≤ zwe b n p ∧ zwe b n p ≤ n ∧ (isW (cA b n p) = true → p < zwe b n p) ∧ (isW (cA b n p) = false → zwe b n p = p) := by
  refine ⟨fd_lo .., fd_hi hp, fun g => ?_, fun g => fd_hit (by simp [g])⟩
  have hl : p < n := by
    apply Nat.lt_of_not_le; intro q
    rw [cA_out q] at g; exact absurd g (by decide)
  rw [zwe, fd_step hl (by simp [g])]
  exact fd_lo ..
theorem m_nk2 {B : Bool} {d : Nat} (hd : 2 ≤ d) {σ : SG} {b : Nat → Nat} {n p q e : Nat} (h : TM σ b n) (hqn : q ≤ n) : ∀ m k, k + m = e → e ≤ q → (∀ j, k ≤ j → j < e → isD (cA b n j) = true) → (e < q → isD (cA b n e) = false) → evS B d 195 2 [(0, .ref 146), (1, .int (z3 p)), (2, .int (z3 q)), (3, .int (z3 k))] [] σ = evS B d 195 24 [(0, .ref 146), (1, .int (z3 p)), (2, .int (z3 q)), (3, .int (z3 e))] [] σ := by
  have hn := h.2.1
  intro m
  induction m with
  | zero =>
    intro k h1 h2 h3 h4
    obtain rfl : k = e := by omega
    rw [sX10_numberKind_2 _ _ (by omega)]
    by_cases g : q ≤ k
    · rw [if_pos ((z3_le (by omega) (by omega)).2 g)]
    · rw [if_neg (by rw [z3_le (by omega) (by omega)]; omega), m_at h (by omega), kI_some, m_isDigit h, kI_some, nlit, if_pos ((zb_eq0 _).2 (h4 (by omega)))]
  | succ m ih =>
    intro k h1 h2 h3 h4
    have := h3 k (Nat.le_refl _) (by omega)
    rw [sX10_numberKind_2 _ _ (by omega), if_neg (by rw [z3_le (by omega) (by omega)]; omega), m_at h (by omega), kI_some, m_isDigit h, kI_some, nlit, if_neg (by rw [zb_eq0, this]; simp), show (1 : Int32) = z3 1 from rfl, z3_add, ih (k + 1) (by omega) h2 (fun j a b => h3 j (by omega) b) h4]
theorem m_numberKind {B : Bool} {d : Nat} (hd : 3 ≤ d) {σ : SG} {b : Nat → Nat} {n p : Nat} (h : TM σ b n) (hp : p ≤ n) : ∃ x, mS B d 195 [.ref 146, .int (z3 p), .int (z3 (zne b n (zd1 b n p)))] σ = some (.inl (some (.int (z3 (tK (znum b n p (zd1 b n p) (zvl b n 10 (zd1 b n p - p) p 0)))))), uF σ 146 87 x) := by
  have hn := h.2.1
  obtain ⟨a1, a2, a3, a4⟩ := zd1_facts (b := b) hp
  have hq1 : zd1 b n p ≤ zne b n (zd1 b n p) ∧ zne b n (zd1 b n p) ≤ n ∧ (cA b n (zd1 b n p) = 39 → zd1 b n p < zne b n (zd1 b n p)) := by
    unfold zne
    by_cases g : cA b n (zd1 b n p) = 39
    · rw [if_pos g]
      have := cA_pos (b := b) (n := n) (k := zd1 b n p) (by omega)
      have := zwe_facts (b := b) (n := n) (p := zd1 b n p + 1) (by omega)
      omega
    · rw [if_neg g]
      have := zwe_facts (b := b) (n := n) (p := zd1 b n p) (by omega)
      exact ⟨this.1, this.2.1, fun q => absurd q g⟩
  rw [sX10_numberKind_0 _ _ (by omega), m_nk2 (by omega) h hq1.2.1 (zd1 b n p - p) p (by omega) hq1.1 a3 (fun _ => a4)]
  obtain ⟨V, r1, r2⟩ := m_read (B := B) (d := d - 1) (by omega) h a1 a2 (s := 10) (v := 16) (by omega) (by omega) (fun j g1 g2 => zdt_D (a3 j g1 g2))
  rw [sX10_numberKind_24 _ _ (by omega)]
  simp only [nlit]
  rw [r1]
  simp only [kJ_some, uF_to, zb_eq0]
  generalize hd1 : zd1 b n p = d1 at *
  generalize hvv : zvl b n 10 (d1 - p) p 0 = v at *
  have hT : TM (uF σ 146 87 (zb (decide (v < 2 ^ 16)))) b n := TM_uF h
  unfold znum
  by_cases g1 : cA b n d1 = 39
  · rw [if_pos g1]
    have hlt := hq1.2.2 g1
    have hq : zne b n d1 = zwe b n (d1 + 1) := by unfold zne; rw [if_pos g1]
    rw [hq] at hq1 hlt ⊢
    generalize zwe b n (d1 + 1) = q at *
    rw [if_neg (by rw [z3_inj (by omega) (by omega)]; omega), m_at hT (by omega), kI_some, if_pos ((mA_eq hT (by omega) (by omega)).2 g1)]
    rw [z3_add, z3_add, m_at hT (by omega), kI_some]
    by_cases g2 : v < 2 ^ 16
    · have hV := r2 (by omega)
      subst hV
      rw [if_neg (by simpa using g2)]
      have q1 : (lg_cmp (z6 v) 1 < z3 0) ↔ v < 1 := by rw [jlit, cmp_lt0, z6_lt (by omega) (by omega)]
      have q2 : (z3 0 < lg_cmp (z6 v) 64) ↔ 64 < v := by rw [jlit, cmp_gt0, z6_lt (by omega) (by omega)]
      have q3 : (z3 (d1 + 2) < z3 q) ↔ d1 + 2 < q := by rw [z3_lt (by omega) (by omega)]
      have q4 : ∀ c, 0 < c → c < 256 → (mA b n (d1 + 1) = z3 c ↔ cA b n (d1 + 1) = c) := fun c h1 h2 => mA_eq hT h1 (by omega)
      by_cases g3 : v < 1 ∨ 64 < v ∨ q ≤ d1 + 2
      · refine ⟨zb (decide (v < 2 ^ 16)), ?_⟩
        rw [if_pos (show v < 1 ∨ 64 < v ∨ zbs (cA b n (d1 + 1)) = 0 ∨ q ≤ d1 + 2 by omega)]
        by_cases k1 : v < 1
        · rw [if_pos (q1.2 k1)]; rfl
        · by_cases k2 : 64 < v
          · rw [if_neg (fun g => k1 (q1.1 g)), if_pos (q2.2 k2)]; rfl
          · rw [if_neg (fun g => k1 (q1.1 g)), if_neg (fun g => k2 (q2.1 g)), if_neg (by rw [q3]; omega)]; rfl
      · rw [if_neg (by rw [q1]; omega), if_neg (by rw [q2]; omega), if_pos (q3.2 (by omega))]
        by_cases g4 : zbs (cA b n (d1 + 1)) = 0
        · rw [if_pos (show v < 1 ∨ 64 < v ∨ zbs (cA b n (d1 + 1)) = 0 ∨ q ≤ d1 + 2 from .inr (.inr (.inl g4)))]
          have : ¬ cA b n (d1 + 1) = 98 ∧ ¬ cA b n (d1 + 1) = 111 ∧ ¬ cA b n (d1 + 1) = 100 ∧ ¬ cA b n (d1 + 1) = 104 := by
            refine ⟨?_, ?_, ?_, ?_⟩ <;> intro e <;> simp [zbs, e] at g4
          rw [if_neg (fun g => this.1 ((q4 98 (by omega) (by omega)).1 g)), if_neg (fun g => this.2.1 ((q4 111 (by omega) (by omega)).1 g)), if_neg (fun g => this.2.2.1 ((q4 100 (by omega) (by omega)).1 g)), if_neg (fun g => this.2.2.2 ((q4 104 (by omega) (by omega)).1 g)), if_pos (by decide)]
          refine ⟨zb (decide (v < 2 ^ 16)), ?_⟩
          rw [sX10_numberKind_180 _ _ (by omega)]
          simp (disch := omega) only [nlit, sX10_numberKind_237 _ _ (show 1 ≤ d by omega), if_true]
          split <;> rfl
        · rw [if_neg (by omega : ¬ (v < 1 ∨ 64 < v ∨ zbs (cA b n (d1 + 1)) = 0 ∨ q ≤ d1 + 2))]
          have hbs : zbs (cA b n (d1 + 1)) = 2 ∨ zbs (cA b n (d1 + 1)) = 8 ∨ zbs (cA b n (d1 + 1)) = 10 ∨ zbs (cA b n (d1 + 1)) = 16 := by
            unfold zbs at *; repeat' split
            all_goals first | omega | (exfalso; simp_all)
          have fin : ∀ s, s = zbs (cA b n (d1 + 1)) → ∃ x, evS B d 195 180 [(0, .ref 146), (2, .int (z3 q)), (3, .int (z3 d1)), (4, .long (z6 v)), (8, .int (z3 s)), (9, .int (z3 1)), (10, .int (z3 (d1 + 2)))] [] (uF σ 146 87 (zb (decide (v < 2 ^ 16)))) = some (.inl (some (.int (z3 (tK (match zdg b n (zbs (cA b n (d1 + 1))) v (q - (d1 + 2)) (d1 + 2) 0 with
              | some r => (402, p, q, r, v)
              | none => (404, p, 0, 0, 0)))))), uF σ 146 87 x) := by
            intro s hs
            rw [← hs] at hbs ⊢
            rw [m_nk180 (by omega) hT hq1.2.1 (by omega) _ (q - (d1 + 2)) (d1 + 2) (by omega), zdg_v b n v (by omega) _ _ _ (Nat.two_pow_pos _)]
            by_cases g5 : zall b n s (q - (d1 + 2)) (d1 + 2) = true
            · rw [if_pos g5]
              obtain ⟨V2, r3, _⟩ := m_read (B := B) (d := d - 1) (by omega) hT (by omega : d1 + 2 ≤ q) hq1.2.1 (s := s) (v := v) (by omega) (by omega) (fun j h1 h2 => zall_iff.1 g5 j h1 (by omega))
              rw [z3_add, z6_32 (by omega), r3, kJ_some, sX10_numberKind_237 _ _ (by omega), if_neg (by decide), uF_to, uF_uF]
              by_cases g6 : zvl b n s (q - (d1 + 2)) (d1 + 2) 0 < 2 ^ v
              · rw [decide_eq_true g6, if_neg (by decide), if_pos ⟨g5, g6⟩]; exact ⟨_, rfl⟩
              · rw [decide_eq_false g6, if_pos (by decide : zb false = 0), if_neg (fun q => g6 q.2)]; exact ⟨_, rfl⟩
            · rw [if_neg g5, if_neg (fun q => g5 q.1)]; exact ⟨_, rfl⟩
          unfold zbs at fin hbs
          by_cases l1 : cA b n (d1 + 1) = 98
          · rw [if_pos ((q4 98 (by omega) (by omega)).2 l1), if_neg (by decide)]; exact fin 2 (by simp [l1])
          rw [if_neg (fun g => l1 ((q4 98 (by omega) (by omega)).1 g))]
          by_cases l2 : cA b n (d1 + 1) = 111
          · rw [if_pos ((q4 111 (by omega) (by omega)).2 l2), if_neg (by decide)]; exact fin 8 (by simp [l2])
          rw [if_neg (fun g => l2 ((q4 111 (by omega) (by omega)).1 g))]
          by_cases l3 : cA b n (d1 + 1) = 100
          · rw [if_pos ((q4 100 (by omega) (by omega)).2 l3), if_neg (by decide)]; exact fin 10 (by simp [l3])
          rw [if_neg (fun g => l3 ((q4 100 (by omega) (by omega)).1 g))]
          by_cases l4 : cA b n (d1 + 1) = 104
          · rw [if_pos ((q4 104 (by omega) (by omega)).2 l4), if_neg (by decide)]; exact fin 16 (by simp [l4])
          simp [l1, l2, l3, l4] at hbs
    · rw [if_pos (by simpa using g2), if_pos (show v < 1 ∨ 64 < v ∨ zbs (cA b n (d1 + 1)) = 0 ∨ q ≤ d1 + 2 by omega)]
      exact ⟨_, rfl⟩
  · rw [if_neg g1]
    have hq : zne b n d1 = zwe b n d1 := by unfold zne; rw [if_neg g1]
    have W := zwe_facts (b := b) (n := n) (p := d1) a2
    rw [hq] at hq1 ⊢
    by_cases g2 : isW (cA b n d1) = true
    · rw [if_pos g2]
      have := W.2.2.1 g2
      rw [if_neg (by rw [z3_inj (by omega) (by omega)]; omega), m_at hT (by omega), kI_some, if_neg (by rw [mA_eq hT (by omega) (by omega)]; exact g1)]
      exact ⟨_, rfl⟩
    · rw [if_neg g2, W.2.2.2 (by simpa using g2), if_pos rfl]
      by_cases g3 : v ≤ 65535
      · rw [if_pos g3, decide_eq_true (by omega), if_neg (by decide)]; exact ⟨_, rfl⟩
      · rw [if_neg g3, decide_eq_false (by omega), if_pos rfl]; exact ⟨_, rfl⟩
theorem m_isSign (B : Bool) (d : Nat) (h : SG) {c : Nat} (hc : c < 256) : mS B d 199 [.int (z3 c)] h = some (.inl (some (.int (zb (zsg c)))), h) := by
  rw [sX10_isSign_0]
  have key : ∀ c, c < 256 → selT (z3 c) [((33 : Int32), 392), ((34 : Int32), 394), ((35 : Int32), 394), ((36 : Int32), 394), ((37 : Int32), 394), ((38 : Int32), 392), ((39 : Int32), 394), ((40 : Int32), 392), ((41 : Int32), 392), ((42 : Int32), 392), ((43 : Int32), 392), ((44 : Int32), 392), ((45 : Int32), 392), ((46 : Int32), 392), ((47 : Int32), 394), ((48 : Int32), 394), ((49 : Int32), 394), ((50 : Int32), 394), ((51 : Int32), 394), ((52 : Int32), 394), ((53 : Int32), 394), ((54 : Int32), 394), ((55 : Int32), 394), ((56 : Int32), 394), ((57 : Int32), 394), ((58 : Int32), 392), ((59 : Int32), 392), ((60 : Int32), 392), ((61 : Int32), 392), ((62 : Int32), 392), ((63 : Int32), 392), ((64 : Int32), 392), ((65 : Int32), 394), ((66 : Int32), 394), ((67 : Int32), 394), ((68 : Int32), 394), ((69 : Int32), 394), ((70 : Int32), 394), ((71 : Int32), 394), ((72 : Int32), 394), ((73 : Int32), 394), ((74 : Int32), 394), ((75 : Int32), 394), ((76 : Int32), 394), ((77 : Int32), 394), ((78 : Int32), 394), ((79 : Int32), 394), ((80 : Int32), 394), ((81 : Int32), 394), ((82 : Int32), 394), ((83 : Int32), 394), ((84 : Int32), 394), ((85 : Int32), 394), ((86 : Int32), 394), ((87 : Int32), 394), ((88 : Int32), 394), ((89 : Int32), 394), ((90 : Int32), 394), ((91 : Int32), 392), ((92 : Int32), 394), ((93 : Int32), 392), ((94 : Int32), 392), ((95 : Int32), 394), ((96 : Int32), 394), ((97 : Int32), 394), ((98 : Int32), 394), ((99 : Int32), 394), ((100 : Int32), 394), ((101 : Int32), 394), ((102 : Int32), 394), ((103 : Int32), 394), ((104 : Int32), 394), ((105 : Int32), 394), ((106 : Int32), 394), ((107 : Int32), 394), ((108 : Int32), 394), ((109 : Int32), 394), ((110 : Int32), 394), ((111 : Int32), 394), ((112 : Int32), 394), ((113 : Int32), 394), ((114 : Int32), 394), ((115 : Int32), 394), ((116 : Int32), 394), ((117 : Int32), 394), ((118 : Int32), 394), ((119 : Int32), 394), ((120 : Int32), 394), ((121 : Int32), 394), ((122 : Int32), 394), ((123 : Int32), 392), ((124 : Int32), 392), ((125 : Int32), 392), ((126 : Int32), 392)] 394 = bif zsg c then 392 else 394 := by decide +kernel
  rw [key c hc]
  cases zsg c
  · exact (es_st 1 (pc' := 395) (L' := [(0, .int (z3 c))]) (S' := [.int (0 : Int32)]) (h' := h) rfl).trans (es_fin rfl rfl rfl)
  · exact (es_st 1 (pc' := 393) (L' := [(0, .int (z3 c))]) (S' := [.int (1 : Int32)]) (h' := h) rfl).trans (es_fin rfl rfl rfl)
theorem m_pair {B : Bool} {d : Nat} {σ τ : SG} {b : Nat → Nat} {n k : Nat} (h : TM σ b n) {c : Nat} (hc : c < 256) : mS B d 198 [.int (z3 c), .int (mA b n k)] τ = some (.inl (some (.int (z3 (ztw c (cA b n k))))), τ) := by
  have q4 : ∀ e, 0 < e → e < 256 → (mA b n k = z3 e ↔ cA b n k = e) := fun c h1 h2 => mA_eq h h1 (by omega)
  have p126 : evS B d 198 126 [(0, .int (z3 c)), (1, .int (mA b n k))] [] τ = some (.inl (some (.int (z3 (if c = 62 ∧ cA b n k = 62 then 263 else 0)))), τ) := by
    rw [sX10_pair_126]
    simp (disch := omega) only [nlit, z3_inj, q4]
    by_cases h1 : c = 62 <;> by_cases h2 : cA b n k = 62 <;> simp [h1, h2]
  have p90 : evS B d 198 90 [(0, .int (z3 c)), (1, .int (mA b n k))] [] τ = some (.inl (some (.int (z3 (if c = 62 ∧ cA b n k = 61 then 261 else if c = 60 ∧ cA b n k = 60 then 262 else if c = 62 ∧ cA b n k = 62 then 263 else 0)))), τ) := by
    rw [sX10_pair_90, p126]
    simp (disch := omega) only [nlit, z3_inj, q4]
    by_cases h1 : c = 62 <;> by_cases h2 : cA b n k = 61 <;> by_cases h3 : c = 60 <;> by_cases h4 : cA b n k = 60 <;> simp [h1, h2, h3, h4]
  have p54 : evS B d 198 54 [(0, .int (z3 c)), (1, .int (mA b n k))] [] τ = some (.inl (some (.int (z3 (if c = 33 ∧ cA b n k = 61 then 259 else if c = 60 ∧ cA b n k = 61 then 260 else if c = 62 ∧ cA b n k = 61 then 261 else if c = 60 ∧ cA b n k = 60 then 262 else if c = 62 ∧ cA b n k = 62 then 263 else 0)))), τ) := by
    rw [sX10_pair_54, p90]
    simp (disch := omega) only [nlit, z3_inj, q4]
    by_cases h1 : c = 33 <;> by_cases h2 : cA b n k = 61 <;> by_cases h3 : c = 60 <;> simp [h1, h2, h3]
  have p18 : evS B d 198 18 [(0, .int (z3 c)), (1, .int (mA b n k))] [] τ = some (.inl (some (.int (z3 (if c = 124 ∧ cA b n k = 124 then 257 else if c = 61 ∧ cA b n k = 61 then 258 else if c = 33 ∧ cA b n k = 61 then 259 else if c = 60 ∧ cA b n k = 61 then 260 else if c = 62 ∧ cA b n k = 61 then 261 else if c = 60 ∧ cA b n k = 60 then 262 else if c = 62 ∧ cA b n k = 62 then 263 else 0)))), τ) := by
    rw [sX10_pair_18, p54]
    simp (disch := omega) only [nlit, z3_inj, q4]
    by_cases h1 : c = 124 <;> by_cases h2 : cA b n k = 124 <;> by_cases h3 : c = 61 <;> by_cases h4 : cA b n k = 61 <;> simp [h1, h2, h3, h4]
  rw [sX10_pair_0, p18]
  simp (disch := omega) only [nlit, z3_inj, q4]
  unfold ztw
  by_cases h1 : c = 38 <;> by_cases h2 : cA b n k = 38 <;> simp [h1, h2]

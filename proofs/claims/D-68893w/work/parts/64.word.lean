/-! the component's words, signs and tokens -/
def kwL : List (List Nat) := [[109, 111, 100, 117, 108, 101], [101, 110, 100, 109, 111, 100, 117, 108, 101], [105, 110, 112, 117, 116], [111, 117, 116, 112, 117, 116], [119, 105, 114, 101], [114, 101, 103], [97, 115, 115, 105, 103, 110], [97, 108, 119, 97, 121, 115], [112, 111, 115, 101, 100, 103, 101], [99, 108, 111, 99, 107], [98, 101, 103, 105, 110], [101, 110, 100], [105, 102], [101, 108, 115, 101], [99, 97, 115, 101], [101, 110, 100, 99, 97, 115, 101], [100, 101, 102, 97, 117, 108, 116], [97, 115, 115, 101, 114, 116]]
theorem kwL_st : ∀ w, w < 18 → stBy.getD (5 + w) [] = (kwL.getD w []).map z3 ∧ stLn.getD (5 + w) 0 = (kwL.getD w []).length ∧ ((kwL.getD w []).all (fun c => decide (c < 128))) = true := by decide +kernel
def zwd (b : Nat → Nat) : Nat → Nat → List Nat
  | 0, _ => []
  | m + 1, p => b p :: zwd b m (p + 1)
theorem zwd_len (b : Nat → Nat) : ∀ m p, (zwd b m p).length = m := by
  intro m; induction m with
  | zero => intro p; rfl
  | succ m ih => intro p; simp [zwd, ih]
def zkf (l : List Nat) : List (List Nat) → Nat → Nat
  | [], _ => 400
  | x :: r, w => if x = l then 300 + w else zkf l r (w + 1)
def zkw (b : Nat → Nat) (p q : Nat) : Nat := zkf (zwd b (q - p) p) kwL 0
/-- kinds of tokens in the component -/
def kC (k : Nat) : Nat := if 400 ≤ k then (if k = 403 then 256 else k - 143) else if 256 ≤ k ∧ k < 264 then k + 4 else k
theorem x2_key43 {B : Bool} {d : Nat} (hd : 6 ≤ d) {σ : SG} {b : Nat → Nat} {n p q w : Nat} (h : TX σ b n) (hp : sF σ 27 7 = z3 p) (hq : sF σ 27 8 = z3 q) (hqn : q ≤ n) (hw : w < 18) (hl : (kwL.getD w []).length = q - p) : ∀ (m k : Nat), p ≤ k → k + m = q → evS B d 37 43 [(0, .ref 27), (1, .int (z3 w)), (2, .int (z3 1)), (3, .int (z3 k))] [] σ = if (kwL.getD w []).drop (k - p) = zwd b m k then some (.inl (some (.int (z3 (300 + w)))), σ) else evS B d 37 2 [(0, .ref 27), (1, .int (z3 (w + 1)))] [] σ := by
  have hn := h.2.1
  intro m
  induction m with
  | zero =>
    intro k h1 h2
    rw [sX2_keyword_43 _ _ hd, hq]
    simp (disch := omega) only [z3_le, nlit, z3_add, z3_inj]
    rw [if_pos (by omega), if_neg (by decide), if_pos]
    rw [zwd, List.drop_eq_nil_iff]; omega
  | succ m ih =>
    intro k h1 h2
    have hk := h.2.2 k (by omega)
    have t := kwL_st w hw
    generalize kwL.getD w [] = l at *
    rw [sX2_keyword_43 _ _ hd, hq, hp]
    simp (disch := omega) only [z3_le, nlit, z3_add, z3_inj, z3_ix, z3_cl, z3_sub]
    rw [if_neg (by omega), if_neg (by decide), if_pos (by simp; omega), if_pos (by simp; omega)]
    have e1 : stCS (7 + w) (z3 (k - p)) = some (z3 (l.getD (k - p) 0)) := by
      unfold stCS
      rw [show 7 + w - 2 = 5 + w by omega, t.1, t.2.1, z3_ix (by omega), z3_cl (by omega)]
      have : (Nat.ble 2 (7 + w) && Nat.ble (7 + w) 25) = true := by simp; omega
      rw [this, cond_true, if_pos (by simp; omega)]
      simp only [List.getD_eq_getElem?_getD, List.getElem?_map]
      rw [List.getElem?_eq_getElem (h := by omega)]; rfl
    have hc : l.getD (k - p) 0 < 128 := by
      have := List.all_eq_true.1 t.2.2 (l[k - p]'(by omega)) (List.getElem_mem _)
      rw [List.getD_eq_getElem?_getD, List.getElem?_eq_getElem (by omega)]
      simpa using this
    rw [e1, ob_v, hk.2]
    simp only [sb_eq hk.1 hc]
    have e2 : l.drop (k - p) = l.getD (k - p) 0 :: l.drop (k + 1 - p) := by
      rw [List.drop_eq_getElem_cons (by omega), show k - p + 1 = k + 1 - p by omega, List.getD_eq_getElem?_getD (l := l), List.getElem?_eq_getElem (by omega)]; rfl
    rw [e2, zwd, ih (k + 1) (by omega) (by omega)]
    by_cases g : b k = l.getD (k - p) 0
    · rw [if_pos g]
      by_cases g2 : l.drop (k + 1 - p) = zwd b m (k + 1)
      · rw [if_pos g2, if_pos (by rw [g, g2])]
      · rw [if_neg g2, if_neg (by simp [g2])]
    · rw [if_neg g, if_neg (by intro e; injection e with e _; exact g e.symm), sX2_keyword_43 _ _ hd, hq]
      simp (disch := omega) only [z3_le, nlit, z3_add, z3_inj, if_true]
      split <;> rfl
theorem kC_key (w : Nat) (h : w < 18) : kC (300 + w) = 300 + w := by
  unfold kC; rw [if_neg (by omega), if_neg (by omega)]
theorem x2_key2 {B : Bool} {d : Nat} (hd : 6 ≤ d) {σ : SG} {b : Nat → Nat} {n p q : Nat} (h : TX σ b n) (hp : sF σ 27 7 = z3 p) (hq : sF σ 27 8 = z3 q) (hqn : q ≤ n) (hpq : p ≤ q) : ∀ (m w : Nat), w + m = 18 → evS B d 37 2 [(0, .ref 27), (1, .int (z3 w))] [] σ = some (.inl (some (.int (z3 (kC (zkf (zwd b (q - p) p) (kwL.drop w) w))))), σ) := by
  have hn := h.2.1
  intro m
  induction m with
  | zero =>
    intro w hw
    obtain rfl : w = 18 := by omega
    rw [sX2_keyword_2 _ _ hd, show kwL.drop 18 = [] from rfl, zkf]; rfl
  | succ m ih =>
    intro w hw
    have t := kwL_st w (by omega)
    have hlen : kwL.length = 18 := rfl
    have e2 : kwL.drop w = kwL.getD w [] :: kwL.drop (w + 1) := by
      rw [List.drop_eq_getElem_cons (by omega), List.getD_eq_getElem?_getD, List.getElem?_eq_getElem (by omega)]; rfl
    rw [sX2_keyword_2 _ _ hd, hp, hq, e2, zkf]
    simp (disch := omega) only [z3_le, nlit, z3_ix, z3_cl, z3_sub]
    rw [if_neg (by omega), if_pos (by simp; omega)]
    have e1 : stLS (7 + w) = some (z3 (kwL.getD w []).length) := by
      unfold stLS
      have h1 : (Nat.ble 2 (7 + w) && Nat.ble (7 + w) 25) = true := by simp; omega
      rw [h1, show 7 + w - 2 = 5 + w by omega, t.2.1]
      cases Nat.beq (tgS (7 + w)) 30 <;> rfl
    have hl2 : (kwL.getD w []).length < 100 := by
      have : ∀ w, w < 18 → (kwL.getD w []).length < 100 := by decide
      exact this w (by omega)
    rw [e1, ob_v]
    simp (disch := omega) only [z3_inj]
    by_cases g : (kwL.getD w []).length = q - p
    · rw [if_pos g, x2_key43 hd h hp hq hqn (by omega) g (q - p) p (Nat.le_refl _) (by omega), Nat.sub_self, List.drop_zero, ih (w + 1) (by omega)]
      by_cases g2 : kwL.getD w [] = zwd b (q - p) p
      · rw [if_pos g2, if_pos g2, kC_key w (by omega)]
      · rw [if_neg g2, if_neg g2]
    · rw [if_neg g, if_neg (by intro e; apply g; rw [e, zwd_len]), ← ih (w + 1) (by omega), sX2_keyword_43 _ _ hd, hq]
      simp (disch := omega) only [z3_le, nlit, z3_add, z3_inj, if_true]
      split <;> rfl
theorem x2_keyword {B : Bool} {d : Nat} (hd : 6 ≤ d) {σ : SG} {b : Nat → Nat} {n p q : Nat} (h : TX σ b n) (hp : sF σ 27 7 = z3 p) (hq : sF σ 27 8 = z3 q) (hqn : q ≤ n) (hpq : p ≤ q) : mS B d 37 [.ref 27] σ = some (.inl (some (.int (z3 (kC (zkw b p q))))), σ) := by
  rw [sX2_keyword_0 _ _ hd]
  exact x2_key2 hd h hp hq hqn hpq 18 0 rfl
def ztw (c e : Nat) : Nat := if c = 38 ∧ e = 38 then 256 else if c = 124 ∧ e = 124 then 257 else if c = 61 ∧ e = 61 then 258 else if c = 33 ∧ e = 61 then 259 else if c = 60 ∧ e = 61 then 260 else if c = 62 ∧ e = 61 then 261 else if c = 60 ∧ e = 60 then 262 else if c = 62 ∧ e = 62 then 263 else 0
def ztC (k : Nat) : Nat := if k = 0 then 0 else k + 4
theorem x2_sg119 {B : Bool} {d : Nat} (hd : 1 ≤ d) (σ : SG) {c e : Nat} (hc : c < 256) (he : e < 256) : evS B d 42 119 [(0, .ref 27), (1, .int (z3 c)), (2, .int (z3 e))] [] σ = evS B d 42 156 [(0, .ref 27), (1, .int (z3 c))] [.int (z3 (if c = 60 ∧ e = 60 then 266 else if c = 62 ∧ e = 62 then 267 else 0))] σ := by
  rw [sX2_sign_119 _ _ hd]
  simp (disch := omega) only [nlit, z3_inj]
  by_cases h1 : c = 60 <;> by_cases h2 : c = 62 <;> by_cases h3 : e = 60 <;> by_cases h4 : e = 62 <;> simp [h1, h2, h3, h4]
theorem x2_sg83 {B : Bool} {d : Nat} (hd : 1 ≤ d) (σ : SG) {c e : Nat} (hc : c < 256) (he : e < 256) : evS B d 42 83 [(0, .ref 27), (1, .int (z3 c)), (2, .int (z3 e))] [] σ = evS B d 42 156 [(0, .ref 27), (1, .int (z3 c))] [.int (z3 (if c = 60 ∧ e = 61 then 264 else if c = 62 ∧ e = 61 then 265 else if c = 60 ∧ e = 60 then 266 else if c = 62 ∧ e = 62 then 267 else 0))] σ := by
  rw [sX2_sign_83 _ _ hd]
  simp (disch := omega) only [nlit, z3_inj, x2_sg119 hd]
  by_cases h1 : c = 60 <;> by_cases h2 : c = 62 <;> by_cases h3 : e = 61 <;> simp [h1, h2, h3]
theorem x2_sg47 {B : Bool} {d : Nat} (hd : 1 ≤ d) (σ : SG) {c e : Nat} (hc : c < 256) (he : e < 256) : evS B d 42 47 [(0, .ref 27), (1, .int (z3 c)), (2, .int (z3 e))] [] σ = evS B d 42 156 [(0, .ref 27), (1, .int (z3 c))] [.int (z3 (if c = 61 ∧ e = 61 then 262 else if c = 33 ∧ e = 61 then 263 else if c = 60 ∧ e = 61 then 264 else if c = 62 ∧ e = 61 then 265 else if c = 60 ∧ e = 60 then 266 else if c = 62 ∧ e = 62 then 267 else 0))] σ := by
  rw [sX2_sign_47 _ _ hd]
  simp (disch := omega) only [nlit, z3_inj, x2_sg83 hd]
  by_cases h1 : c = 61 <;> by_cases h2 : c = 33 <;> by_cases h3 : e = 61 <;> simp [h1, h2, h3]
theorem ztC_eq (c e : Nat) : ztC (ztw c e) = if c = 38 ∧ e = 38 then 260 else if c = 124 ∧ e = 124 then 261 else if c = 61 ∧ e = 61 then 262 else if c = 33 ∧ e = 61 then 263 else if c = 60 ∧ e = 61 then 264 else if c = 62 ∧ e = 61 then 265 else if c = 60 ∧ e = 60 then 266 else if c = 62 ∧ e = 62 then 267 else 0 := by
  unfold ztw; repeat' split
  all_goals rfl
theorem ztw_lt (c e : Nat) : ztw c e < 264 ∧ (ztw c e = 0 ∨ 256 ≤ ztw c e) := by
  unfold ztw; repeat' split
  all_goals omega
theorem x2_sign {B : Bool} {d : Nat} (hd : 1 ≤ d) {σ : SG} {b : Nat → Nat} {n p : Nat} (h : TX σ b n) (hp : sF σ 27 7 = z3 p) (hpn : p < n) : mS B d 42 [.ref 27, .int (z3 (cA b n p))] σ = if ztw (cA b n p) (cA b n (p + 1)) = 0 then (if zsg (cA b n p) = true then some (.inl none, uF (uF σ 27 6 (z3 (cA b n p))) 27 8 (z3 (p + 1))) else some (.inr 0, flw σ 1 p)) else some (.inl none, uF (uF σ 27 6 (z3 (ztw (cA b n p) (cA b n (p + 1)) + 4))) 27 8 (z3 (p + 2))) := by
  have hn := h.2.1
  have c1 := cA_lt h p
  have c2 := cA_lt h (p + 1)
  have e : mS B d 42 [.ref 27, .int (z3 (cA b n p))] σ = evS B d 42 156 [(0, .ref 27), (1, .int (z3 (cA b n p)))] [.int (z3 (ztC (ztw (cA b n p) (cA b n (p + 1)))))] σ := by
    rw [sX2_sign_0 _ _ hd, hp, show (1 : Int32) = z3 1 from rfl, z3_add, x2_at h (by omega), kI_some, ztC_eq]
    generalize cA b n p = c at *
    generalize cA b n (p + 1) = e at *
    rw [x2_sg47 hd σ c1 c2]
    generalize (if c = 61 ∧ e = 61 then 262 else if c = 33 ∧ e = 61 then 263 else if c = 60 ∧ e = 61 then 264 else if c = 62 ∧ e = 61 then 265 else if c = 60 ∧ e = 60 then 266 else if c = 62 ∧ e = 62 then 267 else 0) = y
    simp (disch := omega) only [nlit, z3_inj]
    by_cases h1 : c = 38 <;> by_cases h2 : c = 124 <;> by_cases h3 : e = 38 <;> by_cases h4 : e = 124 <;> simp [h1, h2, h3, h4]
  rw [e, sX2_sign_156 _ _ hd]
  have t := ztw_lt (cA b n p) (cA b n (p + 1))
  have hz : ztC (ztw (cA b n p) (cA b n (p + 1))) < 300 := by unfold ztC; split <;> omega
  have h7 : ∀ x : Int32, sF (uF σ 27 6 x) 27 7 = z3 p := fun x => by rw [sF_uF, if_neg (by decide)]; exact hp
  generalize hG : ztC (ztw (cA b n p) (cA b n (p + 1))) = t2 at *
  simp (disch := omega) only [sX2_sign_188 _ _ hd, x2_isSign, kI_some, hp, h7]
  simp (disch := omega) only [nlit, z3_inj, zb_eq0, x2_flaw, z3_add]
  rw [← hG]
  by_cases g : ztw (cA b n p) (cA b n (p + 1)) = 0
  · rw [g]; simp only [ztC, if_true]
    cases zsg (cA b n p) <;> rfl
  · have : ¬ ztC (ztw (cA b n p) (cA b n (p + 1))) = 0 := by unfold ztC; rw [if_neg g]; omega
    rw [if_neg this, if_neg this, if_neg this, if_neg g]
    unfold ztC; rw [if_neg g]

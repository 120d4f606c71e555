/-! the component's tokens -/
def zsg (c : Nat) : Bool := [43, 45, 42, 38, 124, 94, 126, 33, 60, 62, 63, 58, 59, 44, 46, 40, 41, 91, 93, 123, 125, 61, 64].contains c
theorem x2_isSign (B : Bool) (d : Nat) (h : SG) {c : Nat} (hc : c < 256) : mS B d 43 [.int (z3 c)] h = some (.inl (some (.int (zb (zsg c)))), h) := by
  rw [sX2_isSign_0]
  have key : ∀ c, c < 256 → selT (z3 c) [((33 : Int32), 392), ((34 : Int32), 394), ((35 : Int32), 394), ((36 : Int32), 394), ((37 : Int32), 394), ((38 : Int32), 392), ((39 : Int32), 394), ((40 : Int32), 392), ((41 : Int32), 392), ((42 : Int32), 392), ((43 : Int32), 392), ((44 : Int32), 392), ((45 : Int32), 392), ((46 : Int32), 392), ((47 : Int32), 394), ((48 : Int32), 394), ((49 : Int32), 394), ((50 : Int32), 394), ((51 : Int32), 394), ((52 : Int32), 394), ((53 : Int32), 394), ((54 : Int32), 394), ((55 : Int32), 394), ((56 : Int32), 394), ((57 : Int32), 394), ((58 : Int32), 392), ((59 : Int32), 392), ((60 : Int32), 392), ((61 : Int32), 392), ((62 : Int32), 392), ((63 : Int32), 392), ((64 : Int32), 392), ((65 : Int32), 394), ((66 : Int32), 394), ((67 : Int32), 394), ((68 : Int32), 394), ((69 : Int32), 394), ((70 : Int32), 394), ((71 : Int32), 394), ((72 : Int32), 394), ((73 : Int32), 394), ((74 : Int32), 394), ((75 : Int32), 394), ((76 : Int32), 394), ((77 : Int32), 394), ((78 : Int32), 394), ((79 : Int32), 394), ((80 : Int32), 394), ((81 : Int32), 394), ((82 : Int32), 394), ((83 : Int32), 394), ((84 : Int32), 394), ((85 : Int32), 394), ((86 : Int32), 394), ((87 : Int32), 394), ((88 : Int32), 394), ((89 : Int32), 394), ((90 : Int32), 394), ((91 : Int32), 392), ((92 : Int32), 394), ((93 : Int32), 392), ((94 : Int32), 392), ((95 : Int32), 394), ((96 : Int32), 394), ((97 : Int32), 394), ((98 : Int32), 394), ((99 : Int32), 394), ((100 : Int32), 394), ((101 : Int32), 394), ((102 : Int32), 394), ((103 : Int32), 394), ((104 : Int32), 394), ((105 : Int32), 394), ((106 : Int32), 394), ((107 : Int32), 394), ((108 : Int32), 394), ((109 : Int32), 394), ((110 : Int32), 394), ((111 : Int32), 394), ((112 : Int32), 394), ((113 : Int32), 394), ((114 : Int32), 394), ((115 : Int32), 394), ((116 : Int32), 394), ((117 : Int32), 394), ((118 : Int32), 394), ((119 : Int32), 394), ((120 : Int32), 394), ((121 : Int32), 394), ((122 : Int32), 394), ((123 : Int32), 392), ((124 : Int32), 392), ((125 : Int32), 392), ((126 : Int32), 392)] 394 = bif zsg c then 392 else 394 := by decide +kernel
  rw [key c hc]
  cases zsg c
  · exact (es_st 1 (pc' := 395) (L' := [(0, .int (z3 c))]) (S' := [.int (0 : Int32)]) (h' := h) rfl).trans (es_fin rfl rfl rfl)
  · exact (es_st 1 (pc' := 393) (L' := [(0, .int (z3 c))]) (S' := [.int (1 : Int32)]) (h' := h) rfl).trans (es_fin rfl rfl rfl)
/-- behind blanks and comments; where a comment begins that does not end -/
def zblk (b : Nat → Nat) (n : Nat) : Nat → Nat → Nat ⊕ Nat
  | 0, k => .inr k
  | f + 1, k =>
    if k < n ∧ (cA b n k = 32 ∨ cA b n k = 9 ∨ cA b n k = 10 ∨ cA b n k = 13) then zblk b n f (k + 1)
    else if cA b n k = 47 ∧ cA b n (k + 1) = 47 then zblk b n f (fd (fun j => cA b n j == 10) n k)
    else if cA b n k = 47 ∧ cA b n (k + 1) = 42 then
      (if n ≤ fd (fun j => cA b n j == 42 && cA b n (j + 1) == 47) n (k + 2) then .inl k else zblk b n f (fd (fun j => cA b n j == 42 && cA b n (j + 1) == 47) n (k + 2) + 2))
    else .inr k
theorem cA_pos {b : Nat → Nat} {n k : Nat} (h : cA b n k ≠ 0) : k < n := by
  unfold cA at h; split at h
  · assumption
  · exact absurd rfl h
theorem cA_out {b : Nat → Nat} {n k : Nat} (h : n ≤ k) : cA b n k = 0 := by
  unfold cA; rw [if_neg (by omega)]
theorem TXto {b : Nat → Nat} {n : Nat} {σ : SG} (h : TX σ b n) (x : Int32) : TX (uF σ 27 8 x) b n := TX_uF h
theorem uF_to {σ : SG} {a i : Nat} {x : Int32} : sF (uF σ a i x) a i = x := by rw [sF_uF, if_pos ⟨rfl, rfl⟩]
theorem sF_len {σ : SG} {b : Nat → Nat} {n : Nat} (h : TX σ b n) (x : Int32) : sF (uF σ 27 8 x) 27 3 = z3 n := (TX_uF h).1
theorem x2_line {B : Bool} {d : Nat} (hd : 1 ≤ d) {σ : SG} {b : Nat → Nat} {n : Nat} (h : TX σ b n) (x : Int32) (k : Nat) (hk : k ≤ n) : evS B d 31 84 [(0, .ref 27), (1, .int x)] [] (uF σ 27 8 (z3 k)) = evS B d 31 2 [(0, .ref 27), (1, .int x)] [] (uF σ 27 8 (z3 (fd (fun j => cA b n j == 10) n k))) := by
  refine fd_ind (p := fun j => cA b n j == 10) (n := n) (fun k e => k ≤ n → evS B d 31 84 [(0, .ref 27), (1, .int x)] [] (uF σ 27 8 (z3 k)) = evS B d 31 2 [(0, .ref 27), (1, .int x)] [] (uF σ 27 8 (z3 e))) ?_ ?_ ?_ k hk
  all_goals have hn := h.2.1
  · intro k h1 h2
    rw [sX2_blanks_84 _ _ hd]
    simp (disch := omega) only [sF_len h, uF_to, z3_le, if_pos h1]
  · intro k h1 hp h2
    rw [sX2_blanks_84 _ _ hd]
    have hp : cA b n k = 10 := by simpa using hp
    simp (disch := omega) only [sF_len h, uF_to, z3_le, x2_at (TXto h _), kI_some, nlit, z3_inj, hp]
    rw [if_neg (by omega), if_pos trivial]
  · intro k e h1 hp ih h2
    rw [sX2_blanks_84 _ _ hd]
    have hp : ¬ cA b n k = 10 := by simpa using hp
    have := cA_lt h k
    simp (disch := omega) only [sF_len h, uF_to, z3_le, x2_at (TXto h _), kI_some, nlit, z3_inj, hp, z3_add, uF_uF]
    rw [if_neg (by omega), if_neg (by simp), ih (by omega)]
theorem x2_cmt {B : Bool} {d : Nat} (hd : 1 ≤ d) {σ : SG} {b : Nat → Nat} {n : Nat} (h : TX σ b n) (x : Int32) (k : Nat) (hk : k < 65000) : evS B d 31 149 [(0, .ref 27), (1, .int x), (3, .int (z3 k))] [] σ = evS B d 31 185 [(0, .ref 27), (1, .int x), (3, .int (z3 (fd (fun j => cA b n j == 42 && cA b n (j + 1) == 47) n k)))] [] σ := by
  refine fd_ind (p := fun j => cA b n j == 42 && cA b n (j + 1) == 47) (n := n) (fun k e => k < 65000 → evS B d 31 149 [(0, .ref 27), (1, .int x), (3, .int (z3 k))] [] σ = evS B d 31 185 [(0, .ref 27), (1, .int x), (3, .int (z3 e))] [] σ) ?_ ?_ ?_ k hk
  all_goals have hn := h.2.1
  · intro k h1 h2
    rw [sX2_blanks_149 _ _ hd]
    simp (disch := omega) only [h.1, z3_le, if_pos h1]
  · intro k h1 hp h2
    rw [sX2_blanks_149 _ _ hd]
    have hp : cA b n k = 42 ∧ cA b n (k + 1) = 47 := by simpa using hp
    simp (disch := omega) only [h.1, z3_le, x2_at h, kI_some, nlit, z3_inj, hp, z3_add, x2_at h, if_true]
    rw [if_neg (by omega)]
  · intro k e h1 hp ih h2
    rw [sX2_blanks_149 _ _ hd]
    have hp : ¬ (cA b n k = 42 ∧ cA b n (k + 1) = 47) := by simpa using hp
    have := cA_lt h k
    have := cA_lt h (k + 1)
    simp (disch := omega) only [h.1, z3_le, x2_at h, kI_some, nlit, z3_inj, z3_add, x2_at h]
    rw [if_neg (by omega), ih (by omega)]
    split
    · rw [if_neg (by omega)]
    · rfl
/-- a fault of the tokens -/
def flw (σ : SG) (c p : Nat) : SG := uF (uF σ 27 4 (z3 c)) 27 5 (z3 p)
theorem x2_flaw (B : Bool) (d : Nat) (σ : SG) (c p : Nat) (f : Nat → SG → RSG) : kR (mS B d 33 [.ref 27, .int (z3 c), .int (z3 p)] σ) f = f 29 (flw σ c p) := by
  rw [sX2_flaw_0]; rfl
theorem zblk1 {b : Nat → Nat} {n f k : Nat} (g : k < n) (w : cA b n k = 32 ∨ cA b n k = 9 ∨ cA b n k = 10 ∨ cA b n k = 13) : zblk b n (f + 1) k = zblk b n f (k + 1) := by
  simp only [zblk]; rw [if_pos ⟨g, w⟩]
theorem zblk2 {b : Nat → Nat} {n f k : Nat} (e1 : cA b n k = 47) (e2 : cA b n (k + 1) = 47) : zblk b n (f + 1) k = zblk b n f (fd (fun j => cA b n j == 10) n k) := by
  simp only [zblk]; rw [if_neg (by omega), if_pos ⟨e1, e2⟩]
theorem zblk3 {b : Nat → Nat} {n f k : Nat} (w : ¬ (k < n ∧ (cA b n k = 32 ∨ cA b n k = 9 ∨ cA b n k = 10 ∨ cA b n k = 13))) (e : ¬ (cA b n k = 47 ∧ cA b n (k + 1) = 47)) : zblk b n (f + 1) k = (if cA b n k = 47 ∧ cA b n (k + 1) = 42 then
      (if n ≤ fd (fun j => cA b n j == 42 && cA b n (j + 1) == 47) n (k + 2) then .inl k else zblk b n f (fd (fun j => cA b n j == 42 && cA b n (j + 1) == 47) n (k + 2) + 2))
    else .inr k) := by
  simp only [zblk]; rw [if_neg w, if_neg e]
theorem x2_blanks {B : Bool} {d : Nat} (hd : 1 ≤ d) {σ : SG} {b : Nat → Nat} {n : Nat} (h : TX σ b n) : ∀ (f k : Nat), n < f + k → k ≤ n → evS B d 31 2 [(0, .ref 27), (1, .int (z3 1))] [] (uF σ 27 8 (z3 k)) = match zblk b n f k with
    | .inl q => some (.inr 0, flw (uF σ 27 8 (z3 q)) 1 q)
    | .inr q => some (.inl none, uF σ 27 8 (z3 q)) := by
  intro f
  induction f with
  | zero => intro k h1 h2; omega
  | succ f ih =>
    intro k h1 h2
    have hn := h.2.1
    have c1 := cA_lt h k
    have c2 := cA_lt h (k + 1)
    rw [sX2_blanks_2 _ _ hd]
    simp (disch := omega) only [sF_len h, uF_to, z3_le, x2_at (TXto h _), kI_some, nlit, z3_inj, z3_add, uF_uF]
    rw [if_neg (by simp)]
    have key : evS B d 31 121 [(0, .ref 27), (1, .int (z3 1)), (2, .int (z3 (cA b n k)))] [] (uF σ 27 8 (z3 k)) = match (if cA b n k = 47 ∧ cA b n (k + 1) = 42 then
      (if n ≤ fd (fun j => cA b n j == 42 && cA b n (j + 1) == 47) n (k + 2) then .inl k else zblk b n f (fd (fun j => cA b n j == 42 && cA b n (j + 1) == 47) n (k + 2) + 2))
    else .inr k) with
      | Sum.inl q => some (.inr 0, flw (uF σ 27 8 (z3 q)) 1 q)
      | Sum.inr q => some (.inl none, uF σ 27 8 (z3 q)) := by
      rw [sX2_blanks_121 _ _ hd]
      simp (disch := omega) only [uF_to, x2_at (TXto h _), kI_some, nlit, z3_inj, z3_add]
      by_cases e1 : cA b n k = 47
      · have hk := cA_pos (b := b) (n := n) (k := k) (by omega)
        by_cases e2 : cA b n (k + 1) = 42
        · have hk2 := cA_pos (b := b) (n := n) (k := k + 1) (by omega)
          rw [if_pos e1, if_pos e2, if_pos ⟨e1, e2⟩, x2_cmt hd (TX_uF h) _ _ (by omega), sX2_blanks_185 _ _ hd]
          have q1 := fd_lo (fun j => cA b n j == 42 && cA b n (j + 1) == 47) n (k + 2)
          have q2 := fd_hi (p := fun j => cA b n j == 42 && cA b n (j + 1) == 47) (n := n) (k := k + 2) (by omega)
          have q3 := fd_at (p := fun j => cA b n j == 42 && cA b n (j + 1) == 47) (n := n) (k := k + 2)
          generalize fd (fun j => cA b n j == 42 && cA b n (j + 1) == 47) n (k + 2) = e at *
          simp (disch := omega) only [sF_len h, uF_to, z3_lt, z3_add, uF_uF, nlit, x2_flaw]
          by_cases g : e < n
          · have q4 : cA b n (e + 1) = 47 := by have := q3 g; simp at this; exact this.2
            have := cA_pos (b := b) (n := n) (k := e + 1) (by omega)
            rw [if_pos g, if_neg (by omega), ih (e + 2) (by omega) (by omega)]
          · rw [if_neg g, if_pos (by omega)]; rfl
        · rw [if_pos e1, if_neg e2, if_neg (fun g => e2 g.2), sX2_blanks_2 _ _ hd]; rfl
      · rw [if_neg e1, if_neg (fun g => e1 g.1), sX2_blanks_2 _ _ hd]; rfl
    by_cases g : k < n
    · rw [if_neg (by omega : ¬ n ≤ k)]
      have i1 := ih (k + 1) (by omega) (by omega)
      by_cases w : cA b n k = 32 ∨ cA b n k = 9 ∨ cA b n k = 10 ∨ cA b n k = 13
      · rw [zblk1 g w, ← i1]
        rcases w with w | w | w | w <;> rw [w] <;> rfl
      · have w2 := w
        simp only [not_or] at w
        rw [if_neg w.1, if_neg w.2.1, if_neg w.2.2.1, if_neg w.2.2.2]
        by_cases e1 : cA b n k = 47
        · rw [if_pos e1]
          by_cases e2 : cA b n (k + 1) = 47
          · rw [if_pos e2, zblk2 e1 e2, x2_line hd h _ _ h2, ih _ _ (fd_hi h2)]
            have : fd (fun j => cA b n j == 10) n k = fd (fun j => cA b n j == 10) n (k + 1) := fd_step g (by simp [e1])
            have := fd_lo (fun j => cA b n j == 10) n (k + 1)
            omega
          · rw [if_neg e2, zblk3 (fun q => w2 q.2) (fun q => e2 q.2), key]
        · rw [if_neg e1, zblk3 (fun q => w2 q.2) (fun q => e1 q.1), key]
    · have e0 : cA b n k = 0 := cA_out (by omega)
      rw [if_pos (by omega : n ≤ k), zblk3 (fun q => g q.1) (by omega), if_neg (by omega), key]

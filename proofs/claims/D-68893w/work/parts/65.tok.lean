/-! a token behind a place -/
def zbs (c : Nat) : Nat := if c = 98 then 2 else if c = 111 then 8 else if c = 100 then 10 else if c = 104 then 16 else 0
abbrev Tok : Type := Nat × Nat × Nat × Nat × Nat
def tK (t : Tok) : Nat := t.1
def tF (t : Tok) : Nat := t.2.1
def tT (t : Tok) : Nat := t.2.2.1
def tV (t : Tok) : Nat := t.2.2.2.1
def tW (t : Tok) : Nat := t.2.2.2.2
def zd1 (b : Nat → Nat) (n p : Nat) : Nat := fd (fun j => !isD (cA b n j)) n p
def zwe (b : Nat → Nat) (n p : Nat) : Nat := fd (fun j => !isW (cA b n j)) n p
def znum (b : Nat → Nat) (n p d1 v : Nat) : Tok :=
  if cA b n d1 = 39 then
    (if v < 1 ∨ 64 < v ∨ zbs (cA b n (d1 + 1)) = 0 ∨ zwe b n (d1 + 1) ≤ d1 + 2 then (404, p, 0, 0, 0)
    else match zdg b n (zbs (cA b n (d1 + 1))) v (zwe b n (d1 + 1) - (d1 + 2)) (d1 + 2) 0 with
      | some r => (402, p, zwe b n (d1 + 1), r, v)
      | none => (404, p, 0, 0, 0))
  else if isW (cA b n d1) = true then (404, p, 0, 0, 0)
  else if v ≤ 65535 then (401, p, d1, v, 0) else (404, p, 0, 0, 0)
def zsgt (b : Nat → Nat) (n p : Nat) : Tok :=
  if ztw (cA b n p) (cA b n (p + 1)) = 0 then (if zsg (cA b n p) = true then (cA b n p, p, p + 1, 0, 0) else (404, p, 0, 0, 0)) else (ztw (cA b n p) (cA b n (p + 1)), p, p + 2, 0, 0)
def ztk (b : Nat → Nat) (n p : Nat) : Tok :=
  if n ≤ p then (403, p, p, 0, 0)
  else if isL (cA b n p) = true then (zkw b p (zwe b n p), p, zwe b n p, 0, 0)
  else if isD (cA b n p) = true then znum b n p (zd1 b n p) (zvl b n 10 (zd1 b n p - p) p 0)
  else zsgt b n p
def tokAt (b : Nat → Nat) (n k : Nat) : Tok := match zblk b n (n + 1) k with
  | .inl q => (404, q, 0, 0, 0)
  | .inr p => ztk b n p
/-- the token at hand set -/
def lxr (σ : SG) (kd fr to : Int32) (vl : Int64) (wd : Int32) : SG := uF (uF (uF (uF (uJ σ 27 9 vl) 27 10 wd) 27 8 to) 27 7 fr) 27 6 kd
theorem lxr_cg {σ τ : SG} (h1 : ∀ a i, ¬ (a = 27 ∧ (i = 6 ∨ i = 7 ∨ i = 8 ∨ i = 10)) → sF σ a i = sF τ a i) (h2 : ∀ a i, ¬ (a = 27 ∧ i = 9) → sJ σ a i = sJ τ a i) (h3 : ∀ r, sW σ r = sW τ r) (h4 : sX σ = sX τ) (kd fr to : Int32) (vl : Int64) (wd : Int32) : lxr σ kd fr to vl wd = lxr τ kd fr to vl wd := by
  refine sg_ext (fun a i => ?_) (fun a i => ?_) h3 h4
  · simp only [lxr, sF_uF, sF_uJ]
    repeat' split
    all_goals first | rfl | (apply h1; omega)
  · simp only [lxr, sJ_uF, sJ_uJ]
    split
    · rfl
    · apply h2; assumption
theorem lxr_self (σ : SG) : lxr σ (sF σ 27 6) (sF σ 27 7) (sF σ 27 8) (sJ σ 27 9) (sF σ 27 10) = σ := by
  unfold lxr
  rw [uJ_self rfl, uF_self rfl, uF_self rfl, uF_self rfl, uF_self rfl]
/-- a fault of the tokens from a state on -/
def LF (σ σ' : SG) (c p : Nat) : Prop := ∃ kd fr to vl wd, σ' = flw (lxr σ kd fr to vl wd) c p
theorem LF_flw (σ : SG) (c p : Nat) : LF σ (flw σ c p) c p := ⟨_, _, _, _, _, by rw [lxr_self]⟩
theorem LF_uF {σ σ' : SG} {i : Nat} {x : Int32} {c p : Nat} (h : LF (uF σ 27 i x) σ' c p) (hi : (i == 6 || i == 7 || i == 8 || i == 10) = true := by rfl) : LF σ σ' c p := by
  obtain ⟨kd, fr, to, vl, wd, e⟩ := h
  refine ⟨kd, fr, to, vl, wd, ?_⟩
  rw [e]; congr 1
  apply lxr_cg (σ := uF σ 27 i x) (τ := σ) (fun a j h => ?_) (fun _ _ _ => rfl) (fun _ => rfl) rfl
  simp at hi
  rw [sF_uF, if_neg]; rintro ⟨h1, h2⟩; omega
theorem LF_uJ {σ σ' : SG} {x : Int64} {c p : Nat} (h : LF (uJ σ 27 9 x) σ' c p) : LF σ σ' c p := by
  obtain ⟨kd, fr, to, vl, wd, e⟩ := h
  refine ⟨kd, fr, to, vl, wd, ?_⟩
  rw [e]; congr 1
  apply lxr_cg (σ := uJ σ 27 9 x) (τ := σ) (fun _ _ _ => rfl) (fun a j h => ?_) (fun _ => rfl) rfl
  rw [sJ_uJ, if_neg h]
/-- what comes of moving to a token -/
def lxs (σ : SG) (t : Tok) : SG := lxr σ (z3 (kC (tK t))) (z3 (tF t)) (z3 (tT t)) (if tK t = 401 ∨ tK t = 402 then z6 (tV t) else sJ σ 27 9) (if tK t = 402 then z3 (tW t) else sF σ 27 10)
def NXT (σ : SG) (t : Tok) (r : RSG) : Prop := (tK t ≠ 404 → r = some (.inl none, lxs σ t)) ∧ (tK t = 404 → ∃ σ', r = some (.inr 0, σ') ∧ LF σ σ' 1 (tF t))
theorem ckS_t (r : RSG) : ckS (Nat.beq 29 29) r = r := rfl
theorem x2_num56 {B : Bool} {d : Nat} (hd : 4 ≤ d) {σ : SG} {b : Nat → Nat} {n p q d1 v v' : Nat} (h : TX σ b n) (hp : sF σ 27 7 = z3 p) (hq : sF σ 27 8 = z3 q) (hqn : q ≤ n) (hpd : p ≤ d1) (hv' : v' < 700000) (hv1 : v ≤ 65535 → v' = v) (hv2 : 65535 < v → 65535 < v') (hA : cA b n d1 = 39 → q = zwe b n (d1 + 1)) (hB : ¬ cA b n d1 = 39 → isW (cA b n d1) = true → d1 < q) (hC : ¬ cA b n d1 = 39 → ¬ isW (cA b n d1) = true → q = d1) : NXT σ (znum b n p d1 v) (evS B d 39 56 [(0, .ref 27), (1, .int (z3 d1)), (2, .int (z3 v'))] [] σ) := by
  have hn := h.2.1
  have c0 := cA_lt h d1
  have c1 := cA_lt h (d1 + 1)
  have bad : ∀ r, NXT σ (404, p, 0, 0, 0) r ↔ ∃ σ', r = some (.inr 0, σ') ∧ LF σ σ' 1 p := fun r => ⟨fun g => g.2 rfl, fun g => ⟨fun e => absurd rfl e, fun _ => g⟩⟩
  by_cases g1 : cA b n d1 = 39
  · have hd1 := cA_pos (b := b) (n := n) (k := d1) (by omega)
    have hq2 := hA g1
    have := fd_lo (fun j => !isW (cA b n j)) n (d1 + 1)
    have hlt : d1 < q := by rw [hq2]; exact this
    have e : evS B d 39 56 [(0, .ref 27), (1, .int (z3 d1)), (2, .int (z3 v'))] [] σ = evS B d 39 146 [(0, .ref 27), (1, .int (z3 d1)), (2, .int (z3 v'))] [.int (z3 (zbs (cA b n (d1 + 1))))] σ := by
      rw [sX2_number_56 _ _ (by omega), hq]
      simp (disch := omega) only [nlit, z3_inj, z3_add, x2_at h, kI_some]
      rw [if_neg (by omega)]
      unfold zbs
      generalize cA b n (d1 + 1) = c
      by_cases h1 : c = 98
      · simp [h1]
      · by_cases h2 : c = 111
        · simp [h2]
        · by_cases h3 : c = 100
          · simp [h3]
          · by_cases h4 : c = 104
            · simp [h4]
            · simp [h1, h2, h3, h4]
    have hbs : zbs (cA b n (d1 + 1)) ≤ 16 := by unfold zbs; repeat' split
                                                all_goals omega
    rw [e, sX2_number_146 _ _ (by omega)]
    simp (disch := omega) only [nlit, x2_at h, kI_some, z3_inj, g1, z3_lt, hp, x2_flaw, hq, z3_add, if_true]
    unfold znum
    rw [if_pos g1, ← hq2]
    by_cases g2 : v < 1 ∨ 64 < v ∨ zbs (cA b n (d1 + 1)) = 0 ∨ q ≤ d1 + 2
    · rw [if_pos g2, bad]
      refine ⟨flw σ 1 p, ?_, LF_flw ..⟩
      by_cases k1 : v' < 1
      · rw [if_pos k1]; rfl
      · by_cases k2 : 64 < v'
        · rw [if_neg k1, if_pos k2]; rfl
        · by_cases k3 : zbs (cA b n (d1 + 1)) = 0
          · rw [if_neg k1, if_neg k2, if_pos k3]; rfl
          · rw [if_neg k1, if_neg k2, if_neg k3, if_neg (by omega)]; rfl
    · rw [if_neg g2]
      have hvv : v' = v := hv1 (by omega)
      subst hvv
      rw [if_neg (by omega), if_neg (by omega), if_neg (by omega), if_pos (by omega)]
      have hbs2 : zbs (cA b n (d1 + 1)) = 2 ∨ zbs (cA b n (d1 + 1)) = 8 ∨ zbs (cA b n (d1 + 1)) = 10 ∨ zbs (cA b n (d1 + 1)) = 16 := by
        have : ¬ zbs (cA b n (d1 + 1)) = 0 := by omega
        unfold zbs at *; repeat' split
        all_goals first | omega | (exfalso; simp_all)
      have hT2 : TX (uF (uF σ 27 6 (z3 259)) 27 10 (z3 v')) b n := TX_uF (TX_uF h)
      have L := x2_num214 (B := B) (d := d) (by omega) (σ := uF (uF σ 27 6 (z3 259)) 27 10 (z3 v')) hT2 (q := q) (p := p) (by rw [sF_uF, if_neg (by decide), sF_uF, if_neg (by decide)]; exact hq) (by rw [sF_uF, if_neg (by decide), sF_uF, if_neg (by decide)]; exact hp) hqn hbs2 (v := v') (by omega) (q - (d1 + 2)) (d1 + 2) 0 (by omega) (Nat.two_pow_pos _)
      rw [jlit]
      cases hz : zdg b n (zbs (cA b n (d1 + 1))) v' (q - (d1 + 2)) (d1 + 2) 0 with
      | none =>
        obtain ⟨x, hx⟩ := L.2 hz
        rw [bad]
        exact ⟨_, hx, LF_uF (LF_uF (LF_uJ (LF_flw ..)))⟩
      | some r =>
        refine ⟨fun _ => ?_, fun e => by simp [tK] at e⟩
        rw [L.1 r hz]
        congr 2
        simp only [lxs, tK, tF, tT, tV, tW, lxr, or_true, if_true]
        rw [uF_uJ, uF_uJ]
        refine sg_ext (fun a i => ?_) (fun _ _ => rfl) (fun _ => rfl) rfl
        simp only [sF_uF, sF_uJ]
        by_cases h6 : a = 27 ∧ i = 6
        · obtain ⟨rfl, rfl⟩ := h6; rfl
        by_cases h7 : a = 27 ∧ i = 7
        · obtain ⟨rfl, rfl⟩ := h7; exact hp
        by_cases h8 : a = 27 ∧ i = 8
        · obtain ⟨rfl, rfl⟩ := h8; exact hq
        rw [if_neg h6, if_neg h6, if_neg h7, if_neg h8]
  · unfold znum
    rw [if_neg g1]
    by_cases g2 : isW (cA b n d1) = true
    · rw [if_pos g2, bad]
      have hlt := hB g1 g2
      have e : ∃ s0, evS B d 39 56 [(0, .ref 27), (1, .int (z3 d1)), (2, .int (z3 v'))] [] σ = evS B d 39 146 [(0, .ref 27), (1, .int (z3 d1)), (2, .int (z3 v'))] [.int s0] σ := by
        rw [sX2_number_56 _ _ (by omega), hq]
        simp (disch := omega) only [nlit, z3_inj, z3_add, x2_at h, kI_some]
        rw [if_neg (by omega)]
        repeat' split
        all_goals exact ⟨_, rfl⟩
      obtain ⟨s0, e⟩ := e
      refine ⟨flw σ 1 p, ?_, LF_flw ..⟩
      rw [e, sX2_number_146 _ _ (by omega)]
      simp (disch := omega) only [nlit, x2_at h, kI_some, z3_inj, hp, x2_flaw]
      rw [if_neg g1]; rfl
    · rw [if_neg g2]
      have hqd := hC g1 g2
      subst hqd
      have e := sX2_number_56 B d (by omega) σ (z3 q) (z3 v')
      rw [hq, if_pos rfl, hp] at e
      simp (disch := omega) only [nlit, z3_le, x2_flaw, z3_64] at e
      by_cases g3 : v ≤ 65535
      · rw [if_pos g3]
        have := hv1 g3; subst this
        rw [if_pos g3] at e
        refine ⟨fun _ => ?_, fun e => by simp [tK] at e⟩
        rw [e]
        congr 2
        simp only [lxs, tK, tF, tT, tV, tW, lxr, true_or, if_true, show ¬ (401 = 402) by decide, if_false]
        rw [uF_uJ]
        refine sg_ext (fun a i => ?_) (fun _ _ => rfl) (fun _ => rfl) rfl
        simp only [sF_uF, sF_uJ]
        by_cases h6 : a = 27 ∧ i = 6
        · obtain ⟨rfl, rfl⟩ := h6; rfl
        by_cases h7 : a = 27 ∧ i = 7
        · obtain ⟨rfl, rfl⟩ := h7; exact hp
        by_cases h8 : a = 27 ∧ i = 8
        · obtain ⟨rfl, rfl⟩ := h8; exact hq
        rw [if_neg h6, if_neg h6, if_neg h7, if_neg h8]
        split
        · next g => rw [g.1, g.2]
        · rfl
      · rw [if_neg g3, bad]
        rw [if_neg (by have := hv2 (by omega); omega)] at e
        exact ⟨_, e, LF_flw ..⟩
/-- how far the component goes for a number -/
def zsc (b : Nat → Nat) (n p k : Nat) : Nat := fd (fun j => !(isW (cA b n j) || (cA b n j == 39 && !zsz b p j))) n k
theorem kV_id (r : RSG) (o : RSG) (h : kV r (fun h => some (.inl none, h)) = o) : kV r (fun h => some (.inl none, h)) = o := h
theorem x2_scan {B : Bool} {d : Nat} (hd : 2 ≤ d) {σ : SG} {b : Nat → Nat} {n p : Nat} (h : TX σ b n) (hp : sF σ 27 7 = z3 p) (k : Nat) (hk : k ≤ n) (hpk : p ≤ k) : evS B d 30 94 [(0, .ref 27)] [] (uF σ 27 8 (z3 k)) = kV (mS B (d - 1) 39 [.ref 27] (uF σ 27 8 (z3 (zsc b n p k)))) (fun h => some (.inl none, h)) := by
  have hn := h.2.1
  refine fd_ind (p := fun j => !(isW (cA b n j) || (cA b n j == 39 && !zsz b p j))) (n := n) (fun k e => k ≤ n → p ≤ k → evS B d 30 94 [(0, .ref 27)] [] (uF σ 27 8 (z3 k)) = kV (mS B (d - 1) 39 [.ref 27] (uF σ 27 8 (z3 e))) (fun h => some (.inl none, h))) ?_ ?_ ?_ k hk hpk
  · intro k h1 h2 h3
    rw [sX2_next_94 _ _ (by omega)]
    have e0 : cA b n k = 0 := cA_out h1
    simp (disch := omega) only [uF_to, x2_at (TXto h _), kI_some, x2_isWord, zb_eq0, nlit, e0, z3_inj]
    rfl
  · intro k h1 hb h2 h3
    have c1 := cA_lt h k
    have h7 : sF (uF σ 27 8 (z3 k)) 27 7 = z3 p := by rw [sF_uF, if_neg (by decide)]; exact hp
    rw [sX2_next_94 _ _ (by omega)]
    simp (disch := omega) only [uF_to, x2_at (TXto h _), kI_some, x2_isWord, zb_eq0, nlit, z3_inj, x2_isSized (TXto h _) h7 uF_to h2 h3]
    simp only [Bool.not_eq_true', Bool.or_eq_false_iff, Bool.and_eq_false_iff, beq_eq_false_iff_ne, Bool.not_eq_false'] at hb
    rw [if_pos hb.1]
    by_cases g : cA b n k = 39
    · rw [if_pos g, if_neg (by rcases hb.2 with q | q; exact absurd g q; simp [q])]
    · rw [if_neg g]
  · intro k e h1 hb ih h2 h3
    have c1 := cA_lt h k
    have h7 : sF (uF σ 27 8 (z3 k)) 27 7 = z3 p := by rw [sF_uF, if_neg (by decide)]; exact hp
    rw [sX2_next_94 _ _ (by omega)]
    simp (disch := omega) only [uF_to, x2_at (TXto h _), kI_some, x2_isWord, zb_eq0, nlit, z3_inj, x2_isSized (TXto h _) h7 uF_to h2 h3, z3_add, uF_uF, ih (by omega) (by omega)]
    simp only [Bool.not_eq_false', Bool.or_eq_true, Bool.and_eq_true, beq_iff_eq, Bool.not_eq_true'] at hb
    by_cases g : isW (cA b n k) = false
    · rw [if_pos g]
      rcases hb with q | q
      · rw [q] at g; cases g
      · rw [if_pos q.1, if_pos q.2]
    · rw [if_neg g]
theorem zsc_facts {σ : SG} {b : Nat → Nat} {n p : Nat} (h : TX σ b n) (hp : p < n) (hdp : isD (cA b n p) = true) : p ≤ zd1 b n p ∧ zd1 b n p ≤ n ∧ (∀ j, p ≤ j → j < zd1 b n p → isD (cA b n j) = true) ∧ isD (cA b n (zd1 b n p)) = false ∧ zsc b n p p ≤ n ∧ zd1 b n p ≤ zsc b n p p ∧ (cA b n (zd1 b n p) = 39 → zsc b n p p = zwe b n (zd1 b n p + 1)) ∧ (¬ cA b n (zd1 b n p) = 39 → isW (cA b n (zd1 b n p)) = true → zd1 b n p < zsc b n p p) ∧ (¬ cA b n (zd1 b n p) = 39 → ¬ isW (cA b n (zd1 b n p)) = true → zsc b n p p = zd1 b n p) := by
  have a1 : p ≤ zd1 b n p := fd_lo ..
  have a2 : zd1 b n p ≤ n := fd_hi (by omega)
  have a3 : ∀ j, p ≤ j → j < zd1 b n p → isD (cA b n j) = true := fun j g1 g2 => by simpa using fd_mid j g1 g2
  have a4 : isD (cA b n (zd1 b n p)) = false := by
    rcases Nat.lt_or_ge (zd1 b n p) n with g | g
    · have := fd_at g; simpa [zd1] using this
    · rw [cA_out g]; rfl
  have a5 : zsc b n p p = zsc b n p (zd1 b n p) := by
    refine fd_skip _ a1 a2 fun j g1 g2 => ?_
    have := a3 j g1 g2
    simp [isW, this]
  have a6 : zd1 b n p ≤ zsc b n p (zd1 b n p) := fd_lo ..
  have nq : zsz b p (zd1 b n p) = false := by
    rw [← Bool.not_eq_true, zsz, zany_iff]
    rintro ⟨j, g1, g2, g3⟩
    have := a3 j g1 (by omega)
    rw [isD_iff, cA, if_pos (by omega)] at this
    simp at g3; omega
  refine ⟨a1, a2, a3, a4, fd_hi (by omega), by rw [a5]; exact a6, ?_, ?_, ?_⟩
  · intro g
    have hl := cA_pos (b := b) (n := n) (k := zd1 b n p) (by omega)
    rw [a5, zsc, fd_step hl (by simp [g, nq])]
    refine fd_cg _ fun j g1 g2 => ?_
    have : zsz b p j = true := by
      rw [zsz, zany_iff]
      refine ⟨zd1 b n p, a1, by omega, ?_⟩
      rw [cA, if_pos hl] at g
      simp [g]
    simp [this]
  · intro g1 g2
    have hl : zd1 b n p < n := by
      apply Nat.lt_of_not_le; intro q
      rw [cA_out q] at g2; exact absurd g2 (by decide)
    rw [a5, zsc, fd_step hl (by simp [g2])]
    exact fd_lo ..
  · intro g1 g2
    rw [a5, zsc, fd_hit]
    simp [g1, g2]

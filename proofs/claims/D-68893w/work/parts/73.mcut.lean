/-! the reference's rows of tokens -/
/-- states that differ only in places of P -/
def FR (P : Nat → Nat → Bool) (σ τ : SG) : Prop := (∀ a i, P a i = false → sF τ a i = sF σ a i) ∧ (∀ a i, P a i = false → sJ τ a i = sJ σ a i) ∧ (∀ r, P r 0 = false → sW τ r = sW σ r) ∧ sX τ = sX σ
theorem FR_refl (P : Nat → Nat → Bool) (σ : SG) : FR P σ σ := ⟨fun _ _ _ => rfl, fun _ _ _ => rfl, fun _ _ => rfl, rfl⟩
theorem FR_trans {P : Nat → Nat → Bool} {σ τ υ : SG} (h1 : FR P σ τ) (h2 : FR P τ υ) : FR P σ υ := ⟨fun a i h => (h2.1 a i h).trans (h1.1 a i h), fun a i h => (h2.2.1 a i h).trans (h1.2.1 a i h), fun r h => (h2.2.2.1 r h).trans (h1.2.2.1 r h), h2.2.2.2.trans h1.2.2.2⟩
theorem FR_uF {P : Nat → Nat → Bool} {σ τ : SG} {a i : Nat} {x : Int32} (h : FR P σ τ) (hp : P a i = true) : FR P σ (uF τ a i x) := by
  refine ⟨fun b j hb => ?_, h.2.1, h.2.2.1, h.2.2.2⟩
  rw [sF_uF, if_neg]
  · exact h.1 b j hb
  · rintro ⟨rfl, rfl⟩; rw [hp] at hb; cases hb
theorem FR_uJ {P : Nat → Nat → Bool} {σ τ : SG} {a i : Nat} {x : Int64} (h : FR P σ τ) (hp : P a i = true) : FR P σ (uJ τ a i x) := by
  refine ⟨h.1, fun b j hb => ?_, h.2.2.1, h.2.2.2⟩
  rw [sJ_uJ, if_neg]
  · exact h.2.1 b j hb
  · rintro ⟨rfl, rfl⟩; rw [hp] at hb; cases hb
theorem FR_mono {P Q : Nat → Nat → Bool} {σ τ : SG} (h : FR P σ τ) (hq : ∀ a i, P a i = true → Q a i = true) : FR Q σ τ := by
  have : ∀ a i, Q a i = false → P a i = false := fun a i g => by
    cases e : P a i
    · rfl
    · rw [hq a i e] at g; cases g
  exact ⟨fun a i g => h.1 a i (this a i g), fun a i g => h.2.1 a i (this a i g), fun r g => h.2.2.1 r (this r 0 g), h.2.2.2⟩
theorem m_token {B : Bool} {d : Nat} {σ : SG} {m : Nat} (hm : sF σ 146 7 = z3 m) (hb : m < 65540) (k f t : Int32) : mS B d 189 [.ref 146, .int k, .int f, .int t] σ = some (.inl none, uF (uF (uF (uF σ 148 m k) 149 m f) 150 m t) 146 7 (z3 (m + 1))) := by
  rw [sX10_token_0]
  have e : ∀ (a i : Nat) (x : Int32) (τ : SG), ¬ (146 = a) → sF (uF τ a i x) 146 7 = sF τ 146 7 := fun a i x τ h => by rw [sF_uF, if_neg (fun g => h g.1)]
  simp (disch := omega) only [e, hm, z3_ix, z3_cl, nlit, z3_add, hb, decide_true, if_true]
/-- the tokens from a place on -/
def sq (b : Nat → Nat) (n : Nat) : Nat → Nat → Tok
  | k, 0 => tokAt b n k
  | k, j + 1 => sq b n (tT (tokAt b n k)) j
theorem sq_z (b : Nat → Nat) (n k : Nat) : sq b n k 0 = tokAt b n k := by rw [sq]
theorem sq_s (b : Nat → Nat) (n k j : Nat) : sq b n k (j + 1) = sq b n (tT (tokAt b n k)) j := by rw [sq]
def tEB (t : Tok) : Bool := decide (tK t = 403) || decide (tK t = 404)
theorem ztk_facts {b : Nat → Nat} {n p : Nat} (hp : p ≤ n) (h : tEB (ztk b n p) = false) : p < tT (ztk b n p) ∧ tT (ztk b n p) ≤ n ∧ tF (ztk b n p) = p := by
  simp only [tEB, Bool.or_eq_false_iff, decide_eq_false_iff_not] at h
  unfold ztk at h ⊢
  by_cases g1 : n ≤ p
  · rw [if_pos g1] at h; exact absurd rfl h.1
  rw [if_neg g1] at h ⊢
  by_cases g2 : isL (cA b n p) = true
  · rw [if_pos g2]
    have := zwe_facts (b := b) hp
    have w : isW (cA b n p) = true := by simp [isW, g2]
    exact ⟨this.2.2.1 w, this.2.1, rfl⟩
  rw [if_neg g2] at h ⊢
  by_cases g3 : isD (cA b n p) = true
  · rw [if_pos g3] at h ⊢
    have D := zd1_facts (b := b) hp
    have hl : p < zd1 b n p := by
      rcases Nat.lt_or_ge p (zd1 b n p) with q | q
      · exact q
      · have := D.2.2.2; rw [show zd1 b n p = p by omega, g3] at this; cases this
    generalize zd1 b n p = d1 at *
    generalize zvl b n 10 (d1 - p) p 0 = v at *
    unfold znum at h ⊢
    by_cases k1 : cA b n d1 = 39
    · rw [if_pos k1] at h ⊢
      have := cA_pos (b := b) (n := n) (k := d1) (by omega)
      have W := zwe_facts (b := b) (n := n) (p := d1 + 1) (by omega)
      by_cases k2 : v < 1 ∨ 64 < v ∨ zbs (cA b n (d1 + 1)) = 0 ∨ zwe b n (d1 + 1) ≤ d1 + 2
      · rw [if_pos k2] at h; exact absurd rfl h.2
      · rw [if_neg k2] at h ⊢
        cases hz : zdg b n (zbs (cA b n (d1 + 1))) v (zwe b n (d1 + 1) - (d1 + 2)) (d1 + 2) 0 with
        | none => rw [hz] at h; exact absurd rfl h.2
        | some r => show p < zwe b n (d1 + 1) ∧ zwe b n (d1 + 1) ≤ n ∧ p = p; omega
    · rw [if_neg k1] at h ⊢
      by_cases k2 : isW (cA b n d1) = true
      · rw [if_pos k2] at h; exact absurd rfl h.2
      · rw [if_neg k2] at h ⊢
        by_cases k3 : v ≤ 65535
        · rw [if_pos k3]; show p < d1 ∧ d1 ≤ n ∧ p = p; omega
        · rw [if_neg k3] at h; exact absurd rfl h.2
  rw [if_neg g3] at h ⊢
  unfold zsgt at h ⊢
  by_cases k1 : ztw (cA b n p) (cA b n (p + 1)) = 0
  · rw [if_pos k1] at h ⊢
    by_cases k2 : zsg (cA b n p) = true
    · rw [if_pos k2]; show p < p + 1 ∧ p + 1 ≤ n ∧ p = p; omega
    · rw [if_neg k2] at h; exact absurd rfl h.2
  · rw [if_neg k1]; show p < p + 2 ∧ p + 2 ≤ n ∧ p = p
    have : p + 1 < n := by
      apply Nat.lt_of_not_le; intro q
      rw [cA_out q] at k1
      apply k1; unfold ztw; simp
    omega
theorem zblk_lo (b : Nat → Nat) (n : Nat) : ∀ f k q, zblk b n f k = .inr q → k ≤ q := by
  intro f
  induction f with
  | zero => intro k q e; simp [zblk] at e; omega
  | succ f ih =>
    intro k q e
    simp only [zblk] at e
    split at e
    · have := ih _ _ e; omega
    · split at e
      · have := ih _ _ e
        have := fd_lo (fun j => cA b n j == 10) n k
        omega
      · split at e
        · split at e
          · simp at e
          · have := ih _ _ e
            have := fd_lo (fun j => cA b n j == 42 && cA b n (j + 1) == 47) n (k + 2)
            omega
        · simp at e; omega
theorem tokAt_facts {b : Nat → Nat} {n k : Nat} (hk : k ≤ n) (h : tEB (tokAt b n k) = false) : k < tT (tokAt b n k) ∧ tT (tokAt b n k) ≤ n ∧ k ≤ tF (tokAt b n k) ∧ tF (tokAt b n k) < tT (tokAt b n k) := by
  unfold tokAt at *
  cases hz : zblk b n (n + 1) k with
  | inl q => rw [hz] at h; simp [tEB, tK] at h
  | inr p =>
    rw [hz] at h
    have h1 := zblk_lo b n _ _ _ hz
    have h2 := zblk_hi b n _ _ _ hk hz
    have := ztk_facts h2 h
    simp only []
    omega
/-- the reference's rows hold the tokens from the i-th on -/
def TKR (σ : SG) (b : Nat → Nat) (n k i N : Nat) : Prop := (∀ j, j < N → tEB (sq b n k j) = false) ∧ tEB (sq b n k N) = true ∧ ∀ j, j ≤ N → sF σ 148 (i + j) = z3 (tK (sq b n k j)) ∧ sF σ 149 (i + j) = z3 (tF (sq b n k j)) ∧ (tK (sq b n k j) ≠ 404 → sF σ 150 (i + j) = z3 (tT (sq b n k j)))
def PTK (a i : Nat) : Bool := a == 148 || a == 149 || a == 150 || (a == 146 && (i == 7 || i == 87))
theorem tokAt_K (b : Nat → Nat) (n k : Nat) {σ : SG} (h : TM σ b n) : tK (tokAt b n k) < 405 ∧ (tK (tokAt b n k) = 403 → tT (tokAt b n k) = tF (tokAt b n k)) := by
  unfold tokAt
  cases zblk b n (n + 1) k with
  | inl q => simp [tK]
  | inr p =>
    simp only []
    unfold ztk
    split
    · simp [tK, tT, tF]
    · split
      · have := zkw_lt b p (zwe b n p)
        simp only [tK]; omega
      · split
        · unfold znum
          repeat' split
          all_goals simp [tK]
        · have := ztw_lt (cA b n p) (cA b n (p + 1))
          have := TM_lt h p
          unfold zsgt
          repeat' split
          all_goals (simp only [tK]; omega)
theorem tokAt_end {b : Nat → Nat} {n k : Nat} (hk : k ≤ n) (h : tK (tokAt b n k) = 403) : tF (tokAt b n k) = n := by
  unfold tokAt at *
  cases hz : zblk b n (n + 1) k with
  | inl q => rw [hz] at h; simp [tK] at h
  | inr p =>
    rw [hz] at h
    have h2 := zblk_hi b n _ _ _ hk hz
    simp only [] at h ⊢
    by_cases g : n ≤ p
    · unfold ztk; rw [if_pos g]; show p = n; omega
    · exfalso
      unfold ztk at h
      rw [if_neg g] at h
      split at h
      · have := zkw_lt b p (zwe b n p); simp only [tK] at h; omega
      · split at h
        · unfold znum at h
          repeat' split at h
          all_goals simp [tK] at h
        · next g1 g2 =>
          have t := ztw_lt (cA b n p) (cA b n (p + 1))
          unfold zsgt at h
          split at h
          · split at h
            · next g3 =>
              have : cA b n p = 403 := h
              rw [this] at g3
              exact absurd g3 (by decide)
            · simp [tK] at h
          · simp only [tK] at h; omega
theorem zblk_inl (b : Nat → Nat) (n : Nat) : ∀ f k q, zblk b n f k = .inl q → q < n := by
  intro f
  induction f with
  | zero => intro k q e; simp [zblk] at e
  | succ f ih =>
    intro k q e
    simp only [zblk] at e
    split at e
    · exact ih _ _ e
    · split at e
      · exact ih _ _ e
      · split at e
        · next g =>
          split at e
          · simp at e; subst e
            exact cA_pos (b := b) (n := n) (by omega)
          · exact ih _ _ e
        · simp at e
theorem znum_T {b : Nat → Nat} {n p d1 v : Nat} (hd : d1 ≤ n) : tF (znum b n p d1 v) = p ∧ (tK (znum b n p d1 v) ≠ 404 → tT (znum b n p d1 v) = zne b n d1) ∧ tK (znum b n p d1 v) ≠ 403 := by
  unfold znum zne
  by_cases g1 : cA b n d1 = 39
  · rw [if_pos g1, if_pos g1]
    split
    · simp [tF, tK]
    · split <;> simp [tF, tK, tT]
  · rw [if_neg g1, if_neg g1]
    by_cases g2 : isW (cA b n d1) = true
    · rw [if_pos g2]; simp [tF, tK]
    · rw [if_neg g2]
      have := (zwe_facts (b := b) hd).2.2.2 (by simpa using g2)
      split
      · simp [tF, tK, tT, this]
      · simp [tF, tK]
theorem n1_sub {q : Nat} (hq : q < 1000000) : ¬ (z3 0 ≤ -z3 1 - z3 q) ∧ (-z3 1 - (-z3 1 - z3 q)) = z3 q := by
  refine ⟨?_, ?_⟩
  · rw [Int32.le_iff_toInt_le, z3_toInt (by omega), Int32.toInt_sub, show (-z3 1).toInt = -1 by decide, z3_toInt (by omega)]
    simp only [Int.bmod]
    omega
  · apply Int32.toBitVec.inj
    simp only [Int32.toBitVec_sub]
    bv_omega
theorem m_cut {B : Bool} {d : Nat} (hd : 4 ≤ d) {b : Nat → Nat} {n : Nat} : ∀ (m i k : Nat) (σ : SG), TM σ b n → n < m + k → k ≤ n → i ≤ k → sF σ 146 7 = z3 i → ∃ σ' N, evS B d 186 7 [(0, .ref 146), (1, .int (z3 k))] [] σ = some (.inl none, σ') ∧ FR PTK σ σ' ∧ TKR σ' b n k i N ∧ i + N ≤ n ∧ sF σ' 146 7 = z3 (i + N + 1) ∧ (∀ j, (j < i ∨ i + N < j) → sF σ' 148 j = sF σ 148 j ∧ sF σ' 149 j = sF σ 149 j ∧ sF σ' 150 j = sF σ 150 j) := by
  intro m
  induction m with
  | zero => intro i k σ h h1 h2; omega
  | succ m ih =>
    intro i k σ h h1 h2 h3 h4
    have hn := h.2.1
    have hTK := tokAt_K b n k h
    have sk := m_skip (B := B) (d := d - 1) (by omega) h (n + 1) k (by omega) h2
    -- the end of all: one token more, and done
    have fin : ∀ (kd f t : Int32) (τ : SG), FR PTK σ τ → sF τ 146 7 = z3 i → (∀ j, sF τ 148 j = sF σ 148 j ∧ sF τ 149 j = sF σ 149 j ∧ sF τ 150 j = sF σ 150 j) → tEB (tokAt b n k) = true → kd = z3 (tK (tokAt b n k)) → f = z3 (tF (tokAt b n k)) → (tK (tokAt b n k) ≠ 404 → t = z3 (tT (tokAt b n k))) → ∃ σ' N, kV (mS B (d - 1) 189 [.ref 146, .int kd, .int f, .int t] τ) (fun h => some (.inl none, h)) = some (.inl none, σ') ∧ FR PTK σ σ' ∧ TKR σ' b n k i N ∧ i + N ≤ n ∧ sF σ' 146 7 = z3 (i + N + 1) ∧ (∀ j, (j < i ∨ i + N < j) → sF σ' 148 j = sF σ 148 j ∧ sF σ' 149 j = sF σ 149 j ∧ sF σ' 150 j = sF σ 150 j) := by
      intro kd f t τ hf h7 hr he e1 e2 e3
      rw [m_token h7 (by omega), kV_some]
      refine ⟨_, 0, rfl, FR_uF (FR_uF (FR_uF (FR_uF hf rfl) rfl) rfl) rfl, ⟨fun j q => by omega, by rw [sq_z]; exact he, fun j q => ?_⟩, by omega, uF_to, fun j q => ?_⟩
      · obtain rfl : j = 0 := by omega
        rw [sq_z]; simp only [sF_uF, Nat.add_zero]
        refine ⟨?_, ?_, fun g => ?_⟩
        · simp [e1]
        · simp [e2]
        · simp [e3 g]
      · have : ¬ j = i := by omega
        simp [sF_uF, this, hr j]
    have cont : ∀ (kd f t pos : Int32) (τ : SG), FR PTK σ τ → sF τ 146 7 = z3 i → (∀ j, sF τ 148 j = sF σ 148 j ∧ sF τ 149 j = sF σ 149 j ∧ sF τ 150 j = sF σ 150 j) → TM τ b n → kd = z3 (tK (tokAt b n k)) → f = z3 (tF (tokAt b n k)) → (tK (tokAt b n k) ≠ 404 → t = z3 (tT (tokAt b n k)) ∧ pos = t) → tK (tokAt b n k) ≠ 403 → ∃ σ' N, kV (mS B (d - 1) 189 [.ref 146, .int kd, .int f, .int t] τ) (fun h => evS B d 186 193 [(0, .ref 146), (1, .int pos)] [] h) = some (.inl none, σ') ∧ FR PTK σ σ' ∧ TKR σ' b n k i N ∧ i + N ≤ n ∧ sF σ' 146 7 = z3 (i + N + 1) ∧ (∀ j, (j < i ∨ i + N < j) → sF σ' 148 j = sF σ 148 j ∧ sF σ' 149 j = sF σ 149 j ∧ sF σ' 150 j = sF σ 150 j) := by
      intro kd f t pos τ hf h7 hr hT e1 e2 e3 e4
      have e5 : ∀ x, sF (uF (uF (uF (uF τ 148 i kd) 149 i f) 150 i t) 146 7 x) 148 i = kd := fun x => by simp [sF_uF]
      by_cases g : tK (tokAt b n k) = 404
      · obtain ⟨σ', N, r1, r2⟩ := fin kd f t τ hf h7 hr (by simp [tEB, g]) e1 e2 (fun q => absurd g q)
        refine ⟨σ', N, ?_, r2⟩
        rw [m_token h7 (by omega)] at r1 ⊢
        rw [kV_some] at r1 ⊢
        rw [← r1, sX10_cutTokens_193 _ _ (by omega), uF_to, nlit, z3_sub (by omega), Nat.add_sub_cancel, z3_ix (by omega), if_pos (by simp; omega), z3_cl (by omega), e5, e1, g, nlit, if_pos rfl]
      · have hg : tEB (tokAt b n k) = false := by simp [tEB, g, e4]
        have F := tokAt_facts h2 hg
        obtain ⟨e3, e6⟩ := e3 g
        subst e6
        rw [m_token h7 (by omega), kV_some, sX10_cutTokens_193 _ _ (by omega), uF_to, nlit, z3_sub (by omega), Nat.add_sub_cancel, z3_ix (by omega), if_pos (by simp; omega), z3_cl (by omega), e5, e1, nlit, if_neg (by rw [z3_inj (by omega) (by omega)]; exact g), e3]
        have hT2 : TM (uF (uF (uF (uF τ 148 i kd) 149 i f) 150 i (z3 (tT (tokAt b n k)))) 146 7 (z3 (i + 1))) b n := TM_uF (TM_uF (TM_uF (TM_uF hT)))
        obtain ⟨σ', N, r1, r2, r3, r4, r5, r6⟩ := ih (i + 1) (tT (tokAt b n k)) _ hT2 (by omega) F.2.1 (by omega) uF_to
        rw [e1] at r1
        refine ⟨σ', N + 1, r1, FR_trans (FR_uF (FR_uF (FR_uF (FR_uF hf rfl) rfl) rfl) rfl) r2, ⟨fun j q => ?_, by rw [sq_s]; exact r3.2.1, fun j q => ?_⟩, by omega, by rw [r5]; congr 1; omega, fun j q => ?_⟩
        · cases j with
          | zero => rw [sq_z]; exact hg
          | succ j => rw [sq_s]; exact r3.1 j (by omega)
        · cases j with
          | zero =>
            have := r6 i (.inl (by omega))
            rw [sq_z, Nat.add_zero, this.1, this.2.1, this.2.2]
            refine ⟨?_, ?_, fun _ => ?_⟩
            · simp [sF_uF, e1]
            · simp [sF_uF, e2]
            · simp [sF_uF, e3]
          | succ j =>
            have := r3.2.2 j (by omega)
            rw [show i + (j + 1) = i + 1 + j by omega, sq_s]
            exact this
        · have := r6 j (by omega)
          have hj : ¬ j = i := by omega
          rw [this.1, this.2.1, this.2.2]
          simp [sF_uF, hj, hr j]
    have hr0 : ∀ j, sF σ 148 j = sF σ 148 j ∧ sF σ 149 j = sF σ 149 j ∧ sF σ 150 j = sF σ 150 j := fun j => ⟨rfl, rfl, rfl⟩
    rw [sX10_cutTokens_7 _ _ (by omega), sX10_skip_0 _ _ (by omega), sk]
    cases hz : zblk b n (n + 1) k with
    | inl q =>
      have hq : q < 1000000 := by have := zblk_inl b n _ _ _ hz; omega
      have ht : tokAt b n k = (404, q, 0, 0, 0) := by unfold tokAt; rw [hz]
      have := n1_sub hq
      have e0 : ¬ ((0 : Int32) ≤ -z3 1 - z3 q) := by rw [nlit]; exact this.1
      have e1 : (-1 : Int32) - (-z3 1 - z3 q) = z3 q := by rw [nlit]; exact this.2
      simp only [kI_some]
      rw [if_neg e0, e1]
      have k1 : tEB (tokAt b n k) = true := by rw [ht]; simp [tEB, tK]
      have k2 : (404 : Int32) = z3 (tK (tokAt b n k)) := by rw [ht, nlit]; rfl
      have k3 : z3 q = z3 (tF (tokAt b n k)) := by rw [ht]; rfl
      have k4 : tK (tokAt b n k) = 404 := by rw [ht]; rfl
      exact fin _ _ _ σ (FR_refl ..) h4 hr0 k1 k2 k3 (fun g => absurd k4 g)
    | inr p =>
      have hp := zblk_hi b n _ _ _ h2 hz
      have ht : tokAt b n k = ztk b n p := by unfold tokAt; rw [hz]
      simp only [kI_some]
      rw [show (0 : Int32) = z3 0 from rfl, if_pos ((z3_le (by omega) (by omega)).2 (Nat.zero_le _)), h.1]
      unfold ztk at ht
      by_cases g1 : n ≤ p
      · rw [if_neg (by rw [z3_lt (by omega) (by omega)]; omega)]
        rw [if_pos g1] at ht
        exact fin _ _ _ σ (FR_refl ..) h4 hr0 (by rw [ht]; rfl) (by rw [ht]; rfl) (by rw [ht]; show z3 n = z3 p; congr 1; omega) (fun g => by rw [ht]; show z3 n = z3 p; congr 1; omega)
      · rw [if_pos ((z3_lt (by omega) (by omega)).2 (by omega)), m_at h (by omega), kI_some, m_isLetter h, kI_some]
        rw [if_neg g1] at ht
        by_cases g2 : isL (cA b n p) = true
        · rw [g2, if_neg (by decide)]
          rw [if_pos g2] at ht
          have W := zwe_facts (b := b) hp
          have wl : ∀ e, p ≤ e → e ≤ n → evS B d 186 71 [(0, .ref 146), (1, .int (z3 e)), (2, .int (z3 p))] [] σ = kV (mS B (d - 1) 189 [.ref 146, .int (z3 (zkw b p (zwe b n e))), .int (z3 p), .int (z3 (zwe b n e))] σ) (fun h => evS B d 186 193 [(0, .ref 146), (1, .int (z3 (zwe b n e)))] [] h) := by
            intro e he1 he2
            refine fd_ind (p := fun j => !isW (cA b n j)) (n := n) (fun k e => p ≤ k → k ≤ n → evS B d 186 71 [(0, .ref 146), (1, .int (z3 k)), (2, .int (z3 p))] [] σ = kV (mS B (d - 1) 189 [.ref 146, .int (z3 (zkw b p e)), .int (z3 p), .int (z3 e)] σ) (fun h => evS B d 186 193 [(0, .ref 146), (1, .int (z3 e))] [] h)) ?_ ?_ ?_ e he1 he2
            · intro k q1 q2 q3
              rw [sX10_cutTokens_71 _ _ (by omega), m_at h (by omega), kI_some, m_isIn (by omega) h, kI_some, cA_out q1, nlit, if_pos (by decide), m_wordKind (by omega) h q3 q2, kI_some]
            · intro k q1 hb q2 q3
              rw [sX10_cutTokens_71 _ _ (by omega), m_at h (by omega), kI_some, m_isIn (by omega) h, kI_some, nlit, if_pos ((zb_eq0 _).2 (by simpa using hb)), m_wordKind (by omega) h q3 q2, kI_some]
            · intro k e q1 hb ih q2 q3
              rw [sX10_cutTokens_71 _ _ (by omega), m_at h (by omega), kI_some, m_isIn (by omega) h, kI_some, nlit, if_neg (by rw [zb_eq0]; simpa using hb), show (1 : Int32) = z3 1 by rw [nlit], z3_add, ih (by omega) (by omega)]
          rw [wl p (Nat.le_refl _) hp]
          have := zkw_lt b p (zwe b n p)
          exact cont _ _ _ _ σ (FR_refl ..) h4 hr0 h (by rw [ht]; rfl) (by rw [ht]; rfl) (fun _ => ⟨by rw [ht]; rfl, rfl⟩) (by rw [ht]; show zkw b p (zwe b n p) ≠ 403; omega)
        · rw [if_neg g2] at ht
          rw [show isL (cA b n p) = false by simpa using g2, if_pos (by decide), m_isDigit h, kI_some]
          by_cases g3 : isD (cA b n p) = true
          · rw [g3, if_neg (by decide), m_numberEnd (by omega) h hp, kI_some]
            rw [if_pos g3] at ht
            obtain ⟨x, hx⟩ := m_numberKind (B := B) (d := d - 1) (by omega) h hp
            rw [hx, kI_some, ← ht]
            have D := zd1_facts (b := b) hp
            have Z := znum_T (b := b) (p := p) (v := zvl b n 10 (zd1 b n p - p) p 0) D.2.1
            rw [← ht] at Z
            have e7 : sF (uF σ 146 87 x) 146 7 = z3 i := by rw [sF_ne]; exact h4
            exact cont _ _ _ _ (uF σ 146 87 x) (FR_uF (FR_refl ..) rfl) e7 (fun j => ⟨by rw [sF_ne], by rw [sF_ne], by rw [sF_ne]⟩) (TM_uF h) rfl (by rw [Z.1]) (fun g => ⟨by rw [Z.2.1 g], rfl⟩) Z.2.2
          · rw [if_neg g3] at ht
            rw [show isD (cA b n p) = false by simpa using g3, if_pos (by decide)]
            have c1 := TM_lt h p
            have hmA : mA b n p = z3 (cA b n p) := by unfold mA cA; rw [if_pos (by omega), if_pos (by omega)]
            have t := ztw_lt (cA b n p) (cA b n (p + 1))
            rw [hmA, show (1 : Int32) = z3 1 by rw [nlit], z3_add, m_at h (by omega), kI_some, m_pair h c1, kI_some]
            unfold zsgt at ht
            by_cases k1 : ztw (cA b n p) (cA b n (p + 1)) = 0
            · rw [if_pos k1] at ht
              rw [k1, if_pos (by decide), m_isSign _ _ _ c1, kI_some]
              by_cases k2 : zsg (cA b n p) = true
              · rw [if_pos k2] at ht
                rw [k2, if_neg (by decide)]
                exact cont _ _ _ _ σ (FR_refl ..) h4 hr0 h (by rw [ht]; rfl) (by rw [ht]; rfl) (fun _ => ⟨by rw [ht]; rfl, rfl⟩) (by rw [ht]; show cA b n p ≠ 403; omega)
              · rw [if_neg k2] at ht
                rw [show zsg (cA b n p) = false by simpa using k2, if_pos (by decide)]
                exact cont _ _ _ _ σ (FR_refl ..) h4 hr0 h (by rw [ht, nlit]; rfl) (by rw [ht]; rfl) (fun g => absurd (by rw [ht]; rfl) g) (by rw [ht]; show (404 : Nat) ≠ 403; omega)
            · rw [if_neg k1] at ht
              rw [if_neg (by rw [z3_le (by omega) (by omega)]; omega), m_at h (by omega), kI_some, m_pair h c1, kI_some, show (2 : Int32) = z3 2 by rw [nlit], z3_add]
              exact cont _ _ _ _ σ (FR_refl ..) h4 hr0 h (by rw [ht]; rfl) (by rw [ht]; rfl) (fun _ => ⟨by rw [ht]; rfl, rfl⟩) (by rw [ht]; show ztw (cA b n p) (cA b n (p + 1)) ≠ 403; omega)

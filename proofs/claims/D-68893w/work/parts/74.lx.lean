/-! the component's lexer at the i-th token -/
theorem sq_st (b : Nat → Nat) (n : Nat) : ∀ j k, sq b n k (j + 1) = tokAt b n (tT (sq b n k j)) := by
  intro j
  induction j with
  | zero => intro k; rw [sq_s, sq_z, sq_z]
  | succ j ih => intro k; rw [sq_s, ih, ← sq_s]
/-- tokens of a text up to its last one (the end, or a bad one) -/
def TN (b : Nat → Nat) (n N : Nat) : Prop := (∀ j, j < N → tEB (sq b n 0 j) = false) ∧ tEB (sq b n 0 N) = true
theorem TN_at {b : Nat → Nat} {n N : Nat} (h : TN b n N) : ∀ i, i < N → i < tT (sq b n 0 i) ∧ tT (sq b n 0 i) ≤ n ∧ tF (sq b n 0 i) < tT (sq b n 0 i) ∧ i ≤ tF (sq b n 0 i) := by
  intro i
  induction i with
  | zero =>
    intro hi
    have := h.1 0 hi
    rw [sq_z] at this ⊢
    have := tokAt_facts (Nat.zero_le n) this
    omega
  | succ i ih =>
    intro hi
    have := h.1 (i + 1) hi
    have p := ih (by omega)
    rw [sq_st] at this ⊢
    have := tokAt_facts p.2.1 this
    omega
theorem TN_last {b : Nat → Nat} {n N : Nat} (h : TN b n N) : N ≤ n ∧ (tK (sq b n 0 N) = 403 → tF (sq b n 0 N) = n) ∧ (∀ i, i ≤ N → 0 < i → tT (sq b n 0 (i - 1)) ≤ n) := by
  refine ⟨?_, fun g => ?_, fun i h1 h2 => (TN_at h (i - 1) (by omega)).2.1⟩
  · cases N with
    | zero => omega
    | succ N => have := TN_at h N (by omega); omega
  · cases N with
    | zero => rw [sq_z] at g ⊢; exact tokAt_end (Nat.zero_le n) g
    | succ N => rw [sq_st] at g ⊢; exact tokAt_end (TN_at h N (by omega)).2.1 g
def tNum (t : Tok) : Bool := decide (tK t = 401) || decide (tK t = 402)
def sv (T : Nat → Tok) (v0 : Int64) : Nat → Int64
  | 0 => bif tNum (T 0) then z6 (tV (T 0)) else v0
  | i + 1 => bif tNum (T (i + 1)) then z6 (tV (T (i + 1))) else sv T v0 i
def sw (T : Nat → Tok) (w0 : Int32) : Nat → Int32
  | 0 => if tK (T 0) = 402 then z3 (tW (T 0)) else w0
  | i + 1 => if tK (T (i + 1)) = 402 then z3 (tW (T (i + 1))) else sw T w0 i
theorem sv_num (T : Nat → Tok) (v0 : Int64) {i : Nat} (h : tNum (T i) = true) : sv T v0 i = z6 (tV (T i)) := by
  cases i <;> simp [sv, h]
theorem sw_num (T : Nat → Tok) (w0 : Int32) {i : Nat} (h : tK (T i) = 402) : sw T w0 i = z3 (tW (T i)) := by
  cases i <;> simp [sw, h]
def lx (T : Nat → Tok) (v0 : Int64) (w0 : Int32) (σ : SG) (i : Nat) : SG := lxr σ (z3 (kC (tK (T i)))) (z3 (tF (T i))) (z3 (tT (T i))) (sv T v0 i) (sw T w0 i)
theorem lxr_lxr (σ : SG) (a b c : Int32) (v : Int64) (w a' b' c' : Int32) (v' : Int64) (w' : Int32) : lxr (lxr σ a b c v w) a' b' c' v' w' = lxr σ a' b' c' v' w' := by
  refine lxr_cg (σ := lxr σ a b c v w) (τ := σ) (fun p i h => ?_) (fun p i h => ?_) (fun _ => rfl) rfl _ _ _ _ _
  · simp only [lxr, sF_uF, sF_uJ]
    rw [if_neg (by omega), if_neg (by omega), if_neg (by omega), if_neg (by omega)]
  · simp only [lxr, sJ_uF, sJ_uJ]
    rw [if_neg h]
theorem sF_lxr (σ : SG) (a b c : Int32) (v : Int64) (w : Int32) (p i : Nat) : sF (lxr σ a b c v w) p i = if p = 27 ∧ i = 6 then a else if p = 27 ∧ i = 7 then b else if p = 27 ∧ i = 8 then c else if p = 27 ∧ i = 10 then w else sF σ p i := by
  simp only [lxr, sF_uF, sF_uJ]
theorem sJ_lxr (σ : SG) (a b c : Int32) (v : Int64) (w : Int32) (p i : Nat) : sJ (lxr σ a b c v w) p i = if p = 27 ∧ i = 9 then v else sJ σ p i := by
  simp only [lxr, sJ_uF, sJ_uJ]
theorem sW_lxr (σ : SG) (a b c : Int32) (v : Int64) (w : Int32) : sW (lxr σ a b c v w) = sW σ := by
  simp only [lxr, sW_uF, sW_uJ]
theorem sX_lxr (σ : SG) (a b c : Int32) (v : Int64) (w : Int32) : sX (lxr σ a b c v w) = sX σ := by
  simp only [lxr, sX_uF, sX_uJ]
theorem TX_lxr {σ : SG} {b : Nat → Nat} {n : Nat} (h : TX σ b n) (a e c : Int32) (v : Int64) (w : Int32) : TX (lxr σ a e c v w) b n := by
  unfold lxr
  exact TX_uF (TX_uF (TX_uF (TX_uF (TX_uJ h))))
theorem LF_lxr {σ σ' : SG} {a e c : Int32} {v : Int64} {w : Int32} {x p : Nat} (h : LF (lxr σ a e c v w) σ' x p) : LF σ σ' x p := by
  obtain ⟨kd, fr, to, vl, wd, q⟩ := h
  exact ⟨kd, fr, to, vl, wd, by rw [q, lxr_lxr]⟩
theorem x2_nx {B : Bool} {d : Nat} (hd : 8 ≤ d) {σ : SG} {b : Nat → Nat} {n N : Nat} (h : TX σ b n) (ht : TN b n N) (v0 : Int64) (w0 : Int32) {i : Nat} (hi : i < N) : (tK (sq b n 0 (i + 1)) ≠ 404 → mS B d 30 [.ref 27] (lx (sq b n 0) v0 w0 σ i) = some (.inl none, lx (sq b n 0) v0 w0 σ (i + 1))) ∧ (tK (sq b n 0 (i + 1)) = 404 → ∃ σ', mS B d 30 [.ref 27] (lx (sq b n 0) v0 w0 σ i) = some (.inr 0, σ') ∧ LF σ σ' 1 (tF (sq b n 0 (i + 1)))) := by
  have A := TN_at ht i hi
  have h8 : sF (lx (sq b n 0) v0 w0 σ i) 27 8 = z3 (tT (sq b n 0 i)) := by unfold lx; rw [sF_lxr]; simp
  have X := x2_next (B := B) hd (σ := lx (sq b n 0) v0 w0 σ i) (TX_lxr h ..) h8 A.2.1
  rw [← sq_st] at X
  refine ⟨fun g => ?_, fun g => ?_⟩
  · rw [X.1 g]; congr 2
    unfold lxs
    conv => lhs; unfold lx
    rw [lxr_lxr]
    unfold lx
    rw [sJ_lxr, sF_lxr]
    simp only [sv, sw, tNum]
    congr 1
    · by_cases q : tK (sq b n 0 (i + 1)) = 401 ∨ tK (sq b n 0 (i + 1)) = 402
      · rw [if_pos q]; rcases q with q | q <;> simp [q]
      · rw [if_neg q]; simp only [not_or] at q; simp [q.1, q.2]
  · obtain ⟨σ', e1, e2⟩ := X.2 g
    exact ⟨σ', e1, LF_lxr e2⟩
theorem x2_begin {B : Bool} {d : Nat} (hd : 9 ≤ d) {σ : SG} {b : Nat → Nat} {n : Nat} (h : TX σ b n) : (tK (sq b n 0 0) ≠ 404 → mS B d 29 [.ref 27] σ = some (.inl none, lx (sq b n 0) (sJ σ 27 9) (sF σ 27 10) σ 0)) ∧ (tK (sq b n 0 0) = 404 → ∃ σ', mS B d 29 [.ref 27] σ = some (.inr 0, σ') ∧ LF σ σ' 1 (tF (sq b n 0 0))) := by
  rw [sX2_begin_0 _ _ (by omega), nlit, sq_z]
  have X := NXT_kV (NXT_to (x2_next (B := B) (d := d - 1) (by omega) (σ := uF σ 27 8 (z3 0)) (TXto h _) uF_to (Nat.zero_le n)))
  refine ⟨fun g => ?_, fun g => X.2 g⟩
  rw [X.1 g]; congr 2
  unfold lxs lx
  simp only [sv, sw, tNum, sq_z]
  congr 1
  · by_cases q : tK (tokAt b n 0) = 401 ∨ tK (tokAt b n 0) = 402
    · rw [if_pos q]; rcases q with q | q <;> simp [q]
    · rw [if_neg q]; simp only [not_or] at q; simp [q.1, q.2]

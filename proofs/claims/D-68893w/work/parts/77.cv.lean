/-! runs of the component's parser against the plain one: results, thrown faults -/
def PP (a i : Nat) : Bool := (a == 27 && i != 3) || a == 31 || a == 32 || a == 34 || a == 36 || a == 38 || a == 94 || a == 96 || a == 98 || a == 100 || a == 102 || a == 104
theorem FR_uW {P : Nat → Nat → Bool} {σ τ : SG} {r : Nat} {l : List Int32} (h : FR P σ τ) (hp : P r 0 = true) : FR P σ (uW τ r l) := by
  refine ⟨h.1, h.2.1, fun q hq => ?_, h.2.2.2⟩
  rw [sW_uW, if_neg]
  · exact h.2.2.1 q hq
  · rintro rfl; rw [hp] at hq; cases hq
theorem FR_lxr {σ τ : SG} (h : FR PP σ τ) (a b c : Int32) (v : Int64) (w : Int32) : FR PP σ (lxr τ a b c v w) := by
  unfold lxr
  exact FR_uF (FR_uF (FR_uF (FR_uF (FR_uJ h rfl) rfl) rfl) rfl) rfl
/-- a fault was thrown from a state on: what is as before, and how long rows may be -/
def PF (σ : SG) (K : Nat) (σ' : SG) (c p : Nat) : Prop := FR PP σ σ' ∧ sF σ' 27 4 = z3 c ∧ sF σ' 27 5 = z3 p ∧ (sW σ' 32).length ≤ K ∧ (sW σ' 34).length ≤ K ∧ (sW σ' 36).length ≤ K
theorem PF_flw {σ τ : SG} {K : Nat} (h : FR PP σ τ) (h1 : (sW τ 32).length ≤ K) (h2 : (sW τ 34).length ≤ K) (h3 : (sW τ 36).length ≤ K) (c p : Nat) : PF σ K (flw τ c p) c p := by
  unfold flw
  refine ⟨FR_uF (FR_uF h rfl) rfl, ?_, uF_to, h1, h2, h3⟩
  rw [sF_ne]; exact uF_to
theorem PF_LF {σ τ σ' : SG} {K c p : Nat} (h : FR PP σ τ) (h1 : (sW τ 32).length ≤ K) (h2 : (sW τ 34).length ≤ K) (h3 : (sW τ 36).length ≤ K) (hl : LF τ σ' c p) : PF σ K σ' c p := by
  obtain ⟨kd, fr, to, vl, wd, e⟩ := hl
  rw [e]
  exact PF_flw (FR_lxr h ..) (by rw [sW_lxr]; exact h1) (by rw [sW_lxr]; exact h2) (by rw [sW_lxr]; exact h3) c p
def CV (σ : SG) (K : Nat) (r : RSG) (o : Rs (Option Value × SG)) : Prop := match o with
  | .inl e => ∃ σ', r = some (.inr 0, σ') ∧ PF σ K σ' e.1 e.2
  | .inr q => r = some (.inl q.1, q.2)
theorem CV_V {σ : SG} {K : Nat} {α : Type} {r : RSG} {o : Rs α} {st : α → SG} {f : SG → RSG} {g : α → Rs (Option Value × SG)} (h : CV σ K r (bd o (fun a => .inr (none, st a)))) (hf : ∀ a, o = .inr a → CV σ K (f (st a)) (g a)) : CV σ K (kV r f) (bd o g) := by
  cases o with
  | inl e =>
    obtain ⟨σ', e1, e2⟩ := h
    exact ⟨σ', by rw [e1, kV_thr], e2⟩
  | inr a =>
    have h : r = some (.inl none, st a) := h
    rw [h, kV_some]
    exact hf a rfl
theorem CV_I {σ : SG} {K : Nat} {α : Type} {r : RSG} {o : Rs α} {vl : α → Int32} {st : α → SG} {f : Int32 → SG → RSG} {g : α → Rs (Option Value × SG)} (h : CV σ K r (bd o (fun a => .inr (some (.int (vl a)), st a)))) (hf : ∀ a, o = .inr a → CV σ K (f (vl a) (st a)) (g a)) : CV σ K (kI r f) (bd o g) := by
  cases o with
  | inl e =>
    obtain ⟨σ', e1, e2⟩ := h
    exact ⟨σ', by rw [e1, kI_thr], e2⟩
  | inr a =>
    have h : r = some (.inl (some (.int (vl a))), st a) := h
    rw [h, kI_some]
    exact hf a rfl
theorem CV_ok (σ : SG) (K : Nat) (v : Option Value) (τ : SG) : CV σ K (some (.inl v, τ)) (.inr (v, τ)) := by
  show _ = _
  rfl

/-! numbers of the program as natural numbers -/
theorem nrfl {α : Type} {a b : α} (h : a = b) : a = b := by cases h; exact Eq.refl a
def z3 (n : Nat) : Int32 := Int32.ofNat n
def z6 (n : Nat) : Int64 := Int64.ofNat n
theorem nlit (n : Nat) : @OfNat.ofNat Int32 n _ = z3 (@OfNat.ofNat Nat n _) := by
  have h : @OfNat.ofNat Int32 n _ = z3 (@OfNat.ofNat Nat n _) := rfl
  exact h ▸ rfl
theorem jlit (n : Nat) : @OfNat.ofNat Int64 n _ = z6 (@OfNat.ofNat Nat n _) := by
  have h : @OfNat.ofNat Int64 n _ = z6 (@OfNat.ofNat Nat n _) := rfl
  exact h ▸ rfl
theorem z3_of (n : Nat) : Int32.ofNat n = z3 n := rfl
theorem z3_toInt {a : Nat} (h : a < 2147483648) : (z3 a).toInt = a := Int32.toInt_ofNat_of_lt (by omega)
theorem z6_toInt {a : Nat} (h : a < 9223372036854775808) : (z6 a).toInt = a := Int64.toInt_ofNat_of_lt (by omega)
theorem z3_add (a b : Nat) : z3 a + z3 b = z3 (a + b) := (Int32.ofNat_add a b).symm
theorem z3_mul (a b : Nat) : z3 a * z3 b = z3 (a * b) := (Int32.ofNat_mul a b).symm
theorem z3_sub {a b : Nat} (h : b ≤ a) : z3 a - z3 b = z3 (a - b) := (Int32.ofNat_sub a b h).symm
theorem z3_lt {a b : Nat} (ha : a < 2147483648) (hb : b < 2147483648) : z3 a < z3 b ↔ a < b := Int32.ofNat_lt_iff_lt (by omega) (by omega)
theorem z3_le {a b : Nat} (ha : a < 2147483648) (hb : b < 2147483648) : z3 a ≤ z3 b ↔ a ≤ b := Int32.ofNat_le_iff_le (by omega) (by omega)
theorem z3_inj {a b : Nat} (ha : a < 2147483648) (hb : b < 2147483648) : z3 a = z3 b ↔ a = b := by
  rw [← Int32.toInt_inj, z3_toInt ha, z3_toInt hb]; omega
theorem z3_cl {a : Nat} (h : a < 2147483648) : (z3 a).toNatClampNeg = a := Int32.toNatClampNeg_ofNat_of_lt (by omega)
theorem z3_0le {a : Nat} (h : a < 2147483648) : (z3 0 ≤ z3 a) = True := by simp [z3_le (by decide : 0 < 2147483648) h]
theorem z3_div {a b : Nat} (ha : a < 2147483648) (hb : b < 2147483648) : z3 a / z3 b = z3 (a / b) := (Int32.ofNat_div (by omega) (by omega)).symm
theorem z3_ix {a n : Nat} (h : a < 2147483648) : ixN (z3 a) n = decide (a < n) := by
  simp only [ixN, z3_cl h]
  rw [show (0 : Int32) = z3 0 from rfl, decide_eq_true (by simp [z3_le (by decide : 0 < 2147483648) h] : z3 0 ≤ z3 a)]; rfl
theorem z3_n1 {a : Nat} (h : a < 2147483648) : (z3 a = -z3 1) ↔ False := by
  rw [← Int32.toInt_inj, z3_toInt h]
  have e : (-z3 1).toInt = -1 := by decide
  rw [e]; simp
theorem z3_n2 {a : Nat} (h : a < 2147483648) : (z3 a = -z3 2) ↔ False := by
  rw [← Int32.toInt_inj, z3_toInt h]
  have e : (-z3 2).toInt = -2 := by decide
  rw [e]; simp
theorem z3_lt0 {a : Nat} (h : a < 2147483648) : (z3 a < z3 0) ↔ False := by simp [z3_lt h (by decide : 0 < 2147483648)]
theorem z3_mx {a b : Nat} (ha : a < 2147483648) (hb : b < 2147483648) : mxI (z3 a) (z3 b) = z3 (max a b) := by
  simp only [mxI, z3_lt ha hb]; split
  · rw [Nat.max_eq_right (by omega)]
  · rw [Nat.max_eq_left (by omega)]
theorem z3_mn {a b : Nat} (ha : a < 2147483648) (hb : b < 2147483648) : mnI (z3 a) (z3 b) = z3 (min a b) := by
  simp only [mnI, z3_lt hb ha]; split
  · rw [Nat.min_eq_right (by omega)]
  · rw [Nat.min_eq_left (by omega)]
theorem z3_64 {a : Nat} (h : a < 2147483648) : (z3 a).toInt64 = z6 a := by
  rw [← Int64.toInt_inj, Int32.toInt_toInt64, z3_toInt h, z6_toInt (by omega)]
theorem z6_32 {a : Nat} (h : a < 2147483648) : (z6 a).toInt32 = z3 a := Int64.toInt32_ofNat'
theorem z6_add (a b : Nat) : z6 a + z6 b = z6 (a + b) := (Int64.ofNat_add a b).symm
theorem z6_mul (a b : Nat) : z6 a * z6 b = z6 (a * b) := (Int64.ofNat_mul a b).symm
theorem z6_sub {a b : Nat} (h : b ≤ a) : z6 a - z6 b = z6 (a - b) := (Int64.ofNat_sub a b h).symm
theorem z6_lt {a b : Nat} (ha : a < 9223372036854775808) (hb : b < 9223372036854775808) : z6 a < z6 b ↔ a < b := Int64.ofNat_lt_iff_lt (by omega) (by omega)
theorem z6_le {a b : Nat} (ha : a < 9223372036854775808) (hb : b < 9223372036854775808) : z6 a ≤ z6 b ↔ a ≤ b := Int64.ofNat_le_iff_le (by omega) (by omega)
theorem z6_inj {a b : Nat} (ha : a < 9223372036854775808) (hb : b < 9223372036854775808) : z6 a = z6 b ↔ a = b := by
  rw [← Int64.toInt_inj, z6_toInt ha, z6_toInt hb]; omega
theorem z3_and (a b : Nat) : z3 a &&& z3 b = z3 (a &&& b) := by
  apply Int32.toBitVec.inj
  show BitVec.ofNat 32 a &&& BitVec.ofNat 32 b = BitVec.ofNat 32 (a &&& b)
  exact (BitVec.ofNat_and ..).symm
theorem z3_or (a b : Nat) : z3 a ||| z3 b = z3 (a ||| b) := by
  apply Int32.toBitVec.inj
  show BitVec.ofNat 32 a ||| BitVec.ofNat 32 b = BitVec.ofNat 32 (a ||| b)
  exact (BitVec.ofNat_or ..).symm
theorem z3_xor (a b : Nat) : z3 a ^^^ z3 b = z3 (a ^^^ b) := by
  apply Int32.toBitVec.inj
  show BitVec.ofNat 32 a ^^^ BitVec.ofNat 32 b = BitVec.ofNat 32 (a ^^^ b)
  exact (BitVec.ofNat_xor ..).symm
/-- states -/
theorem sF_uF (σ : SG) (a i : Nat) (x : Int32) (b j : Nat) : sF (uF σ a i x) b j = if b = a ∧ j = i then x else sF σ b j := nrfl rfl
theorem sF_uJ (σ : SG) (a i : Nat) (x : Int64) : sF (uJ σ a i x) = sF σ := nrfl rfl
theorem sF_uW (σ : SG) (r : Nat) (l : List Int32) : sF (uW σ r l) = sF σ := nrfl rfl
theorem sF_uX (σ : SG) : sF (uX σ) = sF σ := nrfl rfl
theorem sJ_uF (σ : SG) (a i : Nat) (x : Int32) : sJ (uF σ a i x) = sJ σ := nrfl rfl
theorem sJ_uJ (σ : SG) (a i : Nat) (x : Int64) (b j : Nat) : sJ (uJ σ a i x) b j = if b = a ∧ j = i then x else sJ σ b j := nrfl rfl
theorem sJ_uW (σ : SG) (r : Nat) (l : List Int32) : sJ (uW σ r l) = sJ σ := nrfl rfl
theorem sJ_uX (σ : SG) : sJ (uX σ) = sJ σ := nrfl rfl
theorem sW_uF (σ : SG) (a i : Nat) (x : Int32) : sW (uF σ a i x) = sW σ := nrfl rfl
theorem sW_uJ (σ : SG) (a i : Nat) (x : Int64) : sW (uJ σ a i x) = sW σ := nrfl rfl
theorem sW_uW (σ : SG) (r : Nat) (l : List Int32) (q : Nat) : sW (uW σ r l) q = if q = r then l else sW σ q := nrfl rfl
theorem sW_uX (σ : SG) : sW (uX σ) = sW σ := nrfl rfl
theorem sX_uF (σ : SG) (a i : Nat) (x : Int32) : sX (uF σ a i x) = sX σ := nrfl rfl
theorem sX_uJ (σ : SG) (a i : Nat) (x : Int64) : sX (uJ σ a i x) = sX σ := nrfl rfl
theorem sX_uW (σ : SG) (r : Nat) (l : List Int32) : sX (uW σ r l) = sX σ := nrfl rfl
theorem sX_uX (σ : SG) : sX (uX σ) = sX σ + 1 := nrfl rfl
theorem sg_ext {σ τ : SG} (h1 : ∀ a i, sF σ a i = sF τ a i) (h2 : ∀ a i, sJ σ a i = sJ τ a i) (h3 : ∀ r, sW σ r = sW τ r) (h4 : sX σ = sX τ) : σ = τ := by
  obtain ⟨f, j, w, x⟩ := σ
  obtain ⟨f', j', w', x'⟩ := τ
  have e1 : f = f' := funext fun a => funext fun i => h1 a i
  have e2 : j = j' := funext fun a => funext fun i => h2 a i
  have e3 : w = w' := funext fun r => h3 r
  have e4 : x = x' := h4
  subst e1 e2 e3 e4; rfl
theorem uF_self {σ : SG} {a i : Nat} {x : Int32} (h : sF σ a i = x) : uF σ a i x = σ := by
  refine sg_ext (fun b j => ?_) (fun _ _ => rfl) (fun _ => rfl) rfl
  rw [sF_uF]; split
  · next e => rw [e.1, e.2, h]
  · rfl
theorem uJ_self {σ : SG} {a i : Nat} {x : Int64} (h : sJ σ a i = x) : uJ σ a i x = σ := by
  refine sg_ext (fun _ _ => rfl) (fun b j => ?_) (fun _ => rfl) rfl
  rw [sJ_uJ]; split
  · next e => rw [e.1, e.2, h]
  · rfl
theorem uW_self {σ : SG} {r : Nat} {l : List Int32} (h : sW σ r = l) : uW σ r l = σ := by
  refine sg_ext (fun _ _ => rfl) (fun _ _ => rfl) (fun q => ?_) rfl
  rw [sW_uW]; split
  · next e => rw [e, h]
  · rfl
theorem uF_uF (σ : SG) (a i : Nat) (x y : Int32) : uF (uF σ a i x) a i y = uF σ a i y := by
  refine sg_ext (fun b j => ?_) (fun _ _ => rfl) (fun _ => rfl) rfl
  simp only [sF_uF]; split <;> rfl
theorem uJ_uJ (σ : SG) (a i : Nat) (x y : Int64) : uJ (uJ σ a i x) a i y = uJ σ a i y := by
  refine sg_ext (fun _ _ => rfl) (fun b j => ?_) (fun _ => rfl) rfl
  simp only [sJ_uJ]; split <;> rfl
theorem uW_uW (σ : SG) (r : Nat) (l m : List Int32) : uW (uW σ r l) r m = uW σ r m := by
  refine sg_ext (fun _ _ => rfl) (fun _ _ => rfl) (fun q => ?_) rfl
  simp only [sW_uW]; split <;> rfl
/-- order of updates: counts, rows, longs, fields; the greater id (place) inside -/
theorem uF_cm {σ : SG} {a i b j : Nat} {x y : Int32} (h : b < a ∨ (b = a ∧ j < i)) : uF (uF σ b j y) a i x = uF (uF σ a i x) b j y := by
  refine sg_ext (fun c k => ?_) (fun _ _ => rfl) (fun _ => rfl) rfl
  simp only [sF_uF]
  by_cases h1 : c = a ∧ k = i
  · by_cases h2 : c = b ∧ k = j
    · omega
    · simp [h1, h2]
      intro e1 e2; omega
  · simp [h1]
theorem uW_cm {σ : SG} {r q : Nat} {l m : List Int32} (h : q < r) : uW (uW σ q m) r l = uW (uW σ r l) q m := by
  refine sg_ext (fun _ _ => rfl) (fun _ _ => rfl) (fun c => ?_) rfl
  simp only [sW_uW]
  by_cases h1 : c = r
  · have h2 : ¬ c = q := by omega
    simp [h1]; intro e; omega
  · simp [h1]
theorem uF_uW (σ : SG) (a i : Nat) (x : Int32) (r : Nat) (l : List Int32) : uW (uF σ a i x) r l = uF (uW σ r l) a i x := nrfl rfl
theorem uF_uJ (σ : SG) (a i : Nat) (x : Int32) (b j : Nat) (y : Int64) : uJ (uF σ a i x) b j y = uF (uJ σ b j y) a i x := nrfl rfl
theorem uJ_uW (σ : SG) (a i : Nat) (x : Int64) (r : Nat) (l : List Int32) : uW (uJ σ a i x) r l = uJ (uW σ r l) a i x := nrfl rfl
theorem uX_uF (σ : SG) (a i : Nat) (x : Int32) : uX (uF σ a i x) = uF (uX σ) a i x := nrfl rfl
theorem uX_uJ (σ : SG) (a i : Nat) (x : Int64) : uX (uJ σ a i x) = uJ (uX σ) a i x := nrfl rfl
theorem uX_uW (σ : SG) (r : Nat) (l : List Int32) : uX (uW σ r l) = uW (uX σ) r l := nrfl rfl
/-- rows -/
theorem rAt_ok {σ : SG} {r k : Nat} {l : List Int32} {x : Int32} (h : sW σ r = l) (hk : k < 2147483648) (hx : l[k]? = some x) : rAt σ r (z3 k) = some x := by
  unfold rAt
  rw [show (0 : Int32) = z3 0 from rfl, if_pos ((z3_le (by decide) hk).2 (Nat.zero_le k)), z3_cl hk, h, hx]
theorem rAdd_ok {σ : SG} {r : Nat} {v : Int32} {l : List Int32} (h : sW σ r = l) (hl : l.length < limS r) : rAdd σ r v = some (z3 l.length, uW σ r (l ++ [v])) := by
  unfold rAdd
  rw [h, if_pos hl]; rfl
theorem rSet_ok {σ : SG} {r k : Nat} {v : Int32} {l : List Int32} (h : sW σ r = l) (hk : k < l.length) (hb : k < 2147483648) : rSet σ r (z3 k) v = some (uW σ r (l.set k v)) := by
  unfold rSet
  rw [show (0 : Int32) = z3 0 from rfl, z3_cl hb, h, if_pos ⟨(z3_le (by decide) hb).2 (Nat.zero_le k), hk⟩]
theorem rTake_ok {σ : SG} {r : Nat} {v : Int32} {l : List Int32} (h : sW σ r = l ++ [v]) : rTake σ r = some (v, uW σ r l) := by
  unfold rTake
  simp [h]
theorem rTop_ok {σ : SG} {r : Nat} {v : Int32} {l : List Int32} (h : sW σ r = l ++ [v]) : rTop σ r = some v := by
  unfold rTop
  simp [h]
theorem pSz_ok {σ : SG} {r k : Nat} {l : List Int32} (h : sW σ r = l) (hk : k ≤ l.length) (hb : k < 2147483648) : pSz σ r (z3 k) = some (uW σ r (l.take k)) := by
  unfold pSz
  rw [show (0 : Int32) = z3 0 from rfl, z3_cl hb, h, if_pos ⟨(z3_le (by decide) hb).2 (Nat.zero_le k), hk⟩]
theorem kV_some (h : SG) (f : SG → RSG) : kV (some (.inl none, h)) f = f h := nrfl rfl
theorem kI_some (x : Int32) (h : SG) (f : Int32 → SG → RSG) : kI (some (.inl (some (.int x)), h)) f = f x h := nrfl rfl
theorem kJ_some (x : Int64) (h : SG) (f : Int64 → SG → RSG) : kJ (some (.inl (some (.long x)), h)) f = f x h := nrfl rfl
theorem kR_some (x : Nat) (h : SG) (f : Nat → SG → RSG) : kR (some (.inl (some (.ref x)), h)) f = f x h := nrfl rfl
theorem kV_thr (a : Nat) (h : SG) (f : SG → RSG) : kV (some (.inr a, h)) f = some (.inr a, h) := nrfl rfl
theorem kI_thr (a : Nat) (h : SG) (f : Int32 → SG → RSG) : kI (some (.inr a, h)) f = some (.inr a, h) := nrfl rfl
theorem kJ_thr (a : Nat) (h : SG) (f : Int64 → SG → RSG) : kJ (some (.inr a, h)) f = some (.inr a, h) := nrfl rfl
theorem kR_thr (a : Nat) (h : SG) (f : Nat → SG → RSG) : kR (some (.inr a, h)) f = some (.inr a, h) := nrfl rfl
theorem ob_v {α β : Type} (x : α) (f : α → Option β) : ob (some x) f = f x := nrfl rfl

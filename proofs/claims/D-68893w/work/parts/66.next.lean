/-! the component's next token -/
theorem sF_ne {σ : SG} {a i : Nat} {x : Int32} {b j : Nat} (h : ((b == a) && (j == i)) = false := by rfl) : sF (uF σ a i x) b j = sF σ b j := by
  rw [sF_uF, if_neg]; rintro ⟨rfl, rfl⟩; simp at h
theorem lxs_pl (σ : SG) {t : Tok} (h : tK t ≠ 401 ∧ tK t ≠ 402) : lxs σ t = uF (uF (uF σ 27 8 (z3 (tT t))) 27 7 (z3 (tF t))) 27 6 (z3 (kC (tK t))) := by
  unfold lxs lxr
  rw [if_neg (by omega), if_neg (by omega), uJ_self rfl, uF_self rfl]
theorem NXT_pre {σ : SG} {t : Tok} {r : RSG} {p : Nat} (h : NXT (uF (uF σ 27 8 (z3 p)) 27 7 (z3 p)) t r) : NXT σ t r := by
  refine ⟨fun g => ?_, fun g => ?_⟩
  · rw [h.1 g]; congr 2
    simp only [lxs, sJ_uF, sF_ne]
    refine lxr_cg (σ := uF (uF σ 27 8 (z3 p)) 27 7 (z3 p)) (τ := σ) (fun a i q => ?_) (fun _ _ _ => rfl) (fun _ => rfl) rfl _ _ _ _ _
    rw [sF_uF, if_neg (by omega), sF_uF, if_neg (by omega)]
  · obtain ⟨σ', e1, e2⟩ := h.2 g
    exact ⟨σ', e1, LF_uF (LF_uF e2)⟩
theorem NXT_to {σ : SG} {t : Tok} {r : RSG} {x : Int32} (h : NXT (uF σ 27 8 x) t r) : NXT σ t r := by
  refine ⟨fun g => ?_, fun g => ?_⟩
  · rw [h.1 g]; congr 2
    simp only [lxs, sJ_uF, sF_ne]
    refine lxr_cg (σ := uF σ 27 8 x) (τ := σ) (fun a i q => ?_) (fun _ _ _ => rfl) (fun _ => rfl) rfl _ _ _ _ _
    rw [sF_uF, if_neg (by omega)]
  · obtain ⟨σ', e1, e2⟩ := h.2 g
    exact ⟨σ', e1, LF_uF e2⟩
theorem NXT_kV {σ : SG} {t : Tok} {r : RSG} (h : NXT σ t r) : NXT σ t (kV r (fun h => some (.inl none, h))) := by
  refine ⟨fun g => by rw [h.1 g]; rfl, fun g => ?_⟩
  obtain ⟨σ', e1, e2⟩ := h.2 g
  exact ⟨σ', by rw [e1]; rfl, e2⟩
theorem zkw_lt (b : Nat → Nat) (p q : Nat) : zkw b p q < 404 ∧ 300 ≤ zkw b p q ∧ (zkw b p q = 400 ∨ zkw b p q < 318) := by
  have : ∀ (l : List Nat) (r : List (List Nat)) (w : Nat), zkf l r w = 400 ∨ (300 + w ≤ zkf l r w ∧ zkf l r w < 300 + w + r.length) := by
    intro l r
    induction r with
    | nil => intro w; exact .inl rfl
    | cons x r ih =>
      intro w
      simp only [zkf, List.length_cons]
      split
      · right; omega
      · rcases ih (w + 1) with h | h
        · exact .inl h
        · right; omega
  have h := this (zwd b (q - p) p) kwL 0
  have e : kwL.length = 18 := rfl
  unfold zkw
  omega
theorem x2_wloop {B : Bool} {d : Nat} (hd : 7 ≤ d) {σ : SG} {b : Nat → Nat} {n p : Nat} (h : TX σ b n) (hp : sF σ 27 7 = z3 p) (k : Nat) (hk : k ≤ n) (hpk : p ≤ k) : evS B d 30 49 [(0, .ref 27)] [] (uF σ 27 8 (z3 k)) = some (.inl none, uF (uF σ 27 8 (z3 (zwe b n k))) 27 6 (z3 (kC (zkw b p (zwe b n k))))) := by
  have hn := h.2.1
  refine fd_ind (p := fun j => !isW (cA b n j)) (n := n) (fun k e => k ≤ n → p ≤ k → evS B d 30 49 [(0, .ref 27)] [] (uF σ 27 8 (z3 k)) = some (.inl none, uF (uF σ 27 8 (z3 e)) 27 6 (z3 (kC (zkw b p e))))) ?_ ?_ ?_ k hk hpk
  · intro k h1 h2 h3
    have h7 : sF (uF σ 27 8 (z3 k)) 27 7 = z3 p := by rw [sF_ne]; exact hp
    rw [sX2_next_49 _ _ (by omega)]
    have e0 : cA b n k = 0 := cA_out h1
    simp (disch := omega) only [uF_to, x2_at (TXto h _), kI_some, x2_isWord, zb_eq0, nlit, e0, x2_keyword (by omega : 6 ≤ d - 1) (TXto h _) h7 uF_to h2 h3]
    rfl
  · intro k h1 hb h2 h3
    have c1 := cA_lt h k
    have h7 : sF (uF σ 27 8 (z3 k)) 27 7 = z3 p := by rw [sF_ne]; exact hp
    rw [sX2_next_49 _ _ (by omega)]
    simp (disch := omega) only [uF_to, x2_at (TXto h _), kI_some, x2_isWord, zb_eq0, nlit, x2_keyword (by omega : 6 ≤ d - 1) (TXto h _) h7 uF_to h2 h3]
    rw [if_pos (by simpa using hb)]
  · intro k e h1 hb ih h2 h3
    have c1 := cA_lt h k
    rw [sX2_next_49 _ _ (by omega)]
    simp (disch := omega) only [uF_to, x2_at (TXto h _), kI_some, x2_isWord, zb_eq0, nlit, z3_add, uF_uF, ih (by omega) (by omega)]
    rw [if_neg (by simpa using hb)]
theorem zblk_hi (b : Nat → Nat) (n : Nat) : ∀ f k q, k ≤ n → zblk b n f k = .inr q → q ≤ n := by
  intro f
  induction f with
  | zero => intro k q h e; simp [zblk] at e; omega
  | succ f ih =>
    intro k q h e
    simp only [zblk] at e
    split at e
    · next g => exact ih _ _ (by omega) e
    · split at e
      · exact ih _ _ (fd_hi h) e
      · split at e
        · next g =>
          split at e
          · simp at e
          · next g2 =>
            have q1 := fd_at (p := fun j => cA b n j == 42 && cA b n (j + 1) == 47) (n := n) (k := k + 2) (by omega)
            simp at q1
            have := cA_pos (b := b) (n := n) (k := _) (by rw [q1.2]; decide)
            exact ih _ _ (by omega) e
        · simp at e; omega
theorem x2_next {B : Bool} {d : Nat} (hd : 8 ≤ d) {σ : SG} {b : Nat → Nat} {n k : Nat} (h : TX σ b n) (hk : sF σ 27 8 = z3 k) (hkn : k ≤ n) : NXT σ (tokAt b n k) (mS B d 30 [.ref 27] σ) := by
  have hn := h.2.1
  rw [sX2_next_0 _ _ (by omega), sX2_blanks_0 _ _ (by omega)]
  have hs : σ = uF σ 27 8 (z3 k) := (uF_self hk).symm
  have hb := x2_blanks (B := B) (d := d - 1) (by omega) h (n + 1) k (by omega) hkn
  rw [← hs] at hb
  rw [show (1 : Int32) = z3 1 from rfl, hb]
  unfold tokAt
  cases hz : zblk b n (n + 1) k with
  | inl q =>
    refine ⟨fun e => absurd rfl e, fun _ => ⟨_, rfl, LF_uF (LF_flw ..)⟩⟩
  | inr p =>
    have hpn := zblk_hi b n _ _ _ hkn hz
    simp only []
    have hT : TX (uF (uF σ 27 8 (z3 p)) 27 7 (z3 p)) b n := TX_uF (TX_uF h)
    have h7 : sF (uF (uF σ 27 8 (z3 p)) 27 7 (z3 p)) 27 7 = z3 p := uF_to
    have h8 : sF (uF (uF σ 27 8 (z3 p)) 27 7 (z3 p)) 27 8 = z3 p := by rw [sF_ne]; exact uF_to
    have h3 := hT.1
    refine NXT_pre (p := p) ?_
    simp only [kV_some]
    rw [show sF (uF σ 27 8 (z3 p)) 27 8 = z3 p from uF_to]
    generalize uF (uF σ 27 8 (z3 p)) 27 7 (z3 p) = τ at *
    have c1 := cA_lt hT p
    simp (disch := omega) only [h7, h3, x2_at hT, kI_some, z3_lt, x2_isLetter, x2_isDigit, zb_eq0, nlit]
    unfold ztk
    by_cases g : n ≤ p
    · rw [if_neg (by omega : ¬ p < n), if_pos g]
      refine ⟨fun _ => ?_, fun e => by simp [tK] at e⟩
      congr 2
      rw [lxs_pl τ (t := (403, p, p, 0, 0)) (by simp [tK])]
      simp only [tK, tF, tT]
      rw [uF_self h8, uF_self h7]; rfl
    · rw [if_pos (by omega : p < n), if_neg g]
      by_cases gl : isL (cA b n p) = true
      · rw [if_neg (by simp [gl] : ¬ isL (cA b n p) = false), if_pos gl]
        have hw := x2_wloop (B := B) (d := d) (by omega) hT h7 p (by omega) (Nat.le_refl _)
        rw [uF_self h8] at hw
        rw [hw]
        have hk := zkw_lt b p (zwe b n p)
        refine ⟨fun _ => ?_, fun e => by simp only [tK] at e; omega⟩
        congr 2
        rw [lxs_pl τ (t := (zkw b p (zwe b n p), p, zwe b n p, 0, 0)) (by simp only [tK]; omega)]
        simp only [tK, tF, tT]
        rw [uF_self (σ := uF τ 27 8 (z3 (zwe b n p))) (i := 7) (by rw [sF_ne]; exact h7)]
      · rw [if_pos (by simpa using gl : isL (cA b n p) = false), if_neg gl]
        by_cases gd : isD (cA b n p) = true
        · rw [if_neg (by simp [gd] : ¬ isD (cA b n p) = false), if_pos gd]
          have F := zsc_facts hT (by omega) gd
          have hw := x2_scan (B := B) (d := d) (by omega) hT h7 p (by omega) (Nat.le_refl _)
          rw [uF_self h8] at hw
          rw [hw]
          refine NXT_kV (NXT_to (x := z3 (zsc b n p p)) ?_)
          have hT2 : TX (uF τ 27 8 (z3 (zsc b n p p))) b n := TXto hT _
          have k7 : sF (uF τ 27 8 (z3 (zsc b n p p))) 27 7 = z3 p := by rw [sF_ne]; exact h7
          have k8 : sF (uF τ 27 8 (z3 (zsc b n p p))) 27 8 = z3 (zsc b n p p) := uF_to
          generalize uF τ 27 8 (z3 (zsc b n p p)) = υ at *
          have Z := zsat_v b n (zd1 b n p - p) p 0 (fun j g1 g2 => F.2.2.1 j g1 (by omega)) (by omega)
          rw [sX2_number_0 _ _ (by omega), k7]
          have N7 := x2_num7 (B := B) (d := d - 1) (by omega) hT2 k8 F.2.2.2.2.1 (zd1 b n p - p) p 0 (by omega) (fun j g1 g2 => F.2.2.1 j g1 (by omega)) (fun g => by rw [show p + (zd1 b n p - p) = zd1 b n p by omega]; exact F.2.2.2.1) (by omega)
          rw [show p + (zd1 b n p - p) = zd1 b n p by omega] at N7
          rw [show (0 : Int32) = z3 0 from rfl, N7]
          exact x2_num56 (by omega) hT2 k7 k8 F.2.2.2.2.1 F.1 Z.1 Z.2.1 Z.2.2 F.2.2.2.2.2.2.1 F.2.2.2.2.2.2.2.1 F.2.2.2.2.2.2.2.2
        · rw [if_pos (by simpa using gd : isD (cA b n p) = false), if_neg gd, x2_sign (by omega) hT h7 (by omega)]
          have t := ztw_lt (cA b n p) (cA b n (p + 1))
          refine NXT_kV ?_
          unfold zsgt
          by_cases q1 : ztw (cA b n p) (cA b n (p + 1)) = 0
          · rw [if_pos q1, if_pos q1]
            by_cases q2 : zsg (cA b n p) = true
            · rw [if_pos q2, if_pos q2]
              refine ⟨fun _ => ?_, fun e => by simp only [tK] at e; omega⟩
              congr 2
              rw [lxs_pl τ (t := (cA b n p, p, p + 1, 0, 0)) (by simp only [tK]; omega)]
              simp only [tK, tF, tT]
              rw [uF_self (σ := uF τ 27 8 (z3 (p + 1))) (by rw [sF_ne]; exact h7), uF_cm (by omega)]
              unfold kC; rw [if_neg (by omega), if_neg (by omega)]
            · rw [if_neg q2, if_neg q2]
              exact ⟨fun e => absurd rfl e, fun _ => ⟨_, rfl, LF_flw ..⟩⟩
          · rw [if_neg q1, if_neg q1]
            refine ⟨fun _ => ?_, fun e => by simp only [tK] at e; omega⟩
            congr 2
            rw [lxs_pl τ (t := (ztw (cA b n p) (cA b n (p + 1)), p, p + 2, 0, 0)) (by simp only [tK]; omega)]
            simp only [tK, tF, tT]
            rw [uF_self (σ := uF τ 27 8 (z3 (p + 2))) (by rw [sF_ne]; exact h7), uF_cm (by omega)]
            unfold kC; rw [if_neg (by omega), if_pos (by omega)]

/-! the parser's small methods -/
def PC (σ : SG) (b : Nat → Nat) (n N m : Nat) (mn : Bool) (K : Nat) : Prop := TX σ b n ∧ TN b n N ∧ n ≤ 2000 ∧ sF σ 31 2 = zb mn ∧ sF σ 31 3 = z3 m ∧ m ≤ 2000 ∧ (mn = true → 7 * m + 6 < (sW σ 96).length) ∧ K ≤ 131000
theorem ps_FR (T : Nat → Tok) (v0 : Int64) (w0 : Int32) (m : Nat) (σ : SG) (i o : Nat) (sg pl wd cd : List Int32) (c : Nat) : FR PP σ (ps T v0 w0 m σ i o sg pl wd cd c) := by
  unfold ps lx
  exact FR_lxr (FR_uF (FR_uW (FR_uW (FR_uW (FR_uW (FR_uW (FR_refl ..) rfl) rfl) rfl) rfl) rfl) rfl) ..
theorem p_flw {T : Nat → Tok} {v0 : Int64} {w0 : Int32} {m : Nat} {σ : SG} {i o : Nat} {sg pl wd cd : List Int32} {c K : Nat} (h1 : sg.length ≤ K) (h2 : pl.length ≤ K) (h3 : wd.length ≤ K) (x p : Nat) : CV σ K (some (.inr 0, flw (ps T v0 w0 m σ i o sg pl wd cd c) x p)) (.inl (x, p)) :=
  ⟨_, nrfl rfl, PF_flw (ps_FR ..) (by rw [ps_W]; exact h1) (by rw [ps_W]; exact h2) (by rw [ps_W]; exact h3) x p⟩
theorem p_next {d : Nat} (hd : 8 ≤ d) {σ : SG} {b : Nat → Nat} {n N m : Nat} {mn : Bool} {K : Nat} (hc : PC σ b n N m mn K) {v0 : Int64} {w0 : Int32} {i o : Nat} {sg pl wd cd : List Int32} {c : Nat} (h1 : sg.length ≤ K) (h2 : pl.length ≤ K) (h3 : wd.length ≤ K) (hi : i < N) : CV σ K (mS true d 30 [.ref 27] (ps (sq b n 0) v0 w0 m σ i o sg pl wd cd c)) (bd (mNx (sq b n 0) i) (fun j => .inr (none, ps (sq b n 0) v0 w0 m σ j o sg pl wd cd c))) := by
  have X := x2_nx (B := true) hd (σ := uF (uW (uW (uW (uW (uW σ 102 cd) 96 ((sW σ 96).set (7 * m + 6) (z3 (min 1501 c)))) 36 wd) 34 pl) 32 sg) 31 4 (z3 o)) (TX_uF (TX_uW (TX_uW (TX_uW (TX_uW (TX_uW hc.1)))))) hc.2.1 v0 w0 hi
  unfold mNx
  by_cases g : tK (sq b n 0 (i + 1)) = 404
  · rw [if_pos g]
    obtain ⟨σ', e1, e2⟩ := X.2 g
    exact ⟨σ', e1, PF_LF (FR_uF (FR_uW (FR_uW (FR_uW (FR_uW (FR_uW (FR_refl ..) rfl) rfl) rfl) rfl) rfl) rfl) (by simp only [sW_uF, sW_uW]; exact h1) (by simp only [sW_uF, sW_uW]; exact h2) (by simp only [sW_uF, sW_uW]; exact h3) e2⟩
  · rw [if_neg g]
    exact X.1 g
theorem p_need {d : Nat} (hd : 2 ≤ d) {τ : SG} {x : Bool} {c p : Nat} : mS true d 49 [.ref 31, .int (zb x), .int (z3 c), .int (z3 p)] τ = if x = true then some (.inl none, τ) else some (.inr 0, flw τ c p) := by
  rw [sX3_need_0 _ (by omega), nlit]
  cases x
  · rw [if_pos ((zb_eq0 false).2 rfl), sX3_flaw_0 _ (by omega), x2_flaw, kR_some, if_neg (by simp)]; rfl
  · rw [if_neg (by rw [zb_eq0]; simp), if_pos rfl]
def VK (k : Nat) : Prop := k < 264 ∨ (300 ≤ k ∧ k < 318) ∨ (400 ≤ k ∧ k < 404)
theorem kC_eq {a e : Nat} (ha : VK a) (he : VK e) : kC a = kC e ↔ a = e := by
  unfold VK at *
  unfold kC
  constructor
  · intro h
    repeat' split at h
    all_goals omega
  · rintro rfl; rfl
theorem kC_lt {a : Nat} (ha : VK a) : kC a < 318 := by
  unfold VK at *
  unfold kC
  repeat' split
  all_goals omega
theorem tokAt_VK {σ : SG} {b : Nat → Nat} {n : Nat} (h : TX σ b n) (k : Nat) (hk : tK (tokAt b n k) ≠ 404) : VK (tK (tokAt b n k)) := by
  unfold tokAt at *
  cases hz : zblk b n (n + 1) k with
  | inl q => rw [hz] at hk; exact absurd rfl hk
  | inr p =>
    rw [hz] at hk
    simp only [] at hk ⊢
    unfold ztk at *
    split
    · unfold VK; simp [tK]
    · split
      · have := zkw_lt b p (zwe b n p)
        unfold VK; simp only [tK]; omega
      · next g1 g2 =>
        rw [if_neg g1, if_neg g2] at hk
        split
        · next g3 =>
          rw [if_pos g3] at hk
          unfold znum at *
          repeat' split at hk
          all_goals first | exact absurd rfl hk | skip
          all_goals (unfold VK; repeat' split)
          all_goals simp_all [tK]
        · next g3 =>
          have := ztw_lt (cA b n p) (cA b n (p + 1))
          have := cA_lt h p
          rw [if_neg g3] at hk
          unfold zsgt at *
          unfold VK
          repeat' split
          all_goals first | (simp only [tK]; omega) | skip
          all_goals simp_all [tK]
theorem sq_VK {σ : SG} {b : Nat → Nat} {n : Nat} (h : TX σ b n) (i : Nat) (hk : tK (sq b n 0 i) ≠ 404) : VK (tK (sq b n 0 i)) := by
  cases i with
  | zero => rw [sq_z] at *; exact tokAt_VK h _ hk
  | succ i => rw [sq_st] at *; exact tokAt_VK h _ hk
theorem TN_lt {b : Nat → Nat} {n N i : Nat} (h : TN b n N) (hi : i ≤ N) (h1 : tK (sq b n 0 i) ≠ 404) (h2 : tK (sq b n 0 i) ≠ 403) : i < N := by
  rcases Nat.lt_or_ge i N with g | g
  · exact g
  · have : i = N := by omega
    subst this
    have := h.2
    simp [tEB, h1, h2] at this
theorem p_nd {d : Nat} (hd : 9 ≤ d) {σ : SG} {b : Nat → Nat} {n N m : Nat} {mn : Bool} {K : Nat} (hc : PC σ b n N m mn K) {v0 : Int64} {w0 : Int32} {i o : Nat} {sg pl wd cd : List Int32} {c : Nat} (h1 : sg.length ≤ K) (h2 : pl.length ≤ K) (h3 : wd.length ≤ K) (hi : i ≤ N) (hg : tK (sq b n 0 i) ≠ 404) {k : Nat} (hk : VK k) (hk3 : k ≠ 403) : CV σ K (mS true d 44 [.ref 27, .int (z3 (kC k))] (ps (sq b n 0) v0 w0 m σ i o sg pl wd cd c)) (bd (nd (sq b n 0) k i) (fun j => .inr (none, ps (sq b n 0) v0 w0 m σ j o sg pl wd cd c))) := by
  have hv := sq_VK hc.1 i hg
  have l1 := kC_lt hv
  have l2 := kC_lt hk
  rw [sX2_need_0 _ _ (by omega), ps_kind, ps_from]
  unfold nd
  by_cases g : tK (sq b n 0 i) = k
  · rw [if_pos g, if_pos (by rw [g])]
    refine CV_V (p_next (by omega) hc h1 h2 h3 (TN_lt hc.2.1 hi hg (by omega))) (fun a _ => CV_ok ..)
  · rw [if_neg g, if_neg (by rw [z3_inj (by omega) (by omega), kC_eq hv hk]; exact g), nlit, x2_flaw]
    exact p_flw h1 h2 h3 _ _
theorem lim_rows : limS 32 = 131072 ∧ limS 34 = 131072 ∧ limS 36 = 131072 := by decide
theorem p_opens {d : Nat} (hd : 3 ≤ d) {σ : SG} {K : Nat} {T : Nat → Tok} {v0 : Int64} {w0 : Int32} {m i o : Nat} {sg pl wd cd : List Int32} {c : Nat} (h1 : sg.length ≤ K) (h2 : pl.length ≤ K) (h3 : wd.length ≤ K) (ho : o < 1000) : CV σ K (mS true d 69 [.ref 31] (ps T v0 w0 m σ i o sg pl wd cd c)) (bd (if o < 60 then .inr () else .inl (3, tF (T i))) (fun _ => .inr (none, ps T v0 w0 m σ i (o + 1) sg pl wd cd c))) := by
  rw [sX3_opens_0 _ (by omega), ps_open, nlit]
  by_cases g : o < 60
  · rw [if_neg (by rw [z3_le (by omega) (by omega)]; omega), if_pos g, sX3_opens_15 _ (by omega), ps_from, nlit, nlit, ← zb_t, p_need (by omega), if_pos rfl, kV_some, ps_open, zb_t, z3_add, ps_uo]
    exact CV_ok ..
  · rw [if_pos ((z3_le (by omega) (by omega)).2 (by omega)), if_neg g, sX3_opens_15 _ (by omega), ps_from, nlit, nlit, ← zb_f, p_need (by omega), if_neg (by simp), kV_thr]
    exact p_flw h1 h2 h3 _ _

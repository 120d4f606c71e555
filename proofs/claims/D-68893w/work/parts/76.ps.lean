/-! the component's state in an exp -/
theorem uF_lxr (σ : SG) (k fr to : Int32) (v : Int64) (w : Int32) {a i : Nat} (h : 27 < a) (x : Int32) : uF (lxr σ k fr to v w) a i x = lxr (uF σ a i x) k fr to v w := by
  unfold lxr
  rw [uF_cm (b := 27) (a := a) (.inl h), uF_cm (b := 27) (a := a) (.inl h), uF_cm (b := 27) (a := a) (.inl h), uF_cm (b := 27) (a := a) (.inl h), uF_uJ]
theorem uW_lxr (σ : SG) (k fr to : Int32) (v : Int64) (w : Int32) (r : Nat) (l : List Int32) : uW (lxr σ k fr to v w) r l = lxr (uW σ r l) k fr to v w := nrfl rfl
def ps (T : Nat → Tok) (v0 : Int64) (w0 : Int32) (m : Nat) (σ : SG) (i o : Nat) (sg pl wd cd : List Int32) (c : Nat) : SG :=
  lx T v0 w0 (uF (uW (uW (uW (uW (uW σ 102 cd) 96 ((sW σ 96).set (7 * m + 6) (z3 (min 1501 c)))) 36 wd) 34 pl) 32 sg) 31 4 (z3 o)) i
theorem ps_kind (T : Nat → Tok) (v0 : Int64) (w0 : Int32) (m : Nat) (σ : SG) (i o : Nat) (sg pl wd cd : List Int32) (c : Nat) : sF (ps T v0 w0 m σ i o sg pl wd cd c) 27 6 = z3 (kC (tK (T i))) := by
  unfold ps lx; rw [sF_lxr]; simp
theorem ps_from (T : Nat → Tok) (v0 : Int64) (w0 : Int32) (m : Nat) (σ : SG) (i o : Nat) (sg pl wd cd : List Int32) (c : Nat) : sF (ps T v0 w0 m σ i o sg pl wd cd c) 27 7 = z3 (tF (T i)) := by
  unfold ps lx; rw [sF_lxr]; simp
theorem ps_to (T : Nat → Tok) (v0 : Int64) (w0 : Int32) (m : Nat) (σ : SG) (i o : Nat) (sg pl wd cd : List Int32) (c : Nat) : sF (ps T v0 w0 m σ i o sg pl wd cd c) 27 8 = z3 (tT (T i)) := by
  unfold ps lx; rw [sF_lxr]; simp
theorem ps_val (T : Nat → Tok) (v0 : Int64) (w0 : Int32) (m : Nat) (σ : SG) (i o : Nat) (sg pl wd cd : List Int32) (c : Nat) : sJ (ps T v0 w0 m σ i o sg pl wd cd c) 27 9 = sv T v0 i := by
  unfold ps lx; rw [sJ_lxr]; simp
theorem ps_wid (T : Nat → Tok) (v0 : Int64) (w0 : Int32) (m : Nat) (σ : SG) (i o : Nat) (sg pl wd cd : List Int32) (c : Nat) : sF (ps T v0 w0 m σ i o sg pl wd cd c) 27 10 = sw T w0 i := by
  unfold ps lx; rw [sF_lxr]; simp
theorem ps_open (T : Nat → Tok) (v0 : Int64) (w0 : Int32) (m : Nat) (σ : SG) (i o : Nat) (sg pl wd cd : List Int32) (c : Nat) : sF (ps T v0 w0 m σ i o sg pl wd cd c) 31 4 = z3 o := by
  unfold ps lx; rw [sF_lxr]; simp [sF_uF]
theorem ps_F (T : Nat → Tok) (v0 : Int64) (w0 : Int32) (m : Nat) (σ : SG) (i o : Nat) (sg pl wd cd : List Int32) (c : Nat) {a j : Nat} (h : (a == 27 || (a == 31 && j == 4)) = false := by rfl) : sF (ps T v0 w0 m σ i o sg pl wd cd c) a j = sF σ a j := by
  simp at h
  unfold ps lx; rw [sF_lxr, if_neg (by omega), if_neg (by omega), if_neg (by omega), if_neg (by omega), sF_uF, if_neg (by rintro ⟨e1, e2⟩; exact h.2 e1 e2)]
  simp only [sF_uW]
theorem ps_W (T : Nat → Tok) (v0 : Int64) (w0 : Int32) (m : Nat) (σ : SG) (i o : Nat) (sg pl wd cd : List Int32) (c : Nat) (r : Nat) : sW (ps T v0 w0 m σ i o sg pl wd cd c) r = if r = 32 then sg else if r = 34 then pl else if r = 36 then wd else if r = 96 then (sW σ 96).set (7 * m + 6) (z3 (min 1501 c)) else if r = 102 then cd else sW σ r := by
  unfold ps lx; rw [sW_lxr]; simp only [sW_uF, sW_uW]
theorem ps_uo (T : Nat → Tok) (v0 : Int64) (w0 : Int32) (m : Nat) (σ : SG) (i o : Nat) (sg pl wd cd : List Int32) (c : Nat) (o' : Nat) : uF (ps T v0 w0 m σ i o sg pl wd cd c) 31 4 (z3 o') = ps T v0 w0 m σ i o' sg pl wd cd c := by
  unfold ps lx; rw [uF_lxr _ _ _ _ _ _ (by omega), uF_uF]
theorem ps_u32 (T : Nat → Tok) (v0 : Int64) (w0 : Int32) (m : Nat) (σ : SG) (i o : Nat) (sg pl wd cd : List Int32) (c : Nat) (l : List Int32) : uW (ps T v0 w0 m σ i o sg pl wd cd c) 32 l = ps T v0 w0 m σ i o l pl wd cd c := by
  unfold ps lx; rw [uW_lxr, uF_uW, uW_uW]
theorem ps_u34 (T : Nat → Tok) (v0 : Int64) (w0 : Int32) (m : Nat) (σ : SG) (i o : Nat) (sg pl wd cd : List Int32) (c : Nat) (l : List Int32) : uW (ps T v0 w0 m σ i o sg pl wd cd c) 34 l = ps T v0 w0 m σ i o sg l wd cd c := by
  unfold ps lx; rw [uW_lxr, uF_uW, uW_cm (q := 32) (r := 34) (by decide), uW_uW]
theorem ps_u36 (T : Nat → Tok) (v0 : Int64) (w0 : Int32) (m : Nat) (σ : SG) (i o : Nat) (sg pl wd cd : List Int32) (c : Nat) (l : List Int32) : uW (ps T v0 w0 m σ i o sg pl wd cd c) 36 l = ps T v0 w0 m σ i o sg pl l cd c := by
  unfold ps lx; rw [uW_lxr, uF_uW, uW_cm (q := 32) (r := 36) (by decide), uW_cm (q := 34) (r := 36) (by decide), uW_uW]
theorem ps_u102 (T : Nat → Tok) (v0 : Int64) (w0 : Int32) (m : Nat) (σ : SG) (i o : Nat) (sg pl wd cd : List Int32) (c : Nat) (l : List Int32) : uW (ps T v0 w0 m σ i o sg pl wd cd c) 102 l = ps T v0 w0 m σ i o sg pl wd l c := by
  unfold ps lx; rw [uW_lxr, uF_uW, uW_cm (q := 32) (r := 102) (by decide), uW_cm (q := 34) (r := 102) (by decide), uW_cm (q := 36) (r := 102) (by decide), uW_cm (q := 96) (r := 102) (by decide), uW_uW]
theorem ps_u96 (T : Nat → Tok) (v0 : Int64) (w0 : Int32) (m : Nat) (σ : SG) (i o : Nat) (sg pl wd cd : List Int32) (c c' : Nat) : uW (ps T v0 w0 m σ i o sg pl wd cd c) 96 ((sW σ 96).set (7 * m + 6) (z3 (min 1501 c'))) = ps T v0 w0 m σ i o sg pl wd cd c' := by
  unfold ps lx; rw [uW_lxr, uF_uW, uW_cm (q := 32) (r := 96) (by decide), uW_cm (q := 34) (r := 96) (by decide), uW_cm (q := 36) (r := 96) (by decide), uW_uW]

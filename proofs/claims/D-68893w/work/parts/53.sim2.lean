/-! the second machine's runs are runs of the first -/
set_option maxRecDepth 100000
def RO (sw : Bool) (o o' : OU) (h' : AH) : Prop := match o with
  | .inl v => o' = .inl (v.map (vM (pr sw)))
  | .inr t => ∃ a, o' = .inr a ∧ hT h' a = t
def Res (b sw : Bool) (d k pc : Nat) (L0 : LO) (S0 : List Value) (h : AH) (r : (Nat × LO × List Value × SG) ⊕ (OU × SG) ⊕ (Nat × List Value × Nat × LO × List Value × SG)) : Prop := match r with
  | .inl (pc', L', S', σ') => ∃ h', Rep b sw σ' h' ∧ ev d k pc L0 S0 h = ev d k pc' (lM (pr sw) L') (S'.map (vM (pr sw))) h'
  | .inr (.inl (o, σ')) => ∃ o' h', Rep b sw σ' h' ∧ RO sw o o' h' ∧ ev d k pc L0 S0 h = some (o', h')
  | .inr (.inr (k', as, pc', L', S', σ')) => Rep b sw σ' h ∧ ev d k pc L0 S0 h = (match d with
      | 0 => none
      | d' + 1 => match ev d' k' 0 (ent 0 (as.map (vM (pr sw)))) [] h with
        | none => none
        | some (.inl v, h2) => bif rtOK (rTy k') v then ev (d' + 1) k pc' (lM (pr sw) L') (v.toList ++ S'.map (vM (pr sw))) h2 else none
        | some (.inr a, h2) => match hnd (hTab k) pc (hT h2 a) with
          | some p => ev (d' + 1) k p (lM (pr sw) L') [.ref a] h2
          | none => bif (hTab k).isEmpty then some (.inr a, h2) else none)
theorem lM_lk {ad : Nat → Nat} {L : LO} {i : Nat} {v : Value} (h : L.lookup i = some v) : (lM ad L).lookup i = some (vM ad v) := by
  induction L with
  | nil => cases h
  | cons q t ih =>
    obtain ⟨j, x⟩ := q
    show (List.lookup i ((j, vM ad x) :: lM ad t)) = _
    rw [List.lookup_cons] at h ⊢
    cases hb : (i == j) with
    | true => rw [hb] at h; cases h; rfl
    | false => rw [hb] at h; exact ih h
theorem nrm_lM {ad : Nat → Nat} {L : LO} {ks : Option (List Nat)} : nrm ks (lM ad L) = lM ad (nrm ks L) := by
  cases ks with
  | none => rfl
  | some ks =>
    show List.filterMap _ ks = List.map _ (List.filterMap _ ks)
    rw [List.map_filterMap]
    congr 1
    funext i
    cases hl : L.lookup i with
    | some v => rw [lM_lk hl]; rfl
    | none =>
      have : (lM ad L).lookup i = none := by
        induction L with
        | nil => rfl
        | cons q t ih =>
          obtain ⟨j, x⟩ := q
          show (List.lookup i ((j, vM ad x) :: lM ad t)) = _
          rw [List.lookup_cons] at hl ⊢
          cases hb : (i == j) with
          | true => rw [hb] at hl; cases hl
          | false => rw [hb] at hl; exact ih hl
      rw [this]; rfl
theorem lM_s1 {ad : Nat → Nat} {L : LO} {i : Nat} {v : Value} : st1 (lM ad L) i (vM ad v) = lM ad (st1 L i v) := lM_st1
theorem lM_s2 {ad : Nat → Nat} {L : LO} {i : Nat} {v : Value} : st2 (lM ad L) i (vM ad v) = lM ad (st2 L i v) := lM_st2
theorem ent_M {ad : Nat → Nat} : ∀ (vs : List Value) (i : Nat), ent i (vs.map (vM ad)) = lM ad (ent i vs)
  | [], _ => rfl
  | v :: vs, i => by
    show (i, vM ad v) :: ent (i + (vM ad v).category) (vs.map (vM ad)) = (i, vM ad v) :: lM ad (ent (i + v.category) vs)
    rw [vM_cat, ent_M vs]
theorem nxS_r {pc : Nat} {L : LO} {S : List Value} {h : SG} {r : (Nat × LO × List Value × SG) ⊕ (OU × SG) ⊕ (Nat × List Value × Nat × LO × List Value × SG)} (e : nxS pc L S h = some r) : r = .inl (pc, L, S, h) := (Option.some.inj e).symm
theorem finS_r {o : OU} {h : SG} {r : (Nat × LO × List Value × SG) ⊕ (OU × SG) ⊕ (Nat × List Value × Nat × LO × List Value × SG)} (e : finS o h = some r) : r = .inr (.inl (o, h)) := (Option.some.inj e).symm
section
variable {S : List Value} {L : LO} {r : (Nat × LO × List Value × SG) ⊕ (OU × SG) ⊕ (Nat × List Value × Nat × LO × List Value × SG)}
theorem q1S_t {f : Value → List Value → XS} (e : q1S S f = some r) : ∃ v S', S = v :: S' ∧ f v S' = some r := by
  unfold q1S at e
  split at e
  · exact ⟨_, _, rfl, e⟩
  · cases e
theorem qIS_t {f : Int32 → List Value → XS} (e : qIS S f = some r) : ∃ a S', S = .int a :: S' ∧ f a S' = some r := by
  unfold qIS at e
  split at e
  · exact ⟨_, _, rfl, e⟩
  · cases e
theorem qAS_t {f : Nat → List Value → XS} (e : qAS S f = some r) : ∃ a S', S = .ref a :: S' ∧ f a S' = some r := by
  unfold qAS at e
  split at e
  · exact ⟨_, _, rfl, e⟩
  · cases e
theorem qJS_t {f : Int64 → List Value → XS} (e : qJS S f = some r) : ∃ a S', S = .long a :: S' ∧ f a S' = some r := by
  unfold qJS at e
  split at e
  · exact ⟨_, _, rfl, e⟩
  · cases e
theorem qIIS_t {f : Int32 → Int32 → List Value → XS} (e : qIIS S f = some r) : ∃ a b S', S = .int b :: .int a :: S' ∧ f a b S' = some r := by
  unfold qIIS at e
  split at e
  · exact ⟨_, _, _, rfl, e⟩
  · cases e
theorem qJJS_t {f : Int64 → Int64 → List Value → XS} (e : qJJS S f = some r) : ∃ a b S', S = .long b :: .long a :: S' ∧ f a b S' = some r := by
  unfold qJJS at e
  split at e
  · exact ⟨_, _, _, rfl, e⟩
  · cases e
theorem qJIS_t {f : Int64 → Int32 → List Value → XS} (e : qJIS S f = some r) : ∃ a b S', S = .int b :: .long a :: S' ∧ f a b S' = some r := by
  unfold qJIS at e
  split at e
  · exact ⟨_, _, _, rfl, e⟩
  · cases e
theorem lIS_t {i : Nat} {f : Int32 → XS} (e : lIS L i f = some r) : ∃ a, L.lookup i = some (.int a) ∧ f a = some r := by
  unfold lIS at e
  split at e
  · rename_i hz; exact ⟨_, hz, e⟩
  · cases e
theorem lJS_t {i : Nat} {f : Int64 → XS} (e : lJS L i f = some r) : ∃ a, L.lookup i = some (.long a) ∧ f a = some r := by
  unfold lJS at e
  split at e
  · rename_i hz; exact ⟨_, hz, e⟩
  · cases e
theorem lAS_t {i : Nat} {f : Nat → XS} (e : lAS L i f = some r) : ∃ a, L.lookup i = some (.ref a) ∧ f a = some r := by
  unfold lAS at e
  split at e
  · rename_i hz; exact ⟨_, hz, e⟩
  · cases e
theorem jpS_t {pc : Nat} {o : Int} {f : Nat → XS} (e : jpS pc o f = some r) : ∃ t : Nat, (pc : Int) + o = (t : Int) ∧ f t = some r := by
  unfold jpS at e
  by_cases hq : 0 ≤ (pc : Int) + o
  · rw [if_pos hq] at e
    exact ⟨_, by omega, e⟩
  · rw [if_neg hq] at e; cases e
end
/-- what the tables say of the rows' methods and of exceptions -/
def rowOk (e : Nat × (Nat × Nat × Nat × Nat)) : Bool := !(Nat.ble 89 e.2.2.1 && Nat.ble e.2.2.1 93 && Nat.ble e.2.1 4) || ((Nat.beq e.2.1 0 || Nat.beq e.2.1 3) && Nat.beq e.2.2.2.2 4 && (!Nat.beq e.2.2.1 89 || Nat.beq e.2.2.2.1 2) && (!Nat.beq e.2.2.1 90 || Nat.beq e.2.2.2.1 2) && (!Nat.beq e.2.2.1 91 || Nat.beq e.2.2.2.1 3) && (!Nat.beq e.2.2.1 92 || Nat.beq e.2.2.2.1 1) && (!Nat.beq e.2.2.1 93 || Nat.beq e.2.2.2.1 1))
theorem rowOk_all : ∀ w, w < 12 → (mLs w).all rowOk = true := by decide +kernel
theorem nb_imp {a b c d : Nat} (h : (!Nat.beq a b || Nat.beq c d) = true) : a = b → c = d := by
  intro z
  rcases Bool.or_eq_true_iff.mp h with y | y
  · rw [z, Nat.beq_refl] at y; cases y
  · exact Nat.eq_of_beq_eq_true y
theorem tb_row : ∀ w, w < 12 → ∀ e ∈ mLs w, 89 ≤ e.2.2.1 → e.2.2.1 ≤ 93 → e.2.1 ≤ 4 → (e.2.1 = 0 ∨ e.2.1 = 3) ∧ e.2.2.2.2 = 4 ∧ (e.2.2.1 = 89 → e.2.2.2.1 = 2) ∧ (e.2.2.1 = 90 → e.2.2.2.1 = 2) ∧ (e.2.2.1 = 91 → e.2.2.2.1 = 3) ∧ (e.2.2.1 = 92 → e.2.2.2.1 = 1) ∧ (e.2.2.1 = 93 → e.2.2.2.1 = 1) := by
  intro w hw e he h1 h2 h3
  have h := List.all_eq_true.mp (rowOk_all w hw) e he
  unfold rowOk at h
  rw [Nat.ble_eq_true_of_le h1, Nat.ble_eq_true_of_le h2, Nat.ble_eq_true_of_le h3] at h
  simp only [Bool.and_true, Bool.not_true, Bool.false_or, Bool.and_eq_true] at h
  obtain ⟨⟨⟨⟨⟨⟨a1, a2⟩, a3⟩, a4⟩, a5⟩, a6⟩, a7⟩ := h
  refine ⟨?_, Nat.eq_of_beq_eq_true a2, nb_imp a3, nb_imp a4, nb_imp a5, nb_imp a6, nb_imp a7⟩
  rcases Bool.or_eq_true_iff.mp a1 with z | z
  · exact Or.inl (Nat.eq_of_beq_eq_true z)
  · exact Or.inr (Nat.eq_of_beq_eq_true z)
theorem tb_exc : ∀ w, w < 12 → ∀ e ∈ nLs w, exT e.2.1 = true → e.2.2 = 6 := by decide +kernel
theorem tb_cls : ∀ w, w < 12 → ∀ e ∈ fLs w, e.2.1 ≤ 10 ∧ e.2.1 ≠ 0 := by decide +kernel
theorem oN_lt : ∀ k, k < 295 → oN k < 12 := by decide +kernel
theorem mL_out : ∀ w, 12 ≤ w → fLs w = [] ∧ mLs w = [] ∧ nLs w = [] := by
  intro w hw
  obtain ⟨m, rfl⟩ : ∃ m, w = m + 12 := ⟨w - 12, by omega⟩
  exact ⟨rfl, rfl, rfl⟩
theorem tb_r {w n : Nat} {q : Nat × Nat × Nat × Nat} (h : mT w n = some q) (h1 : 89 ≤ q.2.1) (h2 : q.2.1 ≤ 93) (h3 : q.1 ≤ 4) : (q.1 = 0 ∨ q.1 = 3) ∧ q.2.2.2 = 4 ∧ (q.2.1 = 89 → q.2.2.1 = 2) ∧ (q.2.1 = 90 → q.2.2.1 = 2) ∧ (q.2.1 = 91 → q.2.2.1 = 3) ∧ (q.2.1 = 92 → q.2.2.1 = 1) ∧ (q.2.1 = 93 → q.2.2.1 = 1) := by
  have hm := lk_mem h
  rcases Nat.lt_or_ge w 12 with z | z
  · exact tb_row w z _ hm h1 h2 h3
  · rw [(mL_out w z).2.1] at hm; cases hm
theorem tb_x {w n : Nat} {q : Nat × Nat} (h : nT w n = some q) (h1 : exT q.1 = true) : q.2 = 6 := by
  have hm := lk_mem h
  rcases Nat.lt_or_ge w 12 with z | z
  · exact tb_exc w z _ hm h1
  · rw [(mL_out w z).2.2] at hm; cases hm
theorem tb_f {w n : Nat} {q : Nat × Nat × Nat × Bool} (h : fT w n = some q) : q.1 ≤ 10 ∧ q.1 ≠ 0 := by
  have hm := lk_mem h
  rcases Nat.lt_or_ge w 12 with z | z
  · exact tb_cls w z _ hm
  · rw [(mL_out w z).1] at hm; cases hm
section
variable {b sw : Bool} {σ : SG} {h : AH} {d k pc : Nat} {L L0 : LO} {S : List Value} {r : (Nat × LO × List Value × SG) ⊕ (OU × SG) ⊕ (Nat × List Value × Nat × LO × List Value × SG)}
theorem rs_nx {i : Instr} {S0 : List Value} {pc' : Nat} {L1 : LO} {S1 : List Value} {h' : AH} (hc : codeAt k pc = some i) (hn : nrm (livAt k pc) L0 = L) (e : ex d k i pc L S0 h = nx pc' L1 S1 h') : ev d k pc L0 S0 h = ev d k pc' L1 S1 h' := by rw [ev_at hc hn, e]; rfl
theorem rs_fin {i : Instr} {S0 : List Value} {o : OU} {h' : AH} (hc : codeAt k pc = some i) (hn : nrm (livAt k pc) L0 = L) (e : ex d k i pc L S0 h = fin o h') : ev d k pc L0 S0 h = some (o, h') := by rw [ev_at hc hn, e]; rfl
/-- reads -/
theorem rp_T (hp : Rep b sw σ h) {a c : Nat} (ht : tgS a = c) (hc : c ≤ 30) : hT h (pr sw a) = c := by
  obtain ⟨e, cel, r1, -⟩ := hp
  rw [r1 a (by unfold tgK; rw [ht]; exact Nat.ble_eq_true_of_le hc), ht]
theorem pl_o {a c : Nat} (ht : tgS a = c) (hc : c ≤ 10) (h4 : c ≠ 4) : isPl a = true := by
  unfold isPl
  rw [ht, Nat.ble_eq_true_of_le hc]
  cases hb : Nat.beq c 4 with
  | true => exact absurd (Nat.eq_of_beq_eq_true hb) h4
  | false => rfl
theorem pl_a {a c : Nat} (ht : tgS a = c) (hc : 20 ≤ c) (h3 : c ≤ 23) (h1 : a ≠ 1) : isPl a = true := by
  unfold isPl
  rw [ht, Nat.ble_eq_true_of_le hc, Nat.ble_eq_true_of_le h3]
  cases hb : Nat.beq a 1 with
  | true => exact absurd (Nat.eq_of_beq_eq_true hb) h1
  | false => simp
theorem gI_r (hp : Rep b sw σ h) {a c f : Nat} {x : Int32} (hc : c ≤ 10) (hx : gIS σ a c f = some x) : gI h (pr sw a) c f = some x := by
  obtain ⟨ht, hx⟩ := bif_some hx
  have ht := Nat.eq_of_beq_eq_true ht
  unfold gI
  rw [if_pos (rp_T hp ht (by omega))]
  cases h4 : Nat.beq c 4 with
  | true =>
    rw [h4] at hx
    have hx : (bif Nat.beq f 1 then some (Int32.ofNat (sW σ a).length) else none) = some x := hx
    obtain ⟨hf, hx⟩ := bif_some hx
    have hc4 := Nat.eq_of_beq_eq_true h4
    have ha : a ∈ rowIds := tg_row a (tgK_lt (by unfold tgK; rw [ht]; exact Nat.ble_eq_true_of_le (by omega))) (by rw [ht, hc4])
    obtain ⟨e, cel, -, -, -, -, -, r6, -⟩ := hp
    rw [Nat.eq_of_beq_eq_true hf, (r6 a ha).2.2.2.2.1]
    exact hx
  | false =>
    rw [h4] at hx
    have hx : some (sF σ a f) = some x := hx
    obtain ⟨e, cel, -, -, r3, -⟩ := hp
    rw [(r3 a (pl_o ht hc (fun z => by rw [z] at h4; cases h4))).1]
    exact hx
theorem gJ_r (hp : Rep b sw σ h) {a c f : Nat} {x : Int64} (hc : c ≤ 10) (h4 : c ≠ 4) (hx : gJS σ a c f = some x) : gL h (pr sw a) c f = some x := by
  obtain ⟨ht, hx⟩ := bif_some hx
  have ht := Nat.eq_of_beq_eq_true ht
  unfold gL
  rw [if_pos (rp_T hp ht (by omega))]
  obtain ⟨e, cel, -, -, r3, -⟩ := hp
  rw [(r3 a (pl_o ht hc h4)).2]
  exact hx
theorem gR_r (hp : Rep b sw σ h) {a c f v : Nat} (hc : c ≤ 10) (hx : gRS b a c f = some v) : gR h (pr sw a) c f = some (pr sw v) := by
  obtain ⟨ht, hx⟩ := bif_some hx
  have ht := Nat.eq_of_beq_eq_true ht
  unfold gR
  rw [if_pos (rp_T hp ht (by omega))]
  obtain ⟨e, cel, -, -, -, r4, -⟩ := hp
  rw [r4 a f v hx]
  rfl
theorem pI_r (hp : Rep b sw σ h) {a c f : Nat} {x : Int32} {σ' : SG} (hc : c ≤ 10) (hx : pIS σ a c f x = some σ') : ∃ h', pI h (pr sw a) c f x = some h' ∧ Rep b sw σ' h' := by
  obtain ⟨ht, hx⟩ := bif_some hx
  have ht := Nat.eq_of_beq_eq_true ht
  cases h4 : Nat.beq c 4 with
  | true =>
    rw [h4] at hx
    have hx : (bif Nat.beq f 1 then pSz σ a x else none) = some σ' := hx
    obtain ⟨hf, hx⟩ := bif_some hx
    have hc4 := Nat.eq_of_beq_eq_true h4
    have ha : a ∈ rowIds := tg_row a (tgK_lt (by unfold tgK; rw [ht]; exact Nat.ble_eq_true_of_le (by omega))) (by rw [ht, hc4])
    obtain ⟨z1, z2⟩ := rep_sz hp ha hx
    rw [hc4, Nat.eq_of_beq_eq_true hf]
    exact ⟨_, z1, z2⟩
  | false =>
    rw [h4] at hx
    have hx : some (uF σ a f x) = some σ' := hx
    cases hx
    refine ⟨_, ?_, rep_uF (pl_o ht hc (fun z => by rw [z] at h4; cases h4)) hp⟩
    unfold pI
    rw [if_pos (rp_T hp ht (by omega))]
theorem pZ_r (hp : Rep b sw σ h) {a c f : Nat} {x : Int32} {σ' : SG} (hc : c ≤ 10) (hx : pZS σ a c f x = some σ') : ∃ h', pZ h (pr sw a) c f x = some h' ∧ Rep b sw σ' h' := by
  obtain ⟨ht, hx⟩ := bif_some hx
  rw [Bool.and_eq_true] at ht
  have h4 : c ≠ 4 := fun z => by have := ht.2; rw [z] at this; cases this
  have ht := Nat.eq_of_beq_eq_true ht.1
  obtain ⟨hz, rfl⟩ := if_some hx
  refine ⟨_, ?_, rep_uF (pl_o ht hc h4) hp⟩
  unfold pZ
  rw [if_pos ⟨rp_T hp ht (by omega), hz⟩]
theorem pJ_r (hp : Rep b sw σ h) {a c f : Nat} {x : Int64} {σ' : SG} (hc : c ≤ 10) (h4 : c ≠ 4) (hx : pJS σ a c f x = some σ') : ∃ h', pL h (pr sw a) c f x = some h' ∧ Rep b sw σ' h' := by
  obtain ⟨ht, hx⟩ := bif_some hx
  have ht := Nat.eq_of_beq_eq_true ht
  cases hx
  refine ⟨_, ?_, rep_uJ (pl_o ht hc h4) hp⟩
  unfold pL
  rw [if_pos (rp_T hp ht (by omega))]
theorem rp_N (hp : Rep b sw σ h) {a : Nat} (h1 : 20 ≤ tgS a) (h2 : tgS a ≤ 23) : hN h (pr sw a) = lnS a := by
  obtain ⟨e, cel, -, r2, -⟩ := hp
  exact r2 a (by rw [Nat.ble_eq_true_of_le h1, Nat.ble_eq_true_of_le h2]; rfl)
theorem pr_K0 {a : Nat} (h : 26 ≤ a) : K0 ≤ pr sw a := by
  rcases Nat.lt_or_ge a 40 with y | y
  · rw [pr_lo y]; exact h
  · have := pr_hi (sw := sw) y
    have h0 : K0 = 26 := rfl
    omega
theorem tg_lo : ∀ a, a < 26 → a ≠ 1 → ¬ (20 ≤ tgS a ∧ tgS a ≤ 23) := by decide +kernel
theorem tg_one {a c : Nat} (ht : tgS a = c) (h1 : 20 ≤ c) (h2 : c ≤ 23) (hne : a ≠ 1) : 26 ≤ a := by
  rcases Nat.lt_or_ge a 26 with y | y
  · exact absurd ⟨by omega, by omega⟩ (tg_lo a y hne)
  · exact y
theorem aI_r (hp : Rep b sw σ h) {a : Nat} {i x : Int32} (hx : aIS σ a i = some x) : aI h (pr sw a) i = some x := by
  obtain ⟨ht, hx⟩ := bif_some hx
  have ht := Nat.eq_of_beq_eq_true ht
  obtain ⟨hi, rfl⟩ := if_some hx
  have hne : a ≠ 1 := fun z => by rw [z] at ht; cases ht
  unfold aI
  rw [if_pos ⟨rp_T hp ht (by decide), by rw [rp_N hp (by omega) (by omega)]; exact hi⟩]
  obtain ⟨e, cel, -, -, r3, -⟩ := hp
  rw [(r3 a (pl_a ht (by decide) (by decide) hne)).1]
theorem aL_r (hp : Rep b sw σ h) {a : Nat} {i : Int32} {x : Int64} (hx : aJS σ a i = some x) : aL h (pr sw a) i = some x := by
  obtain ⟨ht, hx⟩ := bif_some hx
  have ht := Nat.eq_of_beq_eq_true ht
  obtain ⟨hi, rfl⟩ := if_some hx
  have hne : a ≠ 1 := fun z => by rw [z] at ht; cases ht
  unfold aL
  rw [if_pos ⟨rp_T hp ht (by decide), by rw [rp_N hp (by omega) (by omega)]; exact hi⟩]
  obtain ⟨e, cel, -, -, r3, -⟩ := hp
  rw [(r3 a (pl_a ht (by decide) (by decide) hne)).2]
theorem aB_r (hp : Rep b sw σ h) {a : Nat} {i x : Int32} (hx : aBS σ a i = some x) : aB h (pr sw a) i = some x := by
  unfold aBS at hx
  cases h1 : Nat.beq a 1 with
  | true =>
    rw [h1] at hx
    have hx : (if ixN i 113 = true then some (wdB.getD i.toNatClampNeg 0) else none) = some x := hx
    have ha := Nat.eq_of_beq_eq_true h1
    subst ha
    obtain ⟨hi, rfl⟩ := if_some hx
    have hT1 : hT h (pr sw 1) = 21 := rp_T hp rfl (by decide)
    have hN1 : hN h (pr sw 1) = 113 := rp_N hp (by decide) (by decide)
    unfold aB
    rw [if_pos ⟨Or.inl hT1, by rw [hN1]; exact hi⟩]
    obtain ⟨e, cel, -, -, -, -, ⟨s1, -⟩, -⟩ := hp
    rw [pr_lo (by decide), s1]
  | false =>
    rw [h1] at hx
    have hx : (bif Nat.beq (tgS a) 21 || Nat.beq (tgS a) 23 then (if ixN i (lnS a) = true then some (sF σ a i.toNatClampNeg) else none) else none) = some x := hx
    obtain ⟨ht, hx⟩ := bif_some hx
    have ht : tgS a = 21 ∨ tgS a = 23 := by
      rcases Bool.or_eq_true_iff.mp ht with z | z
      · exact Or.inl (Nat.eq_of_beq_eq_true z)
      · exact Or.inr (Nat.eq_of_beq_eq_true z)
    obtain ⟨hi, rfl⟩ := if_some hx
    have hne : a ≠ 1 := fun z => by rw [z] at h1; cases h1
    unfold aB
    have hT1 : hT h (pr sw a) = 21 ∨ hT h (pr sw a) = 23 := by
      rcases ht with z | z
      · exact Or.inl (rp_T hp z (by decide))
      · exact Or.inr (rp_T hp z (by decide))
    rw [if_pos ⟨hT1, by rw [rp_N hp (by omega) (by omega)]; exact hi⟩]
    obtain ⟨e, cel, -, -, r3, -⟩ := hp
    rw [(r3 a (by rcases ht with z | z; exact pl_a z (by decide) (by decide) hne; exact pl_a z (by decide) (by decide) hne)).1]
theorem bI_r (hp : Rep b sw σ h) {a : Nat} {i x : Int32} {σ' : SG} (hx : bIS σ a i x = some σ') : ∃ h', bI h (pr sw a) i x = some h' ∧ Rep b sw σ' h' := by
  obtain ⟨ht, hx⟩ := bif_some hx
  have ht := Nat.eq_of_beq_eq_true ht
  obtain ⟨hi, rfl⟩ := if_some hx
  have hne : a ≠ 1 := fun z => by rw [z] at ht; cases ht
  refine ⟨_, ?_, rep_uF (pl_a ht (by decide) (by decide) hne) hp⟩
  unfold bI
  rw [if_pos ⟨pr_K0 (tg_one ht (by decide) (by decide) hne), rp_T hp ht (by decide), by rw [rp_N hp (by omega) (by omega)]; exact hi⟩]
theorem bL_r (hp : Rep b sw σ h) {a : Nat} {i : Int32} {x : Int64} {σ' : SG} (hx : bJS σ a i x = some σ') : ∃ h', bL h (pr sw a) i x = some h' ∧ Rep b sw σ' h' := by
  obtain ⟨ht, hx⟩ := bif_some hx
  have ht := Nat.eq_of_beq_eq_true ht
  obtain ⟨hi, rfl⟩ := if_some hx
  have hne : a ≠ 1 := fun z => by rw [z] at ht; cases ht
  refine ⟨_, ?_, rep_uJ (pl_a ht (by decide) (by decide) hne) hp⟩
  unfold bL
  rw [if_pos ⟨pr_K0 (tg_one ht (by decide) (by decide) hne), rp_T hp ht (by decide), by rw [rp_N hp (by omega) (by omega)]; exact hi⟩]
theorem bB_r (hp : Rep b sw σ h) {a : Nat} {i x : Int32} {σ' : SG} (hx : bBS σ a i x = some σ') : ∃ h', bB h (pr sw a) i x = some h' ∧ Rep b sw σ' h' := by
  unfold bBS at hx
  cases h1 : Nat.beq a 1 with
  | true => rw [h1] at hx; cases hx
  | false =>
    rw [h1] at hx
    have hne : a ≠ 1 := fun z => by rw [z] at h1; cases h1
    have hx : (bif Nat.beq (tgS a) 21 then (if ixN i (lnS a) = true then some (uF σ a i.toNatClampNeg x.toInt8.toInt32) else none) else bif Nat.beq (tgS a) 23 then (if ixN i (lnS a) = true ∧ (x = 0 ∨ x = 1) then some (uF σ a i.toNatClampNeg x) else none) else none) = some σ' := hx
    cases h21 : Nat.beq (tgS a) 21 with
    | true =>
      rw [h21] at hx
      have ht := Nat.eq_of_beq_eq_true h21
      have hx : (if ixN i (lnS a) = true then some (uF σ a i.toNatClampNeg x.toInt8.toInt32) else none) = some σ' := hx
      obtain ⟨hi, rfl⟩ := if_some hx
      refine ⟨_, ?_, rep_uF (pl_a ht (by decide) (by decide) hne) hp⟩
      unfold bB
      rw [if_pos ⟨pr_K0 (tg_one ht (by decide) (by decide) hne), by rw [rp_N hp (by omega) (by omega)]; exact hi⟩, if_pos (rp_T hp ht (by decide))]
    | false =>
      rw [h21] at hx
      have hx : (bif Nat.beq (tgS a) 23 then (if ixN i (lnS a) = true ∧ (x = 0 ∨ x = 1) then some (uF σ a i.toNatClampNeg x) else none) else none) = some σ' := hx
      obtain ⟨ht, hx⟩ := bif_some hx
      have ht := Nat.eq_of_beq_eq_true ht
      obtain ⟨⟨hi, hz⟩, rfl⟩ := if_some hx
      refine ⟨_, ?_, rep_uF (pl_a ht (by decide) (by decide) hne) hp⟩
      unfold bB
      have hT1 := rp_T hp ht (by decide)
      rw [if_pos ⟨pr_K0 (tg_one ht (by decide) (by decide) hne), by rw [rp_N hp (by omega) (by omega)]; exact hi⟩, if_neg (by rw [hT1]; decide), if_pos ⟨hT1, hz⟩]
theorem aN_r (hp : Rep b sw σ h) {a : Nat} {x : Int32} (hx : aNS a = some x) : aN h (pr sw a) = some x := by
  unfold aNS at hx
  cases h1 : (Nat.ble 20 (tgS a) && Nat.ble (tgS a) 23) with
  | true =>
    rw [h1] at hx
    have hx : some (Int32.ofNat (lnS a)) = some x := hx
    rw [Bool.and_eq_true] at h1
    have g1 := Nat.le_of_ble_eq_true h1.1
    have g2 := Nat.le_of_ble_eq_true h1.2
    have hT1 := rp_T hp (c := tgS a) rfl (by omega)
    unfold aN
    rw [if_pos (by rw [hT1]; omega), rp_N hp g1 g2]
    exact hx
  | false =>
    rw [h1] at hx
    have hx : (bif Nat.beq a 28 then some (18 : Int32) else none) = some x := hx
    obtain ⟨ha, hx⟩ := bif_some hx
    rw [Nat.eq_of_beq_eq_true ha]
    have hT1 : hT h (pr sw 28) = 24 := rp_T hp rfl (by decide)
    unfold aN
    rw [if_pos (by rw [hT1]; decide)]
    obtain ⟨e, cel, -, -, -, -, ⟨-, -, s3, -⟩, -⟩ := hp
    rw [pr_lo (by decide), s3]
    exact hx
theorem aR_r (hp : Rep b sw σ h) {a v : Nat} {i : Int32} (hx : aRS a i = some v) : aR h (pr sw a) i = some (pr sw v) := by
  obtain ⟨ha, hx⟩ := bif_some hx
  obtain ⟨hi, rfl⟩ := if_some hx
  rw [Nat.eq_of_beq_eq_true ha]
  have hT1 : hT h (pr sw 28) = 24 := rp_T hp rfl (by decide)
  obtain ⟨e, cel, -, -, -, -, ⟨-, -, s3, s4⟩, -⟩ := hp
  rw [pr_lo (by decide)] at hT1 ⊢
  have hj : i.toNatClampNeg < 18 := by
    unfold ixN at hi
    rw [Bool.and_eq_true, decide_eq_true_iff, decide_eq_true_iff] at hi
    exact hi.2
  unfold aR
  rw [if_pos ⟨hT1, by rw [s3]; exact hi⟩, s4 _ hj, pr_lo (by omega)]; rfl
theorem stL_r (hp : Rep b sw σ h) {a : Nat} {x : Int32} (hx : stLS a = some x) : stL h (pr sw a) = some x := by
  have ha : 2 ≤ a ∧ a ≤ 25 ∧ x = Int32.ofNat (stLn.getD (a - 2) 0) := by
    unfold stLS at hx
    cases h1 : Nat.beq (tgS a) 30 with
    | true =>
      rw [h1] at hx
      have hx : some (Int32.ofNat (stLn.getD (a - 2) 0)) = some x := hx
      have ht := Nat.eq_of_beq_eq_true h1
      have hk : ∀ a, a < 207 → tgS a = 30 → 2 ≤ a ∧ a ≤ 25 := by decide +kernel
      have := hk a (tgK_lt (by unfold tgK; rw [ht]; rfl)) ht
      exact ⟨this.1, this.2, (Option.some.inj hx).symm⟩
    | false =>
      rw [h1] at hx
      have hx : (bif Nat.ble 2 a && Nat.ble a 25 then some (Int32.ofNat (stLn.getD (a - 2) 0)) else none) = some x := hx
      obtain ⟨hz, hx⟩ := bif_some hx
      rw [Bool.and_eq_true] at hz
      exact ⟨Nat.le_of_ble_eq_true hz.1, Nat.le_of_ble_eq_true hz.2, (Option.some.inj hx).symm⟩
  obtain ⟨a1, a2, rfl⟩ := ha
  have hk : ∀ a, a < 26 → 2 ≤ a → tgS a = 30 := by decide +kernel
  have hT1 := rp_T hp (hk a (by omega) a1) (by decide)
  obtain ⟨e, cel, -, -, -, -, ⟨-, s2, -⟩, -⟩ := hp
  rw [pr_lo (by omega)] at hT1 ⊢
  unfold stL
  rw [if_pos ⟨hT1, by have : K0 = 26 := rfl; omega⟩, (s2 a a1 (by omega)).1]
theorem stC_r (hp : Rep b sw σ h) {a : Nat} {i x : Int32} (hx : stCS a i = some x) : stC h (pr sw a) i = some x := by
  obtain ⟨hz, hx⟩ := bif_some hx
  rw [Bool.and_eq_true] at hz
  have a1 := Nat.le_of_ble_eq_true hz.1
  have a2 := Nat.le_of_ble_eq_true hz.2
  obtain ⟨hi, rfl⟩ := if_some hx
  have hk : ∀ a, a < 26 → 2 ≤ a → tgS a = 30 := by decide +kernel
  have hT1 := rp_T hp (hk a (by omega) a1) (by decide)
  obtain ⟨e, cel, -, -, -, -, ⟨-, s2, -⟩, -⟩ := hp
  rw [pr_lo (by omega)] at hT1 ⊢
  unfold stC
  rw [if_pos ⟨hT1, by have : K0 = 26 := rfl; omega, by rw [(s2 a a1 (by omega)).1]; exact hi⟩, (s2 a a1 (by omega)).2]
theorem rt_iadd (hn : nrm (livAt k pc) L0 = lM (pr sw) L) (hp : Rep b sw σ h)  (hc : codeAt k pc = some (.iadd)) (he : exS b d k (.iadd) pc L S σ = some r) : Res b sw d k pc L0 (S.map (vM (pr sw))) h r := by
  obtain ⟨a, b, S', rfl, he⟩ := qIIS_t he
  cases nxS_r he
  exact ⟨h, hp, rs_nx hc hn rfl⟩
theorem rt_isub (hn : nrm (livAt k pc) L0 = lM (pr sw) L) (hp : Rep b sw σ h)  (hc : codeAt k pc = some (.isub)) (he : exS b d k (.isub) pc L S σ = some r) : Res b sw d k pc L0 (S.map (vM (pr sw))) h r := by
  obtain ⟨a, b, S', rfl, he⟩ := qIIS_t he
  cases nxS_r he
  exact ⟨h, hp, rs_nx hc hn rfl⟩
theorem rt_imul (hn : nrm (livAt k pc) L0 = lM (pr sw) L) (hp : Rep b sw σ h)  (hc : codeAt k pc = some (.imul)) (he : exS b d k (.imul) pc L S σ = some r) : Res b sw d k pc L0 (S.map (vM (pr sw))) h r := by
  obtain ⟨a, b, S', rfl, he⟩ := qIIS_t he
  cases nxS_r he
  exact ⟨h, hp, rs_nx hc hn rfl⟩
theorem rt_iand (hn : nrm (livAt k pc) L0 = lM (pr sw) L) (hp : Rep b sw σ h)  (hc : codeAt k pc = some (.iand)) (he : exS b d k (.iand) pc L S σ = some r) : Res b sw d k pc L0 (S.map (vM (pr sw))) h r := by
  obtain ⟨a, b, S', rfl, he⟩ := qIIS_t he
  cases nxS_r he
  exact ⟨h, hp, rs_nx hc hn rfl⟩
theorem rt_ior (hn : nrm (livAt k pc) L0 = lM (pr sw) L) (hp : Rep b sw σ h)  (hc : codeAt k pc = some (.ior)) (he : exS b d k (.ior) pc L S σ = some r) : Res b sw d k pc L0 (S.map (vM (pr sw))) h r := by
  obtain ⟨a, b, S', rfl, he⟩ := qIIS_t he
  cases nxS_r he
  exact ⟨h, hp, rs_nx hc hn rfl⟩
theorem rt_ixor (hn : nrm (livAt k pc) L0 = lM (pr sw) L) (hp : Rep b sw σ h)  (hc : codeAt k pc = some (.ixor)) (he : exS b d k (.ixor) pc L S σ = some r) : Res b sw d k pc L0 (S.map (vM (pr sw))) h r := by
  obtain ⟨a, b, S', rfl, he⟩ := qIIS_t he
  cases nxS_r he
  exact ⟨h, hp, rs_nx hc hn rfl⟩
theorem rt_ishl (hn : nrm (livAt k pc) L0 = lM (pr sw) L) (hp : Rep b sw σ h)  (hc : codeAt k pc = some (.ishl)) (he : exS b d k (.ishl) pc L S σ = some r) : Res b sw d k pc L0 (S.map (vM (pr sw))) h r := by
  obtain ⟨a, b, S', rfl, he⟩ := qIIS_t he
  cases nxS_r he
  exact ⟨h, hp, rs_nx hc hn rfl⟩
theorem rt_ishr (hn : nrm (livAt k pc) L0 = lM (pr sw) L) (hp : Rep b sw σ h)  (hc : codeAt k pc = some (.ishr)) (he : exS b d k (.ishr) pc L S σ = some r) : Res b sw d k pc L0 (S.map (vM (pr sw))) h r := by
  obtain ⟨a, b, S', rfl, he⟩ := qIIS_t he
  cases nxS_r he
  exact ⟨h, hp, rs_nx hc hn rfl⟩
theorem rt_idiv (hn : nrm (livAt k pc) L0 = lM (pr sw) L) (hp : Rep b sw σ h)  (hc : codeAt k pc = some (.idiv)) (he : exS b d k (.idiv) pc L S σ = some r) : Res b sw d k pc L0 (S.map (vM (pr sw))) h r := by
  obtain ⟨a, b', S', rfl, he⟩ := qIIS_t he
  have he : (if b' = 0 then none else nxS (pc + 1) L (.int (a / b') :: S') σ) = some r := he
  by_cases hb : b' = 0
  · rw [if_pos hb] at he; cases he
  · rw [if_neg hb] at he
    cases nxS_r he
    refine ⟨h, hp, rs_nx hc hn ?_⟩
    show (if b' = 0 then none else nx (pc + 1) (lM (pr sw) L) (.int (a / b') :: S'.map (vM (pr sw))) h) = _
    rw [if_neg hb]; rfl
theorem rt_irem (hn : nrm (livAt k pc) L0 = lM (pr sw) L) (hp : Rep b sw σ h)  (hc : codeAt k pc = some (.irem)) (he : exS b d k (.irem) pc L S σ = some r) : Res b sw d k pc L0 (S.map (vM (pr sw))) h r := by
  obtain ⟨a, b', S', rfl, he⟩ := qIIS_t he
  have he : (if b' = 0 then none else nxS (pc + 1) L (.int (a - a / b' * b') :: S') σ) = some r := he
  by_cases hb : b' = 0
  · rw [if_pos hb] at he; cases he
  · rw [if_neg hb] at he
    cases nxS_r he
    refine ⟨h, hp, rs_nx hc hn ?_⟩
    show (if b' = 0 then none else nx (pc + 1) (lM (pr sw) L) (.int (a - a / b' * b') :: S'.map (vM (pr sw))) h) = _
    rw [if_neg hb]; rfl
theorem rt_ladd (hn : nrm (livAt k pc) L0 = lM (pr sw) L) (hp : Rep b sw σ h)  (hc : codeAt k pc = some (.ladd)) (he : exS b d k (.ladd) pc L S σ = some r) : Res b sw d k pc L0 (S.map (vM (pr sw))) h r := by
  obtain ⟨a, b, S', rfl, he⟩ := qJJS_t he
  cases nxS_r he
  exact ⟨h, hp, rs_nx hc hn rfl⟩
theorem rt_lsub (hn : nrm (livAt k pc) L0 = lM (pr sw) L) (hp : Rep b sw σ h)  (hc : codeAt k pc = some (.lsub)) (he : exS b d k (.lsub) pc L S σ = some r) : Res b sw d k pc L0 (S.map (vM (pr sw))) h r := by
  obtain ⟨a, b, S', rfl, he⟩ := qJJS_t he
  cases nxS_r he
  exact ⟨h, hp, rs_nx hc hn rfl⟩
theorem rt_lmul (hn : nrm (livAt k pc) L0 = lM (pr sw) L) (hp : Rep b sw σ h)  (hc : codeAt k pc = some (.lmul)) (he : exS b d k (.lmul) pc L S σ = some r) : Res b sw d k pc L0 (S.map (vM (pr sw))) h r := by
  obtain ⟨a, b, S', rfl, he⟩ := qJJS_t he
  cases nxS_r he
  exact ⟨h, hp, rs_nx hc hn rfl⟩
theorem rt_land (hn : nrm (livAt k pc) L0 = lM (pr sw) L) (hp : Rep b sw σ h)  (hc : codeAt k pc = some (.land)) (he : exS b d k (.land) pc L S σ = some r) : Res b sw d k pc L0 (S.map (vM (pr sw))) h r := by
  obtain ⟨a, b, S', rfl, he⟩ := qJJS_t he
  cases nxS_r he
  exact ⟨h, hp, rs_nx hc hn rfl⟩
theorem rt_lor (hn : nrm (livAt k pc) L0 = lM (pr sw) L) (hp : Rep b sw σ h)  (hc : codeAt k pc = some (.lor)) (he : exS b d k (.lor) pc L S σ = some r) : Res b sw d k pc L0 (S.map (vM (pr sw))) h r := by
  obtain ⟨a, b, S', rfl, he⟩ := qJJS_t he
  cases nxS_r he
  exact ⟨h, hp, rs_nx hc hn rfl⟩
theorem rt_lxor (hn : nrm (livAt k pc) L0 = lM (pr sw) L) (hp : Rep b sw σ h)  (hc : codeAt k pc = some (.lxor)) (he : exS b d k (.lxor) pc L S σ = some r) : Res b sw d k pc L0 (S.map (vM (pr sw))) h r := by
  obtain ⟨a, b, S', rfl, he⟩ := qJJS_t he
  cases nxS_r he
  exact ⟨h, hp, rs_nx hc hn rfl⟩
theorem rt_lcmp (hn : nrm (livAt k pc) L0 = lM (pr sw) L) (hp : Rep b sw σ h)  (hc : codeAt k pc = some (.lcmp)) (he : exS b d k (.lcmp) pc L S σ = some r) : Res b sw d k pc L0 (S.map (vM (pr sw))) h r := by
  obtain ⟨a, b, S', rfl, he⟩ := qJJS_t he
  cases nxS_r he
  exact ⟨h, hp, rs_nx hc hn rfl⟩
theorem rt_lshl (hn : nrm (livAt k pc) L0 = lM (pr sw) L) (hp : Rep b sw σ h)  (hc : codeAt k pc = some (.lshl)) (he : exS b d k (.lshl) pc L S σ = some r) : Res b sw d k pc L0 (S.map (vM (pr sw))) h r := by
  obtain ⟨a, b, S', rfl, he⟩ := qJIS_t he
  cases nxS_r he
  exact ⟨h, hp, rs_nx hc hn rfl⟩
theorem rt_lshr (hn : nrm (livAt k pc) L0 = lM (pr sw) L) (hp : Rep b sw σ h)  (hc : codeAt k pc = some (.lshr)) (he : exS b d k (.lshr) pc L S σ = some r) : Res b sw d k pc L0 (S.map (vM (pr sw))) h r := by
  obtain ⟨a, b, S', rfl, he⟩ := qJIS_t he
  cases nxS_r he
  exact ⟨h, hp, rs_nx hc hn rfl⟩
theorem rt_lushr (hn : nrm (livAt k pc) L0 = lM (pr sw) L) (hp : Rep b sw σ h)  (hc : codeAt k pc = some (.lushr)) (he : exS b d k (.lushr) pc L S σ = some r) : Res b sw d k pc L0 (S.map (vM (pr sw))) h r := by
  obtain ⟨a, b, S', rfl, he⟩ := qJIS_t he
  cases nxS_r he
  exact ⟨h, hp, rs_nx hc hn rfl⟩
theorem rt_lneg (hn : nrm (livAt k pc) L0 = lM (pr sw) L) (hp : Rep b sw σ h)  (hc : codeAt k pc = some (.lneg)) (he : exS b d k (.lneg) pc L S σ = some r) : Res b sw d k pc L0 (S.map (vM (pr sw))) h r := by
  obtain ⟨a, S', rfl, he⟩ := qJS_t he
  cases nxS_r he
  exact ⟨h, hp, rs_nx hc hn rfl⟩
theorem rt_l2i (hn : nrm (livAt k pc) L0 = lM (pr sw) L) (hp : Rep b sw σ h)  (hc : codeAt k pc = some (.l2i)) (he : exS b d k (.l2i) pc L S σ = some r) : Res b sw d k pc L0 (S.map (vM (pr sw))) h r := by
  obtain ⟨a, S', rfl, he⟩ := qJS_t he
  cases nxS_r he
  exact ⟨h, hp, rs_nx hc hn rfl⟩
theorem rt_pop2 (hn : nrm (livAt k pc) L0 = lM (pr sw) L) (hp : Rep b sw σ h)  (hc : codeAt k pc = some (.pop2)) (he : exS b d k (.pop2) pc L S σ = some r) : Res b sw d k pc L0 (S.map (vM (pr sw))) h r := by
  obtain ⟨a, S', rfl, he⟩ := qJS_t he
  cases nxS_r he
  exact ⟨h, hp, rs_nx hc hn rfl⟩
theorem rt_i2l (hn : nrm (livAt k pc) L0 = lM (pr sw) L) (hp : Rep b sw σ h)  (hc : codeAt k pc = some (.i2l)) (he : exS b d k (.i2l) pc L S σ = some r) : Res b sw d k pc L0 (S.map (vM (pr sw))) h r := by
  obtain ⟨a, S', rfl, he⟩ := qIS_t he
  cases nxS_r he
  exact ⟨h, hp, rs_nx hc hn rfl⟩
theorem rt_i2b (hn : nrm (livAt k pc) L0 = lM (pr sw) L) (hp : Rep b sw σ h)  (hc : codeAt k pc = some (.i2b)) (he : exS b d k (.i2b) pc L S σ = some r) : Res b sw d k pc L0 (S.map (vM (pr sw))) h r := by
  obtain ⟨a, S', rfl, he⟩ := qIS_t he
  cases nxS_r he
  exact ⟨h, hp, rs_nx hc hn rfl⟩
theorem rt_iconst (hn : nrm (livAt k pc) L0 = lM (pr sw) L) (hp : Rep b sw σ h) {n : Int} (hc : codeAt k pc = some (.iconst n)) (he : exS b d k (.iconst n) pc L S σ = some r) : Res b sw d k pc L0 (S.map (vM (pr sw))) h r := by
  cases nxS_r he
  exact ⟨h, hp, rs_nx hc hn rfl⟩
theorem rt_bipush (hn : nrm (livAt k pc) L0 = lM (pr sw) L) (hp : Rep b sw σ h) {n : Int} (hc : codeAt k pc = some (.bipush n)) (he : exS b d k (.bipush n) pc L S σ = some r) : Res b sw d k pc L0 (S.map (vM (pr sw))) h r := by
  cases nxS_r he
  exact ⟨h, hp, rs_nx hc hn rfl⟩
theorem rt_sipush (hn : nrm (livAt k pc) L0 = lM (pr sw) L) (hp : Rep b sw σ h) {n : Int} (hc : codeAt k pc = some (.sipush n)) (he : exS b d k (.sipush n) pc L S σ = some r) : Res b sw d k pc L0 (S.map (vM (pr sw))) h r := by
  cases nxS_r he
  exact ⟨h, hp, rs_nx hc hn rfl⟩
theorem rt_lconst (hn : nrm (livAt k pc) L0 = lM (pr sw) L) (hp : Rep b sw σ h) {n : Fin 2} (hc : codeAt k pc = some (.lconst n)) (he : exS b d k (.lconst n) pc L S σ = some r) : Res b sw d k pc L0 (S.map (vM (pr sw))) h r := by
  cases nxS_r he
  exact ⟨h, hp, rs_nx hc hn rfl⟩
theorem rt_dup (hn : nrm (livAt k pc) L0 = lM (pr sw) L) (hp : Rep b sw σ h)  (hc : codeAt k pc = some (.dup)) (he : exS b d k (.dup) pc L S σ = some r) : Res b sw d k pc L0 (S.map (vM (pr sw))) h r := by
  obtain ⟨v, S', rfl, he⟩ := q1S_t he
  obtain ⟨hv, he⟩ := bif_some he
  cases nxS_r he
  refine ⟨h, hp, rs_nx hc hn ?_⟩
  show (bif Nat.beq (vM (pr sw) v).category 1 then nx (pc + 1) (lM (pr sw) L) (vM (pr sw) v :: vM (pr sw) v :: S'.map (vM (pr sw))) h else none) = _
  rw [vM_cat, hv]; rfl
theorem rt_pop (hn : nrm (livAt k pc) L0 = lM (pr sw) L) (hp : Rep b sw σ h)  (hc : codeAt k pc = some (.pop)) (he : exS b d k (.pop) pc L S σ = some r) : Res b sw d k pc L0 (S.map (vM (pr sw))) h r := by
  obtain ⟨v, S', rfl, he⟩ := q1S_t he
  obtain ⟨hv, he⟩ := bif_some he
  cases nxS_r he
  refine ⟨h, hp, rs_nx hc hn ?_⟩
  show (bif Nat.beq (vM (pr sw) v).category 1 then nx (pc + 1) (lM (pr sw) L) (S'.map (vM (pr sw))) h else none) = _
  rw [vM_cat, hv]; rfl
theorem rt_dup_x1 (hn : nrm (livAt k pc) L0 = lM (pr sw) L) (hp : Rep b sw σ h)  (hc : codeAt k pc = some (.dup_x1)) (he : exS b d k (.dup_x1) pc L S σ = some r) : Res b sw d k pc L0 (S.map (vM (pr sw))) h r := by
  obtain ⟨v, S', rfl, he⟩ := q1S_t he
  obtain ⟨w, S', rfl, he⟩ := q1S_t he
  obtain ⟨hv, he⟩ := bif_some he
  cases nxS_r he
  refine ⟨h, hp, rs_nx hc hn ?_⟩
  show (bif Nat.beq (vM (pr sw) v).category 1 && Nat.beq (vM (pr sw) w).category 1 then nx (pc + 1) (lM (pr sw) L) (vM (pr sw) v :: vM (pr sw) w :: vM (pr sw) v :: S'.map (vM (pr sw))) h else none) = _
  rw [vM_cat, vM_cat, hv]; rfl
theorem rt_iload (hn : nrm (livAt k pc) L0 = lM (pr sw) L) (hp : Rep b sw σ h) {n : Nat} (hc : codeAt k pc = some (.iload n)) (he : exS b d k (.iload n) pc L S σ = some r) : Res b sw d k pc L0 (S.map (vM (pr sw))) h r := by
  obtain ⟨a, hi, he⟩ := lIS_t he
  cases nxS_r he
  refine ⟨h, hp, rs_nx hc hn ?_⟩
  show lI (lM (pr sw) L) n (fun a => nx (pc + 2) (lM (pr sw) L) (.int a :: S.map (vM (pr sw))) h) = _
  unfold lI
  rw [lM_lk hi]
  rfl
theorem rt_iload_n (hn : nrm (livAt k pc) L0 = lM (pr sw) L) (hp : Rep b sw σ h) {n : Fin 4} (hc : codeAt k pc = some (.iload_n n)) (he : exS b d k (.iload_n n) pc L S σ = some r) : Res b sw d k pc L0 (S.map (vM (pr sw))) h r := by
  obtain ⟨a, hi, he⟩ := lIS_t he
  cases nxS_r he
  refine ⟨h, hp, rs_nx hc hn ?_⟩
  show lI (lM (pr sw) L) n.val (fun a => nx (pc + 1) (lM (pr sw) L) (.int a :: S.map (vM (pr sw))) h) = _
  unfold lI
  rw [lM_lk hi]
  rfl
theorem rt_lload (hn : nrm (livAt k pc) L0 = lM (pr sw) L) (hp : Rep b sw σ h) {n : Nat} (hc : codeAt k pc = some (.lload n)) (he : exS b d k (.lload n) pc L S σ = some r) : Res b sw d k pc L0 (S.map (vM (pr sw))) h r := by
  obtain ⟨a, hi, he⟩ := lJS_t he
  cases nxS_r he
  refine ⟨h, hp, rs_nx hc hn ?_⟩
  show lJ (lM (pr sw) L) n (fun a => nx (pc + 2) (lM (pr sw) L) (.long a :: S.map (vM (pr sw))) h) = _
  unfold lJ
  rw [lM_lk hi]
  rfl
theorem rt_lload_n (hn : nrm (livAt k pc) L0 = lM (pr sw) L) (hp : Rep b sw σ h) {n : Fin 4} (hc : codeAt k pc = some (.lload_n n)) (he : exS b d k (.lload_n n) pc L S σ = some r) : Res b sw d k pc L0 (S.map (vM (pr sw))) h r := by
  obtain ⟨a, hi, he⟩ := lJS_t he
  cases nxS_r he
  refine ⟨h, hp, rs_nx hc hn ?_⟩
  show lJ (lM (pr sw) L) n.val (fun a => nx (pc + 1) (lM (pr sw) L) (.long a :: S.map (vM (pr sw))) h) = _
  unfold lJ
  rw [lM_lk hi]
  rfl
theorem rt_aload (hn : nrm (livAt k pc) L0 = lM (pr sw) L) (hp : Rep b sw σ h) {n : Nat} (hc : codeAt k pc = some (.aload n)) (he : exS b d k (.aload n) pc L S σ = some r) : Res b sw d k pc L0 (S.map (vM (pr sw))) h r := by
  obtain ⟨a, hi, he⟩ := lAS_t he
  cases nxS_r he
  refine ⟨h, hp, rs_nx hc hn ?_⟩
  show lA (lM (pr sw) L) n (fun a => nx (pc + 2) (lM (pr sw) L) (.ref a :: S.map (vM (pr sw))) h) = _
  unfold lA
  rw [lM_lk hi]
  rfl
theorem rt_aload_n (hn : nrm (livAt k pc) L0 = lM (pr sw) L) (hp : Rep b sw σ h) {n : Fin 4} (hc : codeAt k pc = some (.aload_n n)) (he : exS b d k (.aload_n n) pc L S σ = some r) : Res b sw d k pc L0 (S.map (vM (pr sw))) h r := by
  obtain ⟨a, hi, he⟩ := lAS_t he
  cases nxS_r he
  refine ⟨h, hp, rs_nx hc hn ?_⟩
  show lA (lM (pr sw) L) n.val (fun a => nx (pc + 1) (lM (pr sw) L) (.ref a :: S.map (vM (pr sw))) h) = _
  unfold lA
  rw [lM_lk hi]
  rfl
theorem rt_istore (hn : nrm (livAt k pc) L0 = lM (pr sw) L) (hp : Rep b sw σ h) {n : Nat} (hc : codeAt k pc = some (.istore n)) (he : exS b d k (.istore n) pc L S σ = some r) : Res b sw d k pc L0 (S.map (vM (pr sw))) h r := by
  obtain ⟨a, S', rfl, he⟩ := qIS_t he
  obtain ⟨hm, he⟩ := bif_some he
  cases nxS_r he
  refine ⟨h, hp, rs_nx hc hn ?_⟩
  rw [← lM_s1]
  show (bif Nat.ble (n + 1) (mxL k) then nx (pc + 2) (st1 (lM (pr sw) L) n (.int a)) (S'.map (vM (pr sw))) h else none) = _
  rw [hm]; rfl
theorem rt_istore_n (hn : nrm (livAt k pc) L0 = lM (pr sw) L) (hp : Rep b sw σ h) {n : Fin 4} (hc : codeAt k pc = some (.istore_n n)) (he : exS b d k (.istore_n n) pc L S σ = some r) : Res b sw d k pc L0 (S.map (vM (pr sw))) h r := by
  obtain ⟨a, S', rfl, he⟩ := qIS_t he
  obtain ⟨hm, he⟩ := bif_some he
  cases nxS_r he
  refine ⟨h, hp, rs_nx hc hn ?_⟩
  rw [← lM_s1]
  show (bif Nat.ble (n.val + 1) (mxL k) then nx (pc + 1) (st1 (lM (pr sw) L) n.val (.int a)) (S'.map (vM (pr sw))) h else none) = _
  rw [hm]; rfl
theorem rt_lstore (hn : nrm (livAt k pc) L0 = lM (pr sw) L) (hp : Rep b sw σ h) {n : Nat} (hc : codeAt k pc = some (.lstore n)) (he : exS b d k (.lstore n) pc L S σ = some r) : Res b sw d k pc L0 (S.map (vM (pr sw))) h r := by
  obtain ⟨a, S', rfl, he⟩ := qJS_t he
  obtain ⟨hm, he⟩ := bif_some he
  cases nxS_r he
  refine ⟨h, hp, rs_nx hc hn ?_⟩
  rw [← lM_s2]
  show (bif Nat.ble (n + 2) (mxL k) then nx (pc + 2) (st2 (lM (pr sw) L) n (.long a)) (S'.map (vM (pr sw))) h else none) = _
  rw [hm]; rfl
theorem rt_lstore_n (hn : nrm (livAt k pc) L0 = lM (pr sw) L) (hp : Rep b sw σ h) {n : Fin 4} (hc : codeAt k pc = some (.lstore_n n)) (he : exS b d k (.lstore_n n) pc L S σ = some r) : Res b sw d k pc L0 (S.map (vM (pr sw))) h r := by
  obtain ⟨a, S', rfl, he⟩ := qJS_t he
  obtain ⟨hm, he⟩ := bif_some he
  cases nxS_r he
  refine ⟨h, hp, rs_nx hc hn ?_⟩
  rw [← lM_s2]
  show (bif Nat.ble (n.val + 2) (mxL k) then nx (pc + 1) (st2 (lM (pr sw) L) n.val (.long a)) (S'.map (vM (pr sw))) h else none) = _
  rw [hm]; rfl
theorem rt_astore (hn : nrm (livAt k pc) L0 = lM (pr sw) L) (hp : Rep b sw σ h) {n : Nat} (hc : codeAt k pc = some (.astore n)) (he : exS b d k (.astore n) pc L S σ = some r) : Res b sw d k pc L0 (S.map (vM (pr sw))) h r := by
  cases S with
  | nil => cases he
  | cons v0 S0 =>
    cases v0 with
    | ref a =>
      obtain ⟨hm, he⟩ := bif_some he
      cases nxS_r he
      refine ⟨h, hp, rs_nx hc hn ?_⟩
      rw [← lM_s1]
      show (bif Nat.ble (n + 1) (mxL k) then nx (pc + 2) (st1 (lM (pr sw) L) n (.ref (pr sw a))) (S0.map (vM (pr sw))) h else none) = _
      rw [hm]; rfl
    | _ => cases he
theorem rt_astore_n (hn : nrm (livAt k pc) L0 = lM (pr sw) L) (hp : Rep b sw σ h) {n : Fin 4} (hc : codeAt k pc = some (.astore_n n)) (he : exS b d k (.astore_n n) pc L S σ = some r) : Res b sw d k pc L0 (S.map (vM (pr sw))) h r := by
  cases S with
  | nil => cases he
  | cons v0 S0 =>
    cases v0 with
    | ref a =>
      obtain ⟨hm, he⟩ := bif_some he
      cases nxS_r he
      refine ⟨h, hp, rs_nx hc hn ?_⟩
      rw [← lM_s1]
      show (bif Nat.ble (n.val + 1) (mxL k) then nx (pc + 1) (st1 (lM (pr sw) L) n.val (.ref (pr sw a))) (S0.map (vM (pr sw))) h else none) = _
      rw [hm]; rfl
    | _ => cases he
theorem rt_iinc (hn : nrm (livAt k pc) L0 = lM (pr sw) L) (hp : Rep b sw σ h) {n : Nat} {c : Int} (hc : codeAt k pc = some (.iinc n c)) (he : exS b d k (.iinc n c) pc L S σ = some r) : Res b sw d k pc L0 (S.map (vM (pr sw))) h r := by
  obtain ⟨a, hi, he⟩ := lIS_t he
  obtain ⟨hm, he⟩ := bif_some he
  cases nxS_r he
  refine ⟨h, hp, rs_nx hc hn ?_⟩
  rw [← lM_s1]
  show lI (lM (pr sw) L) n (fun a => bif Nat.ble (n + 1) (mxL k) then nx (pc + 3) (st1 (lM (pr sw) L) n (.int (a + Int32.ofInt c))) (S.map (vM (pr sw))) h else none) = _
  unfold lI
  rw [lM_lk hi]
  show (bif Nat.ble (n + 1) (mxL k) then nx (pc + 3) (st1 (lM (pr sw) L) n (.int (a + Int32.ofInt c))) (S.map (vM (pr sw))) h else none) = _
  rw [hm]; rfl
theorem rt_goto (hn : nrm (livAt k pc) L0 = lM (pr sw) L) (hp : Rep b sw σ h) {n : Int} (hc : codeAt k pc = some (.goto n)) (he : exS b d k (.goto n) pc L S σ = some r) : Res b sw d k pc L0 (S.map (vM (pr sw))) h r := by
  obtain ⟨t, ht, he⟩ := jpS_t (pc := pc) (o := n) (f := fun t => nxS t L S σ) he
  cases nxS_r he
  exact ⟨h, hp, rs_nx hc hn (jp_to (f := fun t => nx t (lM (pr sw) L) (S.map (vM (pr sw))) h) ht)⟩
theorem rt_if_icmp_eq (hn : nrm (livAt k pc) L0 = lM (pr sw) L) (hp : Rep b sw σ h) {n : Int} (hc : codeAt k pc = some (.if_icmp .eq n)) (he : exS b d k (.if_icmp .eq n) pc L S σ = some r) : Res b sw d k pc L0 (S.map (vM (pr sw))) h r := by
  obtain ⟨a, b', S', rfl, he⟩ := qIIS_t he
  obtain ⟨t, ht, he⟩ := jpS_t (pc := pc) (o := n) (f := fun t => if cndI .eq a b' = true then nxS t L S' σ else nxS (pc + 3) L S' σ) he
  have e1 : ex d k (.if_icmp .eq n) pc (lM (pr sw) L) (.int b' :: .int a :: S'.map (vM (pr sw))) h = if cndI .eq a b' = true then nx t (lM (pr sw) L) (S'.map (vM (pr sw))) h else nx (pc + 3) (lM (pr sw) L) (S'.map (vM (pr sw))) h := jp_to (f := fun t => if cndI .eq a b' = true then nx t (lM (pr sw) L) (S'.map (vM (pr sw))) h else nx (pc + 3) (lM (pr sw) L) (S'.map (vM (pr sw))) h) ht
  by_cases hq : cndI .eq a b' = true
  · rw [if_pos hq] at he e1
    cases nxS_r he
    exact ⟨h, hp, rs_nx hc hn e1⟩
  · rw [if_neg hq] at he e1
    cases nxS_r he
    exact ⟨h, hp, rs_nx hc hn e1⟩
theorem rt_ifCond_eq (hn : nrm (livAt k pc) L0 = lM (pr sw) L) (hp : Rep b sw σ h) {n : Int} (hc : codeAt k pc = some (.ifCond .eq n)) (he : exS b d k (.ifCond .eq n) pc L S σ = some r) : Res b sw d k pc L0 (S.map (vM (pr sw))) h r := by
  obtain ⟨a, S', rfl, he⟩ := qIS_t he
  obtain ⟨t, ht, he⟩ := jpS_t (pc := pc) (o := n) (f := fun t => if cndI .eq a 0 = true then nxS t L S' σ else nxS (pc + 3) L S' σ) he
  have e1 : ex d k (.ifCond .eq n) pc (lM (pr sw) L) (.int a :: S'.map (vM (pr sw))) h = if cndI .eq a 0 = true then nx t (lM (pr sw) L) (S'.map (vM (pr sw))) h else nx (pc + 3) (lM (pr sw) L) (S'.map (vM (pr sw))) h := jp_to (f := fun t => if cndI .eq a 0 = true then nx t (lM (pr sw) L) (S'.map (vM (pr sw))) h else nx (pc + 3) (lM (pr sw) L) (S'.map (vM (pr sw))) h) ht
  by_cases hq : cndI .eq a 0 = true
  · rw [if_pos hq] at he e1
    cases nxS_r he
    exact ⟨h, hp, rs_nx hc hn e1⟩
  · rw [if_neg hq] at he e1
    cases nxS_r he
    exact ⟨h, hp, rs_nx hc hn e1⟩
theorem rt_if_icmp_ne (hn : nrm (livAt k pc) L0 = lM (pr sw) L) (hp : Rep b sw σ h) {n : Int} (hc : codeAt k pc = some (.if_icmp .ne n)) (he : exS b d k (.if_icmp .ne n) pc L S σ = some r) : Res b sw d k pc L0 (S.map (vM (pr sw))) h r := by
  obtain ⟨a, b', S', rfl, he⟩ := qIIS_t he
  obtain ⟨t, ht, he⟩ := jpS_t (pc := pc) (o := n) (f := fun t => if cndI .ne a b' = true then nxS t L S' σ else nxS (pc + 3) L S' σ) he
  have e1 : ex d k (.if_icmp .ne n) pc (lM (pr sw) L) (.int b' :: .int a :: S'.map (vM (pr sw))) h = if cndI .ne a b' = true then nx t (lM (pr sw) L) (S'.map (vM (pr sw))) h else nx (pc + 3) (lM (pr sw) L) (S'.map (vM (pr sw))) h := jp_to (f := fun t => if cndI .ne a b' = true then nx t (lM (pr sw) L) (S'.map (vM (pr sw))) h else nx (pc + 3) (lM (pr sw) L) (S'.map (vM (pr sw))) h) ht
  by_cases hq : cndI .ne a b' = true
  · rw [if_pos hq] at he e1
    cases nxS_r he
    exact ⟨h, hp, rs_nx hc hn e1⟩
  · rw [if_neg hq] at he e1
    cases nxS_r he
    exact ⟨h, hp, rs_nx hc hn e1⟩
theorem rt_ifCond_ne (hn : nrm (livAt k pc) L0 = lM (pr sw) L) (hp : Rep b sw σ h) {n : Int} (hc : codeAt k pc = some (.ifCond .ne n)) (he : exS b d k (.ifCond .ne n) pc L S σ = some r) : Res b sw d k pc L0 (S.map (vM (pr sw))) h r := by
  obtain ⟨a, S', rfl, he⟩ := qIS_t he
  obtain ⟨t, ht, he⟩ := jpS_t (pc := pc) (o := n) (f := fun t => if cndI .ne a 0 = true then nxS t L S' σ else nxS (pc + 3) L S' σ) he
  have e1 : ex d k (.ifCond .ne n) pc (lM (pr sw) L) (.int a :: S'.map (vM (pr sw))) h = if cndI .ne a 0 = true then nx t (lM (pr sw) L) (S'.map (vM (pr sw))) h else nx (pc + 3) (lM (pr sw) L) (S'.map (vM (pr sw))) h := jp_to (f := fun t => if cndI .ne a 0 = true then nx t (lM (pr sw) L) (S'.map (vM (pr sw))) h else nx (pc + 3) (lM (pr sw) L) (S'.map (vM (pr sw))) h) ht
  by_cases hq : cndI .ne a 0 = true
  · rw [if_pos hq] at he e1
    cases nxS_r he
    exact ⟨h, hp, rs_nx hc hn e1⟩
  · rw [if_neg hq] at he e1
    cases nxS_r he
    exact ⟨h, hp, rs_nx hc hn e1⟩
theorem rt_if_icmp_lt (hn : nrm (livAt k pc) L0 = lM (pr sw) L) (hp : Rep b sw σ h) {n : Int} (hc : codeAt k pc = some (.if_icmp .lt n)) (he : exS b d k (.if_icmp .lt n) pc L S σ = some r) : Res b sw d k pc L0 (S.map (vM (pr sw))) h r := by
  obtain ⟨a, b', S', rfl, he⟩ := qIIS_t he
  obtain ⟨t, ht, he⟩ := jpS_t (pc := pc) (o := n) (f := fun t => if cndI .lt a b' = true then nxS t L S' σ else nxS (pc + 3) L S' σ) he
  have e1 : ex d k (.if_icmp .lt n) pc (lM (pr sw) L) (.int b' :: .int a :: S'.map (vM (pr sw))) h = if cndI .lt a b' = true then nx t (lM (pr sw) L) (S'.map (vM (pr sw))) h else nx (pc + 3) (lM (pr sw) L) (S'.map (vM (pr sw))) h := jp_to (f := fun t => if cndI .lt a b' = true then nx t (lM (pr sw) L) (S'.map (vM (pr sw))) h else nx (pc + 3) (lM (pr sw) L) (S'.map (vM (pr sw))) h) ht
  by_cases hq : cndI .lt a b' = true
  · rw [if_pos hq] at he e1
    cases nxS_r he
    exact ⟨h, hp, rs_nx hc hn e1⟩
  · rw [if_neg hq] at he e1
    cases nxS_r he
    exact ⟨h, hp, rs_nx hc hn e1⟩
theorem rt_ifCond_lt (hn : nrm (livAt k pc) L0 = lM (pr sw) L) (hp : Rep b sw σ h) {n : Int} (hc : codeAt k pc = some (.ifCond .lt n)) (he : exS b d k (.ifCond .lt n) pc L S σ = some r) : Res b sw d k pc L0 (S.map (vM (pr sw))) h r := by
  obtain ⟨a, S', rfl, he⟩ := qIS_t he
  obtain ⟨t, ht, he⟩ := jpS_t (pc := pc) (o := n) (f := fun t => if cndI .lt a 0 = true then nxS t L S' σ else nxS (pc + 3) L S' σ) he
  have e1 : ex d k (.ifCond .lt n) pc (lM (pr sw) L) (.int a :: S'.map (vM (pr sw))) h = if cndI .lt a 0 = true then nx t (lM (pr sw) L) (S'.map (vM (pr sw))) h else nx (pc + 3) (lM (pr sw) L) (S'.map (vM (pr sw))) h := jp_to (f := fun t => if cndI .lt a 0 = true then nx t (lM (pr sw) L) (S'.map (vM (pr sw))) h else nx (pc + 3) (lM (pr sw) L) (S'.map (vM (pr sw))) h) ht
  by_cases hq : cndI .lt a 0 = true
  · rw [if_pos hq] at he e1
    cases nxS_r he
    exact ⟨h, hp, rs_nx hc hn e1⟩
  · rw [if_neg hq] at he e1
    cases nxS_r he
    exact ⟨h, hp, rs_nx hc hn e1⟩
theorem rt_if_icmp_ge (hn : nrm (livAt k pc) L0 = lM (pr sw) L) (hp : Rep b sw σ h) {n : Int} (hc : codeAt k pc = some (.if_icmp .ge n)) (he : exS b d k (.if_icmp .ge n) pc L S σ = some r) : Res b sw d k pc L0 (S.map (vM (pr sw))) h r := by
  obtain ⟨a, b', S', rfl, he⟩ := qIIS_t he
  obtain ⟨t, ht, he⟩ := jpS_t (pc := pc) (o := n) (f := fun t => if cndI .ge a b' = true then nxS t L S' σ else nxS (pc + 3) L S' σ) he
  have e1 : ex d k (.if_icmp .ge n) pc (lM (pr sw) L) (.int b' :: .int a :: S'.map (vM (pr sw))) h = if cndI .ge a b' = true then nx t (lM (pr sw) L) (S'.map (vM (pr sw))) h else nx (pc + 3) (lM (pr sw) L) (S'.map (vM (pr sw))) h := jp_to (f := fun t => if cndI .ge a b' = true then nx t (lM (pr sw) L) (S'.map (vM (pr sw))) h else nx (pc + 3) (lM (pr sw) L) (S'.map (vM (pr sw))) h) ht
  by_cases hq : cndI .ge a b' = true
  · rw [if_pos hq] at he e1
    cases nxS_r he
    exact ⟨h, hp, rs_nx hc hn e1⟩
  · rw [if_neg hq] at he e1
    cases nxS_r he
    exact ⟨h, hp, rs_nx hc hn e1⟩
theorem rt_ifCond_ge (hn : nrm (livAt k pc) L0 = lM (pr sw) L) (hp : Rep b sw σ h) {n : Int} (hc : codeAt k pc = some (.ifCond .ge n)) (he : exS b d k (.ifCond .ge n) pc L S σ = some r) : Res b sw d k pc L0 (S.map (vM (pr sw))) h r := by
  obtain ⟨a, S', rfl, he⟩ := qIS_t he
  obtain ⟨t, ht, he⟩ := jpS_t (pc := pc) (o := n) (f := fun t => if cndI .ge a 0 = true then nxS t L S' σ else nxS (pc + 3) L S' σ) he
  have e1 : ex d k (.ifCond .ge n) pc (lM (pr sw) L) (.int a :: S'.map (vM (pr sw))) h = if cndI .ge a 0 = true then nx t (lM (pr sw) L) (S'.map (vM (pr sw))) h else nx (pc + 3) (lM (pr sw) L) (S'.map (vM (pr sw))) h := jp_to (f := fun t => if cndI .ge a 0 = true then nx t (lM (pr sw) L) (S'.map (vM (pr sw))) h else nx (pc + 3) (lM (pr sw) L) (S'.map (vM (pr sw))) h) ht
  by_cases hq : cndI .ge a 0 = true
  · rw [if_pos hq] at he e1
    cases nxS_r he
    exact ⟨h, hp, rs_nx hc hn e1⟩
  · rw [if_neg hq] at he e1
    cases nxS_r he
    exact ⟨h, hp, rs_nx hc hn e1⟩
theorem rt_if_icmp_gt (hn : nrm (livAt k pc) L0 = lM (pr sw) L) (hp : Rep b sw σ h) {n : Int} (hc : codeAt k pc = some (.if_icmp .gt n)) (he : exS b d k (.if_icmp .gt n) pc L S σ = some r) : Res b sw d k pc L0 (S.map (vM (pr sw))) h r := by
  obtain ⟨a, b', S', rfl, he⟩ := qIIS_t he
  obtain ⟨t, ht, he⟩ := jpS_t (pc := pc) (o := n) (f := fun t => if cndI .gt a b' = true then nxS t L S' σ else nxS (pc + 3) L S' σ) he
  have e1 : ex d k (.if_icmp .gt n) pc (lM (pr sw) L) (.int b' :: .int a :: S'.map (vM (pr sw))) h = if cndI .gt a b' = true then nx t (lM (pr sw) L) (S'.map (vM (pr sw))) h else nx (pc + 3) (lM (pr sw) L) (S'.map (vM (pr sw))) h := jp_to (f := fun t => if cndI .gt a b' = true then nx t (lM (pr sw) L) (S'.map (vM (pr sw))) h else nx (pc + 3) (lM (pr sw) L) (S'.map (vM (pr sw))) h) ht
  by_cases hq : cndI .gt a b' = true
  · rw [if_pos hq] at he e1
    cases nxS_r he
    exact ⟨h, hp, rs_nx hc hn e1⟩
  · rw [if_neg hq] at he e1
    cases nxS_r he
    exact ⟨h, hp, rs_nx hc hn e1⟩
theorem rt_ifCond_gt (hn : nrm (livAt k pc) L0 = lM (pr sw) L) (hp : Rep b sw σ h) {n : Int} (hc : codeAt k pc = some (.ifCond .gt n)) (he : exS b d k (.ifCond .gt n) pc L S σ = some r) : Res b sw d k pc L0 (S.map (vM (pr sw))) h r := by
  obtain ⟨a, S', rfl, he⟩ := qIS_t he
  obtain ⟨t, ht, he⟩ := jpS_t (pc := pc) (o := n) (f := fun t => if cndI .gt a 0 = true then nxS t L S' σ else nxS (pc + 3) L S' σ) he
  have e1 : ex d k (.ifCond .gt n) pc (lM (pr sw) L) (.int a :: S'.map (vM (pr sw))) h = if cndI .gt a 0 = true then nx t (lM (pr sw) L) (S'.map (vM (pr sw))) h else nx (pc + 3) (lM (pr sw) L) (S'.map (vM (pr sw))) h := jp_to (f := fun t => if cndI .gt a 0 = true then nx t (lM (pr sw) L) (S'.map (vM (pr sw))) h else nx (pc + 3) (lM (pr sw) L) (S'.map (vM (pr sw))) h) ht
  by_cases hq : cndI .gt a 0 = true
  · rw [if_pos hq] at he e1
    cases nxS_r he
    exact ⟨h, hp, rs_nx hc hn e1⟩
  · rw [if_neg hq] at he e1
    cases nxS_r he
    exact ⟨h, hp, rs_nx hc hn e1⟩
theorem rt_if_icmp_le (hn : nrm (livAt k pc) L0 = lM (pr sw) L) (hp : Rep b sw σ h) {n : Int} (hc : codeAt k pc = some (.if_icmp .le n)) (he : exS b d k (.if_icmp .le n) pc L S σ = some r) : Res b sw d k pc L0 (S.map (vM (pr sw))) h r := by
  obtain ⟨a, b', S', rfl, he⟩ := qIIS_t he
  obtain ⟨t, ht, he⟩ := jpS_t (pc := pc) (o := n) (f := fun t => if cndI .le a b' = true then nxS t L S' σ else nxS (pc + 3) L S' σ) he
  have e1 : ex d k (.if_icmp .le n) pc (lM (pr sw) L) (.int b' :: .int a :: S'.map (vM (pr sw))) h = if cndI .le a b' = true then nx t (lM (pr sw) L) (S'.map (vM (pr sw))) h else nx (pc + 3) (lM (pr sw) L) (S'.map (vM (pr sw))) h := jp_to (f := fun t => if cndI .le a b' = true then nx t (lM (pr sw) L) (S'.map (vM (pr sw))) h else nx (pc + 3) (lM (pr sw) L) (S'.map (vM (pr sw))) h) ht
  by_cases hq : cndI .le a b' = true
  · rw [if_pos hq] at he e1
    cases nxS_r he
    exact ⟨h, hp, rs_nx hc hn e1⟩
  · rw [if_neg hq] at he e1
    cases nxS_r he
    exact ⟨h, hp, rs_nx hc hn e1⟩
theorem rt_ifCond_le (hn : nrm (livAt k pc) L0 = lM (pr sw) L) (hp : Rep b sw σ h) {n : Int} (hc : codeAt k pc = some (.ifCond .le n)) (he : exS b d k (.ifCond .le n) pc L S σ = some r) : Res b sw d k pc L0 (S.map (vM (pr sw))) h r := by
  obtain ⟨a, S', rfl, he⟩ := qIS_t he
  obtain ⟨t, ht, he⟩ := jpS_t (pc := pc) (o := n) (f := fun t => if cndI .le a 0 = true then nxS t L S' σ else nxS (pc + 3) L S' σ) he
  have e1 : ex d k (.ifCond .le n) pc (lM (pr sw) L) (.int a :: S'.map (vM (pr sw))) h = if cndI .le a 0 = true then nx t (lM (pr sw) L) (S'.map (vM (pr sw))) h else nx (pc + 3) (lM (pr sw) L) (S'.map (vM (pr sw))) h := jp_to (f := fun t => if cndI .le a 0 = true then nx t (lM (pr sw) L) (S'.map (vM (pr sw))) h else nx (pc + 3) (lM (pr sw) L) (S'.map (vM (pr sw))) h) ht
  by_cases hq : cndI .le a 0 = true
  · rw [if_pos hq] at he e1
    cases nxS_r he
    exact ⟨h, hp, rs_nx hc hn e1⟩
  · rw [if_neg hq] at he e1
    cases nxS_r he
    exact ⟨h, hp, rs_nx hc hn e1⟩
theorem rt_iaload (hn : nrm (livAt k pc) L0 = lM (pr sw) L) (hp : Rep b sw σ h)  (hc : codeAt k pc = some (.iaload)) (he : exS b d k (.iaload) pc L S σ = some r) : Res b sw d k pc L0 (S.map (vM (pr sw))) h r := by
  cases S with
  | nil => cases he
  | cons v0 S0 =>
    cases v0 with
    | int i =>
      cases S0 with
      | nil => cases he
      | cons v1 S1 =>
        cases v1 with
        | ref a =>
          obtain ⟨x, hg, he⟩ := ob_some he
          cases nxS_r he
          refine ⟨h, hp, rs_nx hc hn ?_⟩
          show ob (aI h (pr sw a) i) (fun x => nx (pc + 1) (lM (pr sw) L) (.int x :: S1.map (vM (pr sw))) h) = _
          rw [aI_r hp hg]; rfl
        | _ => cases he
    | _ => cases he
theorem rt_baload (hn : nrm (livAt k pc) L0 = lM (pr sw) L) (hp : Rep b sw σ h)  (hc : codeAt k pc = some (.baload)) (he : exS b d k (.baload) pc L S σ = some r) : Res b sw d k pc L0 (S.map (vM (pr sw))) h r := by
  cases S with
  | nil => cases he
  | cons v0 S0 =>
    cases v0 with
    | int i =>
      cases S0 with
      | nil => cases he
      | cons v1 S1 =>
        cases v1 with
        | ref a =>
          obtain ⟨x, hg, he⟩ := ob_some he
          cases nxS_r he
          refine ⟨h, hp, rs_nx hc hn ?_⟩
          show ob (aB h (pr sw a) i) (fun x => nx (pc + 1) (lM (pr sw) L) (.int x :: S1.map (vM (pr sw))) h) = _
          rw [aB_r hp hg]; rfl
        | _ => cases he
    | _ => cases he
theorem rt_laload (hn : nrm (livAt k pc) L0 = lM (pr sw) L) (hp : Rep b sw σ h)  (hc : codeAt k pc = some (.laload)) (he : exS b d k (.laload) pc L S σ = some r) : Res b sw d k pc L0 (S.map (vM (pr sw))) h r := by
  cases S with
  | nil => cases he
  | cons v0 S0 =>
    cases v0 with
    | int i =>
      cases S0 with
      | nil => cases he
      | cons v1 S1 =>
        cases v1 with
        | ref a =>
          obtain ⟨x, hg, he⟩ := ob_some he
          cases nxS_r he
          refine ⟨h, hp, rs_nx hc hn ?_⟩
          show ob (aL h (pr sw a) i) (fun x => nx (pc + 1) (lM (pr sw) L) (.long x :: S1.map (vM (pr sw))) h) = _
          rw [aL_r hp hg]; rfl
        | _ => cases he
    | _ => cases he
theorem rt_aaload (hn : nrm (livAt k pc) L0 = lM (pr sw) L) (hp : Rep b sw σ h)  (hc : codeAt k pc = some (.aaload)) (he : exS b d k (.aaload) pc L S σ = some r) : Res b sw d k pc L0 (S.map (vM (pr sw))) h r := by
  cases S with
  | nil => cases he
  | cons v0 S0 =>
    cases v0 with
    | int i =>
      cases S0 with
      | nil => cases he
      | cons v1 S1 =>
        cases v1 with
        | ref a =>
          obtain ⟨x, hg, he⟩ := ob_some he
          cases nxS_r he
          refine ⟨h, hp, rs_nx hc hn ?_⟩
          show ob (aR h (pr sw a) i) (fun x => nx (pc + 1) (lM (pr sw) L) (.ref x :: S1.map (vM (pr sw))) h) = _
          rw [aR_r hp hg]; rfl
        | _ => cases he
    | _ => cases he
theorem rt_iastore (hn : nrm (livAt k pc) L0 = lM (pr sw) L) (hp : Rep b sw σ h)  (hc : codeAt k pc = some (.iastore)) (he : exS b d k (.iastore) pc L S σ = some r) : Res b sw d k pc L0 (S.map (vM (pr sw))) h r := by
  cases S with
  | nil => cases he
  | cons v0 S0 =>
    cases v0 with
    | int x =>
      cases S0 with
      | nil => cases he
      | cons v1 S1 =>
        cases v1 with
        | int i =>
          cases S1 with
          | nil => cases he
          | cons v2 S2 =>
            cases v2 with
            | ref a =>
              obtain ⟨σ1, hg, he⟩ := ob_some he
              cases nxS_r he
              obtain ⟨h1, g1, g2⟩ := bI_r hp hg
              refine ⟨h1, g2, rs_nx hc hn ?_⟩
              show ob (bI h (pr sw a) i x) (fun h => nx (pc + 1) (lM (pr sw) L) (S2.map (vM (pr sw))) h) = _
              rw [g1]; rfl
            | _ => cases he
        | _ => cases he
    | _ => cases he
theorem rt_bastore (hn : nrm (livAt k pc) L0 = lM (pr sw) L) (hp : Rep b sw σ h)  (hc : codeAt k pc = some (.bastore)) (he : exS b d k (.bastore) pc L S σ = some r) : Res b sw d k pc L0 (S.map (vM (pr sw))) h r := by
  cases S with
  | nil => cases he
  | cons v0 S0 =>
    cases v0 with
    | int x =>
      cases S0 with
      | nil => cases he
      | cons v1 S1 =>
        cases v1 with
        | int i =>
          cases S1 with
          | nil => cases he
          | cons v2 S2 =>
            cases v2 with
            | ref a =>
              obtain ⟨σ1, hg, he⟩ := ob_some he
              cases nxS_r he
              obtain ⟨h1, g1, g2⟩ := bB_r hp hg
              refine ⟨h1, g2, rs_nx hc hn ?_⟩
              show ob (bB h (pr sw a) i x) (fun h => nx (pc + 1) (lM (pr sw) L) (S2.map (vM (pr sw))) h) = _
              rw [g1]; rfl
            | _ => cases he
        | _ => cases he
    | _ => cases he
theorem rt_lastore (hn : nrm (livAt k pc) L0 = lM (pr sw) L) (hp : Rep b sw σ h)  (hc : codeAt k pc = some (.lastore)) (he : exS b d k (.lastore) pc L S σ = some r) : Res b sw d k pc L0 (S.map (vM (pr sw))) h r := by
  cases S with
  | nil => cases he
  | cons v0 S0 =>
    cases v0 with
    | long x =>
      cases S0 with
      | nil => cases he
      | cons v1 S1 =>
        cases v1 with
        | int i =>
          cases S1 with
          | nil => cases he
          | cons v2 S2 =>
            cases v2 with
            | ref a =>
              obtain ⟨σ1, hg, he⟩ := ob_some he
              cases nxS_r he
              obtain ⟨h1, g1, g2⟩ := bL_r hp hg
              refine ⟨h1, g2, rs_nx hc hn ?_⟩
              show ob (bL h (pr sw a) i x) (fun h => nx (pc + 1) (lM (pr sw) L) (S2.map (vM (pr sw))) h) = _
              rw [g1]; rfl
            | _ => cases he
        | _ => cases he
    | _ => cases he
theorem rt_arraylength (hn : nrm (livAt k pc) L0 = lM (pr sw) L) (hp : Rep b sw σ h)  (hc : codeAt k pc = some (.arraylength)) (he : exS b d k (.arraylength) pc L S σ = some r) : Res b sw d k pc L0 (S.map (vM (pr sw))) h r := by
  obtain ⟨a, S', rfl, he⟩ := qAS_t he
  obtain ⟨x, hg, he⟩ := ob_some he
  cases nxS_r he
  refine ⟨h, hp, rs_nx hc hn ?_⟩
  show ob (aN h (pr sw a)) (fun x => nx (pc + 1) (lM (pr sw) L) (.int x :: S'.map (vM (pr sw))) h) = _
  rw [aN_r hp hg]; rfl
theorem rt_getfield (hn : nrm (livAt k pc) L0 = lM (pr sw) L) (hp : Rep b sw σ h) {n : Nat} (hc : codeAt k pc = some (.getfield n)) (he : exS b d k (.getfield n) pc L S σ = some r) : Res b sw d k pc L0 (S.map (vM (pr sw))) h r := by
  obtain ⟨a, S', rfl, he⟩ := qAS_t he
  obtain ⟨⟨c, f, t, fi⟩, hf, he⟩ := ob_some he
  have he : (bif Nat.beq t 0 || Nat.beq t 3 then ob (gIS σ a c f) (fun x => nxS (pc + 3) L (.int x :: S') σ) else bif Nat.beq t 1 then ob (gJS σ a c f) (fun x => nxS (pc + 3) L (.long x :: S') σ) else ob (gRS b a c f) (fun x => nxS (pc + 3) L (.ref x :: S') σ)) = some r := he
  have hc10 : c ≤ 10 := (tb_f hf).1
  have e1 : ex d k (.getfield n) pc (lM (pr sw) L) (.ref (pr sw a) :: S'.map (vM (pr sw))) h = (bif Nat.beq t 0 || Nat.beq t 3 then ob (gI h (pr sw a) c f) (fun x => nx (pc + 3) (lM (pr sw) L) (.int x :: S'.map (vM (pr sw))) h) else bif Nat.beq t 1 then ob (gL h (pr sw a) c f) (fun x => nx (pc + 3) (lM (pr sw) L) (.long x :: S'.map (vM (pr sw))) h) else ob (gR h (pr sw a) c f) (fun x => nx (pc + 3) (lM (pr sw) L) (.ref x :: S'.map (vM (pr sw))) h)) := by
    show ob (fT (oN k) n) _ = _
    rw [hf]; rfl
  cases h1 : (Nat.beq t 0 || Nat.beq t 3) with
  | true =>
    rw [h1] at he e1
    obtain ⟨x, hg, he⟩ := ob_some he
    cases nxS_r he
    refine ⟨h, hp, rs_nx hc hn (e1.trans ?_)⟩
    show ob (gI h (pr sw a) c f) _ = _
    rw [gI_r hp hc10 hg]; rfl
  | false =>
    rw [h1] at he e1
    have he : (bif Nat.beq t 1 then ob (gJS σ a c f) (fun x => nxS (pc + 3) L (.long x :: S') σ) else ob (gRS b a c f) (fun x => nxS (pc + 3) L (.ref x :: S') σ)) = some r := he
    have e1 : ex d k (.getfield n) pc (lM (pr sw) L) (.ref (pr sw a) :: S'.map (vM (pr sw))) h = (bif Nat.beq t 1 then ob (gL h (pr sw a) c f) (fun x => nx (pc + 3) (lM (pr sw) L) (.long x :: S'.map (vM (pr sw))) h) else ob (gR h (pr sw a) c f) (fun x => nx (pc + 3) (lM (pr sw) L) (.ref x :: S'.map (vM (pr sw))) h)) := e1
    cases h2 : Nat.beq t 1 with
    | true =>
      rw [h2] at he e1
      obtain ⟨x, hg, he⟩ := ob_some he
      cases nxS_r he
      have h4 : c ≠ 4 := by
        intro z
        have hty := (okF _ _ _ hf).2.2.2.1
        rw [Nat.eq_of_beq_eq_true h2] at hty
        rcases hty with ⟨y, -⟩ | ⟨y, -⟩ | ⟨-, y⟩ | ⟨y, -⟩
        · cases y
        · cases y
        · have hfl := (okF _ _ _ hf).2.1
          simp only at hfl y
          rw [z] at y hfl
          have : ∀ f, f < 2 → tyX4 f ≠ .long := by decide
          exact this f hfl y
        · cases y
      refine ⟨h, hp, rs_nx hc hn (e1.trans ?_)⟩
      show ob (gL h (pr sw a) c f) _ = _
      rw [gJ_r hp hc10 h4 hg]; rfl
    | false =>
      rw [h2] at he e1
      obtain ⟨x, hg, he⟩ := ob_some he
      cases nxS_r he
      refine ⟨h, hp, rs_nx hc hn (e1.trans ?_)⟩
      show ob (gR h (pr sw a) c f) _ = _
      rw [gR_r hp hc10 hg]; rfl
theorem rt_putfield (hn : nrm (livAt k pc) L0 = lM (pr sw) L) (hp : Rep b sw σ h) {n : Nat} (hc : codeAt k pc = some (.putfield n)) (he : exS b d k (.putfield n) pc L S σ = some r) : Res b sw d k pc L0 (S.map (vM (pr sw))) h r := by
  obtain ⟨v, S1, rfl, he⟩ := q1S_t he
  obtain ⟨a, S', rfl, he⟩ := qAS_t he
  obtain ⟨⟨c, f, t, fi⟩, hf, he⟩ := ob_some he
  obtain ⟨hfi, he⟩ := bif_some he
  have hc10 : c ≤ 10 := (tb_f hf).1
  cases v with
  | int x =>
    have he : (bif Nat.beq t 0 then ob (pIS σ a c f x) (fun σ => nxS (pc + 3) L S' σ) else bif Nat.beq t 3 then ob (pZS σ a c f x) (fun σ => nxS (pc + 3) L S' σ) else none) = some r := he
    have e1 : ex d k (.putfield n) pc (lM (pr sw) L) (.int x :: .ref (pr sw a) :: S'.map (vM (pr sw))) h = (bif Nat.beq t 0 then ob (pI h (pr sw a) c f x) (fun h => nx (pc + 3) (lM (pr sw) L) (S'.map (vM (pr sw))) h) else bif Nat.beq t 3 then ob (pZ h (pr sw a) c f x) (fun h => nx (pc + 3) (lM (pr sw) L) (S'.map (vM (pr sw))) h) else none) := by
      show ob (fT (oN k) n) _ = _
      rw [hf, ob_ok]
      show (bif !fi || Nat.beq (iN k) c then (bif Nat.beq t 0 then ob (pI h (pr sw a) c f x) (fun h => nx (pc + 3) (lM (pr sw) L) (S'.map (vM (pr sw))) h) else bif Nat.beq t 3 then ob (pZ h (pr sw a) c f x) (fun h => nx (pc + 3) (lM (pr sw) L) (S'.map (vM (pr sw))) h) else none) else none) = _
      rw [hfi]; rfl
    cases h1 : Nat.beq t 0 with
    | true =>
      rw [h1] at he e1
      obtain ⟨σ1, hg, he⟩ := ob_some he
      cases nxS_r he
      obtain ⟨h1, g1, g2⟩ := pI_r hp hc10 hg
      refine ⟨h1, g2, rs_nx hc hn (e1.trans ?_)⟩
      show ob (pI h (pr sw a) c f x) _ = _
      rw [g1]; rfl
    | false =>
      rw [h1] at he e1
      have he : (bif Nat.beq t 3 then ob (pZS σ a c f x) (fun σ => nxS (pc + 3) L S' σ) else none) = some r := he
      obtain ⟨h3, he⟩ := bif_some he
      obtain ⟨σ1, hg, he⟩ := ob_some he
      cases nxS_r he
      obtain ⟨h1, g1, g2⟩ := pZ_r hp hc10 hg
      refine ⟨h1, g2, rs_nx hc hn (e1.trans ?_)⟩
      show (bif Nat.beq t 3 then ob (pZ h (pr sw a) c f x) _ else none) = _
      rw [h3, cond_true, g1]; rfl
  | long x =>
    have he : (bif Nat.beq t 1 then ob (pJS σ a c f x) (fun σ => nxS (pc + 3) L S' σ) else none) = some r := he
    obtain ⟨h2, he⟩ := bif_some he
    have e1 : ex d k (.putfield n) pc (lM (pr sw) L) (.long x :: .ref (pr sw a) :: S'.map (vM (pr sw))) h = (bif Nat.beq t 1 then ob (pL h (pr sw a) c f x) (fun h => nx (pc + 3) (lM (pr sw) L) (S'.map (vM (pr sw))) h) else none) := by
      show ob (fT (oN k) n) _ = _
      rw [hf, ob_ok]
      show (bif !fi || Nat.beq (iN k) c then (bif Nat.beq t 1 then ob (pL h (pr sw a) c f x) (fun h => nx (pc + 3) (lM (pr sw) L) (S'.map (vM (pr sw))) h) else none) else none) = _
      rw [hfi]; rfl
    obtain ⟨σ1, hg, he⟩ := ob_some he
    cases nxS_r he
    have h4 : c ≠ 4 := by
      intro z
      have hty := (okF _ _ _ hf).2.2.2.1
      rw [Nat.eq_of_beq_eq_true h2] at hty
      rcases hty with ⟨y, -⟩ | ⟨y, -⟩ | ⟨-, y⟩ | ⟨y, -⟩
      · cases y
      · cases y
      · have hfl := (okF _ _ _ hf).2.1
        simp only at hfl y
        rw [z] at y hfl
        have : ∀ f, f < 2 → tyX4 f ≠ .long := by decide
        exact this f hfl y
      · cases y
    obtain ⟨h1, g1, g2⟩ := pJ_r hp hc10 h4 hg
    refine ⟨h1, g2, rs_nx hc hn (e1.trans ?_)⟩
    rw [h2, cond_true, g1]; rfl
  | _ => cases he
theorem rt_getstatic (hn : nrm (livAt k pc) L0 = lM (pr sw) L) (hp : Rep b sw σ h) {n : Nat} (hc : codeAt k pc = some (.getstatic n)) (he : exS b d k (.getstatic n) pc L S σ = some r) : Res b sw d k pc L0 (S.map (vM (pr sw))) h r := by
  obtain ⟨a, hg, he⟩ := ob_some he
  cases nxS_r he
  refine ⟨h, hp, rs_nx hc hn ?_⟩
  show ob (gT (oN k) n) _ = _
  rw [hg, ob_ok]
  have ha := (okG _ _ _ hg).1
  subst ha
  show _ = nx (pc + 3) (lM (pr sw) L) (.ref (pr sw 1) :: S.map (vM (pr sw))) h
  rw [pr_lo (by decide)]
theorem rt_ldc (hn : nrm (livAt k pc) L0 = lM (pr sw) L) (hp : Rep b sw σ h) {n : Nat} (hc : codeAt k pc = some (.ldc n)) (he : exS b d k (.ldc n) pc L S σ = some r) : Res b sw d k pc L0 (S.map (vM (pr sw))) h r := by
  obtain ⟨v, hg, he⟩ := ob_some he
  cases nxS_r he
  refine ⟨h, hp, rs_nx hc hn ?_⟩
  show ob (cT (oN k) n) _ = _
  rw [hg, ob_ok]
  rcases okI _ _ _ hg with ⟨y, rfl, -⟩ | ⟨a, tx, rfl, h2, hk, -⟩
  · rfl
  · show _ = nx (pc + 2) (lM (pr sw) L) (.ref (pr sw a) :: S.map (vM (pr sw))) h
    have h40 : a < 40 := Nat.lt_trans hk (by decide)
    rw [pr_lo h40]
theorem rt_ldc2_w (hn : nrm (livAt k pc) L0 = lM (pr sw) L) (hp : Rep b sw σ h) {n : Nat} (hc : codeAt k pc = some (.ldc2_w n)) (he : exS b d k (.ldc2_w n) pc L S σ = some r) : Res b sw d k pc L0 (S.map (vM (pr sw))) h r := by
  obtain ⟨v, hg, he⟩ := ob_some he
  cases nxS_r he
  refine ⟨h, hp, rs_nx hc hn ?_⟩
  show ob (jT (oN k) n) _ = _
  rw [hg]; rfl
theorem rt_lookupswitch (hn : nrm (livAt k pc) L0 = lM (pr sw) L) (hp : Rep b sw σ h) {df : Int} {ps : Array (Int × Int)} (hc : codeAt k pc = some (.lookupswitch df ps)) (he : exS b d k (.lookupswitch df ps) pc L S σ = some r) : Res b sw d k pc L0 (S.map (vM (pr sw))) h r := by
  obtain ⟨a, S', rfl, he⟩ := qIS_t he
  obtain ⟨hb, he⟩ := bif_some he
  cases nxS_r he
  refine ⟨h, hp, rs_nx hc hn ?_⟩
  show (bif lchk pc df ps.toList then _ else none) = _
  rw [hb]; rfl
theorem rt_tableswitch (hn : nrm (livAt k pc) L0 = lM (pr sw) L) (hp : Rep b sw σ h) {df lo hi : Int} {os : Array Int} (hc : codeAt k pc = some (.tableswitch df lo hi os)) (he : exS b d k (.tableswitch df lo hi os) pc L S σ = some r) : Res b sw d k pc L0 (S.map (vM (pr sw))) h r := by
  obtain ⟨a, S', rfl, he⟩ := qIS_t he
  obtain ⟨hb, he⟩ := bif_some he
  cases nxS_r he
  refine ⟨h, hp, rs_nx hc hn ?_⟩
  show (bif tchk pc df lo hi os.toList then _ else none) = _
  rw [hb]; rfl
theorem rt_ireturn (hn : nrm (livAt k pc) L0 = lM (pr sw) L) (hp : Rep b sw σ h)  (hc : codeAt k pc = some (.ireturn)) (he : exS b d k (.ireturn) pc L S σ = some r) : Res b sw d k pc L0 (S.map (vM (pr sw))) h r := by
  cases S with
  | nil => cases he
  | cons v S1 =>
    cases v with
    | int a =>
      cases S1 with
      | cons v2 S2 => cases he
      | nil =>
        have he : (bif Nat.beq (rTy k) 1 then finS (.inl (some (.int a))) σ else bif Nat.beq (rTy k) 4 then (if a = 0 ∨ a = 1 then finS (.inl (some (.int a))) σ else none) else none) = some r := he
        have e1 : ex d k .ireturn pc (lM (pr sw) L) [.int a] h = (bif Nat.beq (rTy k) 1 then fin (.inl (some (.int a))) h else bif Nat.beq (rTy k) 4 then (if a = 0 ∨ a = 1 then fin (.inl (some (.int a))) h else none) else none) := rfl
        cases h1 : Nat.beq (rTy k) 1 with
        | true =>
          rw [h1] at he e1
          cases finS_r he
          exact ⟨_, h, hp, rfl, rs_fin hc hn e1⟩
        | false =>
          rw [h1] at he e1
          have he : (bif Nat.beq (rTy k) 4 then (if a = 0 ∨ a = 1 then finS (.inl (some (.int a))) σ else none) else none) = some r := he
          have e1 : ex d k .ireturn pc (lM (pr sw) L) [.int a] h = (bif Nat.beq (rTy k) 4 then (if a = 0 ∨ a = 1 then fin (.inl (some (.int a))) h else none) else none) := e1
          obtain ⟨h2, he⟩ := bif_some he
          rw [h2, cond_true] at e1
          by_cases hq : a = 0 ∨ a = 1
          · rw [if_pos hq] at he e1
            cases finS_r he
            exact ⟨_, h, hp, rfl, rs_fin hc hn e1⟩
          · rw [if_neg hq] at he; cases he
    | _ => cases he
theorem rt_lreturn (hn : nrm (livAt k pc) L0 = lM (pr sw) L) (hp : Rep b sw σ h)  (hc : codeAt k pc = some (.lreturn)) (he : exS b d k (.lreturn) pc L S σ = some r) : Res b sw d k pc L0 (S.map (vM (pr sw))) h r := by
  cases S with
  | nil => cases he
  | cons v S1 =>
    cases v with
    | long a =>
      cases S1 with
      | cons v2 S2 => cases he
      | nil =>
        obtain ⟨h2, he⟩ := bif_some he
        cases finS_r he
        refine ⟨.inl (some (.long a)), h, hp, rfl, rs_fin hc hn ?_⟩
        show (bif Nat.beq (rTy k) 2 then fin (.inl (some (.long a))) h else none) = _
        rw [h2]; rfl
    | _ => cases he
theorem rt_areturn (hn : nrm (livAt k pc) L0 = lM (pr sw) L) (hp : Rep b sw σ h)  (hc : codeAt k pc = some (.areturn)) (he : exS b d k (.areturn) pc L S σ = some r) : Res b sw d k pc L0 (S.map (vM (pr sw))) h r := by
  cases S with
  | nil => cases he
  | cons v S1 =>
    cases v with
    | ref a =>
      cases S1 with
      | cons v2 S2 => cases he
      | nil =>
        obtain ⟨h2, he⟩ := bif_some he
        cases finS_r he
        refine ⟨.inl (some (.ref (pr sw a))), h, hp, rfl, rs_fin hc hn ?_⟩
        show (bif Nat.beq (rTy k) 3 then fin (.inl (some (.ref (pr sw a)))) h else none) = _
        rw [h2]; rfl
    | _ => cases he
theorem rt_return_ (hn : nrm (livAt k pc) L0 = lM (pr sw) L) (hp : Rep b sw σ h)  (hc : codeAt k pc = some (.return_)) (he : exS b d k (.return_) pc L S σ = some r) : Res b sw d k pc L0 (S.map (vM (pr sw))) h r := by
  cases S with
  | cons v S1 => cases he
  | nil =>
    obtain ⟨h2, he⟩ := bif_some he
    cases finS_r he
    refine ⟨.inl none, h, hp, rfl, rs_fin hc hn ?_⟩
    show (bif Nat.beq (rTy k) 0 then fin (.inl none) h else none) = _
    rw [h2]; rfl
theorem rt_athrow (hn : nrm (livAt k pc) L0 = lM (pr sw) L) (hp : Rep b sw σ h)  (hc : codeAt k pc = some (.athrow)) (he : exS b d k (.athrow) pc L S σ = some r) : Res b sw d k pc L0 (S.map (vM (pr sw))) h r := by
  cases S with
  | nil => cases he
  | cons v0 S0 =>
    cases v0 with
    | ref a =>
      obtain ⟨h2, he⟩ := bif_some he
      rw [Bool.and_eq_true] at h2
      cases finS_r he
      have ha := Nat.eq_of_beq_eq_true h2.2
      subst ha
      refine ⟨.inr 29, h, hp, ⟨29, rfl, ?_⟩, rs_fin hc hn ?_⟩
      · have := rp_T hp (a := 29) (c := 0) rfl (by decide)
        rw [pr_lo (by decide)] at this
        exact this
      · show (bif List.isEmpty (hTab k) && Nat.ble K0 (pr sw 29) then fin (.inr (pr sw 29)) h else none) = _
        rw [h2.1, pr_lo (by decide)]; rfl
    | _ => cases he
theorem rt_new (hn : nrm (livAt k pc) L0 = lM (pr sw) L) (hp : Rep b sw σ h) {n : Nat} (hc : codeAt k pc = some (.new n)) (he : exS b d k (.new n) pc L S σ = some r) : Res b sw d k pc L0 (S.map (vM (pr sw))) h r := by
  obtain ⟨q, hq, he⟩ := ob_some he
  obtain ⟨hg, he⟩ := bif_some he
  rw [Bool.and_eq_true] at hg
  obtain ⟨hg, hw⟩ := hg
  unfold nwt at hg
  simp only [Bool.and_eq_true] at hg
  obtain ⟨g1, g2, g3, g4⟩ := hg
  by_cases hx : sX σ < 200
  · rw [if_pos hx] at he
    cases finS_r he
    obtain ⟨e, cel, hp⟩ := hp
    have hroom := repU_room hp
    have hk := repU_exc (t := q.1) hp hx
    have hca : codeAt k (pc + 9) = some .athrow := by
      split at g3
      · assumption
      · cases g3
    have h6 := tb_x hq g1
    refine ⟨.inr (hC h), mkC h q.1 6 6, ⟨e, cel, hk⟩, ⟨hC h, rfl, if_pos rfl⟩, ?_⟩
    have e1 : ex d k (.new n) pc (lM (pr sw) L) (S.map (vM (pr sw))) h = nx (pc + 9) (lM (pr sw) L) (.ref (hC h) :: S.map (vM (pr sw))) (mkC h q.1 6 6) := by
      show ob (nT (oN k) n) _ = _
      rw [hq, ob_ok]
      show (bif exT q.1 then (bif nwx d k pc q.1 && Nat.ble (wds (S.map (vM (pr sw)))) 8 then ob (nO h q.1 q.2) (fun r => nx (pc + 9) (lM (pr sw) L) (.ref r.1 :: S.map (vM (pr sw))) r.2) else none) else _) = _
      rw [g1, g2, wds_map, hw, h6]
      show ob (nO h q.1 6) _ = _
      unfold nO
      rw [if_pos hroom]; rfl
    rw [rs_nx hc hn e1]
    refine rs_fin hca rfl ?_
    show (bif List.isEmpty (hTab k) && Nat.ble K0 (hC h) then fin (.inr (hC h)) (mkC h q.1 6 6) else none) = _
    rw [g4, Nat.ble_eq_true_of_le (show K0 ≤ hC h by have h1 : K0 = 26 := rfl; have h2 := hp.2.2.2.2.2.2.2.1; omega)]; rfl
  · rw [if_neg hx] at he; cases he
theorem tg_99 (a : Nat) : tgS a ≤ 99 := by
  rcases Nat.lt_or_ge a 207 with z | z
  · have : ∀ a, a < 207 → tgS a ≤ 99 := by decide +kernel
    exact this a z
  · rw [tg_207 a z]; exact Nat.le_refl _
theorem tb_sta : ∀ w, w < 12 → ∀ e ∈ mLs w, e.2.1 = 1 → e.2.2.2.2 ≤ 30 := by decide +kernel
theorem tb_st {w n : Nat} {q : Nat × Nat × Nat × Nat} (h : mT w n = some q) (h1 : q.1 = 1) : q.2.2.2 ≤ 30 := by
  have hm := lk_mem h
  rcases Nat.lt_or_ge w 12 with z | z
  · exact tb_sta w z _ hm h1
  · rw [(mL_out w z).2.1] at hm; cases hm
/-- calls -/
theorem ex_cal {n' : Nat} {q : Nat × Nat × Nat × Nat} {ig : Instr} {S0 : List Value} (hq : mT (oN k) n' = some q) (hkd : q.1 ≤ 4) (hig : ((q.1 = 0 ∨ q.1 = 3) ∧ ig = .invokevirtual n') ∨ (q.1 = 1 ∧ ig = .invokestatic n')) (hg : (Nat.ble q.2.2.1 S0.length && Nat.ble (wds (S0.drop q.2.2.1)) 8 && Nat.ble (wds (S0.take q.2.2.1)) (mxL q.2.1) && (Nat.beq q.1 1 || isC h ((S0.take q.2.2.1).getLastD .null) q.2.2.2)) = true) :
    ex d k ig pc L S0 h = cal q.2.1 (S0.take q.2.2.1).reverse (pc + 3) L (S0.drop q.2.2.1) h := by
  obtain ⟨kd, k', n, c⟩ := q
  simp only at hig hkd
  have e1 : exC d (kd, k', n, c) pc L S0 h = cal k' (S0.take n).reverse (pc + 3) L (S0.drop n) h := by
    unfold exC
    dsimp only
    rw [Nat.ble_eq_true_of_le hkd, cond_true]
    simp only at hg
    rw [hg]; rfl
  rcases hig with ⟨z | z, rfl⟩ | ⟨z, rfl⟩
  · show ob (mT (oN k) n') _ = _
    rw [hq, ob_ok]
    simp only [z, Nat.beq, Bool.true_or, cond_true]
    subst z
    exact e1
  · show ob (mT (oN k) n') _ = _
    rw [hq, ob_ok]
    subst z
    exact e1
  · show ob (mT (oN k) n') _ = _
    rw [hq, ob_ok]
    subst z
    exact e1
theorem rt_row {n' : Nat} {q : Nat × Nat × Nat × Nat} (hn : nrm (livAt k pc) L0 = lM (pr sw) L) (hp : Rep b sw σ h) (hc : codeAt k pc = some (.invokevirtual n')) (hq : mT (oN k) n' = some q) (h1 : 89 ≤ q.2.1) (h2 : q.2.1 ≤ 93) (hkd : q.1 ≤ 4) (hd : 4 ≤ d) (he : exW q.2.1 pc L S σ = some r) : Res b sw d k pc L0 (S.map (vM (pr sw))) h r := by
  obtain ⟨t1, t2, t3, t4, t5, t6, t7⟩ := tb_r hq h1 h2 hkd
  obtain ⟨d, rfl⟩ : ∃ d', d = d' + 2 := ⟨d - 2, by omega⟩
  -- one step into the method and out of it
  have go : ∀ (as rest : List Value) (v : Option Value) (h' : AH), (as.reverse ++ rest) = S.map (vM (pr sw)) → as.length = q.2.2.1 → wds rest ≤ 8 → wds as ≤ mxL q.2.1 → isC h (as.headD .null) 4 = true → mth (d + 1) q.2.1 as h = some (.inl v, h') → rtOK (rTy q.2.1) v = true → ev (d + 2) k pc L0 (S.map (vM (pr sw))) h = ev (d + 2) k (pc + 3) (lM (pr sw) L) (v.toList ++ rest) h' := by
    intro as rest v h' hS hl hr ha hcl hm hrt
    have hS1 : (S.map (vM (pr sw))).drop q.2.2.1 = rest := by rw [← hS, ← hl, ← List.length_reverse, List.drop_left]
    have hS2 : (S.map (vM (pr sw))).take q.2.2.1 = as.reverse := by rw [← hS, ← hl, ← List.length_reverse, List.take_left]
    have hlen : q.2.2.1 ≤ (S.map (vM (pr sw))).length := by rw [← hS, List.length_append, List.length_reverse]; omega
    have hw : wds as.reverse = wds as := by unfold wds; rw [List.map_reverse, List.sum_reverse]
    have hla : as.reverse.getLastD .null = as.headD .null := by
      rw [List.getLastD_eq_getLast?, List.getLast?_reverse]
      cases as <;> rfl
    have e1 := ex_cal (d := d + 2) (h := h) (pc := pc) (L := lM (pr sw) L) (S0 := S.map (vM (pr sw))) hq hkd (Or.inl ⟨t1, rfl⟩) (by
      rw [hS1, hS2, Nat.ble_eq_true_of_le hlen, Nat.ble_eq_true_of_le hr, hw, Nat.ble_eq_true_of_le ha, hla, t2, hcl]
      simp)
    rw [ev_at hc hn, e1, hS1, hS2, List.reverse_reverse]
    show (match ev (d + 1) q.2.1 0 (ent 0 as) [] h with
      | none => none
      | some (.inl v, h2) => bif rtOK (rTy q.2.1) v then ev (d + 2) k (pc + 3) (lM (pr sw) L) (v.toList ++ rest) h2 else none
      | some (.inr a, h2) => match hnd (hTab k) pc (hT h2 a) with
        | some p => ev (d + 2) k p (lM (pr sw) L) [.ref a] h2
        | none => bif (hTab k).isEmpty then some (.inr a, h2) else none) = _
    rw [show ev (d + 1) q.2.1 0 (ent 0 as) [] h = some (.inl v, h') from hm]
    show (bif rtOK (rTy q.2.1) v then _ else none) = _
    rw [hrt]; rfl
  have hcl : ∀ a, tgS a = 4 → a ∈ rowIds ∧ isC h (.ref (pr sw a)) 4 = true := by
    intro a ha
    refine ⟨tg_row a (tgK_lt (by unfold tgK; rw [ha]; rfl)) ha, ?_⟩
    show Nat.beq (hT h (pr sw a)) 4 = true
    rw [rp_T hp ha (by decide)]; rfl
  have hk : q.2.1 = 89 ∨ q.2.1 = 90 ∨ q.2.1 = 91 ∨ q.2.1 = 92 ∨ q.2.1 = 93 := by omega
  rcases hk with z | z | z | z | z
  · rw [z] at he go
    have he : wAt pc L S σ = some r := he
    unfold wAt at he
    split at he
    · rename_i kk rr S' _
      obtain ⟨hg, he⟩ := bif_some he
      rw [Bool.and_eq_true] at hg
      obtain ⟨hr, hcc⟩ := hcl rr (Nat.eq_of_beq_eq_true hg.1)
      obtain ⟨x, hx, he⟩ := ob_some he
      cases nxS_r he
      exact ⟨h, hp, go [.ref (pr sw rr), .int kk] (S'.map (vM (pr sw))) (some (.int x)) h rfl (t3 z).symm (by rw [wds_map]; exact Nat.le_of_ble_eq_true hg.2) (by show 2 ≤ mxL 89; decide) hcc (rep_at hp hr hx) rfl⟩
    · cases he
  · rw [z] at he go
    have he : wAdd pc L S σ = some r := he
    unfold wAdd at he
    split at he
    · rename_i kk rr S' _
      obtain ⟨hg, he⟩ := bif_some he
      rw [Bool.and_eq_true] at hg
      obtain ⟨hr, hcc⟩ := hcl rr (Nat.eq_of_beq_eq_true hg.1)
      obtain ⟨x, hx, he⟩ := ob_some he
      cases nxS_r he
      obtain ⟨h', m1, m2⟩ := rep_add (d := d) hp hr hx
      exact ⟨h', m2, go [.ref (pr sw rr), .int kk] (S'.map (vM (pr sw))) (some (.int x.1)) h' rfl (t4 z).symm (by rw [wds_map]; exact Nat.le_of_ble_eq_true hg.2) (by show 2 ≤ mxL 90; decide) hcc m1 rfl⟩
    · cases he
  · rw [z] at he go
    have he : wSet pc L S σ = some r := he
    unfold wSet at he
    split at he
    · rename_i vv kk rr S' _
      obtain ⟨hg, he⟩ := bif_some he
      rw [Bool.and_eq_true] at hg
      obtain ⟨hr, hcc⟩ := hcl rr (Nat.eq_of_beq_eq_true hg.1)
      obtain ⟨x, hx, he⟩ := ob_some he
      cases nxS_r he
      obtain ⟨h', m1, m2⟩ := rep_rset (d := d + 1) hp hr hx
      exact ⟨h', m2, go [.ref (pr sw rr), .int kk, .int vv] (S'.map (vM (pr sw))) none h' rfl (t5 z).symm (by rw [wds_map]; exact Nat.le_of_ble_eq_true hg.2) (by show 3 ≤ mxL 91; decide) hcc m1 rfl⟩
    · cases he
  · rw [z] at he go
    have he : wTake pc L S σ = some r := he
    unfold wTake at he
    split at he
    · rename_i rr S' _
      obtain ⟨hg, he⟩ := bif_some he
      rw [Bool.and_eq_true] at hg
      obtain ⟨hr, hcc⟩ := hcl rr (Nat.eq_of_beq_eq_true hg.1)
      obtain ⟨x, hx, he⟩ := ob_some he
      cases nxS_r he
      obtain ⟨h', m1, m2⟩ := rep_take (d := d + 1) hp hr hx
      exact ⟨h', m2, go [.ref (pr sw rr)] (S'.map (vM (pr sw))) (some (.int x.1)) h' rfl (t6 z).symm (by rw [wds_map]; exact Nat.le_of_ble_eq_true hg.2) (by show 1 ≤ mxL 92; decide) hcc m1 rfl⟩
    · cases he
  · rw [z] at he go
    have he : wTop pc L S σ = some r := he
    unfold wTop at he
    split at he
    · rename_i rr S' _
      obtain ⟨hg, he⟩ := bif_some he
      rw [Bool.and_eq_true] at hg
      obtain ⟨hr, hcc⟩ := hcl rr (Nat.eq_of_beq_eq_true hg.1)
      obtain ⟨x, hx, he⟩ := ob_some he
      cases nxS_r he
      exact ⟨h, hp, go [.ref (pr sw rr)] (S'.map (vM (pr sw))) (some (.int x)) h rfl (t7 z).symm (by rw [wds_map]; exact Nat.le_of_ble_eq_true hg.2) (by show 1 ≤ mxL 93; decide) hcc (rep_top hp hr hx) rfl⟩
    · cases he
theorem rt_cal {n' : Nat} {q : Nat × Nat × Nat × Nat} {ig : Instr} (hn : nrm (livAt k pc) L0 = lM (pr sw) L) (hp : Rep b sw σ h) (hc : codeAt k pc = some ig) (hq : mT (oN k) n' = some q) (hkd : q.1 ≤ 4) (hig : ((q.1 = 0 ∨ q.1 = 3) ∧ ig = .invokevirtual n') ∨ (q.1 = 1 ∧ ig = .invokestatic n'))
    (he : (bif Nat.ble 89 q.2.1 && Nat.ble q.2.1 93 then (bif Nat.ble 4 d && !Nat.beq q.1 1 then exW q.2.1 pc L S σ else none) else bif Nat.beq q.1 2 || Nat.beq q.1 4 then none else bif Nat.ble q.2.2.1 S.length && Nat.ble (wds (S.drop q.2.2.1)) 8 && Nat.ble (wds (S.take q.2.2.1)) (mxL q.2.1) && (Nat.beq q.1 1 || isCS ((S.take q.2.2.1).getLastD .null) q.2.2.2) then calS q.2.1 (S.take q.2.2.1).reverse (pc + 3) L (S.drop q.2.2.1) σ else none) = some r) : Res b sw d k pc L0 (S.map (vM (pr sw))) h r := by
  cases h1 : (Nat.ble 89 q.2.1 && Nat.ble q.2.1 93) with
  | true =>
    rw [h1] at he
    have he : (bif Nat.ble 4 d && !Nat.beq q.1 1 then exW q.2.1 pc L S σ else none) = some r := he
    obtain ⟨hg, he⟩ := bif_some he
    rw [Bool.and_eq_true] at h1 hg
    have hkk := tb_r hq (Nat.le_of_ble_eq_true h1.1) (Nat.le_of_ble_eq_true h1.2) hkd
    rcases hig with ⟨-, rfl⟩ | ⟨z, -⟩
    · exact rt_row hn hp hc hq (Nat.le_of_ble_eq_true h1.1) (Nat.le_of_ble_eq_true h1.2) hkd (Nat.le_of_ble_eq_true hg.1) he
    · have := hkk.1; omega
  | false =>
    rw [h1] at he
    have he : (bif Nat.beq q.1 2 || Nat.beq q.1 4 then none else bif Nat.ble q.2.2.1 S.length && Nat.ble (wds (S.drop q.2.2.1)) 8 && Nat.ble (wds (S.take q.2.2.1)) (mxL q.2.1) && (Nat.beq q.1 1 || isCS ((S.take q.2.2.1).getLastD .null) q.2.2.2) then calS q.2.1 (S.take q.2.2.1).reverse (pc + 3) L (S.drop q.2.2.1) σ else none) = some r := he
    cases h2 : (Nat.beq q.1 2 || Nat.beq q.1 4) with
    | true => rw [h2] at he; cases he
    | false =>
      rw [h2] at he
      have he : (bif Nat.ble q.2.2.1 S.length && Nat.ble (wds (S.drop q.2.2.1)) 8 && Nat.ble (wds (S.take q.2.2.1)) (mxL q.2.1) && (Nat.beq q.1 1 || isCS ((S.take q.2.2.1).getLastD .null) q.2.2.2) then calS q.2.1 (S.take q.2.2.1).reverse (pc + 3) L (S.drop q.2.2.1) σ else none) = some r := he
      obtain ⟨hg, he⟩ := bif_some he
      have he := (Option.some.inj he).symm
      subst he
      refine ⟨hp, ?_⟩
      have hc14 : q.1 = 0 ∨ q.1 = 3 → q.2.2.2 < 14 := by
        intro z
        rcases okC _ _ _ hq with ⟨y, -, y2, -⟩ | ⟨y, -⟩ | ⟨y, -⟩ | ⟨y, -, y2, -⟩ | ⟨y, -⟩ | ⟨y, -⟩ | ⟨y, -⟩ | ⟨y, -⟩ | ⟨y, -⟩ | ⟨y, -⟩ | ⟨y, -⟩ | ⟨y, -⟩
        · exact y2
        · omega
        · omega
        · exact y2
        all_goals omega
      simp only [Bool.and_eq_true] at hg
      obtain ⟨⟨⟨g1, g2⟩, g3⟩, g4⟩ := hg
      have e1 := ex_cal (d := d) (h := h) (pc := pc) (L := lM (pr sw) L) (S0 := S.map (vM (pr sw))) hq hkd hig (by
        rw [List.length_map, ← List.map_drop, ← List.map_take, wds_map, wds_map, g1, g2, g3]
        simp only [Bool.true_and]
        rcases Bool.or_eq_true_iff.mp g4 with z | z
        · rw [z]; rfl
        · rw [Bool.or_eq_true_iff]
          refine Or.inr ?_
          have hcc : q.1 = 0 ∨ q.1 = 3 ∨ q.1 = 1 := by rcases hig with ⟨y | y, -⟩ | ⟨y, -⟩ <;> omega
          rw [List.getLastD_eq_getLast?, List.getLast?_map]
          rw [List.getLastD_eq_getLast?] at z
          cases hl : (S.take q.2.2.1).getLast? with
          | none => rw [hl] at z; cases z
          | some v =>
            rw [hl] at z
            have z : isCS v q.2.2.2 = true := z
            show isC h (vM (pr sw) v) q.2.2.2 = true
            cases v with
            | ref a =>
              have z : Nat.beq (tgS a) q.2.2.2 = true := z
              have ha := Nat.eq_of_beq_eq_true z
              show Nat.beq (hT h (pr sw a)) q.2.2.2 = true
              rcases hcc with y | y | y
              · rw [rp_T hp ha (by have := hc14 (Or.inl y); omega)]; exact Nat.beq_refl _
              · rw [rp_T hp ha (by have := hc14 (Or.inr y); omega)]; exact Nat.beq_refl _
              · have hk30 : q.2.2.2 ≤ 30 := by
                  have : tgS a ≤ 99 := tg_99 a
                  rcases Nat.lt_or_ge (tgS a) 31 with w | w
                  · omega
                  · exfalso
                    have := tb_st hq y
                    omega
                rw [rp_T hp ha hk30]; exact Nat.beq_refl _
            | _ => cases z)
      rw [ev_at hc hn, e1]
      show _ = _
      rw [← List.map_take, ← List.map_drop, ← List.map_reverse]
      rfl
theorem rt_invokevirtual (hn : nrm (livAt k pc) L0 = lM (pr sw) L) (hp : Rep b sw σ h) {n : Nat} (hc : codeAt k pc = some (.invokevirtual n)) (he : exS b d k (.invokevirtual n) pc L S σ = some r) : Res b sw d k pc L0 (S.map (vM (pr sw))) h r := by
  obtain ⟨⟨kd, k', n2, c2⟩, hq, he⟩ := ob_some he
  obtain ⟨hb, he⟩ := bif_some he
  have hb : kd = 0 ∨ kd = 3 ∨ kd = 13 ∨ kd = 14 := by
    simp only [Bool.or_eq_true] at hb
    rcases hb with (((z | z) | z) | z)
    · exact Or.inl (Nat.eq_of_beq_eq_true z)
    · exact Or.inr (Or.inl (Nat.eq_of_beq_eq_true z))
    · exact Or.inr (Or.inr (Or.inl (Nat.eq_of_beq_eq_true z)))
    · exact Or.inr (Or.inr (Or.inr (Nat.eq_of_beq_eq_true z)))
  rcases hb with rfl | rfl | rfl | rfl
  · exact rt_cal hn hp hc hq (Nat.le_of_ble_eq_true rfl) (Or.inl ⟨Or.inl rfl, rfl⟩) he
  · exact rt_cal hn hp hc hq (Nat.le_of_ble_eq_true rfl) (Or.inl ⟨Or.inr rfl, rfl⟩) he
  · cases S with
    | nil => cases he
    | cons v0 S0 =>
      cases v0 with
      | ref v =>
        obtain ⟨hb, he⟩ := bif_some he
        obtain ⟨x, hg, he⟩ := ob_some he
        cases nxS_r he
        refine ⟨h, hp, rs_nx hc hn ?_⟩
        show ob (mT (oN k) n) _ = _
        rw [hq, ob_ok]
        show (bif Nat.ble 6 d && Nat.ble (wds (S0.map (vM (pr sw)))) 8 then ob (stL h (pr sw v)) (fun x => nx (pc + 3) (lM (pr sw) L) (.int x :: S0.map (vM (pr sw))) h) else none) = _
        rw [wds_map, hb]
        rw [cond_true, stL_r hp hg]; rfl
      | _ => cases he
  · cases S with
    | nil => cases he
    | cons v0 S0 =>
      cases v0 with
      | int i =>
        cases S0 with
        | nil => cases he
        | cons v1 S1 =>
          cases v1 with
          | ref v =>
            obtain ⟨hb, he⟩ := bif_some he
            obtain ⟨x, hg, he⟩ := ob_some he
            cases nxS_r he
            refine ⟨h, hp, rs_nx hc hn ?_⟩
            show ob (mT (oN k) n) _ = _
            rw [hq, ob_ok]
            show (bif Nat.ble 6 d && Nat.ble (wds (S1.map (vM (pr sw)))) 8 then ob (stC h (pr sw v) i) (fun x => nx (pc + 3) (lM (pr sw) L) (.int x :: S1.map (vM (pr sw))) h) else none) = _
            rw [wds_map, hb]
            rw [cond_true, stC_r hp hg]; rfl
          | _ => cases he
      | _ => cases he
theorem rt_invokestatic (hn : nrm (livAt k pc) L0 = lM (pr sw) L) (hp : Rep b sw σ h) {n : Nat} (hc : codeAt k pc = some (.invokestatic n)) (he : exS b d k (.invokestatic n) pc L S σ = some r) : Res b sw d k pc L0 (S.map (vM (pr sw))) h r := by
  obtain ⟨⟨kd, k', n2, c2⟩, hq, he⟩ := ob_some he
  obtain ⟨hb, he⟩ := bif_some he
  have hb : kd = 1 ∨ kd = 15 ∨ kd = 16 := by
    simp only [Bool.or_eq_true] at hb
    rcases hb with ((z | z) | z)
    · exact Or.inl (Nat.eq_of_beq_eq_true z)
    · exact Or.inr (Or.inl (Nat.eq_of_beq_eq_true z))
    · exact Or.inr (Or.inr (Nat.eq_of_beq_eq_true z))
  rcases hb with rfl | rfl | rfl
  · exact rt_cal hn hp hc hq (Nat.le_of_ble_eq_true rfl) (Or.inr ⟨rfl, rfl⟩) he
  · cases S with
    | nil => cases he
    | cons v0 S0 =>
      cases v0 with
      | int y =>
        cases S0 with
        | nil => cases he
        | cons v1 S1 =>
          cases v1 with
          | int x =>
            obtain ⟨hb, he⟩ := bif_some he
            cases nxS_r he
            refine ⟨h, hp, rs_nx hc hn ?_⟩
            show ob (mT (oN k) n) _ = _
            rw [hq, ob_ok]
            show (bif Nat.ble 1 d && Nat.ble (wds (S1.map (vM (pr sw)))) 8 then nx (pc + 3) (lM (pr sw) L) (.int (mxI x y) :: S1.map (vM (pr sw))) h else none) = _
            rw [wds_map, hb]
            rfl
          | _ => cases he
      | _ => cases he
  · cases S with
    | nil => cases he
    | cons v0 S0 =>
      cases v0 with
      | int y =>
        cases S0 with
        | nil => cases he
        | cons v1 S1 =>
          cases v1 with
          | int x =>
            obtain ⟨hb, he⟩ := bif_some he
            cases nxS_r he
            refine ⟨h, hp, rs_nx hc hn ?_⟩
            show ob (mT (oN k) n) _ = _
            rw [hq, ob_ok]
            show (bif Nat.ble 1 d && Nat.ble (wds (S1.map (vM (pr sw)))) 8 then nx (pc + 3) (lM (pr sw) L) (.int (mnI x y) :: S1.map (vM (pr sw))) h else none) = _
            rw [wds_map, hb]
            rfl
          | _ => cases he
      | _ => cases he
theorem rt_all (hn : nrm (livAt k pc) L0 = lM (pr sw) L) (hp : Rep b sw σ h) {i : Instr} (hc : codeAt k pc = some i) (he : exS b d k i pc L S σ = some r) : Res b sw d k pc L0 (S.map (vM (pr sw))) h r := by
  cases i with
  | iadd  => exact rt_iadd hn hp hc he
  | isub  => exact rt_isub hn hp hc he
  | imul  => exact rt_imul hn hp hc he
  | iand  => exact rt_iand hn hp hc he
  | ior  => exact rt_ior hn hp hc he
  | ixor  => exact rt_ixor hn hp hc he
  | ishl  => exact rt_ishl hn hp hc he
  | ishr  => exact rt_ishr hn hp hc he
  | idiv  => exact rt_idiv hn hp hc he
  | irem  => exact rt_irem hn hp hc he
  | ladd  => exact rt_ladd hn hp hc he
  | lsub  => exact rt_lsub hn hp hc he
  | lmul  => exact rt_lmul hn hp hc he
  | land  => exact rt_land hn hp hc he
  | lor  => exact rt_lor hn hp hc he
  | lxor  => exact rt_lxor hn hp hc he
  | lcmp  => exact rt_lcmp hn hp hc he
  | lshl  => exact rt_lshl hn hp hc he
  | lshr  => exact rt_lshr hn hp hc he
  | lushr  => exact rt_lushr hn hp hc he
  | lneg  => exact rt_lneg hn hp hc he
  | l2i  => exact rt_l2i hn hp hc he
  | pop2  => exact rt_pop2 hn hp hc he
  | i2l  => exact rt_i2l hn hp hc he
  | i2b  => exact rt_i2b hn hp hc he
  | iconst _ => exact rt_iconst hn hp hc he
  | bipush _ => exact rt_bipush hn hp hc he
  | sipush _ => exact rt_sipush hn hp hc he
  | lconst _ => exact rt_lconst hn hp hc he
  | dup  => exact rt_dup hn hp hc he
  | pop  => exact rt_pop hn hp hc he
  | dup_x1  => exact rt_dup_x1 hn hp hc he
  | iload _ => exact rt_iload hn hp hc he
  | iload_n _ => exact rt_iload_n hn hp hc he
  | lload _ => exact rt_lload hn hp hc he
  | lload_n _ => exact rt_lload_n hn hp hc he
  | aload _ => exact rt_aload hn hp hc he
  | aload_n _ => exact rt_aload_n hn hp hc he
  | istore _ => exact rt_istore hn hp hc he
  | istore_n _ => exact rt_istore_n hn hp hc he
  | lstore _ => exact rt_lstore hn hp hc he
  | lstore_n _ => exact rt_lstore_n hn hp hc he
  | astore _ => exact rt_astore hn hp hc he
  | astore_n _ => exact rt_astore_n hn hp hc he
  | iinc _ _ => exact rt_iinc hn hp hc he
  | goto _ => exact rt_goto hn hp hc he
  | iaload  => exact rt_iaload hn hp hc he
  | baload  => exact rt_baload hn hp hc he
  | laload  => exact rt_laload hn hp hc he
  | aaload  => exact rt_aaload hn hp hc he
  | iastore  => exact rt_iastore hn hp hc he
  | bastore  => exact rt_bastore hn hp hc he
  | lastore  => exact rt_lastore hn hp hc he
  | arraylength  => exact rt_arraylength hn hp hc he
  | getfield _ => exact rt_getfield hn hp hc he
  | putfield _ => exact rt_putfield hn hp hc he
  | getstatic _ => exact rt_getstatic hn hp hc he
  | ldc _ => exact rt_ldc hn hp hc he
  | ldc2_w _ => exact rt_ldc2_w hn hp hc he
  | lookupswitch _ _ => exact rt_lookupswitch hn hp hc he
  | tableswitch _ _ _ _ => exact rt_tableswitch hn hp hc he
  | ireturn  => exact rt_ireturn hn hp hc he
  | lreturn  => exact rt_lreturn hn hp hc he
  | areturn  => exact rt_areturn hn hp hc he
  | return_  => exact rt_return_ hn hp hc he
  | athrow  => exact rt_athrow hn hp hc he
  | new _ => exact rt_new hn hp hc he
  | invokevirtual _ => exact rt_invokevirtual hn hp hc he
  | invokestatic _ => exact rt_invokestatic hn hp hc he
  | if_icmp c n => cases c with
    | eq => exact rt_if_icmp_eq hn hp hc he
    | ne => exact rt_if_icmp_ne hn hp hc he
    | lt => exact rt_if_icmp_lt hn hp hc he
    | ge => exact rt_if_icmp_ge hn hp hc he
    | gt => exact rt_if_icmp_gt hn hp hc he
    | le => exact rt_if_icmp_le hn hp hc he
  | ifCond c n => cases c with
    | eq => exact rt_ifCond_eq hn hp hc he
    | ne => exact rt_ifCond_ne hn hp hc he
    | lt => exact rt_ifCond_lt hn hp hc he
    | ge => exact rt_ifCond_ge hn hp hc he
    | gt => exact rt_ifCond_gt hn hp hc he
    | le => exact rt_ifCond_le hn hp hc he
  | _ => cases he
theorem sim2_run (b sw : Bool) : ∀ (n d k pc : Nat) (L : LO) (S : List Value) (σ : SG) (o : OU) (σ' : SG) (h : AH), runS b n d k pc L S σ = some (o, σ') → Rep b sw σ h → ∃ o' h', ev d k pc (lM (pr sw) L) (S.map (vM (pr sw))) h = some (o', h') ∧ Rep b sw σ' h' ∧ RO sw o o' h'
  | 0 => fun _ _ _ _ _ _ _ _ _ hr _ => by cases hr
  | n + 1 => by
    have ih := sim2_run b sw n
    intro d k pc L S σ o σ' h hr hp
    have hr : stpS b (runS b n) d k pc L S σ = some (o, σ') := hr
    unfold stpS at hr
    cases hc : codeAt k pc with
    | none => rw [hc] at hr; cases hr
    | some i =>
      rw [hc] at hr
      dsimp only at hr
      cases he : exS b d k i pc (nrm (livAt k pc) L) S σ with
      | none => rw [he] at hr; cases hr
      | some r =>
        rw [he] at hr
        have hres := rt_all (L0 := lM (pr sw) L) (L := nrm (livAt k pc) L) nrm_lM hp hc he
        rcases r with ⟨pc', L', S', σ1⟩ | ⟨o1, σ1⟩ | ⟨k', as, pc', L', S', σ1⟩
        · obtain ⟨h1, p1, p2⟩ := hres
          rw [p2]
          exact ih _ _ _ _ _ _ _ _ _ hr p1
        · obtain ⟨o2, h1, p1, p2, p3⟩ := hres
          cases hr
          exact ⟨o2, h1, p3, p1, p2⟩
        · obtain ⟨p1, p2⟩ := hres
          cases d with
          | zero => cases hr
          | succ d' =>
            dsimp only at hr p2
            cases hrec : runS b n d' k' 0 (ent 0 as) [] σ1 with
            | none => rw [hrec] at hr; cases hr
            | some y =>
              rw [hrec] at hr
              obtain ⟨o1, σ2⟩ := y
              obtain ⟨o2, h2, z1, z2, z3⟩ := ih _ _ _ _ _ _ _ _ _ hrec p1
              rw [p2, ent_M]
              have z1 : ev d' k' 0 (lM (pr sw) (ent 0 as)) [] h = some (o2, h2) := z1
              rw [z1]
              cases o1 with
              | inl v =>
                have z3 : o2 = .inl (v.map (vM (pr sw))) := z3
                subst z3
                dsimp only at hr ⊢
                obtain ⟨hrt, hr⟩ := bif_some hr
                have hrt2 : rtOK (rTy k') (v.map (vM (pr sw))) = true := by
                  cases v with
                  | none => exact hrt
                  | some w => cases w <;> exact hrt
                rw [hrt2, cond_true]
                have e2 : (v.map (vM (pr sw))).toList ++ S'.map (vM (pr sw)) = (v.toList ++ S').map (vM (pr sw)) := by
                  rw [List.map_append]; cases v <;> rfl
                rw [e2]
                exact ih _ _ _ _ _ _ _ _ _ hr z2
              | inr t =>
                obtain ⟨a, rfl, ha⟩ := z3
                dsimp only at hr ⊢
                obtain ⟨hem, hr⟩ := bif_some hr
                cases hr
                have he0 := List.isEmpty_iff.mp hem
                rw [he0]
                exact ⟨.inr a, h2, rfl, z2, a, rfl, ha⟩
theorem sim2 {o : OU} {σ' : SG} (hr : evS b d k pc L S σ = some (o, σ')) (hp : Rep b sw σ h) : ∃ o' h', ev d k pc (lM (pr sw) L) (S.map (vM (pr sw))) h = some (o', h') ∧ Rep b sw σ' h' ∧ RO sw o o' h' := by
  obtain ⟨n, hn⟩ := runS_of_ev hr
  exact sim2_run b sw n _ _ _ _ _ _ _ _ _ hn hp
end

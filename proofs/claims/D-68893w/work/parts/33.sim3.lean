/-! the simulation, 3: stores, arrays -/
set_option maxRecDepth 100000
section
variable {l : Launch} {s0 : State} {D : va_G} {dA : Nat → ClassId} {xt : Nat → Nat} {hE : AH} {args0 : Array Value} {d k pc : Nat} {L : LO} {S : List Value} {h h' : AH} {o : OU}
variable {p : Program} {e : Env} {R : Room} {s : State} {m : MethodId} {args : Array Value} {below : List Frame} {meth : Method} {c : Code} {H : Heap} {locs : List Loc} {cells slots : Nat} {ls : Array Slot}
theorem if_some {α : Type} {c : Prop} {i : Decidable c} {a b : α} (h : ite c (some a) none = some b) : c ∧ a = b := by
  by_cases hq : c
  · rw [if_pos hq] at h; exact ⟨hq, Option.some.inj h⟩
  · rw [if_neg hq] at h; cases h
theorem sm_gI (wd : Wd s0 D dA xt hE args0) {a n c f t : Nat} {fi : Bool} {x : Int32} (hc : codeAt k pc = some (.getfield n)) (hf : fT (oN k) n = some (c, f, t, fi)) (ht : t = 0 ∨ t = 3) (hg : gI h a c f = some x) (hk : Sm l s0 D dA xt hE d k (pc + 3) L (.int x :: S) h o h') : Sm l s0 D dA xt hE d k pc L (.ref a :: S) h o h' := by
  obtain ⟨h1, rfl⟩ := if_some hg
  obtain ⟨-, -, -, hty, -⟩ := okF _ _ _ hf
  refine sm_get wd hc hf h1 ?_ hk
  rcases hty with ⟨-, z⟩ | ⟨-, z⟩ | ⟨y, -⟩ | ⟨y, -⟩
  · show fV _ h a c f = _
    unfold fV; rw [z]; rfl
  · show fV _ h a c f = _
    unfold fV; rw [z]; rfl
  · exact absurd y (by rcases ht with rfl | rfl <;> (intro z; cases z))
  · exact absurd y (by rcases ht with rfl | rfl <;> (intro z; cases z))
theorem sm_gL (wd : Wd s0 D dA xt hE args0) {a n c f t : Nat} {fi : Bool} {x : Int64} (hc : codeAt k pc = some (.getfield n)) (hf : fT (oN k) n = some (c, f, t, fi)) (ht : t = 1) (hg : gL h a c f = some x) (hk : Sm l s0 D dA xt hE d k (pc + 3) L (.long x :: S) h o h') : Sm l s0 D dA xt hE d k pc L (.ref a :: S) h o h' := by
  obtain ⟨h1, rfl⟩ := if_some hg
  subst ht
  obtain ⟨-, -, -, hty, -⟩ := okF _ _ _ hf
  refine sm_get wd hc hf h1 ?_ hk
  rcases hty with ⟨y, -⟩ | ⟨y, -⟩ | ⟨-, z⟩ | ⟨y, -⟩
  · cases y
  · cases y
  · show fV _ h a c f = _
    unfold fV; rw [z]; rfl
  · cases y
theorem rfV_some {v : Value} {b : Nat} (h : rfV v = some b) : v = .ref b := by
  cases v <;> cases h
  rfl
theorem sm_gR (wd : Wd s0 D dA xt hE args0) {a n c f t b : Nat} {fi : Bool} (hc : codeAt k pc = some (.getfield n)) (hf : fT (oN k) n = some (c, f, t, fi)) (ht : ¬ (t = 0 ∨ t = 3) ∧ ¬ t = 1) (hg : gR h a c f = some b) (hk : Sm l s0 D dA xt hE d k (pc + 3) L (.ref b :: S) h o h') : Sm l s0 D dA xt hE d k pc L (.ref a :: S) h o h' := by
  unfold gR at hg
  by_cases h1 : hT h a = c
  · rw [if_pos h1] at hg
    have h2 := rfV_some hg
    obtain ⟨-, -, -, hty, -⟩ := okF _ _ _ hf
    refine sm_get wd hc hf h1 ?_ hk
    rcases hty with ⟨y, -⟩ | ⟨y, -⟩ | ⟨y, -⟩ | ⟨-, ⟨C, z⟩ | ⟨C, z⟩⟩
    · exact absurd (Or.inl y) ht.1
    · exact absurd (Or.inr y) ht.1
    · exact absurd y ht.2
    · show fV _ h a c f = _
      unfold fV; rw [z, ← h2]
    · show fV _ h a c f = _
      unfold fV; rw [z, ← h2]
  · rw [if_neg h1] at hg; cases hg
theorem fi_of {fi : Bool} {c : Nat} (h : (!fi || Nat.beq (iN k) c) = true) : fi = false ∨ iN k = c := by
  rcases Bool.or_eq_true_iff.mp h with q | q
  · exact Or.inl (by cases fi <;> simp_all)
  · exact Or.inr (Nat.eq_of_beq_eq_true q)
theorem sm_pIx (wd : Wd s0 D dA xt hE args0) {a n c f t : Nat} {fi : Bool} {x : Int32} (hc : codeAt k pc = some (.putfield n)) (hf : fT (oN k) n = some (c, f, t, fi)) (hfi : (!fi || Nat.beq (iN k) c) = true) (hT1 : hT h a = c) (ht : t = 0 ∨ (t = 3 ∧ (x = 0 ∨ x = 1))) (hk : Sm l s0 D dA xt hE d k (pc + 3) L S (sI h a f x) o h') : Sm l s0 D dA xt hE d k pc L (.int x :: .ref a :: S) h o h' := by
  obtain ⟨hc14, -, -, hty, -⟩ := okF _ _ _ hf
  have hty' : tyC c f = .int ∨ (tyC c f = .boolean ∧ (x = 0 ∨ x = 1)) := by
    rcases hty with ⟨y, z⟩ | ⟨y, z⟩ | ⟨y, -⟩ | ⟨y, -⟩
    · exact Or.inl z
    · rcases ht with rfl | ht
      · cases y
      · exact Or.inr ⟨z, ht.2⟩
    · rcases ht with rfl | ⟨rfl, -⟩ <;> cases y
    · rcases ht with rfl | ⟨rfl, -⟩ <;> cases y
  refine sm_put (v := .int x) (h1 := sI h a f x) wd hc hf hT1 (fi_of hfi) ?_ ?_ rfl rfl rfl rfl (fun b hb => by funext j; exact if_neg (fun z => hb z.1)) (fun b hb => cE_sI hb) ?_ hk
  · show narrow (tyC c f) (.int x) = .int x
    rcases hty' with z | ⟨z, z2⟩
    · rw [z]; rfl
    · rw [z]; rcases z2 with rfl | rfl <;> rfl
  · show fits (tyC c f) (.int x) = true
    rcases hty' with z | ⟨z, z2⟩
    · rw [z]; rfl
    · rw [z]; rcases z2 with rfl | rfl <;> rfl
  · rw [cE_o (c := c) (show hT (sI h a f x) a = c from hT1) hc14]
    congr 2
    refine fs_set ?_ ?_
    · have e1 : hI (sI h a f x) a f = x := if_pos ⟨rfl, rfl⟩
      unfold fV
      rcases hty' with z | ⟨z, -⟩ <;> rw [z, e1] <;> rfl
    · intro j hj
      have e1 : hI (sI h a f x) a j = hI h a j := if_neg (fun z => hj z.2)
      unfold fV
      rw [e1]; rfl
theorem sm_pL (wd : Wd s0 D dA xt hE args0) {a n c f t : Nat} {fi : Bool} {x : Int64} (hc : codeAt k pc = some (.putfield n)) (hf : fT (oN k) n = some (c, f, t, fi)) (hfi : (!fi || Nat.beq (iN k) c) = true) (hT1 : hT h a = c) (ht : t = 1) (hk : Sm l s0 D dA xt hE d k (pc + 3) L S (sL h a f x) o h') : Sm l s0 D dA xt hE d k pc L (.long x :: .ref a :: S) h o h' := by
  obtain ⟨hc14, -, -, hty, -⟩ := okF _ _ _ hf
  subst ht
  have hty' : tyC c f = .long := by
    rcases hty with ⟨y, -⟩ | ⟨y, -⟩ | ⟨-, z⟩ | ⟨y, -⟩
    · cases y
    · cases y
    · exact z
    · cases y
  refine sm_put (v := .long x) (h1 := sL h a f x) wd hc hf hT1 (fi_of hfi) ?_ ?_ rfl rfl rfl rfl (fun b hb => rfl) (fun b hb => cE_sL hb) ?_ hk
  · show narrow (tyC c f) (.long x) = .long x
    rw [hty']; rfl
  · show fits (tyC c f) (.long x) = true
    rw [hty']; rfl
  · rw [cE_o (c := c) (show hT (sL h a f x) a = c from hT1) hc14]
    congr 2
    refine fs_set ?_ ?_
    · have e1 : hL (sL h a f x) a f = x := if_pos ⟨rfl, rfl⟩
      unfold fV
      rw [hty', e1]; rfl
    · intro j hj
      have e1 : hL (sL h a f x) a j = hL h a j := if_neg (fun z => hj z.2)
      unfold fV
      rw [e1]; rfl
theorem sm_pR (wd : Wd s0 D dA xt hE args0) {a b n c f t : Nat} {fi : Bool} (hc : codeAt k pc = some (.putfield n)) (hf : fT (oN k) n = some (c, f, t, fi)) (hfi : (!fi || Nat.beq (iN k) c) = true) (hT1 : hT h a = c) (ht : t = 2) (hk : Sm l s0 D dA xt hE d k (pc + 3) L S (sR h a f (.ref b)) o h') : Sm l s0 D dA xt hE d k pc L (.ref b :: .ref a :: S) h o h' := by
  obtain ⟨hc14, -, -, hty, -⟩ := okF _ _ _ hf
  subst ht
  have hty' : (∃ C, tyC c f = .object C) ∨ ∃ t, tyC c f = .array t := by
    rcases hty with ⟨y, -⟩ | ⟨y, -⟩ | ⟨y, -⟩ | ⟨-, z⟩
    · cases y
    · cases y
    · cases y
    · exact z
  refine sm_put (v := .ref b) (h1 := sR h a f (.ref b)) wd hc hf hT1 (fi_of hfi) ?_ ?_ rfl rfl rfl rfl (fun b hb => rfl) (fun b hb => cE_sR hb) ?_ hk
  · show narrow (tyC c f) (.ref _) = .ref _
    rcases hty' with ⟨C, z⟩ | ⟨C, z⟩ <;> rw [z] <;> rfl
  · show fits (tyC c f) (.ref _) = true
    rcases hty' with ⟨C, z⟩ | ⟨C, z⟩ <;> rw [z] <;> rfl
  · rw [cE_o (c := c) (show hT (sR h a f (.ref b)) a = c from hT1) hc14]
    congr 2
    refine fs_set ?_ ?_
    · have e1 : hR (sR h a f (.ref b)) a f = .ref b := if_pos ⟨rfl, rfl⟩
      unfold fV
      rcases hty' with ⟨C, z⟩ | ⟨C, z⟩ <;> rw [z, e1]
    · intro j hj
      have e1 : hR (sR h a f (.ref b)) a j = hR h a j := if_neg (fun z => hj z.2)
      unfold fV
      rw [e1]; rfl
/-- arrays -/
theorem ix_in {i : Int32} {n : Nat} (hi : ixN i n = true) : vp_in i n := by
  unfold ixN at hi
  rw [Bool.and_eq_true, decide_eq_true_iff, decide_eq_true_iff] at hi
  intro hq
  rcases hq with hq | hq
  · exact absurd hi.1 (Int32.not_le.mpr hq)
  · omega
theorem cE_i {ad : Nat → Nat} {a : Nat} (t : Nat) (ht : hT h a = t) (h2 : t = 20 ∨ t = 21 ∨ t = 23) : cE dA ad h a = .inl (dA (t - 20), hN h a, .inl (hI h a)) := by
  unfold cE
  rw [ht, if_neg (by omega), if_neg (by omega), if_neg (by omega)]
theorem cE_l {ad : Nat → Nat} {a : Nat} (ht : hT h a = 22) : cE dA ad h a = .inl (dA 2, hN h a, .inr (.inl (hL h a))) := by
  unfold cE
  rw [ht, if_neg (by omega), if_pos rfl]
theorem cE_q {ad : Nat → Nat} {a : Nat} (ht : hT h a = 24) : cE dA ad h a = .inl (dA 4, hN h a, .inr (.inr (.inr (.inr (fun j => (rfV (hR h a j)).map ad))))) := by
  unfold cE
  rw [ht, if_neg (by omega), if_neg (by omega), if_pos rfl]
theorem fr_S (hR : Rp s0 D dA xt hE h H) (hfr : Fr s0 s H cells) (hlo : ∀ q ∈ locs, s0.heap.size ≤ q.base) : va_S (fun q => s0.heap.size ≤ q) s.heap H locs := ⟨by rw [hfr.2.2]; omega, fun q _ hq => (hR.2.2.1 q (by simp only at hq; omega)).trans (hfr.2.1 q (by simp only at hq; omega)).symm, hlo⟩
theorem fr_S0 (hR : Rp s0 D dA xt hE h H) (hlo : ∀ q ∈ locs, s0.heap.size ≤ q.base) : va_S (fun q => s0.heap.size ≤ q) s0.heap H locs := ⟨by rw [hR.2.1]; omega, fun q hq _ => hR.2.2.1 q hq, hlo⟩
theorem ext_of (wd : Wd s0 D dA xt hE args0) (hR : Rp s0 D dA xt hE h H) {a : Nat} (ha : a < K0) : (hT h a = 20 → a = 0) ∧ (hT h a = 21 → a = 1) ∧ ¬ hT h a = 22 ∧ ¬ hT h a = 23 ∧ ¬ hT h a = 24 := by
  have h1 := (hR.2.2.2.2.2 a ha).1
  rcases Nat.lt_or_ge a 2 with z | z
  · rcases (show a = 0 ∨ a = 1 by omega) with rfl | rfl
    · rw [wd.2.2.1.1] at h1; rw [h1]; omega
    · rw [wd.2.2.1.2.1] at h1; rw [h1]; omega
  · rw [wd.2.2.1.2.2 a z ha] at h1; rw [h1]; omega
theorem sm_iaload (wd : Wd s0 D dA xt hE args0) {a : Nat} {i x : Int32} (hc : codeAt k pc = some .iaload) (hg : aI h a i = some x) (hk : Sm l s0 D dA xt hE d k (pc + 1) L (.int x :: S) h o h') : Sm l s0 D dA xt hE d k pc L (.int i :: .ref a :: S) h o h' := by
  obtain ⟨⟨ht, hi⟩, rfl⟩ := if_some hg
  refine ⟨hk.1, fun p e R s m args below meth c H locs cells slots ls cx hR hl hfr hlo hd hw hcl hsl => ?_⟩
  have hdg : decode (mtA k).2.1 pc = .ok (.iaload, 1) := dec_at cx hc rfl (by decide)
  have hwm := cx.2.2.2.2.2.2.1
  have kk := hk.2 p e R s m args below meth c H locs cells slots ls cx hR hl hfr hlo hd hw hcl hsl
  rcases Nat.lt_or_ge a K0 with ha | ha
  · have h0 := (ext_of wd hR ha).1 ht
    subst h0
    have e0 := hR.2.2.2.2.2 0 (by decide)
    rw [e0.2.1] at hi
    rw [e0.2.2] at kk
    have hX := va_X.moved hwm.alike wd.2.2.2.1.1
    exact va_sld (b := xt 0) (A := fun q => s0.heap.size ≤ q) cx.1 cx.2.1 hX wd.2.2.2.1.2 (Nat.not_le.mpr wd.2.2.2.1.2) (fr_S0 hR hlo) (ix_in hi) hdg kk
  · have haC := rp_lt hR (a := a) (by rw [ht]; decide)
    have he := rp_ws (s0 := s0) (dA := dA) (xt := xt) ha haC
    rw [cE_i 20 ht (Or.inl rfl)] at he
    exact va_iald cx.1 cx.2.1 (wd_K wd hwm) hR.2.2.2.1 (a - K0) 0 he rfl (ix_in hi) hdg kk
theorem sm_baload (wd : Wd s0 D dA xt hE args0) {a : Nat} {i x : Int32} (hc : codeAt k pc = some .baload) (hg : aB h a i = some x) (hk : Sm l s0 D dA xt hE d k (pc + 1) L (.int x :: S) h o h') : Sm l s0 D dA xt hE d k pc L (.int i :: .ref a :: S) h o h' := by
  obtain ⟨⟨ht, hi⟩, rfl⟩ := if_some hg
  refine ⟨hk.1, fun p e R s m args below meth c H locs cells slots ls cx hR hl hfr hlo hd hw hcl hsl => ?_⟩
  have hdg : decode (mtA k).2.1 pc = .ok (.baload, 1) := dec_at cx hc rfl (by decide)
  have hwm := cx.2.2.2.2.2.2.1
  have kk := hk.2 p e R s m args below meth c H locs cells slots ls cx hR hl hfr hlo hd hw hcl hsl
  rcases Nat.lt_or_ge a K0 with ha | ha
  · have ht1 : hT h a = 21 := by
      rcases ht with z | z
      · exact z
      · exact absurd z (ext_of wd hR ha).2.2.2.1
    have h0 := (ext_of wd hR ha).2.1 ht1
    subst h0
    have e0 := hR.2.2.2.2.2 1 (by decide)
    rw [e0.2.1] at hi
    rw [e0.2.2] at kk
    have hX : va_T .byte (xt 1) (hN hE 1) (fun j => .int (hI hE 1 j)) (fun q => s0.heap.size ≤ q) s s.heap := (va_T.moved hwm.alike wd.2.2.2.2.1).kept (fun q hq _ => hfr.2.1 q hq)
    exact va_tb (t := adO s0 xt 1) cx.1 cx.2.1 hX (fr_S hR hfr hlo) (ix_in hi) rfl hdg kk
  · have haC := rp_lt hR (a := a) (by rcases ht with z | z <;> rw [z] <;> decide)
    have he := rp_ws (s0 := s0) (dA := dA) (xt := xt) ha haC
    rcases ht with ht | ht
    · rw [cE_i 21 ht (Or.inr (Or.inl rfl))] at he
      exact va_bald cx.1 cx.2.1 (wd_K wd hwm) hR.2.2.2.1 (a - K0) 1 he rfl (ix_in hi) hdg kk
    · rw [cE_i 23 ht (Or.inr (Or.inr rfl))] at he
      exact va_zald cx.1 cx.2.1 (wd_K wd hwm) hR.2.2.2.1 (a - K0) 3 he rfl (ix_in hi) hdg kk
theorem sm_laload (wd : Wd s0 D dA xt hE args0) {a : Nat} {i : Int32} {x : Int64} (hc : codeAt k pc = some .laload) (hg : aL h a i = some x) (hk : Sm l s0 D dA xt hE d k (pc + 1) L (.long x :: S) h o h') : Sm l s0 D dA xt hE d k pc L (.int i :: .ref a :: S) h o h' := by
  obtain ⟨⟨ht, hi⟩, rfl⟩ := if_some hg
  refine ⟨hk.1, fun p e R s m args below meth c H locs cells slots ls cx hR hl hfr hlo hd hw hcl hsl => ?_⟩
  have hdg : decode (mtA k).2.1 pc = .ok (.laload, 1) := dec_at cx hc rfl (by decide)
  have hwm := cx.2.2.2.2.2.2.1
  have kk := hk.2 p e R s m args below meth c H locs cells slots ls cx hR hl hfr hlo hd hw hcl hsl
  rcases Nat.lt_or_ge a K0 with ha | ha
  · exact absurd ht (ext_of wd hR ha).2.2.1
  · have haC := rp_lt hR (a := a) (by rw [ht]; decide)
    have he := rp_ws (s0 := s0) (dA := dA) (xt := xt) ha haC
    rw [cE_l ht] at he
    exact va_lald cx.1 cx.2.1 (wd_K wd hwm) hR.2.2.2.1 (a - K0) 2 he rfl (ix_in hi) hdg kk
theorem sm_aaload (wd : Wd s0 D dA xt hE args0) {a b : Nat} {i : Int32} (hc : codeAt k pc = some .aaload) (hg : aR h a i = some b) (hk : Sm l s0 D dA xt hE d k (pc + 1) L (.ref b :: S) h o h') : Sm l s0 D dA xt hE d k pc L (.int i :: .ref a :: S) h o h' := by
  unfold aR at hg
  by_cases hq : hT h a = 24 ∧ ixN i (hN h a) = true
  · rw [if_pos hq] at hg
    obtain ⟨ht, hi⟩ := hq
    refine ⟨hk.1, fun p e R s m args below meth c H locs cells slots ls cx hR hl hfr hlo hd hw hcl hsl => ?_⟩
    have hdg : decode (mtA k).2.1 pc = .ok (.aaload, 1) := dec_at cx hc rfl (by decide)
    have hwm := cx.2.2.2.2.2.2.1
    have kk := hk.2 p e R s m args below meth c H locs cells slots ls cx hR hl hfr hlo hd hw hcl hsl
    rcases Nat.lt_or_ge a K0 with ha | ha
    · exact absurd ht (ext_of wd hR ha).2.2.2.2
    · have haC := rp_lt hR (a := a) (by rw [ht]; decide)
      have he := rp_ws (s0 := s0) (dA := dA) (xt := xt) ha haC
      rw [cE_q ht] at he
      refine va_aldq cx.1 cx.2.1 (wd_K wd hwm) hR.2.2.2.1 (a - K0) 4 he rfl (ix_in hi) hdg ?_
      rw [hg]
      exact kk
  · rw [if_neg hq] at hg; cases hg
theorem sm_alen (wd : Wd s0 D dA xt hE args0) {a : Nat} {x : Int32} (hc : codeAt k pc = some .arraylength) (hg : aN h a = some x) (hk : Sm l s0 D dA xt hE d k (pc + 1) L (.int x :: S) h o h') : Sm l s0 D dA xt hE d k pc L (.ref a :: S) h o h' := by
  obtain ⟨ht, rfl⟩ := if_some hg
  refine ⟨hk.1, fun p e R s m args below meth c H locs cells slots ls cx hR hl hfr hlo hd hw hcl hsl => ?_⟩
  have hdg : decode (mtA k).2.1 pc = .ok (.arraylength, 1) := dec_at cx hc rfl (by decide)
  have hwm := cx.2.2.2.2.2.2.1
  have kk := hk.2 p e R s m args below meth c H locs cells slots ls cx hR hl hfr hlo hd hw hcl hsl
  rcases Nat.lt_or_ge a K0 with ha | ha
  · have hx := ext_of wd hR ha
    rcases (show hT h a = 20 ∨ hT h a = 21 by omega) with z | z
    · have h0 := hx.1 z
      subst h0
      have e0 := hR.2.2.2.2.2 0 (by decide)
      rw [e0.2.1] at kk
      exact va_slen (b := xt 0) (A := fun q => s0.heap.size ≤ q) cx.1 cx.2.1 (va_X.moved hwm.alike wd.2.2.2.1.1) wd.2.2.2.1.2 (Nat.not_le.mpr wd.2.2.2.1.2) (fr_S0 hR hlo) hdg kk
    · have h0 := hx.2.1 z
      subst h0
      have e0 := hR.2.2.2.2.2 1 (by decide)
      rw [e0.2.1] at kk
      have hX : va_T .byte (xt 1) (hN hE 1) (fun j => .int (hI hE 1 j)) (fun q => s0.heap.size ≤ q) s s.heap := (va_T.moved hwm.alike wd.2.2.2.2.1).kept (fun q hq _ => hfr.2.1 q hq)
      exact va_tlen (t := adO s0 xt 1) cx.1 cx.2.1 hX (fr_S hR hfr hlo) rfl hdg kk
  · have haC := rp_lt hR (a := a) (by omega)
    have he := rp_ws (s0 := s0) (dA := dA) (xt := xt) ha haC
    rcases (show (hT h a = 20 ∨ hT h a = 21 ∨ hT h a = 23) ∨ hT h a = 22 ∨ hT h a = 24 by omega) with z | z | z
    · rcases z with z | z | z
      · rw [cE_i 20 z (Or.inl rfl)] at he
        exact va_alen cx.1 cx.2.1 (wd_K wd hwm) hR.2.2.2.1 (a - K0) 0 he rfl rfl hdg kk
      · rw [cE_i 21 z (Or.inr (Or.inl rfl))] at he
        exact va_alen cx.1 cx.2.1 (wd_K wd hwm) hR.2.2.2.1 (a - K0) 1 he rfl rfl hdg kk
      · rw [cE_i 23 z (Or.inr (Or.inr rfl))] at he
        exact va_alen cx.1 cx.2.1 (wd_K wd hwm) hR.2.2.2.1 (a - K0) 3 he rfl rfl hdg kk
    · rw [cE_l z] at he
      exact va_alen cx.1 cx.2.1 (wd_K wd hwm) hR.2.2.2.1 (a - K0) 2 he rfl rfl hdg kk
    · rw [cE_q z] at he
      exact va_alen cx.1 cx.2.1 (wd_K wd hwm) hR.2.2.2.1 (a - K0) 4 he rfl rfl hdg kk
end

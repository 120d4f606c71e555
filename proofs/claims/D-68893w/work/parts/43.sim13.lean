/-! the simulation, 13: every instruction -/
set_option maxRecDepth 100000
theorem nx_r {pc : Nat} {L : LO} {S : List Value} {h : AH} {r : (Nat × LO × List Value × AH) ⊕ (OU × AH) ⊕ (Nat × List Value × Nat × LO × List Value × AH)} (e : nx pc L S h = some r) : r = .inl (pc, L, S, h) := (Option.some.inj e).symm
theorem fin_r {o : OU} {h : AH} {r : (Nat × LO × List Value × AH) ⊕ (OU × AH) ⊕ (Nat × List Value × Nat × LO × List Value × AH)} (e : fin o h = some r) : r = .inr (.inl (o, h)) := (Option.some.inj e).symm
section
variable {S : List Value} {L : LO} {r : (Nat × LO × List Value × AH) ⊕ (OU × AH) ⊕ (Nat × List Value × Nat × LO × List Value × AH)}
theorem q1_s {f : Value → List Value → XR} (e : q1 S f = some r) : ∃ v S', S = v :: S' ∧ f v S' = some r := by
  unfold q1 at e
  split at e
  · exact ⟨_, _, rfl, e⟩
  · cases e
theorem qI_s {f : Int32 → List Value → XR} (e : qI S f = some r) : ∃ a S', S = .int a :: S' ∧ f a S' = some r := by
  unfold qI at e
  split at e
  · exact ⟨_, _, rfl, e⟩
  · cases e
theorem qA_s {f : Nat → List Value → XR} (e : qA S f = some r) : ∃ a S', S = .ref a :: S' ∧ f a S' = some r := by
  unfold qA at e
  split at e
  · exact ⟨_, _, rfl, e⟩
  · cases e
theorem qJ_s {f : Int64 → List Value → XR} (e : qJ S f = some r) : ∃ a S', S = .long a :: S' ∧ f a S' = some r := by
  unfold qJ at e
  split at e
  · exact ⟨_, _, rfl, e⟩
  · cases e
theorem qII_s {f : Int32 → Int32 → List Value → XR} (e : qII S f = some r) : ∃ a b S', S = .int b :: .int a :: S' ∧ f a b S' = some r := by
  unfold qII at e
  split at e
  · exact ⟨_, _, _, rfl, e⟩
  · cases e
theorem qJJ_s {f : Int64 → Int64 → List Value → XR} (e : qJJ S f = some r) : ∃ a b S', S = .long b :: .long a :: S' ∧ f a b S' = some r := by
  unfold qJJ at e
  split at e
  · exact ⟨_, _, _, rfl, e⟩
  · cases e
theorem qJI_s {f : Int64 → Int32 → List Value → XR} (e : qJI S f = some r) : ∃ a b S', S = .int b :: .long a :: S' ∧ f a b S' = some r := by
  unfold qJI at e
  split at e
  · exact ⟨_, _, _, rfl, e⟩
  · cases e
theorem lI_s {i : Nat} {f : Int32 → XR} (e : lI L i f = some r) : ∃ a, L.lookup i = some (.int a) ∧ f a = some r := by
  unfold lI at e
  split at e
  · rename_i hz; exact ⟨_, hz, e⟩
  · cases e
theorem lJ_s {i : Nat} {f : Int64 → XR} (e : lJ L i f = some r) : ∃ a, L.lookup i = some (.long a) ∧ f a = some r := by
  unfold lJ at e
  split at e
  · rename_i hz; exact ⟨_, hz, e⟩
  · cases e
theorem lA_s {i : Nat} {f : Nat → XR} (e : lA L i f = some r) : ∃ a, L.lookup i = some (.ref a) ∧ f a = some r := by
  unfold lA at e
  split at e
  · rename_i hz; exact ⟨_, hz, e⟩
  · cases e
theorem jp_s {pc : Nat} {o : Int} {f : Nat → XR} (e : jp pc o f = some r) : ∃ t : Nat, (pc : Int) + o = (t : Int) ∧ f t = some r := by
  unfold jp at e
  by_cases hq : 0 ≤ (pc : Int) + o
  · rw [if_pos hq] at e
    exact ⟨_, by omega, e⟩
  · rw [if_neg hq] at e; cases e
end
section
variable {l : Launch} {s0 : State} {D : va_G} {dA : Nat → ClassId} {xt : Nat → Nat} {hE : AH} {args0 : Array Value} {d k pc : Nat} {L : LO} {S : List Value} {h h' : AH} {o : OU} {rec : RC} {r : (Nat × LO × List Value × AH) ⊕ (OU × AH) ⊕ (Nat × List Value × Nat × LO × List Value × AH)}
theorem st_iadd (wd : Wd s0 D dA xt hE args0) (wx : Wx l s0 xt args0) (ws : Ws s0 xt hE) (ih : Sr1 l s0 D dA xt hE rec)  (hc : codeAt k pc = some (.iadd)) (he : ex d k (.iadd) pc L S h = some r) (hx : Xk rec d k pc r = some (o, h')) : Sm l s0 D dA xt hE d k pc L S h o h' := by
  obtain ⟨a, b, S', rfl, he⟩ := qII_s he
  cases nx_r he
  exact sm_iadd hc (ih _ _ _ _ _ _ _ _ hx)
theorem st_isub (wd : Wd s0 D dA xt hE args0) (wx : Wx l s0 xt args0) (ws : Ws s0 xt hE) (ih : Sr1 l s0 D dA xt hE rec)  (hc : codeAt k pc = some (.isub)) (he : ex d k (.isub) pc L S h = some r) (hx : Xk rec d k pc r = some (o, h')) : Sm l s0 D dA xt hE d k pc L S h o h' := by
  obtain ⟨a, b, S', rfl, he⟩ := qII_s he
  cases nx_r he
  exact sm_isub hc (ih _ _ _ _ _ _ _ _ hx)
theorem st_imul (wd : Wd s0 D dA xt hE args0) (wx : Wx l s0 xt args0) (ws : Ws s0 xt hE) (ih : Sr1 l s0 D dA xt hE rec)  (hc : codeAt k pc = some (.imul)) (he : ex d k (.imul) pc L S h = some r) (hx : Xk rec d k pc r = some (o, h')) : Sm l s0 D dA xt hE d k pc L S h o h' := by
  obtain ⟨a, b, S', rfl, he⟩ := qII_s he
  cases nx_r he
  exact sm_imul hc (ih _ _ _ _ _ _ _ _ hx)
theorem st_iand (wd : Wd s0 D dA xt hE args0) (wx : Wx l s0 xt args0) (ws : Ws s0 xt hE) (ih : Sr1 l s0 D dA xt hE rec)  (hc : codeAt k pc = some (.iand)) (he : ex d k (.iand) pc L S h = some r) (hx : Xk rec d k pc r = some (o, h')) : Sm l s0 D dA xt hE d k pc L S h o h' := by
  obtain ⟨a, b, S', rfl, he⟩ := qII_s he
  cases nx_r he
  exact sm_iand hc (ih _ _ _ _ _ _ _ _ hx)
theorem st_ior (wd : Wd s0 D dA xt hE args0) (wx : Wx l s0 xt args0) (ws : Ws s0 xt hE) (ih : Sr1 l s0 D dA xt hE rec)  (hc : codeAt k pc = some (.ior)) (he : ex d k (.ior) pc L S h = some r) (hx : Xk rec d k pc r = some (o, h')) : Sm l s0 D dA xt hE d k pc L S h o h' := by
  obtain ⟨a, b, S', rfl, he⟩ := qII_s he
  cases nx_r he
  exact sm_ior hc (ih _ _ _ _ _ _ _ _ hx)
theorem st_ixor (wd : Wd s0 D dA xt hE args0) (wx : Wx l s0 xt args0) (ws : Ws s0 xt hE) (ih : Sr1 l s0 D dA xt hE rec)  (hc : codeAt k pc = some (.ixor)) (he : ex d k (.ixor) pc L S h = some r) (hx : Xk rec d k pc r = some (o, h')) : Sm l s0 D dA xt hE d k pc L S h o h' := by
  obtain ⟨a, b, S', rfl, he⟩ := qII_s he
  cases nx_r he
  exact sm_ixor hc (ih _ _ _ _ _ _ _ _ hx)
theorem st_ishl (wd : Wd s0 D dA xt hE args0) (wx : Wx l s0 xt args0) (ws : Ws s0 xt hE) (ih : Sr1 l s0 D dA xt hE rec)  (hc : codeAt k pc = some (.ishl)) (he : ex d k (.ishl) pc L S h = some r) (hx : Xk rec d k pc r = some (o, h')) : Sm l s0 D dA xt hE d k pc L S h o h' := by
  obtain ⟨a, b, S', rfl, he⟩ := qII_s he
  cases nx_r he
  exact sm_ishl hc (ih _ _ _ _ _ _ _ _ hx)
theorem st_ishr (wd : Wd s0 D dA xt hE args0) (wx : Wx l s0 xt args0) (ws : Ws s0 xt hE) (ih : Sr1 l s0 D dA xt hE rec)  (hc : codeAt k pc = some (.ishr)) (he : ex d k (.ishr) pc L S h = some r) (hx : Xk rec d k pc r = some (o, h')) : Sm l s0 D dA xt hE d k pc L S h o h' := by
  obtain ⟨a, b, S', rfl, he⟩ := qII_s he
  cases nx_r he
  exact sm_ishr hc (ih _ _ _ _ _ _ _ _ hx)
theorem st_idiv (wd : Wd s0 D dA xt hE args0) (wx : Wx l s0 xt args0) (ws : Ws s0 xt hE) (ih : Sr1 l s0 D dA xt hE rec)  (hc : codeAt k pc = some (.idiv)) (he : ex d k (.idiv) pc L S h = some r) (hx : Xk rec d k pc r = some (o, h')) : Sm l s0 D dA xt hE d k pc L S h o h' := by
  obtain ⟨a, b, S', rfl, he⟩ := qII_s he
  have he : (if b = 0 then none else nx (pc + 1) L (.int (a / b) :: S') h) = some r := he
  by_cases hb : b = 0
  · rw [if_pos hb] at he; cases he
  · rw [if_neg hb] at he
    cases nx_r he
    exact sm_idiv hc hb (ih _ _ _ _ _ _ _ _ hx)
theorem st_irem (wd : Wd s0 D dA xt hE args0) (wx : Wx l s0 xt args0) (ws : Ws s0 xt hE) (ih : Sr1 l s0 D dA xt hE rec)  (hc : codeAt k pc = some (.irem)) (he : ex d k (.irem) pc L S h = some r) (hx : Xk rec d k pc r = some (o, h')) : Sm l s0 D dA xt hE d k pc L S h o h' := by
  obtain ⟨a, b, S', rfl, he⟩ := qII_s he
  have he : (if b = 0 then none else nx (pc + 1) L (.int (a - a / b * b) :: S') h) = some r := he
  by_cases hb : b = 0
  · rw [if_pos hb] at he; cases he
  · rw [if_neg hb] at he
    cases nx_r he
    exact sm_irem hc hb (ih _ _ _ _ _ _ _ _ hx)
theorem st_ladd (wd : Wd s0 D dA xt hE args0) (wx : Wx l s0 xt args0) (ws : Ws s0 xt hE) (ih : Sr1 l s0 D dA xt hE rec)  (hc : codeAt k pc = some (.ladd)) (he : ex d k (.ladd) pc L S h = some r) (hx : Xk rec d k pc r = some (o, h')) : Sm l s0 D dA xt hE d k pc L S h o h' := by
  obtain ⟨a, b, S', rfl, he⟩ := qJJ_s he
  cases nx_r he
  exact sm_ladd hc (ih _ _ _ _ _ _ _ _ hx)
theorem st_lsub (wd : Wd s0 D dA xt hE args0) (wx : Wx l s0 xt args0) (ws : Ws s0 xt hE) (ih : Sr1 l s0 D dA xt hE rec)  (hc : codeAt k pc = some (.lsub)) (he : ex d k (.lsub) pc L S h = some r) (hx : Xk rec d k pc r = some (o, h')) : Sm l s0 D dA xt hE d k pc L S h o h' := by
  obtain ⟨a, b, S', rfl, he⟩ := qJJ_s he
  cases nx_r he
  exact sm_lsub hc (ih _ _ _ _ _ _ _ _ hx)
theorem st_lmul (wd : Wd s0 D dA xt hE args0) (wx : Wx l s0 xt args0) (ws : Ws s0 xt hE) (ih : Sr1 l s0 D dA xt hE rec)  (hc : codeAt k pc = some (.lmul)) (he : ex d k (.lmul) pc L S h = some r) (hx : Xk rec d k pc r = some (o, h')) : Sm l s0 D dA xt hE d k pc L S h o h' := by
  obtain ⟨a, b, S', rfl, he⟩ := qJJ_s he
  cases nx_r he
  exact sm_lmul hc (ih _ _ _ _ _ _ _ _ hx)
theorem st_land (wd : Wd s0 D dA xt hE args0) (wx : Wx l s0 xt args0) (ws : Ws s0 xt hE) (ih : Sr1 l s0 D dA xt hE rec)  (hc : codeAt k pc = some (.land)) (he : ex d k (.land) pc L S h = some r) (hx : Xk rec d k pc r = some (o, h')) : Sm l s0 D dA xt hE d k pc L S h o h' := by
  obtain ⟨a, b, S', rfl, he⟩ := qJJ_s he
  cases nx_r he
  exact sm_land hc (ih _ _ _ _ _ _ _ _ hx)
theorem st_lor (wd : Wd s0 D dA xt hE args0) (wx : Wx l s0 xt args0) (ws : Ws s0 xt hE) (ih : Sr1 l s0 D dA xt hE rec)  (hc : codeAt k pc = some (.lor)) (he : ex d k (.lor) pc L S h = some r) (hx : Xk rec d k pc r = some (o, h')) : Sm l s0 D dA xt hE d k pc L S h o h' := by
  obtain ⟨a, b, S', rfl, he⟩ := qJJ_s he
  cases nx_r he
  exact sm_lor hc (ih _ _ _ _ _ _ _ _ hx)
theorem st_lxor (wd : Wd s0 D dA xt hE args0) (wx : Wx l s0 xt args0) (ws : Ws s0 xt hE) (ih : Sr1 l s0 D dA xt hE rec)  (hc : codeAt k pc = some (.lxor)) (he : ex d k (.lxor) pc L S h = some r) (hx : Xk rec d k pc r = some (o, h')) : Sm l s0 D dA xt hE d k pc L S h o h' := by
  obtain ⟨a, b, S', rfl, he⟩ := qJJ_s he
  cases nx_r he
  exact sm_lxor hc (ih _ _ _ _ _ _ _ _ hx)
theorem st_lcmp (wd : Wd s0 D dA xt hE args0) (wx : Wx l s0 xt args0) (ws : Ws s0 xt hE) (ih : Sr1 l s0 D dA xt hE rec)  (hc : codeAt k pc = some (.lcmp)) (he : ex d k (.lcmp) pc L S h = some r) (hx : Xk rec d k pc r = some (o, h')) : Sm l s0 D dA xt hE d k pc L S h o h' := by
  obtain ⟨a, b, S', rfl, he⟩ := qJJ_s he
  cases nx_r he
  exact sm_lcmp hc (ih _ _ _ _ _ _ _ _ hx)
theorem st_lshl (wd : Wd s0 D dA xt hE args0) (wx : Wx l s0 xt args0) (ws : Ws s0 xt hE) (ih : Sr1 l s0 D dA xt hE rec)  (hc : codeAt k pc = some (.lshl)) (he : ex d k (.lshl) pc L S h = some r) (hx : Xk rec d k pc r = some (o, h')) : Sm l s0 D dA xt hE d k pc L S h o h' := by
  obtain ⟨a, b, S', rfl, he⟩ := qJI_s he
  cases nx_r he
  exact sm_lshl hc (ih _ _ _ _ _ _ _ _ hx)
theorem st_lshr (wd : Wd s0 D dA xt hE args0) (wx : Wx l s0 xt args0) (ws : Ws s0 xt hE) (ih : Sr1 l s0 D dA xt hE rec)  (hc : codeAt k pc = some (.lshr)) (he : ex d k (.lshr) pc L S h = some r) (hx : Xk rec d k pc r = some (o, h')) : Sm l s0 D dA xt hE d k pc L S h o h' := by
  obtain ⟨a, b, S', rfl, he⟩ := qJI_s he
  cases nx_r he
  exact sm_lshr hc (ih _ _ _ _ _ _ _ _ hx)
theorem st_lushr (wd : Wd s0 D dA xt hE args0) (wx : Wx l s0 xt args0) (ws : Ws s0 xt hE) (ih : Sr1 l s0 D dA xt hE rec)  (hc : codeAt k pc = some (.lushr)) (he : ex d k (.lushr) pc L S h = some r) (hx : Xk rec d k pc r = some (o, h')) : Sm l s0 D dA xt hE d k pc L S h o h' := by
  obtain ⟨a, b, S', rfl, he⟩ := qJI_s he
  cases nx_r he
  exact sm_lushr hc (ih _ _ _ _ _ _ _ _ hx)
theorem st_lneg (wd : Wd s0 D dA xt hE args0) (wx : Wx l s0 xt args0) (ws : Ws s0 xt hE) (ih : Sr1 l s0 D dA xt hE rec)  (hc : codeAt k pc = some (.lneg)) (he : ex d k (.lneg) pc L S h = some r) (hx : Xk rec d k pc r = some (o, h')) : Sm l s0 D dA xt hE d k pc L S h o h' := by
  obtain ⟨a, S', rfl, he⟩ := qJ_s he
  cases nx_r he
  exact sm_lneg hc (ih _ _ _ _ _ _ _ _ hx)
theorem st_l2i (wd : Wd s0 D dA xt hE args0) (wx : Wx l s0 xt args0) (ws : Ws s0 xt hE) (ih : Sr1 l s0 D dA xt hE rec)  (hc : codeAt k pc = some (.l2i)) (he : ex d k (.l2i) pc L S h = some r) (hx : Xk rec d k pc r = some (o, h')) : Sm l s0 D dA xt hE d k pc L S h o h' := by
  obtain ⟨a, S', rfl, he⟩ := qJ_s he
  cases nx_r he
  exact sm_l2i hc (ih _ _ _ _ _ _ _ _ hx)
theorem st_i2l (wd : Wd s0 D dA xt hE args0) (wx : Wx l s0 xt args0) (ws : Ws s0 xt hE) (ih : Sr1 l s0 D dA xt hE rec)  (hc : codeAt k pc = some (.i2l)) (he : ex d k (.i2l) pc L S h = some r) (hx : Xk rec d k pc r = some (o, h')) : Sm l s0 D dA xt hE d k pc L S h o h' := by
  obtain ⟨a, S', rfl, he⟩ := qI_s he
  cases nx_r he
  exact sm_i2l hc (ih _ _ _ _ _ _ _ _ hx)
theorem st_i2b (wd : Wd s0 D dA xt hE args0) (wx : Wx l s0 xt args0) (ws : Ws s0 xt hE) (ih : Sr1 l s0 D dA xt hE rec)  (hc : codeAt k pc = some (.i2b)) (he : ex d k (.i2b) pc L S h = some r) (hx : Xk rec d k pc r = some (o, h')) : Sm l s0 D dA xt hE d k pc L S h o h' := by
  obtain ⟨a, S', rfl, he⟩ := qI_s he
  cases nx_r he
  exact sm_i2b hc (ih _ _ _ _ _ _ _ _ hx)
theorem st_iconst (wd : Wd s0 D dA xt hE args0) (wx : Wx l s0 xt args0) (ws : Ws s0 xt hE) (ih : Sr1 l s0 D dA xt hE rec) {n : Int} (hc : codeAt k pc = some (.iconst n)) (he : ex d k (.iconst n) pc L S h = some r) (hx : Xk rec d k pc r = some (o, h')) : Sm l s0 D dA xt hE d k pc L S h o h' := by
  cases nx_r he
  exact sm_iconst hc (ih _ _ _ _ _ _ _ _ hx)
theorem st_bipush (wd : Wd s0 D dA xt hE args0) (wx : Wx l s0 xt args0) (ws : Ws s0 xt hE) (ih : Sr1 l s0 D dA xt hE rec) {n : Int} (hc : codeAt k pc = some (.bipush n)) (he : ex d k (.bipush n) pc L S h = some r) (hx : Xk rec d k pc r = some (o, h')) : Sm l s0 D dA xt hE d k pc L S h o h' := by
  cases nx_r he
  exact sm_bipush hc (ih _ _ _ _ _ _ _ _ hx)
theorem st_sipush (wd : Wd s0 D dA xt hE args0) (wx : Wx l s0 xt args0) (ws : Ws s0 xt hE) (ih : Sr1 l s0 D dA xt hE rec) {n : Int} (hc : codeAt k pc = some (.sipush n)) (he : ex d k (.sipush n) pc L S h = some r) (hx : Xk rec d k pc r = some (o, h')) : Sm l s0 D dA xt hE d k pc L S h o h' := by
  cases nx_r he
  exact sm_sipush hc (ih _ _ _ _ _ _ _ _ hx)
theorem st_lconst (wd : Wd s0 D dA xt hE args0) (wx : Wx l s0 xt args0) (ws : Ws s0 xt hE) (ih : Sr1 l s0 D dA xt hE rec) {n : Fin 2} (hc : codeAt k pc = some (.lconst n)) (he : ex d k (.lconst n) pc L S h = some r) (hx : Xk rec d k pc r = some (o, h')) : Sm l s0 D dA xt hE d k pc L S h o h' := by
  cases nx_r he
  exact sm_lconst hc (ih _ _ _ _ _ _ _ _ hx)
theorem st_dup (wd : Wd s0 D dA xt hE args0) (wx : Wx l s0 xt args0) (ws : Ws s0 xt hE) (ih : Sr1 l s0 D dA xt hE rec)  (hc : codeAt k pc = some (.dup)) (he : ex d k (.dup) pc L S h = some r) (hx : Xk rec d k pc r = some (o, h')) : Sm l s0 D dA xt hE d k pc L S h o h' := by
  obtain ⟨v, S', rfl, he⟩ := q1_s he
  obtain ⟨hv, he⟩ := bif_some he
  cases nx_r he
  exact sm_dup hc (Nat.eq_of_beq_eq_true hv) (ih _ _ _ _ _ _ _ _ hx)
theorem st_pop (wd : Wd s0 D dA xt hE args0) (wx : Wx l s0 xt args0) (ws : Ws s0 xt hE) (ih : Sr1 l s0 D dA xt hE rec)  (hc : codeAt k pc = some (.pop)) (he : ex d k (.pop) pc L S h = some r) (hx : Xk rec d k pc r = some (o, h')) : Sm l s0 D dA xt hE d k pc L S h o h' := by
  obtain ⟨v, S', rfl, he⟩ := q1_s he
  obtain ⟨hv, he⟩ := bif_some he
  cases nx_r he
  exact sm_pop hc (Nat.eq_of_beq_eq_true hv) (ih _ _ _ _ _ _ _ _ hx)
theorem st_dup_x1 (wd : Wd s0 D dA xt hE args0) (wx : Wx l s0 xt args0) (ws : Ws s0 xt hE) (ih : Sr1 l s0 D dA xt hE rec)  (hc : codeAt k pc = some (.dup_x1)) (he : ex d k (.dup_x1) pc L S h = some r) (hx : Xk rec d k pc r = some (o, h')) : Sm l s0 D dA xt hE d k pc L S h o h' := by
  obtain ⟨v, S', rfl, he⟩ := q1_s he
  obtain ⟨w, S', rfl, he⟩ := q1_s he
  obtain ⟨hv, he⟩ := bif_some he
  rw [Bool.and_eq_true] at hv
  cases nx_r he
  exact sm_dup_x1 hc (Nat.eq_of_beq_eq_true hv.1) (Nat.eq_of_beq_eq_true hv.2) (ih _ _ _ _ _ _ _ _ hx)
theorem st_pop2 (wd : Wd s0 D dA xt hE args0) (wx : Wx l s0 xt args0) (ws : Ws s0 xt hE) (ih : Sr1 l s0 D dA xt hE rec)  (hc : codeAt k pc = some (.pop2)) (he : ex d k (.pop2) pc L S h = some r) (hx : Xk rec d k pc r = some (o, h')) : Sm l s0 D dA xt hE d k pc L S h o h' := by
  obtain ⟨a, S', rfl, he⟩ := qJ_s he
  cases nx_r he
  exact sm_pop2 hc (ih _ _ _ _ _ _ _ _ hx)
theorem st_iload (wd : Wd s0 D dA xt hE args0) (wx : Wx l s0 xt args0) (ws : Ws s0 xt hE) (ih : Sr1 l s0 D dA xt hE rec) {n : Nat} (hc : codeAt k pc = some (.iload n)) (he : ex d k (.iload n) pc L S h = some r) (hx : Xk rec d k pc r = some (o, h')) : Sm l s0 D dA xt hE d k pc L S h o h' := by
  obtain ⟨a, hi, he⟩ := lI_s he
  cases nx_r he
  exact sm_iload hc hi (ih _ _ _ _ _ _ _ _ hx)
theorem st_iload_n (wd : Wd s0 D dA xt hE args0) (wx : Wx l s0 xt args0) (ws : Ws s0 xt hE) (ih : Sr1 l s0 D dA xt hE rec) {n : Fin 4} (hc : codeAt k pc = some (.iload_n n)) (he : ex d k (.iload_n n) pc L S h = some r) (hx : Xk rec d k pc r = some (o, h')) : Sm l s0 D dA xt hE d k pc L S h o h' := by
  obtain ⟨a, hi, he⟩ := lI_s he
  cases nx_r he
  exact sm_iload_n hc hi (ih _ _ _ _ _ _ _ _ hx)
theorem st_lload (wd : Wd s0 D dA xt hE args0) (wx : Wx l s0 xt args0) (ws : Ws s0 xt hE) (ih : Sr1 l s0 D dA xt hE rec) {n : Nat} (hc : codeAt k pc = some (.lload n)) (he : ex d k (.lload n) pc L S h = some r) (hx : Xk rec d k pc r = some (o, h')) : Sm l s0 D dA xt hE d k pc L S h o h' := by
  obtain ⟨a, hi, he⟩ := lJ_s he
  cases nx_r he
  exact sm_lload hc hi (ih _ _ _ _ _ _ _ _ hx)
theorem st_lload_n (wd : Wd s0 D dA xt hE args0) (wx : Wx l s0 xt args0) (ws : Ws s0 xt hE) (ih : Sr1 l s0 D dA xt hE rec) {n : Fin 4} (hc : codeAt k pc = some (.lload_n n)) (he : ex d k (.lload_n n) pc L S h = some r) (hx : Xk rec d k pc r = some (o, h')) : Sm l s0 D dA xt hE d k pc L S h o h' := by
  obtain ⟨a, hi, he⟩ := lJ_s he
  cases nx_r he
  exact sm_lload_n hc hi (ih _ _ _ _ _ _ _ _ hx)
theorem st_aload (wd : Wd s0 D dA xt hE args0) (wx : Wx l s0 xt args0) (ws : Ws s0 xt hE) (ih : Sr1 l s0 D dA xt hE rec) {n : Nat} (hc : codeAt k pc = some (.aload n)) (he : ex d k (.aload n) pc L S h = some r) (hx : Xk rec d k pc r = some (o, h')) : Sm l s0 D dA xt hE d k pc L S h o h' := by
  obtain ⟨a, hi, he⟩ := lA_s he
  cases nx_r he
  exact sm_aload hc hi (ih _ _ _ _ _ _ _ _ hx)
theorem st_aload_n (wd : Wd s0 D dA xt hE args0) (wx : Wx l s0 xt args0) (ws : Ws s0 xt hE) (ih : Sr1 l s0 D dA xt hE rec) {n : Fin 4} (hc : codeAt k pc = some (.aload_n n)) (he : ex d k (.aload_n n) pc L S h = some r) (hx : Xk rec d k pc r = some (o, h')) : Sm l s0 D dA xt hE d k pc L S h o h' := by
  obtain ⟨a, hi, he⟩ := lA_s he
  cases nx_r he
  exact sm_aload_n hc hi (ih _ _ _ _ _ _ _ _ hx)
theorem st_istore (wd : Wd s0 D dA xt hE args0) (wx : Wx l s0 xt args0) (ws : Ws s0 xt hE) (ih : Sr1 l s0 D dA xt hE rec) {n : Nat} (hc : codeAt k pc = some (.istore n)) (he : ex d k (.istore n) pc L S h = some r) (hx : Xk rec d k pc r = some (o, h')) : Sm l s0 D dA xt hE d k pc L S h o h' := by
  obtain ⟨a, S', rfl, he⟩ := qI_s he
  obtain ⟨hn, he⟩ := bif_some he
  have hn := Nat.le_of_ble_eq_true hn
  cases nx_r he
  exact sm_istore hc (by omega) (ih _ _ _ _ _ _ _ _ hx)
theorem st_istore_n (wd : Wd s0 D dA xt hE args0) (wx : Wx l s0 xt args0) (ws : Ws s0 xt hE) (ih : Sr1 l s0 D dA xt hE rec) {n : Fin 4} (hc : codeAt k pc = some (.istore_n n)) (he : ex d k (.istore_n n) pc L S h = some r) (hx : Xk rec d k pc r = some (o, h')) : Sm l s0 D dA xt hE d k pc L S h o h' := by
  obtain ⟨a, S', rfl, he⟩ := qI_s he
  obtain ⟨hn, he⟩ := bif_some he
  have hn := Nat.le_of_ble_eq_true hn
  cases nx_r he
  exact sm_istore_n hc (by omega) (ih _ _ _ _ _ _ _ _ hx)
theorem st_lstore (wd : Wd s0 D dA xt hE args0) (wx : Wx l s0 xt args0) (ws : Ws s0 xt hE) (ih : Sr1 l s0 D dA xt hE rec) {n : Nat} (hc : codeAt k pc = some (.lstore n)) (he : ex d k (.lstore n) pc L S h = some r) (hx : Xk rec d k pc r = some (o, h')) : Sm l s0 D dA xt hE d k pc L S h o h' := by
  obtain ⟨a, S', rfl, he⟩ := qJ_s he
  obtain ⟨hn, he⟩ := bif_some he
  have hn := Nat.le_of_ble_eq_true hn
  cases nx_r he
  exact sm_lstore hc (by omega) (ih _ _ _ _ _ _ _ _ hx)
theorem st_lstore_n (wd : Wd s0 D dA xt hE args0) (wx : Wx l s0 xt args0) (ws : Ws s0 xt hE) (ih : Sr1 l s0 D dA xt hE rec) {n : Fin 4} (hc : codeAt k pc = some (.lstore_n n)) (he : ex d k (.lstore_n n) pc L S h = some r) (hx : Xk rec d k pc r = some (o, h')) : Sm l s0 D dA xt hE d k pc L S h o h' := by
  obtain ⟨a, S', rfl, he⟩ := qJ_s he
  obtain ⟨hn, he⟩ := bif_some he
  have hn := Nat.le_of_ble_eq_true hn
  cases nx_r he
  exact sm_lstore_n hc (by omega) (ih _ _ _ _ _ _ _ _ hx)
theorem st_astore (wd : Wd s0 D dA xt hE args0) (wx : Wx l s0 xt args0) (ws : Ws s0 xt hE) (ih : Sr1 l s0 D dA xt hE rec) {n : Nat} (hc : codeAt k pc = some (.astore n)) (he : ex d k (.astore n) pc L S h = some r) (hx : Xk rec d k pc r = some (o, h')) : Sm l s0 D dA xt hE d k pc L S h o h' := by
  cases S with
  | nil => cases he
  | cons v0 S0 =>
    cases v0 with
    | ref a =>
      obtain ⟨hn, he⟩ := bif_some he
      have hn := Nat.le_of_ble_eq_true hn
      cases nx_r he
      exact sm_astore hc (by omega) (ih _ _ _ _ _ _ _ _ hx)
    | _ => cases he
theorem st_astore_n (wd : Wd s0 D dA xt hE args0) (wx : Wx l s0 xt args0) (ws : Ws s0 xt hE) (ih : Sr1 l s0 D dA xt hE rec) {n : Fin 4} (hc : codeAt k pc = some (.astore_n n)) (he : ex d k (.astore_n n) pc L S h = some r) (hx : Xk rec d k pc r = some (o, h')) : Sm l s0 D dA xt hE d k pc L S h o h' := by
  cases S with
  | nil => cases he
  | cons v0 S0 =>
    cases v0 with
    | ref a =>
      obtain ⟨hn, he⟩ := bif_some he
      have hn := Nat.le_of_ble_eq_true hn
      cases nx_r he
      exact sm_astore_n hc (by omega) (ih _ _ _ _ _ _ _ _ hx)
    | _ => cases he
theorem st_iinc (wd : Wd s0 D dA xt hE args0) (wx : Wx l s0 xt args0) (ws : Ws s0 xt hE) (ih : Sr1 l s0 D dA xt hE rec) {n : Nat} {c : Int} (hc : codeAt k pc = some (.iinc n c)) (he : ex d k (.iinc n c) pc L S h = some r) (hx : Xk rec d k pc r = some (o, h')) : Sm l s0 D dA xt hE d k pc L S h o h' := by
  obtain ⟨a, hi, he⟩ := lI_s he
  obtain ⟨hn, he⟩ := bif_some he
  have hn := Nat.le_of_ble_eq_true hn
  cases nx_r he
  exact sm_iinc hc hi (by omega) (ih _ _ _ _ _ _ _ _ hx)
theorem st_goto (wd : Wd s0 D dA xt hE args0) (wx : Wx l s0 xt args0) (ws : Ws s0 xt hE) (ih : Sr1 l s0 D dA xt hE rec) {n : Int} (hc : codeAt k pc = some (.goto n)) (he : ex d k (.goto n) pc L S h = some r) (hx : Xk rec d k pc r = some (o, h')) : Sm l s0 D dA xt hE d k pc L S h o h' := by
  obtain ⟨t, ht, he⟩ := jp_s (pc := pc) (o := n) (f := fun t => nx t L S h) he
  cases nx_r he
  exact sm_goto hc ht (ih _ _ _ _ _ _ _ _ hx)
theorem st_if_icmp_eq (wd : Wd s0 D dA xt hE args0) (wx : Wx l s0 xt args0) (ws : Ws s0 xt hE) (ih : Sr1 l s0 D dA xt hE rec) {n : Int} (hc : codeAt k pc = some (.if_icmp .eq n)) (he : ex d k (.if_icmp .eq n) pc L S h = some r) (hx : Xk rec d k pc r = some (o, h')) : Sm l s0 D dA xt hE d k pc L S h o h' := by
  obtain ⟨a, b, S', rfl, he⟩ := qII_s he
  obtain ⟨t, ht, he⟩ := jp_s (pc := pc) (o := n) (f := fun t => if cndI .eq a b = true then nx t L S' h else nx (pc + 3) L S' h) he
  by_cases hq : a = b
  · rw [if_pos (show cndI .eq a b = true from decide_eq_true hq)] at he
    cases nx_r he
    have hk := ih _ _ _ _ _ _ _ _ hx
    exact sm_ic_eq hc ht hk.1 (fun _ => hk) (fun z => absurd hq z)
  · rw [if_neg (show ¬ cndI .eq a b = true from fun z => hq (of_decide_eq_true z))] at he
    cases nx_r he
    have hk := ih _ _ _ _ _ _ _ _ hx
    exact sm_ic_eq hc ht hk.1 (fun z => absurd z hq) (fun _ => hk)
theorem st_ifCond_eq (wd : Wd s0 D dA xt hE args0) (wx : Wx l s0 xt args0) (ws : Ws s0 xt hE) (ih : Sr1 l s0 D dA xt hE rec) {n : Int} (hc : codeAt k pc = some (.ifCond .eq n)) (he : ex d k (.ifCond .eq n) pc L S h = some r) (hx : Xk rec d k pc r = some (o, h')) : Sm l s0 D dA xt hE d k pc L S h o h' := by
  obtain ⟨a, S', rfl, he⟩ := qI_s he
  obtain ⟨t, ht, he⟩ := jp_s (pc := pc) (o := n) (f := fun t => if cndI .eq a 0 = true then nx t L S' h else nx (pc + 3) L S' h) he
  by_cases hq : a = 0
  · rw [if_pos (show cndI .eq a 0 = true from decide_eq_true hq)] at he
    cases nx_r he
    have hk := ih _ _ _ _ _ _ _ _ hx
    exact sm_if_eq hc ht hk.1 (fun _ => hk) (fun z => absurd hq z)
  · rw [if_neg (show ¬ cndI .eq a 0 = true from fun z => hq (of_decide_eq_true z))] at he
    cases nx_r he
    have hk := ih _ _ _ _ _ _ _ _ hx
    exact sm_if_eq hc ht hk.1 (fun z => absurd z hq) (fun _ => hk)
theorem st_if_icmp_ne (wd : Wd s0 D dA xt hE args0) (wx : Wx l s0 xt args0) (ws : Ws s0 xt hE) (ih : Sr1 l s0 D dA xt hE rec) {n : Int} (hc : codeAt k pc = some (.if_icmp .ne n)) (he : ex d k (.if_icmp .ne n) pc L S h = some r) (hx : Xk rec d k pc r = some (o, h')) : Sm l s0 D dA xt hE d k pc L S h o h' := by
  obtain ⟨a, b, S', rfl, he⟩ := qII_s he
  obtain ⟨t, ht, he⟩ := jp_s (pc := pc) (o := n) (f := fun t => if cndI .ne a b = true then nx t L S' h else nx (pc + 3) L S' h) he
  by_cases hq : a = b
  · rw [if_neg (show ¬ cndI .ne a b = true by simp [cndI, hq])] at he
    cases nx_r he
    have hk := ih _ _ _ _ _ _ _ _ hx
    exact sm_ic_ne hc ht hk.1 (fun z => absurd hq z) (fun _ => hk)
  · rw [if_pos (show cndI .ne a b = true by simp [cndI, hq])] at he
    cases nx_r he
    have hk := ih _ _ _ _ _ _ _ _ hx
    exact sm_ic_ne hc ht hk.1 (fun _ => hk) (fun z => absurd z hq)
theorem st_ifCond_ne (wd : Wd s0 D dA xt hE args0) (wx : Wx l s0 xt args0) (ws : Ws s0 xt hE) (ih : Sr1 l s0 D dA xt hE rec) {n : Int} (hc : codeAt k pc = some (.ifCond .ne n)) (he : ex d k (.ifCond .ne n) pc L S h = some r) (hx : Xk rec d k pc r = some (o, h')) : Sm l s0 D dA xt hE d k pc L S h o h' := by
  obtain ⟨a, S', rfl, he⟩ := qI_s he
  obtain ⟨t, ht, he⟩ := jp_s (pc := pc) (o := n) (f := fun t => if cndI .ne a 0 = true then nx t L S' h else nx (pc + 3) L S' h) he
  by_cases hq : a = 0
  · rw [if_neg (show ¬ cndI .ne a 0 = true by simp [cndI, hq])] at he
    cases nx_r he
    have hk := ih _ _ _ _ _ _ _ _ hx
    exact sm_if_ne hc ht hk.1 (fun z => absurd hq z) (fun _ => hk)
  · rw [if_pos (show cndI .ne a 0 = true by simp [cndI, hq])] at he
    cases nx_r he
    have hk := ih _ _ _ _ _ _ _ _ hx
    exact sm_if_ne hc ht hk.1 (fun _ => hk) (fun z => absurd z hq)
theorem st_if_icmp_lt (wd : Wd s0 D dA xt hE args0) (wx : Wx l s0 xt args0) (ws : Ws s0 xt hE) (ih : Sr1 l s0 D dA xt hE rec) {n : Int} (hc : codeAt k pc = some (.if_icmp .lt n)) (he : ex d k (.if_icmp .lt n) pc L S h = some r) (hx : Xk rec d k pc r = some (o, h')) : Sm l s0 D dA xt hE d k pc L S h o h' := by
  obtain ⟨a, b, S', rfl, he⟩ := qII_s he
  obtain ⟨t, ht, he⟩ := jp_s (pc := pc) (o := n) (f := fun t => if cndI .lt a b = true then nx t L S' h else nx (pc + 3) L S' h) he
  by_cases hq : a < b
  · rw [if_pos (show cndI .lt a b = true from decide_eq_true hq)] at he
    cases nx_r he
    have hk := ih _ _ _ _ _ _ _ _ hx
    exact sm_ic_lt hc ht hk.1 (fun _ => hk) (fun z => absurd hq z)
  · rw [if_neg (show ¬ cndI .lt a b = true from fun z => hq (of_decide_eq_true z))] at he
    cases nx_r he
    have hk := ih _ _ _ _ _ _ _ _ hx
    exact sm_ic_lt hc ht hk.1 (fun z => absurd z hq) (fun _ => hk)
theorem st_ifCond_lt (wd : Wd s0 D dA xt hE args0) (wx : Wx l s0 xt args0) (ws : Ws s0 xt hE) (ih : Sr1 l s0 D dA xt hE rec) {n : Int} (hc : codeAt k pc = some (.ifCond .lt n)) (he : ex d k (.ifCond .lt n) pc L S h = some r) (hx : Xk rec d k pc r = some (o, h')) : Sm l s0 D dA xt hE d k pc L S h o h' := by
  obtain ⟨a, S', rfl, he⟩ := qI_s he
  obtain ⟨t, ht, he⟩ := jp_s (pc := pc) (o := n) (f := fun t => if cndI .lt a 0 = true then nx t L S' h else nx (pc + 3) L S' h) he
  by_cases hq : a < 0
  · rw [if_pos (show cndI .lt a 0 = true from decide_eq_true hq)] at he
    cases nx_r he
    have hk := ih _ _ _ _ _ _ _ _ hx
    exact sm_if_lt hc ht hk.1 (fun _ => hk) (fun z => absurd hq z)
  · rw [if_neg (show ¬ cndI .lt a 0 = true from fun z => hq (of_decide_eq_true z))] at he
    cases nx_r he
    have hk := ih _ _ _ _ _ _ _ _ hx
    exact sm_if_lt hc ht hk.1 (fun z => absurd z hq) (fun _ => hk)
theorem st_if_icmp_ge (wd : Wd s0 D dA xt hE args0) (wx : Wx l s0 xt args0) (ws : Ws s0 xt hE) (ih : Sr1 l s0 D dA xt hE rec) {n : Int} (hc : codeAt k pc = some (.if_icmp .ge n)) (he : ex d k (.if_icmp .ge n) pc L S h = some r) (hx : Xk rec d k pc r = some (o, h')) : Sm l s0 D dA xt hE d k pc L S h o h' := by
  obtain ⟨a, b, S', rfl, he⟩ := qII_s he
  obtain ⟨t, ht, he⟩ := jp_s (pc := pc) (o := n) (f := fun t => if cndI .ge a b = true then nx t L S' h else nx (pc + 3) L S' h) he
  by_cases hq : b ≤ a
  · rw [if_pos (show cndI .ge a b = true from decide_eq_true hq)] at he
    cases nx_r he
    have hk := ih _ _ _ _ _ _ _ _ hx
    exact sm_ic_ge hc ht hk.1 (fun _ => hk) (fun z => absurd hq z)
  · rw [if_neg (show ¬ cndI .ge a b = true from fun z => hq (of_decide_eq_true z))] at he
    cases nx_r he
    have hk := ih _ _ _ _ _ _ _ _ hx
    exact sm_ic_ge hc ht hk.1 (fun z => absurd z hq) (fun _ => hk)
theorem st_ifCond_ge (wd : Wd s0 D dA xt hE args0) (wx : Wx l s0 xt args0) (ws : Ws s0 xt hE) (ih : Sr1 l s0 D dA xt hE rec) {n : Int} (hc : codeAt k pc = some (.ifCond .ge n)) (he : ex d k (.ifCond .ge n) pc L S h = some r) (hx : Xk rec d k pc r = some (o, h')) : Sm l s0 D dA xt hE d k pc L S h o h' := by
  obtain ⟨a, S', rfl, he⟩ := qI_s he
  obtain ⟨t, ht, he⟩ := jp_s (pc := pc) (o := n) (f := fun t => if cndI .ge a 0 = true then nx t L S' h else nx (pc + 3) L S' h) he
  by_cases hq : 0 ≤ a
  · rw [if_pos (show cndI .ge a 0 = true from decide_eq_true hq)] at he
    cases nx_r he
    have hk := ih _ _ _ _ _ _ _ _ hx
    exact sm_if_ge hc ht hk.1 (fun _ => hk) (fun z => absurd hq z)
  · rw [if_neg (show ¬ cndI .ge a 0 = true from fun z => hq (of_decide_eq_true z))] at he
    cases nx_r he
    have hk := ih _ _ _ _ _ _ _ _ hx
    exact sm_if_ge hc ht hk.1 (fun z => absurd z hq) (fun _ => hk)
theorem st_if_icmp_gt (wd : Wd s0 D dA xt hE args0) (wx : Wx l s0 xt args0) (ws : Ws s0 xt hE) (ih : Sr1 l s0 D dA xt hE rec) {n : Int} (hc : codeAt k pc = some (.if_icmp .gt n)) (he : ex d k (.if_icmp .gt n) pc L S h = some r) (hx : Xk rec d k pc r = some (o, h')) : Sm l s0 D dA xt hE d k pc L S h o h' := by
  obtain ⟨a, b, S', rfl, he⟩ := qII_s he
  obtain ⟨t, ht, he⟩ := jp_s (pc := pc) (o := n) (f := fun t => if cndI .gt a b = true then nx t L S' h else nx (pc + 3) L S' h) he
  by_cases hq : b < a
  · rw [if_pos (show cndI .gt a b = true from decide_eq_true hq)] at he
    cases nx_r he
    have hk := ih _ _ _ _ _ _ _ _ hx
    exact sm_ic_gt hc ht hk.1 (fun _ => hk) (fun z => absurd hq z)
  · rw [if_neg (show ¬ cndI .gt a b = true from fun z => hq (of_decide_eq_true z))] at he
    cases nx_r he
    have hk := ih _ _ _ _ _ _ _ _ hx
    exact sm_ic_gt hc ht hk.1 (fun z => absurd z hq) (fun _ => hk)
theorem st_ifCond_gt (wd : Wd s0 D dA xt hE args0) (wx : Wx l s0 xt args0) (ws : Ws s0 xt hE) (ih : Sr1 l s0 D dA xt hE rec) {n : Int} (hc : codeAt k pc = some (.ifCond .gt n)) (he : ex d k (.ifCond .gt n) pc L S h = some r) (hx : Xk rec d k pc r = some (o, h')) : Sm l s0 D dA xt hE d k pc L S h o h' := by
  obtain ⟨a, S', rfl, he⟩ := qI_s he
  obtain ⟨t, ht, he⟩ := jp_s (pc := pc) (o := n) (f := fun t => if cndI .gt a 0 = true then nx t L S' h else nx (pc + 3) L S' h) he
  by_cases hq : 0 < a
  · rw [if_pos (show cndI .gt a 0 = true from decide_eq_true hq)] at he
    cases nx_r he
    have hk := ih _ _ _ _ _ _ _ _ hx
    exact sm_if_gt hc ht hk.1 (fun _ => hk) (fun z => absurd hq z)
  · rw [if_neg (show ¬ cndI .gt a 0 = true from fun z => hq (of_decide_eq_true z))] at he
    cases nx_r he
    have hk := ih _ _ _ _ _ _ _ _ hx
    exact sm_if_gt hc ht hk.1 (fun z => absurd z hq) (fun _ => hk)
theorem st_if_icmp_le (wd : Wd s0 D dA xt hE args0) (wx : Wx l s0 xt args0) (ws : Ws s0 xt hE) (ih : Sr1 l s0 D dA xt hE rec) {n : Int} (hc : codeAt k pc = some (.if_icmp .le n)) (he : ex d k (.if_icmp .le n) pc L S h = some r) (hx : Xk rec d k pc r = some (o, h')) : Sm l s0 D dA xt hE d k pc L S h o h' := by
  obtain ⟨a, b, S', rfl, he⟩ := qII_s he
  obtain ⟨t, ht, he⟩ := jp_s (pc := pc) (o := n) (f := fun t => if cndI .le a b = true then nx t L S' h else nx (pc + 3) L S' h) he
  by_cases hq : a ≤ b
  · rw [if_pos (show cndI .le a b = true from decide_eq_true hq)] at he
    cases nx_r he
    have hk := ih _ _ _ _ _ _ _ _ hx
    exact sm_ic_le hc ht hk.1 (fun _ => hk) (fun z => absurd hq z)
  · rw [if_neg (show ¬ cndI .le a b = true from fun z => hq (of_decide_eq_true z))] at he
    cases nx_r he
    have hk := ih _ _ _ _ _ _ _ _ hx
    exact sm_ic_le hc ht hk.1 (fun z => absurd z hq) (fun _ => hk)
theorem st_ifCond_le (wd : Wd s0 D dA xt hE args0) (wx : Wx l s0 xt args0) (ws : Ws s0 xt hE) (ih : Sr1 l s0 D dA xt hE rec) {n : Int} (hc : codeAt k pc = some (.ifCond .le n)) (he : ex d k (.ifCond .le n) pc L S h = some r) (hx : Xk rec d k pc r = some (o, h')) : Sm l s0 D dA xt hE d k pc L S h o h' := by
  obtain ⟨a, S', rfl, he⟩ := qI_s he
  obtain ⟨t, ht, he⟩ := jp_s (pc := pc) (o := n) (f := fun t => if cndI .le a 0 = true then nx t L S' h else nx (pc + 3) L S' h) he
  by_cases hq : a ≤ 0
  · rw [if_pos (show cndI .le a 0 = true from decide_eq_true hq)] at he
    cases nx_r he
    have hk := ih _ _ _ _ _ _ _ _ hx
    exact sm_if_le hc ht hk.1 (fun _ => hk) (fun z => absurd hq z)
  · rw [if_neg (show ¬ cndI .le a 0 = true from fun z => hq (of_decide_eq_true z))] at he
    cases nx_r he
    have hk := ih _ _ _ _ _ _ _ _ hx
    exact sm_if_le hc ht hk.1 (fun z => absurd z hq) (fun _ => hk)
theorem st_iaload (wd : Wd s0 D dA xt hE args0) (wx : Wx l s0 xt args0) (ws : Ws s0 xt hE) (ih : Sr1 l s0 D dA xt hE rec)  (hc : codeAt k pc = some (.iaload)) (he : ex d k (.iaload) pc L S h = some r) (hx : Xk rec d k pc r = some (o, h')) : Sm l s0 D dA xt hE d k pc L S h o h' := by
  cases S with
  | nil => cases he
  | cons v0 S0 =>
    cases v0 with
    | int i =>
      cases S0 with
      | nil => cases he
      | cons v1 S1 =>
        cases v1 with
        | ref a =>
          obtain ⟨x, hg, he⟩ := ob_some he
          cases nx_r he
          exact sm_iaload wd hc hg (ih _ _ _ _ _ _ _ _ hx)
        | _ => cases he
    | _ => cases he
theorem st_baload (wd : Wd s0 D dA xt hE args0) (wx : Wx l s0 xt args0) (ws : Ws s0 xt hE) (ih : Sr1 l s0 D dA xt hE rec)  (hc : codeAt k pc = some (.baload)) (he : ex d k (.baload) pc L S h = some r) (hx : Xk rec d k pc r = some (o, h')) : Sm l s0 D dA xt hE d k pc L S h o h' := by
  cases S with
  | nil => cases he
  | cons v0 S0 =>
    cases v0 with
    | int i =>
      cases S0 with
      | nil => cases he
      | cons v1 S1 =>
        cases v1 with
        | ref a =>
          obtain ⟨x, hg, he⟩ := ob_some he
          cases nx_r he
          exact sm_baload wd hc hg (ih _ _ _ _ _ _ _ _ hx)
        | _ => cases he
    | _ => cases he
theorem st_laload (wd : Wd s0 D dA xt hE args0) (wx : Wx l s0 xt args0) (ws : Ws s0 xt hE) (ih : Sr1 l s0 D dA xt hE rec)  (hc : codeAt k pc = some (.laload)) (he : ex d k (.laload) pc L S h = some r) (hx : Xk rec d k pc r = some (o, h')) : Sm l s0 D dA xt hE d k pc L S h o h' := by
  cases S with
  | nil => cases he
  | cons v0 S0 =>
    cases v0 with
    | int i =>
      cases S0 with
      | nil => cases he
      | cons v1 S1 =>
        cases v1 with
        | ref a =>
          obtain ⟨x, hg, he⟩ := ob_some he
          cases nx_r he
          exact sm_laload wd hc hg (ih _ _ _ _ _ _ _ _ hx)
        | _ => cases he
    | _ => cases he
theorem st_aaload (wd : Wd s0 D dA xt hE args0) (wx : Wx l s0 xt args0) (ws : Ws s0 xt hE) (ih : Sr1 l s0 D dA xt hE rec)  (hc : codeAt k pc = some (.aaload)) (he : ex d k (.aaload) pc L S h = some r) (hx : Xk rec d k pc r = some (o, h')) : Sm l s0 D dA xt hE d k pc L S h o h' := by
  cases S with
  | nil => cases he
  | cons v0 S0 =>
    cases v0 with
    | int i =>
      cases S0 with
      | nil => cases he
      | cons v1 S1 =>
        cases v1 with
        | ref a =>
          obtain ⟨x, hg, he⟩ := ob_some he
          cases nx_r he
          exact sm_aaload wd hc hg (ih _ _ _ _ _ _ _ _ hx)
        | _ => cases he
    | _ => cases he
theorem st_iastore (wd : Wd s0 D dA xt hE args0) (wx : Wx l s0 xt args0) (ws : Ws s0 xt hE) (ih : Sr1 l s0 D dA xt hE rec)  (hc : codeAt k pc = some (.iastore)) (he : ex d k (.iastore) pc L S h = some r) (hx : Xk rec d k pc r = some (o, h')) : Sm l s0 D dA xt hE d k pc L S h o h' := by
  cases S with
  | nil => cases he
  | cons v0 S0 =>
    cases v0 with
    | int x =>
      cases S0 with
      | nil => cases he
      | cons v1 S1 =>
        cases v1 with
        | int i =>
          cases S1 with
          | nil => cases he
          | cons v2 S2 =>
            cases v2 with
            | ref a =>
              obtain ⟨h1, hg, he⟩ := ob_some he
              cases nx_r he
              exact sm_iastore wd hc hg (ih _ _ _ _ _ _ _ _ hx)
            | _ => cases he
        | _ => cases he
    | _ => cases he
theorem st_bastore (wd : Wd s0 D dA xt hE args0) (wx : Wx l s0 xt args0) (ws : Ws s0 xt hE) (ih : Sr1 l s0 D dA xt hE rec)  (hc : codeAt k pc = some (.bastore)) (he : ex d k (.bastore) pc L S h = some r) (hx : Xk rec d k pc r = some (o, h')) : Sm l s0 D dA xt hE d k pc L S h o h' := by
  cases S with
  | nil => cases he
  | cons v0 S0 =>
    cases v0 with
    | int x =>
      cases S0 with
      | nil => cases he
      | cons v1 S1 =>
        cases v1 with
        | int i =>
          cases S1 with
          | nil => cases he
          | cons v2 S2 =>
            cases v2 with
            | ref a =>
              obtain ⟨h1, hg, he⟩ := ob_some he
              cases nx_r he
              exact sm_bastore wd hc hg (ih _ _ _ _ _ _ _ _ hx)
            | _ => cases he
        | _ => cases he
    | _ => cases he
theorem st_lastore (wd : Wd s0 D dA xt hE args0) (wx : Wx l s0 xt args0) (ws : Ws s0 xt hE) (ih : Sr1 l s0 D dA xt hE rec)  (hc : codeAt k pc = some (.lastore)) (he : ex d k (.lastore) pc L S h = some r) (hx : Xk rec d k pc r = some (o, h')) : Sm l s0 D dA xt hE d k pc L S h o h' := by
  cases S with
  | nil => cases he
  | cons v0 S0 =>
    cases v0 with
    | long x =>
      cases S0 with
      | nil => cases he
      | cons v1 S1 =>
        cases v1 with
        | int i =>
          cases S1 with
          | nil => cases he
          | cons v2 S2 =>
            cases v2 with
            | ref a =>
              obtain ⟨h1, hg, he⟩ := ob_some he
              cases nx_r he
              exact sm_lastore wd hc hg (ih _ _ _ _ _ _ _ _ hx)
            | _ => cases he
        | _ => cases he
    | _ => cases he
theorem st_aastore (wd : Wd s0 D dA xt hE args0) (wx : Wx l s0 xt args0) (ws : Ws s0 xt hE) (ih : Sr1 l s0 D dA xt hE rec)  (hc : codeAt k pc = some (.aastore)) (he : ex d k (.aastore) pc L S h = some r) (hx : Xk rec d k pc r = some (o, h')) : Sm l s0 D dA xt hE d k pc L S h o h' := by
  cases S with
  | nil => cases he
  | cons v0 S0 =>
    cases v0 with
    | ref x =>
      cases S0 with
      | nil => cases he
      | cons v1 S1 =>
        cases v1 with
        | int i =>
          cases S1 with
          | nil => cases he
          | cons v2 S2 =>
            cases v2 with
            | ref a =>
              obtain ⟨h1, hg, he⟩ := ob_some he
              cases nx_r he
              exact sm_aastore wd ws hc hg (ih _ _ _ _ _ _ _ _ hx)
            | _ => cases he
        | _ => cases he
    | _ => cases he
theorem st_arraylength (wd : Wd s0 D dA xt hE args0) (wx : Wx l s0 xt args0) (ws : Ws s0 xt hE) (ih : Sr1 l s0 D dA xt hE rec)  (hc : codeAt k pc = some (.arraylength)) (he : ex d k (.arraylength) pc L S h = some r) (hx : Xk rec d k pc r = some (o, h')) : Sm l s0 D dA xt hE d k pc L S h o h' := by
  obtain ⟨a, S', rfl, he⟩ := qA_s he
  obtain ⟨x, hg, he⟩ := ob_some he
  cases nx_r he
  exact sm_alen wd hc hg (ih _ _ _ _ _ _ _ _ hx)
theorem st_newarray (wd : Wd s0 D dA xt hE args0) (wx : Wx l s0 xt args0) (ws : Ws s0 xt hE) (ih : Sr1 l s0 D dA xt hE rec) {t : ArrayType} (hc : codeAt k pc = some (.newarray t)) (he : ex d k (.newarray t) pc L S h = some r) (hx : Xk rec d k pc r = some (o, h')) : Sm l s0 D dA xt hE d k pc L S h o h' := by
  obtain ⟨a, S', rfl, he⟩ := qI_s he
  have he : (bif Nat.beq (atag t) 99 then none else ob (nA h (atag t) a) (fun q => nx (pc + 2) L (.ref q.1 :: S') q.2)) = some r := he
  cases hb : Nat.beq (atag t) 99 with
  | true => rw [hb] at he; cases he
  | false =>
    rw [hb] at he
    obtain ⟨q, hg, he⟩ := ob_some he
    cases nx_r he
    exact sm_newarray wd hc (fun z => by rw [z] at hb; cases hb) hg (ih _ _ _ _ _ _ _ _ hx)
theorem st_anewarray (wd : Wd s0 D dA xt hE args0) (wx : Wx l s0 xt args0) (ws : Ws s0 xt hE) (ih : Sr1 l s0 D dA xt hE rec) {n : Nat} (hc : codeAt k pc = some (.anewarray n)) (he : ex d k (.anewarray n) pc L S h = some r) (hx : Xk rec d k pc r = some (o, h')) : Sm l s0 D dA xt hE d k pc L S h o h' := by
  obtain ⟨a, S', rfl, he⟩ := qI_s he
  obtain ⟨hb, he⟩ := bif_some he
  obtain ⟨q, hg, he⟩ := ob_some he
  cases nx_r he
  exact sm_anew wd hc (okS (Nat.eq_of_beq_eq_true hb)) hg (ih _ _ _ _ _ _ _ _ hx)
theorem st_new (wd : Wd s0 D dA xt hE args0) (wx : Wx l s0 xt args0) (ws : Ws s0 xt hE) (ih : Sr1 l s0 D dA xt hE rec) {n : Nat} (hc : codeAt k pc = some (.new n)) (he : ex d k (.new n) pc L S h = some r) (hx : Xk rec d k pc r = some (o, h')) : Sm l s0 D dA xt hE d k pc L S h o h' := by
  obtain ⟨q, hn, he⟩ := ob_some he
  cases hb : exT q.1 with
  | true =>
    rw [hb] at he
    obtain ⟨hg, he⟩ := bif_some he
    rw [Bool.and_eq_true] at hg
    obtain ⟨r, hr, he⟩ := ob_some he
    cases nx_r he
    exact sm_newx wd wx hc hn hb hg.1 (Nat.le_of_ble_eq_true hg.2) hr (ih _ _ _ _ _ _ _ _ hx)
  | false =>
    rw [hb] at he
    obtain ⟨r, hr, he⟩ := ob_some he
    cases nx_r he
    exact sm_new wd hc hn hr (ih _ _ _ _ _ _ _ _ hx)
theorem st_getfield (wd : Wd s0 D dA xt hE args0) (wx : Wx l s0 xt args0) (ws : Ws s0 xt hE) (ih : Sr1 l s0 D dA xt hE rec) {n : Nat} (hc : codeAt k pc = some (.getfield n)) (he : ex d k (.getfield n) pc L S h = some r) (hx : Xk rec d k pc r = some (o, h')) : Sm l s0 D dA xt hE d k pc L S h o h' := by
  obtain ⟨a, S', rfl, he⟩ := qA_s he
  obtain ⟨⟨c, f, t, fi⟩, hf, he⟩ := ob_some he
  cases h1 : (Nat.beq t 0 || Nat.beq t 3) with
  | true =>
    have he : (bif (Nat.beq t 0 || Nat.beq t 3) then ob (gI h a c f) (fun x => nx (pc + 3) L (.int x :: S') h) else bif Nat.beq t 1 then ob (gL h a c f) (fun x => nx (pc + 3) L (.long x :: S') h) else ob (gR h a c f) (fun x => nx (pc + 3) L (.ref x :: S') h)) = some r := he
    rw [h1] at he
    obtain ⟨x, hg, he⟩ := ob_some he
    cases nx_r he
    exact sm_gI wd hc hf (by rcases Bool.or_eq_true_iff.mp h1 with z | z; exact Or.inl (Nat.eq_of_beq_eq_true z); exact Or.inr (Nat.eq_of_beq_eq_true z)) hg (ih _ _ _ _ _ _ _ _ hx)
  | false =>
    have he : (bif (Nat.beq t 0 || Nat.beq t 3) then ob (gI h a c f) (fun x => nx (pc + 3) L (.int x :: S') h) else bif Nat.beq t 1 then ob (gL h a c f) (fun x => nx (pc + 3) L (.long x :: S') h) else ob (gR h a c f) (fun x => nx (pc + 3) L (.ref x :: S') h)) = some r := he
    rw [h1] at he
    cases h2 : Nat.beq t 1 with
    | true =>
      rw [h2] at he
      obtain ⟨x, hg, he⟩ := ob_some he
      cases nx_r he
      exact sm_gL wd hc hf (Nat.eq_of_beq_eq_true h2) hg (ih _ _ _ _ _ _ _ _ hx)
    | false =>
      rw [h2] at he
      obtain ⟨x, hg, he⟩ := ob_some he
      cases nx_r he
      have ht : ¬ (t = 0 ∨ t = 3) ∧ ¬ t = 1 := by
        constructor
        · intro z
          rcases z with z | z <;> (rw [z] at h1; cases h1)
        · intro z
          rw [z] at h2
          cases h2
      exact sm_gR wd hc hf ht hg (ih _ _ _ _ _ _ _ _ hx)
theorem st_putfield (wd : Wd s0 D dA xt hE args0) (wx : Wx l s0 xt args0) (ws : Ws s0 xt hE) (ih : Sr1 l s0 D dA xt hE rec) {n : Nat} (hc : codeAt k pc = some (.putfield n)) (he : ex d k (.putfield n) pc L S h = some r) (hx : Xk rec d k pc r = some (o, h')) : Sm l s0 D dA xt hE d k pc L S h o h' := by
  obtain ⟨v, S1, rfl, he⟩ := q1_s he
  obtain ⟨a, S', rfl, he⟩ := qA_s he
  obtain ⟨⟨c, f, t, fi⟩, hf, he⟩ := ob_some he
  obtain ⟨hfi, he⟩ := bif_some he
  cases v with
  | int x =>
    cases h1 : Nat.beq t 0 with
    | true =>
      have he : (bif Nat.beq t 0 then ob (pI h a c f x) (fun h => nx (pc + 3) L S' h) else bif Nat.beq t 3 then ob (pZ h a c f x) (fun h => nx (pc + 3) L S' h) else none) = some r := he
      rw [h1] at he
      obtain ⟨h1', hg, he⟩ := ob_some he
      obtain ⟨hT1, rfl⟩ := if_some hg
      cases nx_r he
      exact sm_pIx wd hc hf hfi hT1 (Or.inl (Nat.eq_of_beq_eq_true h1)) (ih _ _ _ _ _ _ _ _ hx)
    | false =>
      have he : (bif Nat.beq t 0 then ob (pI h a c f x) (fun h => nx (pc + 3) L S' h) else bif Nat.beq t 3 then ob (pZ h a c f x) (fun h => nx (pc + 3) L S' h) else none) = some r := he
      rw [h1] at he
      obtain ⟨h2, he⟩ := bif_some he
      obtain ⟨h1', hg, he⟩ := ob_some he
      obtain ⟨⟨hT1, hx1⟩, rfl⟩ := if_some hg
      cases nx_r he
      exact sm_pIx wd hc hf hfi hT1 (Or.inr ⟨Nat.eq_of_beq_eq_true h2, hx1⟩) (ih _ _ _ _ _ _ _ _ hx)
  | long x =>
    obtain ⟨h2, he⟩ := bif_some he
    obtain ⟨h1', hg, he⟩ := ob_some he
    obtain ⟨hT1, rfl⟩ := if_some hg
    cases nx_r he
    exact sm_pL wd hc hf hfi hT1 (Nat.eq_of_beq_eq_true h2) (ih _ _ _ _ _ _ _ _ hx)
  | ref x =>
    obtain ⟨h2, he⟩ := bif_some he
    obtain ⟨h1', hg, he⟩ := ob_some he
    obtain ⟨hT1, rfl⟩ := if_some hg
    cases nx_r he
    exact sm_pR wd hc hf hfi hT1 (Nat.eq_of_beq_eq_true h2) (ih _ _ _ _ _ _ _ _ hx)
  | _ => cases he
theorem st_getstatic (wd : Wd s0 D dA xt hE args0) (wx : Wx l s0 xt args0) (ws : Ws s0 xt hE) (ih : Sr1 l s0 D dA xt hE rec) {n : Nat} (hc : codeAt k pc = some (.getstatic n)) (he : ex d k (.getstatic n) pc L S h = some r) (hx : Xk rec d k pc r = some (o, h')) : Sm l s0 D dA xt hE d k pc L S h o h' := by
  obtain ⟨a, hg, he⟩ := ob_some he
  cases nx_r he
  exact sm_words wd hc hg (ih _ _ _ _ _ _ _ _ hx)
theorem st_ldc (wd : Wd s0 D dA xt hE args0) (wx : Wx l s0 xt args0) (ws : Ws s0 xt hE) (ih : Sr1 l s0 D dA xt hE rec) {n : Nat} (hc : codeAt k pc = some (.ldc n)) (he : ex d k (.ldc n) pc L S h = some r) (hx : Xk rec d k pc r = some (o, h')) : Sm l s0 D dA xt hE d k pc L S h o h' := by
  obtain ⟨v, hg, he⟩ := ob_some he
  cases nx_r he
  rcases okI _ _ _ hg with ⟨y, rfl, -⟩ | ⟨a, tx, rfl, -⟩
  · exact sm_ldcI wd hc hg (ih _ _ _ _ _ _ _ _ hx)
  · exact sm_ldcS wd wx hc hg (ih _ _ _ _ _ _ _ _ hx)
theorem st_ldc2_w (wd : Wd s0 D dA xt hE args0) (wx : Wx l s0 xt args0) (ws : Ws s0 xt hE) (ih : Sr1 l s0 D dA xt hE rec) {n : Nat} (hc : codeAt k pc = some (.ldc2_w n)) (he : ex d k (.ldc2_w n) pc L S h = some r) (hx : Xk rec d k pc r = some (o, h')) : Sm l s0 D dA xt hE d k pc L S h o h' := by
  obtain ⟨v, hg, he⟩ := ob_some he
  cases nx_r he
  exact sm_ldc2 wd hc hg (ih _ _ _ _ _ _ _ _ hx)
theorem st_lookupswitch (wd : Wd s0 D dA xt hE args0) (wx : Wx l s0 xt args0) (ws : Ws s0 xt hE) (ih : Sr1 l s0 D dA xt hE rec) {df : Int} {ps : Array (Int × Int)} (hc : codeAt k pc = some (.lookupswitch df ps)) (he : ex d k (.lookupswitch df ps) pc L S h = some r) (hx : Xk rec d k pc r = some (o, h')) : Sm l s0 D dA xt hE d k pc L S h o h' := by
  obtain ⟨a, S', rfl, he⟩ := qI_s he
  obtain ⟨hb, he⟩ := bif_some he
  cases nx_r he
  exact sm_lookup hc hb (ih _ _ _ _ _ _ _ _ hx)
theorem st_tableswitch (wd : Wd s0 D dA xt hE args0) (wx : Wx l s0 xt args0) (ws : Ws s0 xt hE) (ih : Sr1 l s0 D dA xt hE rec) {df lo hi : Int} {os : Array Int} (hc : codeAt k pc = some (.tableswitch df lo hi os)) (he : ex d k (.tableswitch df lo hi os) pc L S h = some r) (hx : Xk rec d k pc r = some (o, h')) : Sm l s0 D dA xt hE d k pc L S h o h' := by
  obtain ⟨a, S', rfl, he⟩ := qI_s he
  obtain ⟨hb, he⟩ := bif_some he
  cases nx_r he
  exact sm_table hc hb (ih _ _ _ _ _ _ _ _ hx)
theorem st_ireturn (wd : Wd s0 D dA xt hE args0) (wx : Wx l s0 xt args0) (ws : Ws s0 xt hE) (ih : Sr1 l s0 D dA xt hE rec)  (hc : codeAt k pc = some (.ireturn)) (he : ex d k (.ireturn) pc L S h = some r) (hx : Xk rec d k pc r = some (o, h')) : Sm l s0 D dA xt hE d k pc L S h o h' := by
  cases S with
  | nil => cases he
  | cons v S1 =>
    cases v with
    | int a =>
      cases S1 with
      | cons v2 S2 => cases he
      | nil =>
        cases h1 : Nat.beq (rTy k) 1 with
        | true =>
          have he : (bif Nat.beq (rTy k) 1 then fin (.inl (some (.int a))) h else bif Nat.beq (rTy k) 4 then (if a = 0 ∨ a = 1 then fin (.inl (some (.int a))) h else none) else none) = some r := he
          rw [h1] at he
          cases fin_r he
          cases hx
          exact sm_ireturn hc (Or.inl (Nat.eq_of_beq_eq_true h1))
        | false =>
          have he : (bif Nat.beq (rTy k) 1 then fin (.inl (some (.int a))) h else bif Nat.beq (rTy k) 4 then (if a = 0 ∨ a = 1 then fin (.inl (some (.int a))) h else none) else none) = some r := he
          rw [h1] at he
          obtain ⟨h2, he⟩ := bif_some he
          by_cases hq : a = 0 ∨ a = 1
          · rw [if_pos hq] at he
            cases fin_r he
            cases hx
            exact sm_ireturn hc (Or.inr ⟨Nat.eq_of_beq_eq_true h2, hq⟩)
          · rw [if_neg hq] at he; cases he
    | _ => cases he
theorem st_lreturn (wd : Wd s0 D dA xt hE args0) (wx : Wx l s0 xt args0) (ws : Ws s0 xt hE) (ih : Sr1 l s0 D dA xt hE rec)  (hc : codeAt k pc = some (.lreturn)) (he : ex d k (.lreturn) pc L S h = some r) (hx : Xk rec d k pc r = some (o, h')) : Sm l s0 D dA xt hE d k pc L S h o h' := by
  cases S with
  | nil => cases he
  | cons v S1 =>
    cases v with
    | long a =>
      cases S1 with
      | cons v2 S2 => cases he
      | nil =>
        obtain ⟨h2, he⟩ := bif_some he
        cases fin_r he
        cases hx
        exact sm_lreturn hc (Nat.eq_of_beq_eq_true h2)
    | _ => cases he
theorem st_areturn (wd : Wd s0 D dA xt hE args0) (wx : Wx l s0 xt args0) (ws : Ws s0 xt hE) (ih : Sr1 l s0 D dA xt hE rec)  (hc : codeAt k pc = some (.areturn)) (he : ex d k (.areturn) pc L S h = some r) (hx : Xk rec d k pc r = some (o, h')) : Sm l s0 D dA xt hE d k pc L S h o h' := by
  cases S with
  | nil => cases he
  | cons v S1 =>
    cases v with
    | ref a =>
      cases S1 with
      | cons v2 S2 => cases he
      | nil =>
        obtain ⟨h2, he⟩ := bif_some he
        cases fin_r he
        cases hx
        exact sm_areturn hc (Nat.eq_of_beq_eq_true h2)
    | _ => cases he
theorem st_return_ (wd : Wd s0 D dA xt hE args0) (wx : Wx l s0 xt args0) (ws : Ws s0 xt hE) (ih : Sr1 l s0 D dA xt hE rec)  (hc : codeAt k pc = some (.return_)) (he : ex d k (.return_) pc L S h = some r) (hx : Xk rec d k pc r = some (o, h')) : Sm l s0 D dA xt hE d k pc L S h o h' := by
  cases S with
  | cons v S1 => cases he
  | nil =>
    obtain ⟨h2, he⟩ := bif_some he
    cases fin_r he
    cases hx
    exact sm_return hc (Nat.eq_of_beq_eq_true h2)
theorem st_athrow (wd : Wd s0 D dA xt hE args0) (wx : Wx l s0 xt args0) (ws : Ws s0 xt hE) (ih : Sr1 l s0 D dA xt hE rec)  (hc : codeAt k pc = some (.athrow)) (he : ex d k (.athrow) pc L S h = some r) (hx : Xk rec d k pc r = some (o, h')) : Sm l s0 D dA xt hE d k pc L S h o h' := by
  cases S with
  | nil => cases he
  | cons v0 S0 =>
    cases v0 with
    | ref a =>
      obtain ⟨h2, he⟩ := bif_some he
      rw [Bool.and_eq_true] at h2
      cases fin_r he
      cases hx
      exact sm_athrow hc (List.isEmpty_iff.mp h2.1)
    | _ => cases he
theorem st_invokevirtual (wd : Wd s0 D dA xt hE args0) (wx : Wx l s0 xt args0) (ws : Ws s0 xt hE) (ih : Sr1 l s0 D dA xt hE rec) {n : Nat} (hc : codeAt k pc = some (.invokevirtual n)) (he : ex d k (.invokevirtual n) pc L S h = some r) (hx : Xk rec d k pc r = some (o, h')) : Sm l s0 D dA xt hE d k pc L S h o h' := by
  obtain ⟨⟨kd, k', n2, c2⟩, hq, he⟩ := ob_some he
  obtain ⟨hb, he⟩ := bif_some he
  have hb : kd = 0 ∨ kd = 3 ∨ kd = 13 ∨ kd = 14 := by
    simp only [Bool.or_eq_true] at hb
    rcases hb with (((z | z) | z) | z)
    · exact Or.inl (Nat.eq_of_beq_eq_true z)
    · exact Or.inr (Or.inl (Nat.eq_of_beq_eq_true z))
    · exact Or.inr (Or.inr (Or.inl (Nat.eq_of_beq_eq_true z)))
    · exact Or.inr (Or.inr (Or.inr (Nat.eq_of_beq_eq_true z)))
  rcases hb with rfl | rfl | rfl | rfl
  · exact sm_exC wd wx.2.1 ih hc rfl hq (Nat.le_of_ble_eq_true rfl) (Or.inl ⟨Or.inl rfl, rfl⟩) he hx
  · exact sm_exC wd wx.2.1 ih hc rfl hq (Nat.le_of_ble_eq_true rfl) (Or.inl ⟨Or.inr rfl, rfl⟩) he hx
  · have hl : Cond.methodLink (oS (oN k)) n yJ6_length ∈ lw_all := by
      rcases okC _ _ _ hq with ⟨z1, -⟩ | ⟨z1, -⟩ | ⟨z1, -⟩ | ⟨z1, -⟩ | ⟨z1, -⟩ | ⟨z1, -⟩ | ⟨z1, -⟩ | ⟨z1, -⟩ | ⟨z1, z2⟩ | ⟨z1, -⟩ | ⟨z1, -⟩ | ⟨z1, -⟩
      · cases z1
      · cases z1
      · cases z1
      · cases z1
      · cases z1
      · cases z1
      · cases z1
      · cases z1
      · exact z2
      · cases z1
      · cases z1
      · cases z1
    cases S with
    | nil => cases he
    | cons v0 S0 =>
      cases v0 with
      | ref v =>
        obtain ⟨hb, he⟩ := bif_some he
        simp only [Bool.and_eq_true] at hb
        obtain ⟨x, hg, he⟩ := ob_some he
        cases nx_r he
        exact sm_slen wd ws hc hl (Nat.le_of_ble_eq_true hb.1) (Nat.le_of_ble_eq_true hb.2) hg (ih _ _ _ _ _ _ _ _ hx)
      | _ => cases he
  · have hl : Cond.methodLink (oS (oN k)) n yJ6_charAt ∈ lw_all := by
      rcases okC _ _ _ hq with ⟨z1, -⟩ | ⟨z1, -⟩ | ⟨z1, -⟩ | ⟨z1, -⟩ | ⟨z1, -⟩ | ⟨z1, -⟩ | ⟨z1, -⟩ | ⟨z1, -⟩ | ⟨z1, -⟩ | ⟨z1, z2⟩ | ⟨z1, -⟩ | ⟨z1, -⟩
      · cases z1
      · cases z1
      · cases z1
      · cases z1
      · cases z1
      · cases z1
      · cases z1
      · cases z1
      · cases z1
      · exact z2
      · cases z1
      · cases z1
    cases S with
    | nil => cases he
    | cons v0 S0 =>
      cases v0 with
      | int i =>
        cases S0 with
        | nil => cases he
        | cons v1 S1 =>
          cases v1 with
          | ref v =>
            obtain ⟨hb, he⟩ := bif_some he
            simp only [Bool.and_eq_true] at hb
            obtain ⟨x, hg, he⟩ := ob_some he
            cases nx_r he
            exact sm_schr wd ws hc hl (Nat.le_of_ble_eq_true hb.1) (Nat.le_of_ble_eq_true hb.2) hg (ih _ _ _ _ _ _ _ _ hx)
          | _ => cases he
      | _ => cases he
theorem st_invokestatic (wd : Wd s0 D dA xt hE args0) (wx : Wx l s0 xt args0) (ws : Ws s0 xt hE) (ih : Sr1 l s0 D dA xt hE rec) {n : Nat} (hc : codeAt k pc = some (.invokestatic n)) (he : ex d k (.invokestatic n) pc L S h = some r) (hx : Xk rec d k pc r = some (o, h')) : Sm l s0 D dA xt hE d k pc L S h o h' := by
  obtain ⟨⟨kd, k', n2, c2⟩, hq, he⟩ := ob_some he
  obtain ⟨hb, he⟩ := bif_some he
  have hb : kd = 1 ∨ kd = 11 ∨ kd = 15 ∨ kd = 16 := by
    simp only [Bool.or_eq_true] at hb
    rcases hb with (((z | z) | z) | z)
    · exact Or.inl (Nat.eq_of_beq_eq_true z)
    · exact Or.inr (Or.inl (Nat.eq_of_beq_eq_true z))
    · exact Or.inr (Or.inr (Or.inl (Nat.eq_of_beq_eq_true z)))
    · exact Or.inr (Or.inr (Or.inr (Nat.eq_of_beq_eq_true z)))
  rcases hb with rfl | rfl | rfl | rfl
  · exact sm_exC wd wx.2.1 ih hc rfl hq (Nat.le_of_ble_eq_true rfl) (Or.inr (Or.inl ⟨rfl, rfl⟩)) he hx
  · have hl : Cond.methodLink (oS (oN k)) n arraycopyName ∈ lw_all := by
      rcases okC _ _ _ hq with ⟨z1, -⟩ | ⟨z1, -⟩ | ⟨z1, -⟩ | ⟨z1, -⟩ | ⟨z1, -⟩ | ⟨z1, -⟩ | ⟨z1, z2⟩ | ⟨z1, -⟩ | ⟨z1, -⟩ | ⟨z1, -⟩ | ⟨z1, -⟩ | ⟨z1, -⟩
      · cases z1
      · cases z1
      · cases z1
      · cases z1
      · cases z1
      · cases z1
      · exact z2
      · cases z1
      · cases z1
      · cases z1
      · cases z1
      · cases z1
    cases S with
    | nil => cases he
    | cons v0 S0 =>
      cases v0 with
      | int m =>
        cases S0 with
        | nil => cases he
        | cons v1 S1 =>
          cases v1 with
          | int dp =>
            cases S1 with
            | nil => cases he
            | cons v2 S2 =>
              cases v2 with
              | ref w =>
                cases S2 with
                | nil => cases he
                | cons v3 S3 =>
                  cases v3 with
                  | int sp =>
                    cases S3 with
                    | nil => cases he
                    | cons v4 S4 =>
                      cases v4 with
                      | ref v =>
                        obtain ⟨hb, he⟩ := bif_some he
                        simp only [Bool.and_eq_true] at hb
                        obtain ⟨h1, hg, he⟩ := ob_some he
                        cases nx_r he
                        exact sm_acp wd hc hl (Nat.le_of_ble_eq_true hb.1) (Nat.le_of_ble_eq_true hb.2) hg (ih _ _ _ _ _ _ _ _ hx)
                      | _ => cases he
                  | _ => cases he
              | _ => cases he
          | _ => cases he
      | _ => cases he
  · have hl : Cond.methodLink (oS (oN k)) n Lib.Math.max.name ∈ lw_all := by
      rcases okC _ _ _ hq with ⟨z1, -⟩ | ⟨z1, -⟩ | ⟨z1, -⟩ | ⟨z1, -⟩ | ⟨z1, -⟩ | ⟨z1, -⟩ | ⟨z1, -⟩ | ⟨z1, -⟩ | ⟨z1, -⟩ | ⟨z1, -⟩ | ⟨z1, z2⟩ | ⟨z1, -⟩
      · cases z1
      · cases z1
      · cases z1
      · cases z1
      · cases z1
      · cases z1
      · cases z1
      · cases z1
      · cases z1
      · cases z1
      · exact z2
      · cases z1
    cases S with
    | nil => cases he
    | cons v0 S0 =>
      cases v0 with
      | int b =>
        cases S0 with
        | nil => cases he
        | cons v1 S1 =>
          cases v1 with
          | int a =>
            obtain ⟨hb, he⟩ := bif_some he
            simp only [Bool.and_eq_true] at hb
            cases nx_r he
            exact sm_max wd hc hl (Nat.le_of_ble_eq_true hb.1) (Nat.le_of_ble_eq_true hb.2) (ih _ _ _ _ _ _ _ _ hx)
          | _ => cases he
      | _ => cases he
  · have hl : Cond.methodLink (oS (oN k)) n Lib.Math.min.name ∈ lw_all := by
      rcases okC _ _ _ hq with ⟨z1, -⟩ | ⟨z1, -⟩ | ⟨z1, -⟩ | ⟨z1, -⟩ | ⟨z1, -⟩ | ⟨z1, -⟩ | ⟨z1, -⟩ | ⟨z1, -⟩ | ⟨z1, -⟩ | ⟨z1, -⟩ | ⟨z1, -⟩ | ⟨z1, z2⟩
      · cases z1
      · cases z1
      · cases z1
      · cases z1
      · cases z1
      · cases z1
      · cases z1
      · cases z1
      · cases z1
      · cases z1
      · cases z1
      · exact z2
    cases S with
    | nil => cases he
    | cons v0 S0 =>
      cases v0 with
      | int b =>
        cases S0 with
        | nil => cases he
        | cons v1 S1 =>
          cases v1 with
          | int a =>
            obtain ⟨hb, he⟩ := bif_some he
            simp only [Bool.and_eq_true] at hb
            cases nx_r he
            exact sm_min wd hc hl (Nat.le_of_ble_eq_true hb.1) (Nat.le_of_ble_eq_true hb.2) (ih _ _ _ _ _ _ _ _ hx)
          | _ => cases he
      | _ => cases he
theorem st_invokespecial (wd : Wd s0 D dA xt hE args0) (wx : Wx l s0 xt args0) (ws : Ws s0 xt hE) (ih : Sr1 l s0 D dA xt hE rec) {n : Nat} (hc : codeAt k pc = some (.invokespecial n)) (he : ex d k (.invokespecial n) pc L S h = some r) (hx : Xk rec d k pc r = some (o, h')) : Sm l s0 D dA xt hE d k pc L S h o h' := by
  obtain ⟨⟨kd, k', n2, c2⟩, hq, he⟩ := ob_some he
  obtain ⟨hb, he⟩ := bif_some he
  have hb : kd = 2 ∨ kd = 4 ∨ kd = 10 := by
    simp only [Bool.or_eq_true] at hb
    rcases hb with ((z | z) | z)
    · exact Or.inl (Nat.eq_of_beq_eq_true z)
    · exact Or.inr (Or.inl (Nat.eq_of_beq_eq_true z))
    · exact Or.inr (Or.inr (Nat.eq_of_beq_eq_true z))
  rcases hb with rfl | rfl | rfl
  · exact sm_exC wd wx.2.1 ih hc rfl hq (Nat.le_of_ble_eq_true rfl) (Or.inr (Or.inr ⟨Or.inl rfl, rfl⟩)) he hx
  · exact sm_exC wd wx.2.1 ih hc rfl hq (Nat.le_of_ble_eq_true rfl) (Or.inr (Or.inr ⟨Or.inr rfl, rfl⟩)) he hx
  · have hl : Cond.methodLink (oS (oN k)) n objectInit ∈ lw_all := by
      rcases okC _ _ _ hq with ⟨z1, -⟩ | ⟨z1, -⟩ | ⟨z1, -⟩ | ⟨z1, -⟩ | ⟨z1, -⟩ | ⟨z1, z2⟩ | ⟨z1, -⟩ | ⟨z1, -⟩ | ⟨z1, -⟩ | ⟨z1, -⟩ | ⟨z1, -⟩ | ⟨z1, -⟩
      · cases z1
      · cases z1
      · cases z1
      · cases z1
      · cases z1
      · exact z2
      · cases z1
      · cases z1
      · cases z1
      · cases z1
      · cases z1
      · cases z1
    cases S with
    | nil => cases he
    | cons v0 S0 =>
      cases v0 with
      | ref v =>
        obtain ⟨hb, he⟩ := bif_some he
        simp only [Bool.and_eq_true] at hb
        cases nx_r he
        exact sm_oinit wd hc hl (Nat.le_of_ble_eq_true hb.1) (Nat.le_of_ble_eq_true hb.2) (ih _ _ _ _ _ _ _ _ hx)
      | _ => cases he
theorem st_all (wd : Wd s0 D dA xt hE args0) (wx : Wx l s0 xt args0) (ws : Ws s0 xt hE) (ih : Sr1 l s0 D dA xt hE rec) {i : Instr} (hc : codeAt k pc = some i) (he : ex d k i pc L S h = some r) (hx : Xk rec d k pc r = some (o, h')) : Sm l s0 D dA xt hE d k pc L S h o h' := by
  cases i with
  | iadd  => exact st_iadd wd wx ws ih hc he hx
  | isub  => exact st_isub wd wx ws ih hc he hx
  | imul  => exact st_imul wd wx ws ih hc he hx
  | iand  => exact st_iand wd wx ws ih hc he hx
  | ior  => exact st_ior wd wx ws ih hc he hx
  | ixor  => exact st_ixor wd wx ws ih hc he hx
  | ishl  => exact st_ishl wd wx ws ih hc he hx
  | ishr  => exact st_ishr wd wx ws ih hc he hx
  | idiv  => exact st_idiv wd wx ws ih hc he hx
  | irem  => exact st_irem wd wx ws ih hc he hx
  | ladd  => exact st_ladd wd wx ws ih hc he hx
  | lsub  => exact st_lsub wd wx ws ih hc he hx
  | lmul  => exact st_lmul wd wx ws ih hc he hx
  | land  => exact st_land wd wx ws ih hc he hx
  | lor  => exact st_lor wd wx ws ih hc he hx
  | lxor  => exact st_lxor wd wx ws ih hc he hx
  | lcmp  => exact st_lcmp wd wx ws ih hc he hx
  | lshl  => exact st_lshl wd wx ws ih hc he hx
  | lshr  => exact st_lshr wd wx ws ih hc he hx
  | lushr  => exact st_lushr wd wx ws ih hc he hx
  | lneg  => exact st_lneg wd wx ws ih hc he hx
  | l2i  => exact st_l2i wd wx ws ih hc he hx
  | i2l  => exact st_i2l wd wx ws ih hc he hx
  | i2b  => exact st_i2b wd wx ws ih hc he hx
  | iconst _ => exact st_iconst wd wx ws ih hc he hx
  | bipush _ => exact st_bipush wd wx ws ih hc he hx
  | sipush _ => exact st_sipush wd wx ws ih hc he hx
  | lconst _ => exact st_lconst wd wx ws ih hc he hx
  | dup  => exact st_dup wd wx ws ih hc he hx
  | pop  => exact st_pop wd wx ws ih hc he hx
  | dup_x1  => exact st_dup_x1 wd wx ws ih hc he hx
  | pop2  => exact st_pop2 wd wx ws ih hc he hx
  | iload _ => exact st_iload wd wx ws ih hc he hx
  | iload_n _ => exact st_iload_n wd wx ws ih hc he hx
  | lload _ => exact st_lload wd wx ws ih hc he hx
  | lload_n _ => exact st_lload_n wd wx ws ih hc he hx
  | aload _ => exact st_aload wd wx ws ih hc he hx
  | aload_n _ => exact st_aload_n wd wx ws ih hc he hx
  | istore _ => exact st_istore wd wx ws ih hc he hx
  | istore_n _ => exact st_istore_n wd wx ws ih hc he hx
  | lstore _ => exact st_lstore wd wx ws ih hc he hx
  | lstore_n _ => exact st_lstore_n wd wx ws ih hc he hx
  | astore _ => exact st_astore wd wx ws ih hc he hx
  | astore_n _ => exact st_astore_n wd wx ws ih hc he hx
  | iinc _ _ => exact st_iinc wd wx ws ih hc he hx
  | goto _ => exact st_goto wd wx ws ih hc he hx
  | iaload  => exact st_iaload wd wx ws ih hc he hx
  | baload  => exact st_baload wd wx ws ih hc he hx
  | laload  => exact st_laload wd wx ws ih hc he hx
  | aaload  => exact st_aaload wd wx ws ih hc he hx
  | iastore  => exact st_iastore wd wx ws ih hc he hx
  | bastore  => exact st_bastore wd wx ws ih hc he hx
  | lastore  => exact st_lastore wd wx ws ih hc he hx
  | aastore  => exact st_aastore wd wx ws ih hc he hx
  | arraylength  => exact st_arraylength wd wx ws ih hc he hx
  | newarray _ => exact st_newarray wd wx ws ih hc he hx
  | anewarray _ => exact st_anewarray wd wx ws ih hc he hx
  | new _ => exact st_new wd wx ws ih hc he hx
  | getfield _ => exact st_getfield wd wx ws ih hc he hx
  | putfield _ => exact st_putfield wd wx ws ih hc he hx
  | getstatic _ => exact st_getstatic wd wx ws ih hc he hx
  | ldc _ => exact st_ldc wd wx ws ih hc he hx
  | ldc2_w _ => exact st_ldc2_w wd wx ws ih hc he hx
  | lookupswitch _ _ => exact st_lookupswitch wd wx ws ih hc he hx
  | tableswitch _ _ _ _ => exact st_tableswitch wd wx ws ih hc he hx
  | ireturn  => exact st_ireturn wd wx ws ih hc he hx
  | lreturn  => exact st_lreturn wd wx ws ih hc he hx
  | areturn  => exact st_areturn wd wx ws ih hc he hx
  | return_  => exact st_return_ wd wx ws ih hc he hx
  | athrow  => exact st_athrow wd wx ws ih hc he hx
  | invokevirtual _ => exact st_invokevirtual wd wx ws ih hc he hx
  | invokestatic _ => exact st_invokestatic wd wx ws ih hc he hx
  | invokespecial _ => exact st_invokespecial wd wx ws ih hc he hx
  | if_icmp c n => cases c with
    | eq => exact st_if_icmp_eq wd wx ws ih hc he hx
    | ne => exact st_if_icmp_ne wd wx ws ih hc he hx
    | lt => exact st_if_icmp_lt wd wx ws ih hc he hx
    | ge => exact st_if_icmp_ge wd wx ws ih hc he hx
    | gt => exact st_if_icmp_gt wd wx ws ih hc he hx
    | le => exact st_if_icmp_le wd wx ws ih hc he hx
  | ifCond c n => cases c with
    | eq => exact st_ifCond_eq wd wx ws ih hc he hx
    | ne => exact st_ifCond_ne wd wx ws ih hc he hx
    | lt => exact st_ifCond_lt wd wx ws ih hc he hx
    | ge => exact st_ifCond_ge wd wx ws ih hc he hx
    | gt => exact st_ifCond_gt wd wx ws ih hc he hx
    | le => exact st_ifCond_le wd wx ws ih hc he hx
  | _ => cases he
theorem sim_stp (wd : Wd s0 D dA xt hE args0) (wx : Wx l s0 xt args0) (ws : Ws s0 xt hE) (ih : Sr1 l s0 D dA xt hE rec) : Sr1 l s0 D dA xt hE (stp rec) := by
  intro d k pc L S h o h' hs
  obtain ⟨i, r, hc, he, hx⟩ := stp_X hs
  exact sm_nrm (st_all wd wx ws ih hc he hx)
/-- the simulation -/
theorem sim_run (wd : Wd s0 D dA xt hE args0) (wx : Wx l s0 xt args0) (ws : Ws s0 xt hE) : ∀ n, Sr1 l s0 D dA xt hE (run n)
  | 0 => fun _ _ _ _ _ _ _ _ h => by cases h
  | n + 1 => sim_stp wd wx ws (sim_run wd wx ws n)
theorem sim_ev (wd : Wd s0 D dA xt hE args0) (wx : Wx l s0 xt args0) (ws : Ws s0 xt hE) (he : ev d k pc L S h = some (o, h')) : Sm l s0 D dA xt hE d k pc L S h o h' := by
  obtain ⟨n, hn⟩ := run_of_ev he
  exact sim_run wd wx ws n _ _ _ _ _ _ _ _ hn
end

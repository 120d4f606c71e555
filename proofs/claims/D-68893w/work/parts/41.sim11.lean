/-! the simulation, 11: what is left of the instructions -/
set_option maxRecDepth 100000
theorem okG : ∀ (w n a : Nat), gT w n = some a → a = 1 ∧ Cond.fieldLink (oS w) n "CircuitCyclesModel" "WORDS" "[B" ∈ lw_all := by
  intro w n a h
  have hm := lk_mem h
  by_cases hw : w = 10
  · subst hw
    have : (n, a) ∈ [(210, 1)] := hm
    simp only [List.mem_cons, List.not_mem_nil, or_false, Prod.mk.injEq] at this
    obtain ⟨rfl, rfl⟩ := this
    exact ⟨rfl, q1817⟩
  · exfalso
    unfold gLs at hm
    split at hm
    · exact hw rfl
    · exact absurd hm List.not_mem_nil
theorem okS {k n : Nat} (h : sLk k n = 1) : Cond.classLink (oS (oN k)) n "java/lang/String" ∈ lw_all := by
  unfold sLk at h
  cases hb : (Nat.beq (oN k) 2 && Nat.beq n 9) with
  | false => rw [hb] at h; cases h
  | true =>
    rw [Bool.and_eq_true] at hb
    rw [Nat.eq_of_beq_eq_true hb.1, Nat.eq_of_beq_eq_true hb.2]
    exact q206
section
variable {l : Launch} {s0 : State} {D : va_G} {dA : Nat → ClassId} {xt : Nat → Nat} {hE : AH} {args0 : Array Value} {d k pc : Nat} {L : LO} {S : List Value} {h h' : AH} {o : OU}
variable {p : Program} {e : Env} {R : Room} {s : State} {m : MethodId} {args : Array Value} {below : List Frame} {meth : Method} {c : Code} {H : Heap} {locs : List Loc} {cells slots : Nat} {ls : Array Slot}
theorem wds8 {ad : Nat → Nat} (hS8 : wds S ≤ 8) : ((S.map (vM ad)).map fun v => v.category).sum ≤ 8 := by
  have := wds_map (ad := ad) S
  unfold wds at this hS8
  omega
theorem str2 (wd : Wd s0 D dA xt hE args0) (hR : Rp s0 D dA xt hE h H) {v : Nat} (hv : v < K0) (ht : hT h v = 30) : 2 ≤ v := by
  have h1 := (hR.2.2.2.2.2 v hv).1
  rcases Nat.lt_or_ge v 2 with z | z
  · rcases (show v = 0 ∨ v = 1 by omega) with rfl | rfl
    · rw [wd.2.2.1.1, ht] at h1; cases h1
    · rw [wd.2.2.1.2.1, ht] at h1; cases h1
  · exact z
theorem sm_slen (wd : Wd s0 D dA xt hE args0) (ws : Ws s0 xt hE) {n' v : Nat} {x : Int32} (hc : codeAt k pc = some (.invokevirtual n')) (hl0 : Cond.methodLink (oS (oN k)) n' yJ6_length ∈ lw_all) (hd6 : 6 ≤ d) (hS8 : wds S ≤ 8) (hg : stL h v = some x) (hk : Sm l s0 D dA xt hE d k (pc + 3) L (.int x :: S) h o h') : Sm l s0 D dA xt hE d k pc L (.ref v :: S) h o h' := by
  obtain ⟨⟨ht, hv⟩, rfl⟩ := if_some hg
  refine ⟨hk.1, fun p e R s m args below meth c H locs cells slots ls cx hRp hl hfr hlo hd hw hcl hsl => ?_⟩
  have hdg : decode (mtA k).2.1 pc = .ok (.invokevirtual n', 3) := dec_at cx hc rfl (by decide)
  have h2 := str2 wd hRp hv ht
  have hwm := cx.2.2.2.2.2.2.1
  have hNN := (hRp.2.2.2.2.2 v hv).2.1
  obtain ⟨mk, methk, ck, hmk, hsig⟩ := mg_at wd hwm q689
  obtain ⟨⟨cell, hcell, hobj, hcls, hnA⟩, -⟩ := ws_at ws hRp hwm hfr.2.1 h2 hv
  have hcellH : H[adO s0 xt v]? = some cell := by
    have hlt : adO s0 xt v < s0.heap.size := Nat.not_le.mp hnA
    rw [hRp.2.2.1 _ hlt, ← hfr.2.1 _ hlt]; exact hcell
  refine j_go (aC := #[.ref (adO s0 xt v)]) (Sr := S.map (vM (adO s0 xt))) (v := some (.int (Int32.ofNat (hN hE v)))) (y := yJ6_length) (by decide +kernel) (by decide) (by rw [hl.1, cx.2.2.1]) hwm hRp hfr hlo (by omega) (by omega) (by omega) (by omega) (wds8 hS8) (by rw [cx.2.1]; exact hdg) hmk
    (iv_str wd cx.1 hwm cx.2.2.2.2.2.1 hl0 q687 q688 ⟨by decide +kernel, by decide +kernel⟩ hcellH hobj hcls (as := []) (rest := S.map (vM (adO s0 xt))) hmk (by
      have e1 : (parseMethodDescriptor yJ6_length.desc).map (fun d => d.parameters.length) = some 0 := by decide +kernel
      rw [show parseMethodDescriptor yJ6_length.desc = some methk.sig from hsig] at e1
      exact (Option.some.inj e1).symm) (by rw [cx.2.1]; exact hdg))
    (fun sC d1 d2 d3 => j_length wd ws h2 hv cx.1 hRp d1 d2 (by show 1 ≤ R.frames - 1; omega) (by show 48 ≤ R.locals - 48; omega) d3) ?_
  intro H' locs' hR' hfr' hlo'
  rw [← hNN]
  exact hk.2 p e R s m args below meth c H' locs' cells slots ls cx hR' hl hfr' hlo' hd hw hcl hsl
theorem sm_schr (wd : Wd s0 D dA xt hE args0) (ws : Ws s0 xt hE) {n' v : Nat} {i x : Int32} (hc : codeAt k pc = some (.invokevirtual n')) (hl0 : Cond.methodLink (oS (oN k)) n' yJ6_charAt ∈ lw_all) (hd6 : 6 ≤ d) (hS8 : wds S ≤ 8) (hg : stC h v i = some x) (hk : Sm l s0 D dA xt hE d k (pc + 3) L (.int x :: S) h o h') : Sm l s0 D dA xt hE d k pc L (.int i :: .ref v :: S) h o h' := by
  obtain ⟨⟨ht, hv, hi⟩, rfl⟩ := if_some hg
  refine ⟨hk.1, fun p e R s m args below meth c H locs cells slots ls cx hRp hl hfr hlo hd hw hcl hsl => ?_⟩
  have hdg : decode (mtA k).2.1 pc = .ok (.invokevirtual n', 3) := dec_at cx hc rfl (by decide)
  have h2 := str2 wd hRp hv ht
  have hwm := cx.2.2.2.2.2.2.1
  have hNN := (hRp.2.2.2.2.2 v hv).2.1
  have hII := (hRp.2.2.2.2.2 v hv).2.2
  rw [hNN] at hi
  obtain ⟨mk, methk, ck, hmk, hsig⟩ := mg_at wd hwm q699
  obtain ⟨⟨cell, hcell, hobj, hcls, hnA⟩, -⟩ := ws_at ws hRp hwm hfr.2.1 h2 hv
  have hcellH : H[adO s0 xt v]? = some cell := by
    have hlt : adO s0 xt v < s0.heap.size := Nat.not_le.mp hnA
    rw [hRp.2.2.1 _ hlt, ← hfr.2.1 _ hlt]; exact hcell
  refine j_go (aC := #[.ref (adO s0 xt v), .int i]) (Sr := S.map (vM (adO s0 xt))) (v := some (.int (hI hE v i.toNatClampNeg))) (y := yJ6_charAt) (by decide +kernel) (by decide) (by rw [hl.1, cx.2.2.1]) hwm hRp hfr hlo (by omega) (by omega) (by omega) (by omega) (wds8 hS8) (by rw [cx.2.1]; exact hdg) hmk
    (iv_str wd cx.1 hwm cx.2.2.2.2.2.1 hl0 q697 q698 ⟨by decide +kernel, by decide +kernel⟩ hcellH hobj hcls (as := [.int i]) (rest := S.map (vM (adO s0 xt))) hmk (by
      have e1 : (parseMethodDescriptor yJ6_charAt.desc).map (fun d => d.parameters.length) = some 1 := by decide +kernel
      rw [show parseMethodDescriptor yJ6_charAt.desc = some methk.sig from hsig] at e1
      exact (Option.some.inj e1).symm) (by rw [cx.2.1]; exact hdg))
    (fun sC d1 d2 d3 => j_charAt wd ws h2 hv hi cx.1 hRp d1 d2 (by show 3 ≤ R.frames - 1; omega) (by show 144 ≤ R.locals - 48; omega) d3) ?_
  intro H' locs' hR' hfr' hlo'
  rw [← hII]
  exact hk.2 p e R s m args below meth c H' locs' cells slots ls cx hR' hl hfr' hlo' hd hw hcl hsl
theorem sm_oinit (wd : Wd s0 D dA xt hE args0) {n' v : Nat} (hc : codeAt k pc = some (.invokespecial n')) (hl0 : Cond.methodLink (oS (oN k)) n' objectInit ∈ lw_all) (hd1 : 1 ≤ d) (hS8 : wds S ≤ 8) (hk : Sm l s0 D dA xt hE d k (pc + 3) L S h o h') : Sm l s0 D dA xt hE d k pc L (.ref v :: S) h o h' := by
  refine ⟨hk.1, fun p e R s m args below meth c H locs cells slots ls cx hRp hl hfr hlo hd hw hcl hsl => ?_⟩
  have hdg : decode (mtA k).2.1 pc = .ok (.invokespecial n', 3) := dec_at cx hc rfl (by decide)
  have hwm := cx.2.2.2.2.2.2.1
  have hts := wd_ts (args := args) wd hwm
  have h8 := wds8 (ad := adO s0 xt) hS8
  refine W.objInit (g := F0 m pc ls (.ref (adO s0 xt v) :: S.map (vM (adO s0 xt)))) cx.1 cx.2.1 cx.2.2.2.2.2.1 (hts _ hl0) (hts _ q198) (hts _ q199) rfl (by show ls.size = _; rw [hl.1, cx.2.2.1]) rfl hdg (by omega) (by show 2 * 0 + _ + 12 ≤ _; omega) ?_
  exact hk.2 p e R s m args below meth c H locs cells slots ls cx hRp hl hfr hlo hd hw hcl hsl
theorem sm_max (wd : Wd s0 D dA xt hE args0) {n' : Nat} {x y : Int32} (hc : codeAt k pc = some (.invokestatic n')) (hl0 : Cond.methodLink (oS (oN k)) n' Lib.Math.max.name ∈ lw_all) (hd1 : 1 ≤ d) (hS8 : wds S ≤ 8) (hk : Sm l s0 D dA xt hE d k (pc + 3) L (.int (mxI x y) :: S) h o h') : Sm l s0 D dA xt hE d k pc L (.int y :: .int x :: S) h o h' := by
  refine ⟨hk.1, fun p e R s m args below meth c H locs cells slots ls cx hRp hl hfr hlo hd hw hcl hsl => ?_⟩
  have hdg : decode (mtA k).2.1 pc = .ok (.invokestatic n', 3) := dec_at cx hc rfl (by decide)
  have hts := wd_ts (args := args) wd cx.2.2.2.2.2.2.1
  have h8 := wds8 (ad := adO s0 xt) hS8
  exact va_mmax cx.1 cx.2.1 (by rw [hl.1, cx.2.2.1]) cx.2.2.2.2.2.1 (hts _ hl0) (hts _ q919) (hts _ q189) (hts _ q920) (by omega) (by omega) (by omega) (by omega) hdg (hk.2 p e R s m args below meth c H locs cells slots ls cx hRp hl hfr hlo hd hw hcl hsl)
theorem sm_min (wd : Wd s0 D dA xt hE args0) {n' : Nat} {x y : Int32} (hc : codeAt k pc = some (.invokestatic n')) (hl0 : Cond.methodLink (oS (oN k)) n' Lib.Math.min.name ∈ lw_all) (hd1 : 1 ≤ d) (hS8 : wds S ≤ 8) (hk : Sm l s0 D dA xt hE d k (pc + 3) L (.int (mnI x y) :: S) h o h') : Sm l s0 D dA xt hE d k pc L (.int y :: .int x :: S) h o h' := by
  refine ⟨hk.1, fun p e R s m args below meth c H locs cells slots ls cx hRp hl hfr hlo hd hw hcl hsl => ?_⟩
  have hdg : decode (mtA k).2.1 pc = .ok (.invokestatic n', 3) := dec_at cx hc rfl (by decide)
  have hts := wd_ts (args := args) wd cx.2.2.2.2.2.2.1
  have h8 := wds8 (ad := adO s0 xt) hS8
  exact va_mmin cx.1 cx.2.1 (by rw [hl.1, cx.2.2.1]) cx.2.2.2.2.2.1 (hts _ hl0) (hts _ q926) (hts _ q189) (hts _ q927) (by omega) (by omega) (by omega) (by omega) hdg (hk.2 p e R s m args below meth c H locs cells slots ls cx hRp hl hfr hlo hd hw hcl hsl)
theorem sm_ldcS (wd : Wd s0 D dA xt hE args0) (wx : Wx l s0 xt args0) {n a : Nat} (hc : codeAt k pc = some (.ldc n)) (hn : cT (oN k) n = some (.ref a)) (hk : Sm l s0 D dA xt hE d k (pc + 2) L (.ref a :: S) h o h') : Sm l s0 D dA xt hE d k pc L S h o h' := by
  refine ⟨hk.1, fun p e R s m args below meth c H locs cells slots ls cx hRp hl hfr hlo hd hw hcl hsl => ?_⟩
  have hdg : decode (mtA k).2.1 pc = .ok (.ldc n, 2) := dec_at cx hc rfl (by decide)
  rcases okI _ _ _ hn with ⟨y, z1, -⟩ | ⟨b, tx, z1, z2, z3, z4, z5⟩
  · cases z1
  · cases z1
    have hz := wx.2.2.2.2 a z2 z3
    rw [z5] at hz
    have e1 : adO s0 xt a = xt a := if_pos z3
    have kk := hk.2 p e R s m args below meth c H locs cells slots ls cx hRp hl hfr hlo hd hw hcl hsl
    refine va_ldcS cx.1 cx.2.1 cx.2.2.2.2.2.1 (vk_R.warm cx.2.2.2.2.2.2.1 hz) hdg ?_
    rw [← e1]
    exact kk
theorem sm_words (wd : Wd s0 D dA xt hE args0) {n a : Nat} (hc : codeAt k pc = some (.getstatic n)) (hg : gT (oN k) n = some a) (hk : Sm l s0 D dA xt hE d k (pc + 3) L (.ref a :: S) h o h') : Sm l s0 D dA xt hE d k pc L S h o h' := by
  refine ⟨hk.1, fun p e R s m args below meth c H locs cells slots ls cx hRp hl hfr hlo hd hw hcl hsl => ?_⟩
  have hdg : decode (mtA k).2.1 pc = .ok (.getstatic n, 3) := dec_at cx hc rfl (by decide)
  have hwm := cx.2.2.2.2.2.2.1
  have hts := wd_ts (args := args) wd hwm
  obtain ⟨ha, hln⟩ := okG _ _ _ hg
  subst ha
  have hZ := (va_Z.moved hwm.alike wd.2.2.2.2.2).kept (fun q hq _ => hfr.2.1 q hq)
  exact va_gets cx.1 cx.2.1 hZ (fr_S hRp hfr hlo) cx.2.2.2.2.2.1 (hts _ hln) (fun _ z => z) hdg (hk.2 p e R s m args below meth c H locs cells slots ls cx hRp hl hfr hlo hd hw hcl hsl)
theorem sm_anew (wd : Wd s0 D dA xt hE args0) {n : Nat} {x : Int32} {q : Nat × AH} (hc : codeAt k pc = some (.anewarray n)) (hn : Cond.classLink (oS (oN k)) n "java/lang/String" ∈ lw_all) (hg : nA h 24 x = some q) (hk : Sm l s0 D dA xt hE d k (pc + 3) L (.ref q.1 :: S) q.2 o h') : Sm l s0 D dA xt hE d k pc L (.int x :: S) h o h' := by
  obtain ⟨⟨g1, g2, g3, g4⟩, rfl⟩ := if_some hg
  have hk : Sm l s0 D dA xt hE d k (pc + 3) L (.ref (hC h) :: S) (mkC h 24 x.toNatClampNeg x.toNatClampNeg) o h' := hk
  refine ⟨mk_mono hk, fun p e R s m args below meth c H locs cells slots ls cx hRp hl hfr hlo hd hw hcl hsl => ?_⟩
  have hdg : decode (mtA k).2.1 pc = .ok (.anewarray n, 3) := dec_at cx hc rfl (by decide)
  have hwm := cx.2.2.2.2.2.2.1
  have hts := wd_ts (args := args) wd hwm
  have hm := hk.1
  have hc1 : hC (mkC h 24 x.toNatClampNeg x.toNatClampNeg) = hC h + 1 := rfl
  have hs1 : hS (mkC h 24 x.toNatClampNeg x.toNatClampNeg) = hS h + x.toNatClampNeg := rfl
  rw [hc1, hs1] at hm
  have hK := wd_K wd hwm
  have hov : va_AO "java/lang/String" s := va_AO.moved hwm.alike (va_AO.of (wd.1 _ q207))
  refine W.anew (g := F0 m pc ls (.int x :: S.map (vM (adO s0 xt)))) cx.1 cx.2.1 cx.2.2.2.2.2.1 (hts _ hn) (va_AO.use hov) rfl hdg rfl (Int32.not_lt.mpr g1) (by omega) (by omega) (by omega) fun cA kA comp f1 f2 f3 f4 => ?_
  obtain ⟨kA', comp', -, -, -, f5⟩ := (hK.2 4 _ rfl).2
  have : cA = dA 4 := Option.some.inj (f1.symm.trans f5)
  subst this
  refine mk_go cx hRp hl hfr hlo hd hw hcl hsl (t := 24) (by decide) (Array.size_push _) (fun q hq => by rw [Array.getElem?_push, if_neg (Nat.ne_of_lt hq)]) ?_ hk
  have e4 : hT (mkC h 24 x.toNatClampNeg x.toNatClampNeg) (hC h) = 24 := if_pos rfl
  have e5 : hN (mkC h 24 x.toNatClampNeg x.toNatClampNeg) (hC h) = x.toNatClampNeg := if_pos rfl
  have e3 : hR (mkC h 24 x.toNatClampNeg x.toNatClampNeg) (hC h) = fun _ => .null := by funext j; exact if_pos rfl
  rw [cE_q e4, e5, e3]
  show (H.push _)[H.size]? = some (vp_cell _ _)
  rw [vp_cell_q, Array.getElem?_push_size, arrV_new]
  rfl
theorem cE_up {ad : Nat → Nat} {a i b : Nat} (ht : hT h a = 24) : cE dA ad (sR h a i (.ref b)) a = .inl (dA 4, hN h a, .inr (.inr (.inr (.inr (va_up (fun j => (rfV (hR h a j)).map ad) i (some (ad b))))))) := by
  have e : (fun j => (rfV (hR (sR h a i (.ref b)) a j)).map ad) = va_up (fun j => (rfV (hR h a j)).map ad) i (some (ad b)) := by
    funext j
    show (rfV (if a = a ∧ j = i then .ref b else hR h a j)).map ad = va_up (fun j => (rfV (hR h a j)).map ad) i (some (ad b)) j
    unfold va_up
    by_cases hj : j = i
    · rw [if_pos ⟨rfl, hj⟩, if_pos hj]; rfl
    · rw [if_neg (fun z => hj z.2), if_neg hj]
  rw [cE_q (show hT (sR h a i (.ref b)) a = 24 from ht), e]
  rfl
theorem sm_aastore (wd : Wd s0 D dA xt hE args0) (ws : Ws s0 xt hE) {a b : Nat} {i : Int32} {h1 : AH} (hc : codeAt k pc = some .aastore) (hg : bR h a i b = some h1) (hk : Sm l s0 D dA xt hE d k (pc + 1) L S h1 o h') : Sm l s0 D dA xt hE d k pc L (.ref b :: .int i :: .ref a :: S) h o h' := by
  obtain ⟨⟨ha, ht, htb, hb, hi⟩, rfl⟩ := if_some hg
  refine ⟨hk.1, fun p e R s m args below meth c H locs cells slots ls cx hRp hl hfr hlo hd hw hcl hsl => ?_⟩
  have hdg : decode (mtA k).2.1 pc = .ok (.aastore, 1) := dec_at cx hc rfl (by decide)
  have hwm := cx.2.2.2.2.2.2.1
  have haC := rp_lt hRp (a := a) (by rw [ht]; decide)
  have he := rp_ws (s0 := s0) (dA := dA) (xt := xt) ha haC
  rw [cE_q ht] at he
  have h2 := str2 wd hRp hb htb
  obtain ⟨⟨cell, hcell, hobj, hcls, hnA⟩, -⟩ := ws_at ws hRp hwm hfr.2.1 h2 hb
  have hcellH : H[adO s0 xt b]? = some cell := by
    have hlt : adO s0 xt b < s0.heap.size := Nat.not_le.mp hnA
    rw [hRp.2.2.1 _ hlt, ← hfr.2.1 _ hlt]; exact hcell
  have hany : va_Any "java/lang/String" s H (adO s0 xt b) := ⟨cell, hcellH, hobj, Vm.classAt_of_findClass hcls, fun comp hcp => by cases hcls.symm.trans hcp; exact Vm.assignable_self _ _⟩
  exact va_astqM cx.1 cx.2.1 (wd_K wd hwm) hRp.2.2.2.1 wO_D (va_Srf hlo) (a - K0) 4 he rfl hany (ix_in hi) hdg (st_go (Q0 := 0) (h1 := sR h a i.toNatClampNeg (.ref b)) cx hRp hl hfr hd hw hcl hsl ha rfl rfl rfl rfl (fun b hb => rfl) (fun b hb => cE_sR hb) (cE_up ht) hk)
theorem sm_newx (wd : Wd s0 D dA xt hE args0) (wx : Wx l s0 xt args0) {n : Nat} {q : Nat × Nat} {r : Nat × AH} (hc : codeAt k pc = some (.new n)) (hn : nT (oN k) n = some q) (hx : exT q.1 = true) (hwx : nwx d k pc q.1 = true) (hS8 : wds S ≤ 8) (hg : nO h q.1 q.2 = some r) (hk : Sm l s0 D dA xt hE d k (pc + 9) L (.ref r.1 :: S) r.2 o h') : Sm l s0 D dA xt hE d k pc L S h o h' := by
  obtain ⟨⟨g3, g4⟩, rfl⟩ := if_some hg
  have hk : Sm l s0 D dA xt hE d k (pc + 9) L (.ref (hC h) :: S) (mkC h q.1 q.2 q.2) o h' := hk
  unfold nwx at hwx
  rw [Bool.and_eq_true] at hwx
  obtain ⟨hd6, hwx⟩ := hwx
  have hd6 := Nat.le_of_ble_eq_true hd6
  obtain ⟨n2, n3, b, q3, hc3, hc4, hc6, hs2, hm3, h12, hcl3⟩ : ∃ (n2 n3 b : Nat) (q3 : Nat × Nat × Nat × Nat), codeAt k (pc + 3) = some .dup ∧ codeAt k (pc + 4) = some (.ldc n2) ∧ codeAt k (pc + 6) = some (.invokespecial n3) ∧ cT (oN k) n2 = some (.ref b) ∧ mT (oN k) n3 = some q3 ∧ q3.1 = 12 ∧ q3.2.2.2 = q.1 := by
    split at hwx
    · rename_i e1 e2 e3
      split at hwx
      · rename_i e4 e5
        rw [Bool.and_eq_true] at hwx
        exact ⟨_, _, _, _, e1, e2, e3, e4, e5, Nat.eq_of_beq_eq_true hwx.1, Nat.eq_of_beq_eq_true hwx.2⟩
      · cases hwx
    · cases hwx
  refine ⟨mk_mono hk, fun p e R s m args below meth c H locs cells slots ls cx hRp hl hfr hlo hd hw hcl hsl => ?_⟩
  have hdg : decode (mtA k).2.1 pc = .ok (.new n, 3) := dec_at cx hc rfl (by decide)
  have hdg3 : decode (mtA k).2.1 (pc + 3) = .ok (.dup, 1) := dec_at cx hc3 rfl (by decide)
  have hdg4 : decode (mtA k).2.1 (pc + 4) = .ok (.ldc n2, 2) := dec_at cx hc4 rfl (by decide)
  have hdg6 : decode (mtA k).2.1 (pc + 6) = .ok (.invokespecial n3, 3) := dec_at cx hc6 rfl (by decide)
  have hwm := cx.2.2.2.2.2.2.1
  have hts := wd_ts (args := args) wd hwm
  have hm := hk.1
  have hc1 : hC (mkC h q.1 q.2 q.2) = hC h + 1 := rfl
  have hs1 : hS (mkC h q.1 q.2 q.2) = hS h + q.2 := rfl
  rw [hc1, hs1] at hm
  have hK := wd_K wd hwm
  have hx4 : ex4 q.1 := by
    unfold exT at hx
    simp only [Bool.or_eq_true] at hx
    rcases hx with z | z | z | z
    · exact Or.inl (Nat.eq_of_beq_eq_true z)
    · exact Or.inr (Or.inl (Nat.eq_of_beq_eq_true z))
    · exact Or.inr (Or.inr (Or.inl (Nat.eq_of_beq_eq_true z)))
    · exact Or.inr (Or.inr (Or.inr (Nat.eq_of_beq_eq_true z)))
  obtain ⟨hc14, w1, w2, w3, w4⟩ := okW _ _ _ hn
  have hKn := hK.1 q.1 _ (clS_at _ hc14)
  have hlnk : Cond.methodLink (oS (oN k)) n3 ⟨(CI q.1).1, "<init>", "(Ljava/lang/String;)V"⟩ ∈ lw_all := by
    rcases okC _ _ _ hm3 with ⟨z, -⟩ | ⟨z, -⟩ | ⟨z, -⟩ | ⟨z, -⟩ | ⟨z, -⟩ | ⟨z, -⟩ | ⟨z, -⟩ | ⟨-, -, z⟩ | ⟨z, -⟩ | ⟨z, -⟩ | ⟨z, -⟩ | ⟨z, -⟩
    · omega
    · omega
    · omega
    · omega
    · omega
    · omega
    · omega
    · rw [hcl3] at z; exact z
    all_goals omega
  have hsr : vk_R (oS (oN k)) n2 (stT b).2.2 (xt b) s := by
    rcases okI _ _ _ hs2 with ⟨y, z1, -⟩ | ⟨b', tx, z1, z2, z3, z4, z5⟩
    · cases z1
    · cases z1
      have hz := wx.2.2.2.2 b z2 z3
      rw [z5] at hz ⊢
      exact vk_R.warm hwm hz
  refine W.newcK cx.1 cx.2.1 cx.2.2.2.2.2.1 (hts _ w1) (hts _ w2) (hts _ w3) rfl hdg (by omega) (by omega) hKn.2.1 rfl fun H1 kC hkC a1 a2 a3 => ?_
  refine lv_dup cx.1 cx.2.1 hdg3 rfl ?_
  refine va_ldcS cx.1 cx.2.1 cx.2.2.2.2.2.1 hsr hdg4 ?_
  have hsz := hRp.2.1
  have hK0 := hRp.1
  refine exc_W (t := q.1) wd wx cx hfr.1 hfr.2.1 hx4 hlnk hKn.2.1 hkC a1 (by have := hfr.2.2; omega) hlo (wds8 hS8) (by omega) (by omega) (by rw [hl.1, cx.2.2.1]) hdg6 ?_
  intro H2 locs2 hc2 hs2' ho2 hlo2
  have e4 : hT (mkC h q.1 q.2 q.2) (hC h) = q.1 := if_pos rfl
  have h0f : (CI q.1).2.2 = 0 := by rcases hx4 with z | z | z | z <;> rw [z] <;> rfl
  refine mk_go cx hRp hl hfr hlo2 hd hw hcl hsl (by omega) (hs2'.trans a2) (fun z hz => (ho2 z (by omega)).trans (a3 z hz)) ?_ hk
  rw [cE_o e4 hc14]
  obtain ⟨cell, c1, c2, c3⟩ := hc2
  exact ⟨_, clS_at _ hc14, cell, c1, c2, c3, fun j hj => by rw [h0f] at hj; exact absurd hj (Nat.not_lt_zero _)⟩
/-- switches -/
theorem sel_lk : ∀ (ps : List (Int × Int)) (df : Int) (x : Int32), (∀ q ∈ ps, 0 ≤ (pc : Int) + q.2 ∧ -2147483648 ≤ q.1 ∧ q.1 ≤ 2147483647) → 0 ≤ (pc : Int) + df → (pc : Int) + Op.lookupswitch.offset ps df x.toInt = ((selT x (lcs pc ps) ((pc : Int) + df).toNat : Nat) : Int)
  | [], df, x, _, h0 => by
    show (pc : Int) + df = (((pc : Int) + df).toNat : Int)
    omega
  | (a, b) :: r, df, x, hq, h0 => by
    have h1 := hq (a, b) List.mem_cons_self
    have ih := sel_lk r df x (fun q z => hq q (List.mem_cons_of_mem _ z)) h0
    show (pc : Int) + (if a = x.toInt then b else Op.lookupswitch.offset r df x.toInt) = ((if x = Int32.ofInt a then ((pc : Int) + b).toNat else selT x (lcs pc r) ((pc : Int) + df).toNat : Nat) : Int)
    have e1 : (a = x.toInt) ↔ x = Int32.ofInt a := by
      constructor
      · intro z; rw [z, Int32.ofInt_toInt]
      · intro z; rw [z, Int32.toInt_ofInt_of_le h1.2.1 (by have := h1.2.2; simp only at this; omega)]
    by_cases hz : a = x.toInt
    · rw [if_pos hz, if_pos (e1.mp hz)]
      have := h1.1
      simp only at this
      omega
    · rw [if_neg hz, if_neg (fun y => hz (e1.mpr y))]
      exact ih
theorem sm_lookup {df : Int} {ps : Array (Int × Int)} {x : Int32} (hc : codeAt k pc = some (.lookupswitch df ps)) (hch : lchk pc df ps.toList = true) (hk : Sm l s0 D dA xt hE d k (selT x (lcs pc ps.toList) ((pc : Int) + df).toNat) L S h o h') : Sm l s0 D dA xt hE d k pc L (.int x :: S) h o h' := by
  refine ⟨hk.1, fun p e R s m args below meth c H locs cells slots ls cx hRp hl hfr hlo hd hw hcl hsl => ?_⟩
  obtain ⟨len, h1, -⟩ := (okN cx.2.2.2.2.2.2.2.2.2).1 pc _ hc
  unfold lchk at hch
  simp only [Bool.and_eq_true, decide_eq_true_eq, List.all_eq_true] at hch
  obtain ⟨⟨c1, c2⟩, c3⟩ := hch
  refine lv_lookup cx.1 cx.2.1 h1 ?_ rfl (sel_lk ps.toList df x (fun q hq => by have := c2 q hq; omega) c1) (hk.2 p e R s m args below meth c H locs cells slots ls cx hRp hl hfr hlo hd hw hcl hsl)
  rw [List.all_eq_true]
  intro q hq
  exact decide_eq_true (c3 q hq)
theorem sel_tb : ∀ (os : List Int) (lo : Int) (df : Nat) (x : Int32), -2147483648 ≤ lo → lo + os.length - 1 ≤ 2147483647 → (∀ o ∈ os, 0 ≤ (pc : Int) + o) → (x.toInt < lo ∨ lo + os.length - 1 < x.toInt → selT x (tcs pc lo os) df = df) ∧ (¬ x.toInt < lo → ¬ lo + os.length - 1 < x.toInt → ∃ off, os[(x.toInt - lo).toNat]? = some off ∧ (pc : Int) + off = ((selT x (tcs pc lo os) df : Nat) : Int))
  | [], lo, df, x, _, _, _ => ⟨fun _ => rfl, fun h1 h2 => by simp at h2; omega⟩
  | o :: r, lo, df, x, h1, h2, h3 => by
    have hlen : ((o :: r).length : Int) = r.length + 1 := by simp
    rw [hlen] at h2 ⊢
    have ih := sel_tb r (lo + 1) df x (by omega) (by omega) (fun q hq => h3 q (List.mem_cons_of_mem _ hq))
    have h4 := h3 o List.mem_cons_self
    have e1 : (x = Int32.ofInt lo) ↔ x.toInt = lo := by
      constructor
      · intro z; rw [z, Int32.toInt_ofInt_of_le h1 (by omega)]
      · intro z; rw [← z, Int32.ofInt_toInt]
    have hs : selT x (tcs pc lo (o :: r)) df = if x = Int32.ofInt lo then ((pc : Int) + o).toNat else selT x (tcs pc (lo + 1) r) df := rfl
    rw [hs]
    refine ⟨fun hz => ?_, fun y1 y2 => ?_⟩
    · rw [if_neg (fun y => by have := e1.mp y; omega)]
      exact ih.1 (by omega)
    · by_cases hz : x.toInt = lo
      · refine ⟨o, ?_, ?_⟩
        · rw [show (x.toInt - lo).toNat = 0 by omega]; rfl
        · rw [if_pos (e1.mpr hz)]; omega
      · obtain ⟨off, z1, z2⟩ := ih.2 (by omega) (by omega)
        refine ⟨off, ?_, ?_⟩
        · rw [show (x.toInt - lo).toNat = (x.toInt - (lo + 1)).toNat + 1 by omega]
          exact z1
        · rw [if_neg (fun y => hz (e1.mp y))]
          exact z2
theorem sm_table {df lo hi : Int} {os : Array Int} {x : Int32} (hc : codeAt k pc = some (.tableswitch df lo hi os)) (hch : tchk pc df lo hi os.toList = true) (hk : Sm l s0 D dA xt hE d k (selT x (tcs pc lo os.toList) ((pc : Int) + df).toNat) L S h o h') : Sm l s0 D dA xt hE d k pc L (.int x :: S) h o h' := by
  refine ⟨hk.1, fun p e R s m args below meth c H locs cells slots ls cx hRp hl hfr hlo hd hw hcl hsl => ?_⟩
  obtain ⟨len, h1, -⟩ := (okN cx.2.2.2.2.2.2.2.2.2).1 pc _ hc
  unfold tchk at hch
  simp only [Bool.and_eq_true, decide_eq_true_eq, List.all_eq_true] at hch
  obtain ⟨⟨⟨⟨c1, c2⟩, c3⟩, c4⟩, c5⟩ := hch
  have kk := hk.2 p e R s m args below meth c H locs cells slots ls cx hRp hl hfr hlo hd hw hcl hsl
  have hs := sel_tb (pc := pc) os.toList lo ((pc : Int) + df).toNat x c1 (by omega) c5
  by_cases hin : x.toInt < lo ∨ hi < x.toInt
  · rw [hs.1 (by omega)] at kk
    exact lv_tableOut cx.1 cx.2.1 h1 hin (by omega) kk
  · obtain ⟨off, z1, z2⟩ := hs.2 (by omega) (by omega)
    refine lv_tableIn cx.1 cx.2.1 h1 (fun z => hin (Or.inl z)) (fun z => hin (Or.inr z)) (off := off) ?_ z2 kk
    rw [← Array.getElem?_toList]
    exact z1
end

/-! the simulation, 4: stores into arrays, new cells, constants, ends -/
set_option maxRecDepth 100000
section
variable {l : Launch} {s0 : State} {D : va_G} {dA : Nat → ClassId} {xt : Nat → Nat} {hE : AH} {args0 : Array Value} {d k pc : Nat} {L : LO} {S : List Value} {h h' : AH} {o : OU}
variable {p : Program} {e : Env} {R : Room} {s : State} {m : MethodId} {args : Array Value} {below : List Frame} {meth : Method} {c : Code} {H : Heap} {locs : List Loc} {cells slots : Nat} {ls : Array Slot}
/-- behind a store into a cell -/
theorem st_go {h1 : AH} {a n : Nat} {e1 : va_E} {Q0 : Nat} (cx : Cx s0 k p s m meth c) (hR : Rp s0 D dA xt hE h H) (hl : lv_has ls (mxL k) (lM (adO s0 xt) L)) (hfr : Fr s0 s H cells) (hd : d ≤ R.frames) (hw : d * 48 ≤ R.locals) (hcl : cells + (hC h' - hC h) ≤ R.cells) (hsl : slots + (hS h' - hS h) ≤ R.slots) (ha : K0 ≤ a)
    (hc1 : hC h1 = hC h) (hs1 : hS h1 = hS h) (hT1 : hT h1 = hT h) (hN1 : hN h1 = hN h) (hI1 : ∀ b, b ≠ a → hI h1 b = hI h b) (hk1 : ∀ b, b ≠ a → cE dA (adO s0 xt) h1 b = cE dA (adO s0 xt) h b) (he1 : cE dA (adO s0 xt) h1 a = e1)
    (hk : Sm l s0 D dA xt hE d k n L S h1 o h') : ∀ (H1 : Heap) (locs1 : List Loc), va_P D clS ((wO s0 dA (adO s0 xt) h).set (a - K0) (adO s0 xt a, e1)) H1 → va_D (fun q => s0.heap.size ≤ q) ((wO s0 dA (adO s0 xt) h).set (a - K0) (adO s0 xt a, e1)) → va_S (fun q => s0.heap.size ≤ q) H H1 locs1 → W p l e R s m args below meth c H1 locs1 cells slots (EQ s0 D dA xt hE below s o h' (cells + (hC h' - hC h)) (slots + (hS h' - hS h))) (F0 m n ls (S.map (vM (adO s0 xt)))) := by
  intro H1 locs1 hP1 hD1 hS1
  refine W_size hfr hS1.1 fun hz => ?_
  have hR1 : Rp s0 D dA xt hE h1 H1 := rp_set hR ha hc1 hT1 hN1 hI1 hk1 he1 hz (fun q hq => hS1.2.1 q (by have := hR.2.1; omega) (by simp only; omega)) hP1
  have hfr1 : Fr s0 s H1 cells := ⟨hfr.1, hfr.2.1, hz.trans hfr.2.2⟩
  have := hk.2 p e R s m args below meth c H1 locs1 cells slots ls cx hR1 hl hfr1 hS1.2.2 hd hw (by rw [hc1]; exact hcl) (by rw [hs1]; exact hsl)
  rw [hc1, hs1] at this
  exact this
theorem hI_upd {a i : Nat} {x : Int32} : hI (sI h a i x) a = upd (hI h a) i x := by
  funext j
  show (if a = a ∧ j = i then x else hI h a j) = _
  unfold upd
  by_cases hj : j = i
  · rw [if_pos ⟨rfl, hj⟩, if_pos hj]
  · rw [if_neg (fun z => hj z.2), if_neg hj]
theorem hL_upd {a i : Nat} {x : Int64} : hL (sL h a i x) a = vp_updL (hL h a) i x := by
  funext j
  show (if a = a ∧ j = i then x else hL h a j) = _
  unfold vp_updL
  by_cases hj : j = i
  · rw [if_pos ⟨rfl, hj⟩, if_pos hj]
  · rw [if_neg (fun z => hj z.2), if_neg hj]
theorem sm_iastore (wd : Wd s0 D dA xt hE args0) {a : Nat} {i x : Int32} {h1 : AH} (hc : codeAt k pc = some .iastore) (hg : bI h a i x = some h1) (hk : Sm l s0 D dA xt hE d k (pc + 1) L S h1 o h') : Sm l s0 D dA xt hE d k pc L (.int x :: .int i :: .ref a :: S) h o h' := by
  obtain ⟨⟨ha, ht, hi⟩, rfl⟩ := if_some hg
  refine ⟨hk.1, fun p e R s m args below meth c H locs cells slots ls cx hR hl hfr hlo hd hw hcl hsl => ?_⟩
  have hdg : decode (mtA k).2.1 pc = .ok (.iastore, 1) := dec_at cx hc rfl (by decide)
  have hwm := cx.2.2.2.2.2.2.1
  have haC := rp_lt hR (a := a) (by rw [ht]; decide)
  have he := rp_ws (s0 := s0) (dA := dA) (xt := xt) ha haC
  rw [cE_i 20 ht (Or.inl rfl)] at he
  exact va_iast cx.1 cx.2.1 (wd_K wd hwm) hR.2.2.2.1 wO_D (va_Srf hlo) (a - K0) 0 he rfl (ix_in hi) hdg (st_go (Q0 := 0) (h1 := sI h a i.toNatClampNeg x) cx hR hl hfr hd hw hcl hsl ha rfl rfl rfl rfl (fun b hb => by funext j; exact if_neg (fun z => hb z.1)) (fun b hb => cE_sI hb) (by rw [cE_i 20 (show hT (sI h a i.toNatClampNeg x) a = 20 from ht) (Or.inl rfl), hI_upd]; rfl) hk)
theorem sm_bastore (wd : Wd s0 D dA xt hE args0) {a : Nat} {i x : Int32} {h1 : AH} (hc : codeAt k pc = some .bastore) (hg : bB h a i x = some h1) (hk : Sm l s0 D dA xt hE d k (pc + 1) L S h1 o h') : Sm l s0 D dA xt hE d k pc L (.int x :: .int i :: .ref a :: S) h o h' := by
  unfold bB at hg
  by_cases hq : K0 ≤ a ∧ ixN i (hN h a) = true
  · rw [if_pos hq] at hg
    obtain ⟨ha, hi⟩ := hq
    by_cases ht : hT h a = 21
    · rw [if_pos ht] at hg
      cases hg
      refine ⟨hk.1, fun p e R s m args below meth c H locs cells slots ls cx hR hl hfr hlo hd hw hcl hsl => ?_⟩
      have hdg : decode (mtA k).2.1 pc = .ok (.bastore, 1) := dec_at cx hc rfl (by decide)
      have hwm := cx.2.2.2.2.2.2.1
      have haC := rp_lt hR (a := a) (by rw [ht]; decide)
      have he := rp_ws (s0 := s0) (dA := dA) (xt := xt) ha haC
      rw [cE_i 21 ht (Or.inr (Or.inl rfl))] at he
      exact va_bast cx.1 cx.2.1 (wd_K wd hwm) hR.2.2.2.1 wO_D (va_Srf hlo) (a - K0) 1 he rfl (ix_in hi) hdg (st_go (Q0 := 0) (h1 := sI h a i.toNatClampNeg x.toInt8.toInt32) cx hR hl hfr hd hw hcl hsl ha rfl rfl rfl rfl (fun b hb => by funext j; exact if_neg (fun z => hb z.1)) (fun b hb => cE_sI hb) (by rw [cE_i 21 (show hT (sI h a i.toNatClampNeg x.toInt8.toInt32) a = 21 from ht) (Or.inr (Or.inl rfl)), hI_upd, vp_nar_byte]; rfl) hk)
    · rw [if_neg ht] at hg
      obtain ⟨⟨ht, hx⟩, rfl⟩ := if_some hg
      refine ⟨hk.1, fun p e R s m args below meth c H locs cells slots ls cx hR hl hfr hlo hd hw hcl hsl => ?_⟩
      have hdg : decode (mtA k).2.1 pc = .ok (.bastore, 1) := dec_at cx hc rfl (by decide)
      have hwm := cx.2.2.2.2.2.2.1
      have haC := rp_lt hR (a := a) (by rw [ht]; decide)
      have he := rp_ws (s0 := s0) (dA := dA) (xt := xt) ha haC
      rw [cE_i 23 ht (Or.inr (Or.inr rfl))] at he
      have hnr : vp_nar .boolean x = x := by rcases hx with rfl | rfl <;> rfl
      exact va_zast cx.1 cx.2.1 (wd_K wd hwm) hR.2.2.2.1 wO_D (va_Srf hlo) (a - K0) 3 he rfl (ix_in hi) hdg (st_go (Q0 := 0) (h1 := sI h a i.toNatClampNeg x) cx hR hl hfr hd hw hcl hsl ha rfl rfl rfl rfl (fun b hb => by funext j; exact if_neg (fun z => hb z.1)) (fun b hb => cE_sI hb) (by rw [cE_i 23 (show hT (sI h a i.toNatClampNeg x) a = 23 from ht) (Or.inr (Or.inr rfl)), hI_upd, hnr]; rfl) hk)
  · rw [if_neg hq] at hg; cases hg
theorem sm_lastore (wd : Wd s0 D dA xt hE args0) {a : Nat} {i : Int32} {x : Int64} {h1 : AH} (hc : codeAt k pc = some .lastore) (hg : bL h a i x = some h1) (hk : Sm l s0 D dA xt hE d k (pc + 1) L S h1 o h') : Sm l s0 D dA xt hE d k pc L (.long x :: .int i :: .ref a :: S) h o h' := by
  obtain ⟨⟨ha, ht, hi⟩, rfl⟩ := if_some hg
  refine ⟨hk.1, fun p e R s m args below meth c H locs cells slots ls cx hR hl hfr hlo hd hw hcl hsl => ?_⟩
  have hdg : decode (mtA k).2.1 pc = .ok (.lastore, 1) := dec_at cx hc rfl (by decide)
  have hwm := cx.2.2.2.2.2.2.1
  have haC := rp_lt hR (a := a) (by rw [ht]; decide)
  have he := rp_ws (s0 := s0) (dA := dA) (xt := xt) ha haC
  rw [cE_l ht] at he
  exact va_last cx.1 cx.2.1 (wd_K wd hwm) hR.2.2.2.1 wO_D (va_Srf hlo) (a - K0) 2 he rfl (ix_in hi) hdg (st_go (Q0 := 0) (h1 := sL h a i.toNatClampNeg x) cx hR hl hfr hd hw hcl hsl ha rfl rfl rfl rfl (fun b hb => rfl) (fun b hb => cE_sL hb) (by rw [cE_l (show hT (sL h a i.toNatClampNeg x) a = 22 from ht), hL_upd]; rfl) hk)
theorem cE_cp {ad : Nat → Nat} {a b sp dp n : Nat} {q : Nat} (hq : q ≠ b) : cE dA ad (cpI h a b sp dp n) q = cE dA ad h q := by
  have e1 : hI (cpI h a b sp dp n) q = hI h q := by funext j; exact if_neg hq
  have e2 : ∀ c j, fV ad (cpI h a b sp dp n) q c j = fV ad h q c j := by
    intro c j
    unfold fV
    rw [e1]; rfl
  unfold cE
  rw [e1, show (fV ad (cpI h a b sp dp n) q (hT (cpI h a b sp dp n) q)) = fV ad h q (hT h q) from funext (e2 _)]; rfl
theorem sm_acp (wd : Wd s0 D dA xt hE args0) {a b nn : Nat} {sp dp n : Int32} {h1 : AH} (hc : codeAt k pc = some (.invokestatic nn)) (hm : Cond.methodLink (oS (oN k)) nn arraycopyName ∈ lw_all) (hd1 : 1 ≤ d) (hrw : wds S ≤ 8) (hg : acp h a b sp dp n = some h1) (hk : Sm l s0 D dA xt hE d k (pc + 3) L S h1 o h') : Sm l s0 D dA xt hE d k pc L (.int n :: .int dp :: .ref b :: .int sp :: .ref a :: S) h o h' := by
  obtain ⟨⟨ha, hb, hta, htb, g1, g2, g3, g4, g5⟩, rfl⟩ := if_some hg
  refine ⟨hk.1, fun p e R s m args below meth c H locs cells slots ls cx hR hl hfr hlo hd hw hcl hsl => ?_⟩
  have hdg : decode (mtA k).2.1 pc = .ok (.invokestatic nn, 3) := dec_at cx hc rfl (by decide)
  have hwm := cx.2.2.2.2.2.2.1
  have haC := rp_lt hR (a := a) (by rw [hta]; decide)
  have hbC := rp_lt hR (a := b) (by rw [htb]; decide)
  have hea := rp_ws (s0 := s0) (dA := dA) (xt := xt) ha haC
  have heb := rp_ws (s0 := s0) (dA := dA) (xt := xt) hb hbC
  rw [cE_i 20 hta (Or.inl rfl)] at hea
  rw [cE_i 20 htb (Or.inl rfl)] at heb
  have hts := wd_ts (args := args) wd hwm
  refine va_copyi cx.1 cx.2.1 (cx.2.2.1.trans hl.1.symm) cx.2.2.2.2.2.1 (hts _ hm) (hts _ q798) (hts _ q797) (hts _ q188) (wd_K wd hwm) hR.2.2.2.1 wO_D (va_Srf hlo) (a - K0) (b - K0) 0 0 hea heb rfl rfl rfl (Int32.not_lt.mpr g1) (Int32.not_lt.mpr g2) (Int32.not_lt.mpr g3) g4 g5 (fun _ _ => rfl) (by omega) ?_ hdg (st_go (Q0 := 0) (h1 := cpI h a b sp.toNatClampNeg dp.toNatClampNeg n.toNatClampNeg) cx hR hl hfr hd hw hcl hsl hb rfl rfl rfl rfl (fun q hq => by funext j; exact if_neg hq) (fun q hq => cE_cp hq) (by rw [cE_i 20 (show hT (cpI h a b sp.toNatClampNeg dp.toNatClampNeg n.toNatClampNeg) b = 20 from htb) (Or.inl rfl), show hI (cpI h a b sp.toNatClampNeg dp.toNatClampNeg n.toNatClampNeg) b = va_cpy (hI h a) (hI h b) sp.toNatClampNeg dp.toNatClampNeg n.toNatClampNeg from funext fun j => if_pos rfl]; rfl) hk)
  have e1 : ((S.map (vM (adO s0 xt))).map fun v => v.category).sum = wds S := by
    unfold wds
    rw [List.map_map]
    congr 1
    refine List.map_congr_left fun v _ => vM_cat
  rw [e1]
  have e2 : nativeFrameWords "java/lang/System" "arraycopy" 5 + 11 ≤ 40 := by decide +kernel
  omega
end

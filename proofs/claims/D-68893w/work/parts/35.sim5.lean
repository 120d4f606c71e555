/-! the simulation, 5: new cells, constants, ends -/
set_option maxRecDepth 100000
section
variable {l : Launch} {s0 : State} {D : va_G} {dA : Nat → ClassId} {xt : Nat → Nat} {hE : AH} {args0 : Array Value} {d k pc : Nat} {L : LO} {S : List Value} {h h' : AH} {o : OU}
variable {p : Program} {e : Env} {R : Room} {s : State} {m : MethodId} {args : Array Value} {below : List Frame} {meth : Method} {c : Code} {H : Heap} {locs : List Loc} {cells slots : Nat} {ls : Array Slot}
theorem cE_mk {ad : Nat → Nat} {t n sl b : Nat} (hb : b ≠ hC h) : cE dA ad (mkC h t n sl) b = cE dA ad h b := by
  have e1 : hI (mkC h t n sl) b = hI h b := by funext j; exact if_neg hb
  have e2 : hL (mkC h t n sl) b = hL h b := by funext j; exact if_neg hb
  have e3 : hR (mkC h t n sl) b = hR h b := by funext j; exact if_neg hb
  have e4 : hT (mkC h t n sl) b = hT h b := if_neg hb
  have e5 : hN (mkC h t n sl) b = hN h b := if_neg hb
  have e6 : ∀ c, fV ad (mkC h t n sl) b c = fV ad h b c := by
    intro c
    funext j
    unfold fV
    rw [e1, e2, e3]
  unfold cE
  rw [e1, e2, e3, e4, e5, e6]
theorem rp_mk {t n sl : Nat} {H1 : Heap} (hR : Rp s0 D dA xt hE h H) (ht : t ≠ 999) (hz : H1.size = H.size + 1) (hk : ∀ q, q < H.size → H1[q]? = H[q]?) (he : va_at D clS (H.size, cE dA (adO s0 xt) (mkC h t n sl) (hC h)) H1) : Rp s0 D dA xt hE (mkC h t n sl) H1 := by
  have hc1 : hC (mkC h t n sl) = hC h + 1 := rfl
  have h1 := hR.1
  have h2 := hR.2.1
  refine ⟨by rw [hc1]; omega, by rw [hz, hc1]; omega, fun q hq => (hk q (by omega)).trans (hR.2.2.1 q hq), ?_, fun a ha => ?_, fun i hi => ?_⟩
  · rw [wO_push (h := h) h1 hc1 (fun b hb => cE_mk hb) rfl]
    refine va_P.app (hR.2.2.2.1.kept fun j q hq => hk _ ((hR.2.2.2.1 j q hq).lt)) ?_
    intro j q hq
    have hj : j < 1 := (List.getElem?_eq_some_iff.mp hq).1
    rw [show j = 0 by omega] at hq
    cases hq
    rw [← h2]
    exact he
  · rw [hc1] at ha
    show (if a = hC h then t else hT h a) = 999
    rw [if_neg (by omega)]
    exact hR.2.2.2.2.1 a (by omega)
  · have e4 : hT (mkC h t n sl) i = hT h i := if_neg (by omega)
    have e5 : hN (mkC h t n sl) i = hN h i := if_neg (by omega)
    have e1 : hI (mkC h t n sl) i = hI h i := by funext j; exact if_neg (by omega)
    rw [e4, e5, e1]
    exact hR.2.2.2.2.2 i hi
/-- the kinds of the fields -/
def okT (f : FieldType) : Bool := match f with
  | .int => true
  | .boolean => true
  | .long => true
  | .object _ => true
  | .array _ => true
  | _ => false
theorem okT1 (j : Nat) : okT (tyX1 j) = true := by unfold tyX1; split <;> rfl
theorem okT2 (j : Nat) : okT (tyX2 j) = true := by unfold tyX2; split <;> rfl
theorem okT3 (j : Nat) : okT (tyX3 j) = true := by unfold tyX3; split <;> rfl
theorem okT4 (j : Nat) : okT (tyX4 j) = true := by unfold tyX4; split <;> rfl
theorem okT5 (j : Nat) : okT (tyX5 j) = true := by unfold tyX5; split <;> rfl
theorem okT6 (j : Nat) : okT (tyX6 j) = true := by unfold tyX6; split <;> rfl
theorem okT7 (j : Nat) : okT (tyX7 j) = true := by unfold tyX7; split <;> rfl
theorem okT8 (j : Nat) : okT (tyX8 j) = true := by unfold tyX8; split <;> rfl
theorem okT9 (j : Nat) : okT (tyX9 j) = true := by unfold tyX9; split <;> rfl
theorem okT10 (j : Nat) : okT (tyX10 j) = true := by unfold tyX10; split <;> rfl
theorem okT_C (c j : Nat) (hc : c < 14) : okT (tyC c j) = true := by
  match c, hc with
  | 0, _ => rfl
  | 1, _ => exact okT1 j
  | 2, _ => exact okT2 j
  | 3, _ => exact okT3 j
  | 4, _ => exact okT4 j
  | 5, _ => exact okT5 j
  | 6, _ => exact okT6 j
  | 7, _ => exact okT7 j
  | 8, _ => exact okT8 j
  | 9, _ => exact okT9 j
  | 10, _ => exact okT10 j
  | 11, _ => rfl
  | 12, _ => rfl
  | 13, _ => rfl
  | n + 14, h => omega
theorem tyK (c j : Nat) (hc : c < 14) : tyC c j = .int ∨ tyC c j = .boolean ∨ tyC c j = .long ∨ (∃ C, tyC c j = .object C) ∨ ∃ t, tyC c j = .array t := by
  have h := okT_C c j hc
  cases hf : tyC c j with
  | int => exact Or.inl rfl
  | boolean => exact Or.inr (Or.inl rfl)
  | long => exact Or.inr (Or.inr (Or.inl rfl))
  | object C => exact Or.inr (Or.inr (Or.inr (Or.inl ⟨C, rfl⟩)))
  | array t => exact Or.inr (Or.inr (Or.inr (Or.inr ⟨t, rfl⟩)))
  | _ => rw [hf] at h; cases h
/-- behind a new cell -/
theorem mk_go {t n sl pc' : Nat} {H1 : Heap} (cx : Cx s0 k p s m meth c) (hR : Rp s0 D dA xt hE h H) (hl : lv_has ls (mxL k) (lM (adO s0 xt) L)) (hfr : Fr s0 s H cells) (hlo : ∀ q ∈ locs, s0.heap.size ≤ q.base) (hd : d ≤ R.frames) (hw : d * 48 ≤ R.locals) (hcl : cells + (hC h' - hC h) ≤ R.cells) (hsl : slots + (hS h' - hS h) ≤ R.slots) (ht : t ≠ 999) (hz : H1.size = H.size + 1) (hkq : ∀ q, q < H.size → H1[q]? = H[q]?) (he : va_at D clS (H.size, cE dA (adO s0 xt) (mkC h t n sl) (hC h)) H1) (hk : Sm l s0 D dA xt hE d k pc' L (.ref (hC h) :: S) (mkC h t n sl) o h') : W p l e R s m args below meth c H1 locs (cells + 1) (slots + sl) (EQ s0 D dA xt hE below s o h' (cells + (hC h' - hC h)) (slots + (hS h' - hS h))) (F0 m pc' ls (.ref H.size :: S.map (vM (adO s0 xt)))) := by
  have hm := hk.1
  have hc1 : hC (mkC h t n sl) = hC h + 1 := rfl
  have hs1 : hS (mkC h t n sl) = hS h + sl := rfl
  rw [hc1, hs1] at hm
  have h1 := hR.1
  have h2 := hR.2.1
  have := hk.2 p e R s m args below meth c H1 locs (cells + 1) (slots + sl) ls cx (rp_mk hR ht hz hkq he) hl ⟨hfr.1, hfr.2.1, by rw [hz, hfr.2.2]; omega⟩ hlo hd hw (by rw [hc1]; omega) (by rw [hs1]; omega)
  rw [hc1, hs1, show cells + 1 + (hC h' - (hC h + 1)) = cells + (hC h' - hC h) by omega, show slots + sl + (hS h' - (hS h + sl)) = slots + (hS h' - hS h) by omega] at this
  rw [show H.size = adO s0 xt (hC h) by rw [rp_ad h1, h2]]
  exact this
theorem mk_mono {t n sl pc' : Nat} {L1 : LO} {S1 : List Value} (hk : Sm l s0 D dA xt hE d k pc' L1 S1 (mkC h t n sl) o h') : hC h ≤ hC h' ∧ hS h ≤ hS h' := by
  have hm := hk.1
  have hc1 : hC (mkC h t n sl) = hC h + 1 := rfl
  have hs1 : hS (mkC h t n sl) = hS h + sl := rfl
  rw [hc1, hs1] at hm
  omega
theorem sm_newarray (wd : Wd s0 D dA xt hE args0) {t : ArrayType} {n : Int32} {q : Nat × AH} (hc : codeAt k pc = some (.newarray t)) (h99 : atag t ≠ 99) (hg : nA h (atag t) n = some q) (hk : Sm l s0 D dA xt hE d k (pc + 2) L (.ref q.1 :: S) q.2 o h') : Sm l s0 D dA xt hE d k pc L (.int n :: S) h o h' := by
  obtain ⟨⟨g1, g2, g3, g4⟩, rfl⟩ := if_some hg
  have hk : Sm l s0 D dA xt hE d k (pc + 2) L (.ref (hC h) :: S) (mkC h (atag t) n.toNatClampNeg n.toNatClampNeg) o h' := hk
  refine ⟨mk_mono hk, fun p e R s m args below meth c H locs cells slots ls cx hR hl hfr hlo hd hw hcl hsl => ?_⟩
  have hdg : decode (mtA k).2.1 pc = .ok (.newarray t, 2) := dec_at cx hc rfl (by decide)
  have hwm := cx.2.2.2.2.2.2.1
  have hts := wd_ts (args := args) wd hwm
  have hm := hk.1
  have hc1 : hC (mkC h (atag t) n.toNatClampNeg n.toNatClampNeg) = hC h + 1 := rfl
  have hs1 : hS (mkC h (atag t) n.toNatClampNeg n.toNatClampNeg) = hS h + n.toNatClampNeg := rfl
  rw [hc1, hs1] at hm
  have hK := wd_K wd hwm
  have hn : ¬ n < 0 := Int32.not_lt.mpr g1
  have e4 : hT (mkC h (atag t) n.toNatClampNeg n.toNatClampNeg) (hC h) = atag t := if_pos rfl
  have e5 : hN (mkC h (atag t) n.toNatClampNeg n.toNatClampNeg) (hC h) = n.toNatClampNeg := if_pos rfl
  have e1 : hI (mkC h (atag t) n.toNatClampNeg n.toNatClampNeg) (hC h) = fun _ => 0 := by funext j; exact if_pos rfl
  have e2 : hL (mkC h (atag t) n.toNatClampNeg n.toNatClampNeg) (hC h) = fun _ => 0 := by funext j; exact if_pos rfl
  cases t with
  | int =>
    refine va_newaK cx.1 cx.2.1 (show (Cond.arrayClass (newarray.typeOf ArrayType.int)).before args s = true from hts _ q367) rfl hdg rfl hn rfl (by show _ * 4 ≤ _; omega) (by omega) (by omega) rfl fun H1 cA a1 a2 a3 a4 a5 => ?_
    refine mk_go cx hR hl hfr hlo hd hw hcl hsl (by decide) a2 a3 ?_ hk
    rw [cE_i 20 e4 (Or.inl rfl), e5, e1]
    have : cA = dA 0 := Option.some.inj (a5.symm.trans (hK.2 0 _ rfl).2)
    subst this
    exact a1
  | byte =>
    refine va_newaK cx.1 cx.2.1 (show (Cond.arrayClass (newarray.typeOf ArrayType.byte)).before args s = true from hts _ q295) rfl hdg rfl hn rfl (by show _ * 1 ≤ _; omega) (by omega) (by omega) rfl fun H1 cA a1 a2 a3 a4 a5 => ?_
    refine mk_go cx hR hl hfr hlo hd hw hcl hsl (by decide) a2 a3 ?_ hk
    rw [cE_i 21 e4 (Or.inr (Or.inl rfl)), e5, e1]
    have : cA = dA 1 := Option.some.inj (a5.symm.trans (hK.2 1 _ rfl).2)
    subst this
    exact a1
  | long =>
    refine va_newaK cx.1 cx.2.1 (show (Cond.arrayClass (newarray.typeOf ArrayType.long)).before args s = true from hts _ q1774) rfl hdg rfl hn rfl (by show _ * 8 ≤ _; omega) (by omega) (by omega) rfl fun H1 cA a1 a2 a3 a4 a5 => ?_
    refine mk_go cx hR hl hfr hlo hd hw hcl hsl (by decide) a2 a3 ?_ hk
    rw [cE_l e4, e5, e2]
    have : cA = dA 2 := Option.some.inj (a5.symm.trans (hK.2 2 _ rfl).2)
    subst this
    exact a1
  | boolean =>
    refine va_newaK cx.1 cx.2.1 (show (Cond.arrayClass (newarray.typeOf ArrayType.boolean)).before args s = true from hts _ q1775) rfl hdg rfl hn rfl (by show _ * 1 ≤ _; omega) (by omega) (by omega) rfl fun H1 cA a1 a2 a3 a4 a5 => ?_
    refine mk_go cx hR hl hfr hlo hd hw hcl hsl (by decide) a2 a3 ?_ hk
    rw [cE_i 23 e4 (Or.inr (Or.inr rfl)), e5, e1]
    have : cA = dA 3 := Option.some.inj (a5.symm.trans (hK.2 3 _ rfl).2)
    subst this
    exact a1
  | _ => exact absurd rfl h99
theorem sm_new (wd : Wd s0 D dA xt hE args0) {n : Nat} {q : Nat × Nat} {r : Nat × AH} (hc : codeAt k pc = some (.new n)) (hn : nT (oN k) n = some q) (hg : nO h q.1 q.2 = some r) (hk : Sm l s0 D dA xt hE d k (pc + 3) L (.ref r.1 :: S) r.2 o h') : Sm l s0 D dA xt hE d k pc L S h o h' := by
  obtain ⟨⟨g3, g4⟩, rfl⟩ := if_some hg
  have hk : Sm l s0 D dA xt hE d k (pc + 3) L (.ref (hC h) :: S) (mkC h q.1 q.2 q.2) o h' := hk
  refine ⟨mk_mono hk, fun p e R s m args below meth c H locs cells slots ls cx hRp hl hfr hlo hd hw hcl hsl => ?_⟩
  have hdg : decode (mtA k).2.1 pc = .ok (.new n, 3) := dec_at cx hc rfl (by decide)
  have hwm := cx.2.2.2.2.2.2.1
  have hts := wd_ts (args := args) wd hwm
  have hm := hk.1
  have hc1 : hC (mkC h q.1 q.2 q.2) = hC h + 1 := rfl
  have hs1 : hS (mkC h q.1 q.2 q.2) = hS h + q.2 := rfl
  rw [hc1, hs1] at hm
  have hK := wd_K wd hwm
  obtain ⟨hc14, w1, w2, w3, w4⟩ := okW _ _ _ hn
  have hKn := hK.1 q.1 _ (clS_at _ hc14)
  have e4 : hT (mkC h q.1 q.2 q.2) (hC h) = q.1 := if_pos rfl
  refine W.newcK cx.1 cx.2.1 cx.2.2.2.2.2.1 (hts _ w1) (hts _ w2) (hts _ w3) rfl hdg (by omega) (by omega) hKn.2.1 rfl fun H1 kC hkC a1 a2 a3 => ?_
  refine mk_go cx hRp hl hfr hlo hd hw hcl hsl (by omega) a2 a3 ?_ hk
  rw [cE_o e4 hc14]
  refine ⟨_, clS_at _ hc14, ?_⟩
  have hb := u_born (tyC q.1) hts (in_C _ hc14) hKn hkC a1 (ty_C _ hc14)
  refine hb.to fun j hj => ?_
  have e1 : hI (mkC h q.1 q.2 q.2) (hC h) j = 0 := if_pos rfl
  have e2 : hL (mkC h q.1 q.2 q.2) (hC h) j = 0 := if_pos rfl
  have e3 : hR (mkC h q.1 q.2 q.2) (hC h) j = .null := if_pos rfl
  show _ = ((List.range (CI q.1).2.2).map (fV (adO s0 xt) (mkC h q.1 q.2 q.2) (hC h) q.1)).getD j .null
  rw [List.getD_eq_getElem?_getD, fl_at hj]
  show defaultValue (tyC q.1 j) = fV (adO s0 xt) (mkC h q.1 q.2 q.2) (hC h) q.1 j
  unfold fV
  rw [e1, e2, e3]
  rcases tyK q.1 j hc14 with z | z | z | ⟨C, z⟩ | ⟨C, z⟩ <;> rw [z] <;> rfl
/-- constants -/
theorem sm_ldc2 (wd : Wd s0 D dA xt hE args0) {n : Nat} {x : Int64} (hc : codeAt k pc = some (.ldc2_w n)) (hn : jT (oN k) n = some x) (hk : Sm l s0 D dA xt hE d k (pc + 3) L (.long x :: S) h o h') : Sm l s0 D dA xt hE d k pc L S h o h' := by
  refine ⟨hk.1, fun p e R s m args below meth c H locs cells slots ls cx hR hl hfr hlo hd hw hcl hsl => ?_⟩
  have hdg : decode (mtA k).2.1 pc = .ok (.ldc2_w n, 3) := dec_at cx hc rfl (by decide)
  exact lv_ldc2 cx.1 cx.2.1 cx.2.2.2.2.2.1 (wd_ts wd cx.2.2.2.2.2.2.1 _ (okJ _ _ _ hn)) hdg (hk.2 p e R s m args below meth c H locs cells slots ls cx hR hl hfr hlo hd hw hcl hsl)
theorem sm_ldcI (wd : Wd s0 D dA xt hE args0) {n : Nat} {x : Int32} (hc : codeAt k pc = some (.ldc n)) (hn : cT (oN k) n = some (.int x)) (hk : Sm l s0 D dA xt hE d k (pc + 2) L (.int x :: S) h o h') : Sm l s0 D dA xt hE d k pc L S h o h' := by
  refine ⟨hk.1, fun p e R s m args below meth c H locs cells slots ls cx hR hl hfr hlo hd hw hcl hsl => ?_⟩
  have hdg : decode (mtA k).2.1 pc = .ok (.ldc n, 2) := dec_at cx hc rfl (by decide)
  have hw1 : Cond.constant (oS (oN k)) n x ∈ lw_all := by
    rcases okI _ _ _ hn with ⟨y, z1, z2⟩ | ⟨a, tx, z1, -⟩
    · cases z1; exact z2
    · cases z1
  exact lv_ldc cx.1 cx.2.1 cx.2.2.2.2.2.1 (wd_ts wd cx.2.2.2.2.2.2.1 _ hw1) hdg (hk.2 p e R s m args below meth c H locs cells slots ls cx hR hl hfr hlo hd hw hcl hsl)
/-- ends -/
theorem MQ_EQ {v : Option Value} {mc ms : Nat} {h1 : AH} {t : State} (ht : MQ below (fun _ _ oc u => oc = .returned (v.map (vM (adO s0 xt))) ∧ Rp s0 D dA xt hE h1 u.heap) args s mc ms (fun q => s0.heap.size ≤ q) t) : EQ s0 D dA xt hE below s (.inl v) h1 mc ms t := by
  obtain ⟨oc, a1, a2, ⟨rfl, a4⟩, L, ⟨-, a5, a6⟩, a7⟩ := ht
  exact ⟨a1, a2, a5, ⟨L, a6, a7⟩, a4⟩
theorem W_mono {Q Q' : State → Prop} {g : JFrame} (hq : ∀ t, Q t → Q' t) (kk : W p l e R s m args below meth c H locs cells slots Q g) : W p l e R s m args below meth c H locs cells slots Q' g := fun T hT X => by
  obtain ⟨t, a, b⟩ := kk T hT X
  exact ⟨t, a, hq t b⟩
theorem sm_ireturn {a : Int32} (hc : codeAt k pc = some .ireturn) (hr : rTy k = 1 ∨ (rTy k = 4 ∧ (a = 0 ∨ a = 1))) : Sm l s0 D dA xt hE d k pc L [.int a] h (.inl (some (.int a))) h := by
  refine ⟨⟨Nat.le_refl _, Nat.le_refl _⟩, fun p e R s m args below meth c H locs cells slots ls cx hR hl hfr hlo hd hw hcl hsl => ?_⟩
  have hdg : decode (mtA k).2.1 pc = .ok (.ireturn, 1) := dec_at cx hc rfl (by decide)
  have hlocks : meth.locks = false := cx.2.2.2.2.1
  rw [Nat.sub_self, Nat.sub_self, Nat.add_zero, Nat.add_zero]
  have hrt := (okN cx.2.2.2.2.2.2.2.2.2).2.2.2.2.2.2.2
  rcases hr with hr | ⟨hr, ha⟩
  · have hz : (mtA k).2.2.1 = some .int := by
      rcases hrt with ⟨z, -⟩ | ⟨-, z⟩ | ⟨z, -⟩ | ⟨z, -⟩ | ⟨z, -⟩
      · omega
      · exact z
      all_goals omega
    exact W_mono (fun t => MQ_EQ) (W.iret cx.1 cx.2.1 (cx.2.2.2.1.trans hz) (fun t ht _ => ⟨rfl, by rw [ht]; exact hR⟩) hlo hdg)
  · have hz : (mtA k).2.2.1 = some .boolean := by
      rcases hrt with ⟨z, -⟩ | ⟨z, -⟩ | ⟨z, -⟩ | ⟨z, -⟩ | ⟨-, z⟩
      · omega
      · omega
      · omega
      · omega
      · exact z
    exact W_mono (fun t => MQ_EQ) (W.zret cx.1 cx.2.1 (cx.2.2.2.1.trans hz) (by rcases ha with rfl | rfl <;> rfl) (fun t ht _ => ⟨rfl, by rw [ht]; exact hR⟩) hlo hdg)
theorem sm_lreturn {a : Int64} (hc : codeAt k pc = some .lreturn) (hr : rTy k = 2) : Sm l s0 D dA xt hE d k pc L [.long a] h (.inl (some (.long a))) h := by
  refine ⟨⟨Nat.le_refl _, Nat.le_refl _⟩, fun p e R s m args below meth c H locs cells slots ls cx hR hl hfr hlo hd hw hcl hsl => ?_⟩
  have hdg : decode (mtA k).2.1 pc = .ok (.lreturn, 1) := dec_at cx hc rfl (by decide)
  have hlocks : meth.locks = false := cx.2.2.2.2.1
  rw [Nat.sub_self, Nat.sub_self, Nat.add_zero, Nat.add_zero]
  have hz : (mtA k).2.2.1 = some .long := by
    rcases (okN cx.2.2.2.2.2.2.2.2.2).2.2.2.2.2.2.2 with ⟨z, -⟩ | ⟨z, -⟩ | ⟨-, z⟩ | ⟨z, -⟩ | ⟨z, -⟩
    · omega
    · omega
    · exact z
    all_goals omega
  exact W_mono (fun t => MQ_EQ) (W.lret cx.1 cx.2.1 (cx.2.2.2.1.trans hz) (fun t ht _ => ⟨rfl, by rw [ht]; exact hR⟩) hlo hdg)
theorem sm_areturn {a : Nat} (hc : codeAt k pc = some .areturn) (hr : rTy k = 3) : Sm l s0 D dA xt hE d k pc L [.ref a] h (.inl (some (.ref a))) h := by
  refine ⟨⟨Nat.le_refl _, Nat.le_refl _⟩, fun p e R s m args below meth c H locs cells slots ls cx hR hl hfr hlo hd hw hcl hsl => ?_⟩
  have hdg : decode (mtA k).2.1 pc = .ok (.areturn, 1) := dec_at cx hc rfl (by decide)
  have hlocks : meth.locks = false := cx.2.2.2.2.1
  rw [Nat.sub_self, Nat.sub_self, Nat.add_zero, Nat.add_zero]
  have hz : ∃ C, (mtA k).2.2.1 = some (.object C) := by
    rcases (okN cx.2.2.2.2.2.2.2.2.2).2.2.2.2.2.2.2 with ⟨z, -⟩ | ⟨z, -⟩ | ⟨z, -⟩ | ⟨-, z⟩ | ⟨z, -⟩
    · omega
    · omega
    · omega
    · exact z
    all_goals omega
  obtain ⟨C, hz⟩ := hz
  exact W_mono (fun t => MQ_EQ) (W.aret cx.1 cx.2.1 (cx.2.2.2.1.trans hz) (Or.inl ⟨C, rfl⟩) (Or.inr ⟨_, rfl⟩) (fun t ht _ => ⟨rfl, by rw [ht]; exact hR⟩) hlo hdg)
theorem sm_return (hc : codeAt k pc = some .return_) (hr : rTy k = 0) : Sm l s0 D dA xt hE d k pc L [] h (.inl none) h := by
  refine ⟨⟨Nat.le_refl _, Nat.le_refl _⟩, fun p e R s m args below meth c H locs cells slots ls cx hR hl hfr hlo hd hw hcl hsl => ?_⟩
  have hdg : decode (mtA k).2.1 pc = .ok (.return_, 1) := dec_at cx hc rfl (by decide)
  have hlocks : meth.locks = false := cx.2.2.2.2.1
  rw [Nat.sub_self, Nat.sub_self, Nat.add_zero, Nat.add_zero]
  have hz : (mtA k).2.2.1 = none := by
    rcases (okN cx.2.2.2.2.2.2.2.2.2).2.2.2.2.2.2.2 with ⟨-, z⟩ | ⟨z, -⟩ | ⟨z, -⟩ | ⟨z, -⟩ | ⟨z, -⟩
    · exact z
    all_goals omega
  exact W_mono (fun t => MQ_EQ) (W.vret cx.1 cx.2.1 (cx.2.2.2.1.trans hz) (fun t ht _ => ⟨rfl, by rw [ht]; exact hR⟩) hlo hdg)
end

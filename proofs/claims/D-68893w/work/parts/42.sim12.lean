/-! the simulation, 12: the theorem -/
set_option maxRecDepth 100000
section
variable {l : Launch} {s0 : State} {D : va_G} {dA : Nat → ClassId} {xt : Nat → Nat} {hE : AH} {args0 : Array Value} {d k pc : Nat} {L : LO} {S : List Value} {h h' : AH} {o : OU}
theorem ob_some {α β : Type} {o : Option α} {f : α → Option β} {b : β} (h : ob o f = some b) : ∃ a, o = some a ∧ f a = some b := by
  cases o with
  | none => cases h
  | some a => exact ⟨a, rfl, h⟩
theorem bif_some {α : Type} {c : Bool} {a : Option α} {b : α} (h : (bif c then a else none) = some b) : c = true ∧ a = some b := by
  cases c with
  | false => cases h
  | true => exact ⟨rfl, h⟩
/-- fewer slots -/
theorem nrm_has {ad : Nat → Nat} {ls : Array Slot} {n : Nat} {ks : Option (List Nat)} (hl : lv_has ls n (lM ad L)) : lv_has ls n (lM ad (nrm ks L)) := by
  cases ks with
  | none => exact hl
  | some ks =>
    refine ⟨hl.1, hl.2.1, fun q hq => ?_⟩
    unfold lM nrm at hq
    rw [List.mem_map] at hq
    obtain ⟨x, hx, rfl⟩ := hq
    rw [List.mem_filterMap] at hx
    obtain ⟨i, -, hi⟩ := hx
    cases hlk : L.lookup i with
    | none => rw [hlk] at hi; cases hi
    | some v =>
      rw [hlk] at hi
      cases hi
      refine hl.2.2 _ ?_
      unfold lM
      exact List.mem_map_of_mem (f := fun q => (q.1, vM ad q.2)) (lk_mem hlk)
theorem sm_nrm {ks : Option (List Nat)} (hk : Sm l s0 D dA xt hE d k pc (nrm ks L) S h o h') : Sm l s0 D dA xt hE d k pc L S h o h' :=
  ⟨hk.1, fun p e R s m args below meth c H locs cells slots ls cx hR hl hfr hlo hd hw hcl hsl => hk.2 p e R s m args below meth c H locs cells slots ls cx hR (nrm_has hl) hfr hlo hd hw hcl hsl⟩
/-- what is shown of a run -/
def Sr1 (l : Launch) (s0 : State) (D : va_G) (dA : Nat → ClassId) (xt : Nat → Nat) (hE : AH) (rec : RC) : Prop := ∀ d k pc L S h o h', rec d k pc L S h = some (o, h') → Sm l s0 D dA xt hE d k pc L S h o h'
/-- what an instruction's result leads to -/
def Xk (rec : RC) (d k pc : Nat) (r : (Nat × LO × List Value × AH) ⊕ (OU × AH) ⊕ (Nat × List Value × Nat × LO × List Value × AH)) : RS := match r with
    | .inl (pc', L', S', h') => rec d k pc' L' S' h'
    | .inr (.inl (o, h')) => some (o, h')
    | .inr (.inr (k', as, pc', L', S', h')) => match d with
      | 0 => none
      | d' + 1 => match rec d' k' 0 (ent 0 as) [] h' with
        | none => none
        | some (.inl v, h2) => bif rtOK (rTy k') v then rec (d' + 1) k pc' L' (v.toList ++ S') h2 else none
        | some (.inr a, h2) => match hnd (hTab k) pc (hT h2 a) with
          | some p => rec (d' + 1) k p L' [.ref a] h2
          | none => bif (hTab k).isEmpty then some (.inr a, h2) else none
theorem stp_X {rec : RC} {x : OU × AH} (hs : stp rec d k pc L S h = some x) : ∃ i r, codeAt k pc = some i ∧ ex d k i pc (nrm (livAt k pc) L) S h = some r ∧ Xk rec d k pc r = some x := by
  unfold stp at hs
  cases hc : codeAt k pc with
  | none => rw [hc] at hs; cases hs
  | some i =>
    rw [hc] at hs
    dsimp only at hs
    cases he : ex d k i pc (nrm (livAt k pc) L) S h with
    | none => rw [he] at hs; cases hs
    | some r =>
      rw [he] at hs
      refine ⟨i, r, rfl, he, ?_⟩
      rcases r with ⟨pc', L', S', h1⟩ | ⟨o1, h1⟩ | ⟨k', as, pc', L', S', h1⟩
      · exact hs
      · exact hs
      · exact hs
variable {rec : RC}
/-- calls of the claim's own methods -/
theorem sm_exC (wd : Wd s0 D dA xt hE args0) (hng : Ng s0) (ih : Sr1 l s0 D dA xt hE rec) {n' : Nat} {q : Nat × Nat × Nat × Nat} {ig : Instr} {r : (Nat × LO × List Value × AH) ⊕ (OU × AH) ⊕ (Nat × List Value × Nat × LO × List Value × AH)} (hc : codeAt k pc = some ig) (hlen : ilen ig = 3) (hq : mT (oN k) n' = some q) (hkd : q.1 ≤ 4) (hig : ((q.1 = 0 ∨ q.1 = 3) ∧ ig = .invokevirtual n') ∨ (q.1 = 1 ∧ ig = .invokestatic n') ∨ ((q.1 = 2 ∨ q.1 = 4) ∧ ig = .invokespecial n'))
    (he : (bif Nat.ble q.2.2.1 S.length && Nat.ble (wds (S.drop q.2.2.1)) 8 && Nat.ble (wds (S.take q.2.2.1)) (mxL q.2.1) && (Nat.beq q.1 1 || isC h ((S.take q.2.2.1).getLastD .null) q.2.2.2) then cal q.2.1 (S.take q.2.2.1).reverse (pc + 3) L (S.drop q.2.2.1) h else none) = some r) (hx : Xk rec d k pc r = some (o, h')) : Sm l s0 D dA xt hE d k pc L S h o h' := by
  obtain ⟨hg, hr⟩ := bif_some he
  simp only [Bool.and_eq_true] at hg
  obtain ⟨⟨⟨g1, g2⟩, g3⟩, g4⟩ := hg
  have g1 := Nat.le_of_ble_eq_true g1
  have g2 := Nat.le_of_ble_eq_true g2
  have g3 := Nat.le_of_ble_eq_true g3
  have hk' : q.2.1 < 292 := by
    rcases okC _ _ _ hq with ⟨z, y, -⟩ | ⟨z, y, -⟩ | ⟨z, y, -⟩ | ⟨z, y, -⟩ | ⟨z, y, -⟩ | ⟨z, -⟩ | ⟨z, -⟩ | ⟨z, -⟩ | ⟨z, -⟩ | ⟨z, -⟩ | ⟨z, -⟩ | ⟨z, -⟩
    · exact y
    · exact y
    · exact y
    · exact y
    · exact y
    all_goals omega
  cases hr
  cases d with
  | zero => cases hx
  | succ d' =>
    unfold Xk at hx
    dsimp only at hx
    cases hrec : rec d' q.2.1 0 (ent 0 (S.take q.2.2.1).reverse) [] h with
    | none => rw [hrec] at hx; cases hx
    | some y =>
      rw [hrec] at hx
      obtain ⟨o1, h1⟩ := y
      have hcall := ih _ _ _ _ _ _ _ _ hrec
      cases o1 with
      | inl v =>
        dsimp only at hx
        obtain ⟨-, hx⟩ := bif_some hx
        exact sm_call wd hc hlen hq hkd hig hk' g1 g2 g3 g4 hcall (ih _ _ _ _ _ _ _ _ hx)
      | inr a =>
        dsimp only at hx
        cases hn : hnd (hTab k) pc (hT h1 a) with
        | some p' =>
          rw [hn] at hx
          exact sm_callH wd hng hc hlen hq hkd hig hk' g1 g2 g3 g4 hcall hn (ih _ _ _ _ _ _ _ _ hx)
        | none =>
          rw [hn] at hx
          dsimp only at hx
          obtain ⟨hz, hx⟩ := bif_some hx
          cases hx
          exact sm_callT wd hc hlen hq hkd hig hk' g1 g2 g3 g4 hcall (List.isEmpty_iff.mp hz)
end

/-! the simulation, 7: the steps into calls -/
set_option maxRecDepth 100000
theorem okI_ix : ∀ k, k < 292 → (mtA k).1.name = "<init>" → k = 10 ∨ k = 28 ∨ k = 46 ∨ k = 88 ∨ k = 94 ∨ k = 128 ∨ k = 144 ∨ k = 153 ∨ k = 176 ∨ k = 182 := by decide +kernel
theorem okI_code {k : Nat} (hk : k < 292) (hn : (mtA k).1.name = "<init>") : Cond.code (mtA k).1 (mtA k).2.1 (mxL k) none ∈ lw_all := by
  rcases okI_ix k hk hn with rfl | rfl | rfl | rfl | rfl | rfl | rfl | rfl | rfl | rfl
  · exact q196
  · exact q204
  · exact q346
  · exact q352
  · exact q406
  · exact q412
  · exact q456
  · exact q483
  · exact q593
  · exact q1496
section
variable {l : Launch} {s0 : State} {D : va_G} {dA : Nat → ClassId} {xt : Nat → Nat} {hE : AH} {args0 : Array Value} {d k pc : Nat} {L : LO} {S : List Value} {h h' : AH} {o : OU}
variable {p : Program} {e : Env} {R : Room} {s : State} {m : MethodId} {args : Array Value} {below : List Frame} {meth : Method} {c : Code} {H : Heap} {locs : List Loc} {cells slots : Nat} {ls : Array Slot}
theorem rcv_of {n j cc : Nat} (hn : n = j + 1) (hS : n ≤ S.length) (hc : isC h ((S.take n).getLastD .null) cc = true) : ∃ (as : List Value) (b : Nat), S = as.reverse ++ .ref b :: S.drop n ∧ as.length = j ∧ (S.take n).reverse = .ref b :: as ∧ hT h b = cc := by
  have hl : (S.take n).length = n := by rw [List.length_take]; omega
  have hne : S.take n ≠ [] := by intro z; rw [z] at hl; simp at hl; omega
  have h1 := (List.dropLast_concat_getLast hne).symm
  have h2 : (S.take n).getLastD .null = (S.take n).getLast hne := by
    rw [List.getLastD_eq_getLast?, List.getLast?_eq_some_getLast hne]; rfl
  rw [h2] at hc
  generalize (S.take n).getLast hne = v at h1 hc
  unfold isC at hc
  cases v with
  | ref b =>
    refine ⟨(S.take n).dropLast.reverse, b, ?_, ?_, ?_, Nat.eq_of_beq_eq_true hc⟩
    · rw [List.reverse_reverse]
      have h3 := List.take_append_drop n S
      have h4 : S.take n ++ S.drop n = (S.take n).dropLast ++ ([.ref b] ++ S.drop n) := by
        rw [← List.append_assoc, ← h1]
      exact h3.symm.trans h4
    · rw [List.length_reverse, List.length_dropLast, hl]; omega
    · have h5 := congrArg List.reverse h1
      rw [List.reverse_append] at h5
      exact h5
  | _ => cases hc
theorem prm_len {k' j : Nat} {mk : MethodId} {methk : Method} {ck : Code} (hm : Mt k' s mk methk ck) (hp : prmN (mtA k').1 j) : j = methk.sig.parameters.length := by
  unfold prmN at hp
  rw [hm.2.2.2.2.2.2.2.2] at hp
  exact (Option.some.inj hp).symm
theorem stk_of {ad : Nat → Nat} {as : List Value} {b n : Nat} (e1 : S = as.reverse ++ .ref b :: S.drop n) : S.map (vM ad) = (as.map (vM ad)).reverse ++ .ref (ad b) :: (S.drop n).map (vM ad) := by
  have e2 := congrArg (List.map (vM ad)) e1
  rw [List.map_append, List.map_reverse] at e2
  exact e2
theorem iv_all (wd : Wd s0 D dA xt hE args0) (cx : Cx s0 k p s m meth c) (hR : Rp s0 D dA xt hE h H) {n' : Nat} {q : Nat × Nat × Nat × Nat} (hq : mT (oN k) n' = some q) (hkd : q.1 ≤ 4) {ig : Instr} (hig : ((q.1 = 0 ∨ q.1 = 3) ∧ ig = .invokevirtual n') ∨ (q.1 = 1 ∧ ig = .invokestatic n') ∨ ((q.1 = 2 ∨ q.1 = 4) ∧ ig = .invokespecial n')) (hdg : decode (mtA k).2.1 pc = .ok (ig, 3)) (hS : q.2.2.1 ≤ S.length) (hrc : (Nat.beq q.1 1 || isC h ((S.take q.2.2.1).getLastD .null) q.2.2.2) = true) {mk : MethodId} {methk : Method} {ck : Code} (hm : Mt q.2.1 s mk methk ck) (hk' : q.2.1 < 292) :
    Iv p l e R s m args below meth c H locs cells slots (F0 m pc ls (S.map (vM (adO s0 xt)))) ((S.drop q.2.2.1).map (vM (adO s0 xt))) mk ((S.take q.2.2.1).reverse.map (vM (adO s0 xt))).toArray := by
  have hts := wd_ts (args := args) wd cx.2.2.2.2.2.2.1
  have hK := wd_K wd cx.2.2.2.2.2.2.1
  have hb := cx.2.1
  have hown := cx.2.2.2.2.2.1
  have hwm := cx.2.2.2.2.2.2.1
  have hy := (okN (Or.inl hk')).2.2.2.1
  have hrecv : ∀ (cc b : Nat), cc < 14 → hT h b = cc → ∃ cell : Cell, H[adO s0 xt b]? = some cell ∧ cell.vm.isStatics = false ∧ s.vm.findClass (CI cc).1 = some cell.cls := by
    intro cc b hc14 ht
    obtain ⟨ha, haC⟩ := rp_x20 wd hR (a := b) (by omega)
    have he := rp_ws (s0 := s0) (dA := dA) (xt := xt) ha haC
    rw [cE_o ht hc14] at he
    exact va_recv hK hR.2.2.2.1 (clS_at _ hc14) he
  have hmm := hm
  obtain ⟨hn0, a1, a2, a3, a4, a5, a6, a7, a8⟩ := hmm
  rcases okC _ _ _ hq with ⟨z, -, hc14, hl, hin, hse, j, hj, hp⟩ | ⟨z, -, hl, hst, hp⟩ | ⟨z, -, hc14, hy1, hrn, htb, hl, hin, j, hj, hp⟩ | ⟨z, -, hc14, ⟨host, hl⟩, hin, hse, j, hj, hp⟩ | ⟨z, -, hc14, hy1, hrn, htb, ⟨host, hl⟩, hin, j, hj, hp⟩ | ⟨z, -⟩ | ⟨z, -⟩ | ⟨z, -⟩ | ⟨z, -⟩ | ⟨z, -⟩ | ⟨z, -⟩ | ⟨z, -⟩
  · rw [z] at hrc
    obtain ⟨as, b, e1, e2, e3, e4⟩ := rcv_of (h := h) hj hS hrc
    have hgi : ig = .invokevirtual n' := by
      rcases hig with ⟨-, y⟩ | ⟨y, -⟩ | ⟨y, -⟩
      · exact y
      · omega
      · omega
    subst hgi
    obtain ⟨cellB, hcell, hobj, hcls⟩ := hrecv _ b hc14 e4
    obtain ⟨mk', methM, hnamed, hmethM, hstM, habM⟩ := Cond.instanceMethod_spec (hts _ hin)
    cases hn0.symm.trans hnamed
    cases a1.symm.trans hmethM
    obtain ⟨c2, r2, m2, q1, q2, q3, q4, kP, hkP, hkPi⟩ := Cond.selects_spec (hts _ hse)
    cases hcls.symm.trans q1
    cases (State.methodFound?_of_named hnamed hy).symm.trans q2
    cases hnamed.symm.trans q3
    intro T hT X
    have hselP : selectMethod e.platform s.vm cellB.cls mk = .method mk := by rw [Launch.admits_selectMethod X.admits]; exact q4
    obtain ⟨vm₁, X₁, hstep₁⟩ := X.invokevirtual cx.1 hown (hts _ hl) hnamed hmethM hstM hkP hkPi hy (a := adO s0 xt b) (cell := cellB) (by rw [hT]; exact hcell)
      (fun y hy => by rw [hy] at hobj; cases hobj) hselP hmethM habM hkP hkPi (g := F0 m pc ls (S.map (vM (adO s0 xt)))) rfl (argsL := as.map (vM (adO s0 xt))) (rest := (S.drop q.2.2.1).map (vM (adO s0 xt))) (by rw [List.length_map, e2]; exact prm_len hm hp) (stk_of e1) (by rw [hb]; exact hdg)
    refine ⟨vm₁, X₁, fun target hh => hstep₁ target fun acts => ?_⟩
    rw [e3] at hh
    exact hh acts
  · have hgi : ig = .invokestatic n' := by
      rcases hig with ⟨y, -⟩ | ⟨-, y⟩ | ⟨y, -⟩
      · omega
      · exact y
      · omega
    subst hgi
    obtain ⟨kP, hkP, -⟩ := className_of_methodNamed hn0
    have hstatic : methk.isStatic = true := Cond.static_spec hn0 a1 (hts _ hst)
    have hinitP : kP.init = .initialized := Cond.initialized_spec (findClass_of_methodNamed hn0) hkP (hts _ (okN (Or.inl hk')).2.2.2.2.2.1)
    intro T hT X
    obtain ⟨vm₁, X₁, hstep₁⟩ := X.invokestatic cx.1 hown (hts _ hl) hn0 a1 hstatic hkP hinitP hy (g := F0 m pc ls (S.map (vM (adO s0 xt)))) rfl (argsL := (S.take q.2.2.1).reverse.map (vM (adO s0 xt))) (rest := (S.drop q.2.2.1).map (vM (adO s0 xt)))
      (by rw [List.length_map, List.length_reverse, List.length_take, Nat.min_eq_left hS]; exact prm_len hm hp) (by show S.map _ = _; rw [List.map_reverse, List.reverse_reverse, ← List.map_append, List.take_append_drop]) (by rw [hb]; exact hdg)
    exact ⟨vm₁, X₁, hstep₁⟩
  · rw [z] at hrc
    obtain ⟨as, b, e1, e2, e3, e4⟩ := rcv_of (h := h) hj hS hrc
    have hgi : ig = .invokespecial n' := by
      rcases hig with ⟨y, -⟩ | ⟨y, -⟩ | ⟨-, y⟩
      · omega
      · omega
      · exact y
    subst hgi
    intro T hT X
    have hpl : e.platform.magicAccessors = ({} : Platform).magicAccessors := by rw [X.admits.platform]
    obtain ⟨mk', methM, cM, kP, vm₁, hnamed, hmethM, hcodeM, -, hlocalsM, -, hkP, -, hW₁, hstep₁⟩ := Steps.initColdArgs (e := e) X.here cx.1 X.warmed hpl hown hy1 hy (hts _ hl) (hts _ hin) (hts _ (okI_code hk' hy1)) (f := F0 m pc ls (S.map (vM (adO s0 xt)))) rfl (argsL := as.map (vM (adO s0 xt))) (a := adO s0 xt b) (rest := (S.drop q.2.2.1).map (vM (adO s0 xt)))
      (fun sig hs => by rw [a8] at hs; cases hs; rw [List.length_map, e2]; exact prm_len hm hp) (stk_of e1) (by rw [hb]; exact hdg)
    cases hn0.symm.trans hnamed
    refine ⟨vm₁, X.noted hW₁, fun target hh => hstep₁ target fun acts => ?_⟩
    rw [e3] at hh
    exact hh acts
  · rw [z] at hrc
    obtain ⟨as, b, e1, e2, e3, e4⟩ := rcv_of (h := h) hj hS hrc
    have hgi : ig = .invokevirtual n' := by
      rcases hig with ⟨-, y⟩ | ⟨y, -⟩ | ⟨y, -⟩
      · exact y
      · omega
      · omega
    subst hgi
    obtain ⟨cellB, hcell, hobj, hcls⟩ := hrecv _ b hc14 e4
    obtain ⟨mk', methM, hnamed, hmethM, hstM, habM⟩ := Cond.instanceMethod_spec (hts _ hin)
    cases hn0.symm.trans hnamed
    cases a1.symm.trans hmethM
    obtain ⟨c2, r2, m2, q1, q2, q3, q4, kP, hkP, hkPi⟩ := Cond.selects_spec (hts _ hse)
    cases hcls.symm.trans q1
    cases (State.methodFound?_of_named hnamed hy).symm.trans q2
    cases hnamed.symm.trans q3
    intro T hT X
    have hselP : selectMethod e.platform s.vm cellB.cls mk = .method mk := by rw [Launch.admits_selectMethod X.admits]; exact q4
    obtain ⟨vm₁, X₁, hstep₁⟩ := X.invokevirtualNest cx.1 hown (wd_nM (args := args) wd hwm hl) hnamed hmethM hstM hkP hkPi hy (a := adO s0 xt b) (cell := cellB) (by rw [hT]; exact hcell)
      (fun y hy => by rw [hy] at hobj; cases hobj) hselP hmethM habM hkP hkPi (g := F0 m pc ls (S.map (vM (adO s0 xt)))) rfl (argsL := as.map (vM (adO s0 xt))) (rest := (S.drop q.2.2.1).map (vM (adO s0 xt))) (by rw [List.length_map, e2]; exact prm_len hm hp) (stk_of e1) (by rw [hb]; exact hdg)
    refine ⟨vm₁, X₁, fun target hh => hstep₁ target fun acts => ?_⟩
    rw [e3] at hh
    exact hh acts
  · rw [z] at hrc
    obtain ⟨as, b, e1, e2, e3, e4⟩ := rcv_of (h := h) hj hS hrc
    have hgi : ig = .invokespecial n' := by
      rcases hig with ⟨y, -⟩ | ⟨y, -⟩ | ⟨-, y⟩
      · omega
      · omega
      · exact y
    subst hgi
    intro T hT X
    have hpl : e.platform.magicAccessors = ({} : Platform).magicAccessors := by rw [X.admits.platform]
    obtain ⟨mk', methM, cM, kP, vm₁, hnamed, hmethM, hcodeM, -, hlocalsM, -, hkP, -, hW₁, hstep₁⟩ := Steps.initColdArgsNest (e := e) X.here cx.1 X.warmed hpl hown hy1 hy (wd_nM (args := args) wd hwm hl) (hts _ hin) (hts _ (okI_code hk' hy1)) (f := F0 m pc ls (S.map (vM (adO s0 xt)))) rfl (argsL := as.map (vM (adO s0 xt))) (a := adO s0 xt b) (rest := (S.drop q.2.2.1).map (vM (adO s0 xt)))
      (fun sig hs => by rw [a8] at hs; cases hs; rw [List.length_map, e2]; exact prm_len hm hp) (stk_of e1) (by rw [hb]; exact hdg)
    cases hn0.symm.trans hnamed
    refine ⟨vm₁, X.noted hW₁, fun target hh => hstep₁ target fun acts => ?_⟩
    rw [e3] at hh
    exact hh acts
  all_goals omega
end
/-- the tables of handlers -/
def clkL : List (Nat × Nat × Nat) := [(0, 13, 11), (0, 19, 12), (0, 25, 0), (0, 35, 13), (1, 46, 0)]
theorem clk_ok : ∀ q ∈ clkL, Cond.classLink (oS q.1) q.2.1 (CI q.2.2).1 ∈ lw_all ∧ q.2.1 ≠ 0 ∧ (q.2.2 = 0 ∨ q.2.2 = 11 ∨ q.2.2 = 12 ∨ q.2.2 = 13) := List.forall_mem_cons.mpr ⟨⟨q1296, by decide, by decide⟩, List.forall_mem_cons.mpr ⟨⟨q1321, by decide, by decide⟩, List.forall_mem_cons.mpr ⟨⟨q1348, by decide, by decide⟩, List.forall_mem_cons.mpr ⟨⟨q1377, by decide, by decide⟩, List.forall_mem_cons.mpr ⟨⟨q636, by decide, by decide⟩, fun _ h => absurd h List.not_mem_nil⟩⟩⟩⟩⟩
def hRel (w : Nat) : List (Nat × Nat × Nat × Nat) → List (Nat × Nat × Nat × Nat) → Bool
  | [], [] => true
  | x :: xs, q :: qs => Nat.beq x.1 q.1 && (Nat.beq x.2.1 q.2.1 && (Nat.beq x.2.2.1 q.2.2.1 && (decide ((w, x.2.2.2, q.2.2.2) ∈ clkL) && hRel w xs qs)))
  | _, _ => false
theorem okH : ∀ k, k < 295 → hRel (oN k) (mtA k).2.2.2 (hTab k) = true := by decide +kernel

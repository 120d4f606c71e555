/-! the simulation, 6: calls, what is thrown -/
set_option maxRecDepth 100000
section
variable {l : Launch} {s0 : State} {D : va_G} {dA : Nat → ClassId} {xt : Nat → Nat} {hE : AH} {args0 : Array Value} {d k pc : Nat} {L : LO} {S : List Value} {h h' : AH} {o : OU}
variable {p : Program} {e : Env} {R : Room} {s : State} {m : MethodId} {args : Array Value} {below : List Frame} {meth : Method} {c : Code} {H : Heap} {locs : List Loc} {cells slots : Nat} {ls : Array Slot}
/-- the method of a number at a state -/
def Mt (k : Nat) (s : State) (mk : MethodId) (methk : Method) (ck : Code) : Prop :=
  s.methodNamed? (mtA k).1 = some mk ∧ s.vm.method? mk = some methk ∧ methk.code = some ck ∧ ck.code = (mtA k).2.1 ∧ ck.maxLocals = mxL k ∧ methk.sig.returnType = (mtA k).2.2.1 ∧ methk.locks = false ∧ ck.exceptionTable.toList.map (fun h => (h.startPc, h.endPc, h.handlerPc, h.catchType)) = (mtA k).2.2.2 ∧ parseMethodDescriptor (mtA k).1.desc = some methk.sig
theorem mt_at (wd : Wd s0 D dA xt hE args0) (hw : s0.WarmedH s.vm) {k' : Nat} (hk : k' < 292) : ∃ mk methk ck, Mt k' s mk methk ck := by
  rcases okM k' hk with ⟨h1, h2, h3⟩ | h1
  · have hb := wd_ts (args := #[]) wd hw _ h1
    obtain ⟨mk, hn⟩ := Cond.code_named hb
    obtain ⟨methk, ck, a1, a2, a3, a4, a5, a6, a7, a8⟩ := Cond.code_spec hn hb
    refine ⟨mk, methk, ck, hn, a1, a2, a3, a4, a5, a6, ?_, a8⟩
    rw [h2, Array.isEmpty_iff.mp a7]; rfl
  · have hb := wd_ts (args := #[]) wd hw _ h1
    obtain ⟨mk, methk, ck, hn, a1, a2, a3, a4, a7, a5, a6, a8⟩ := Cond.codeWith_spec hb
    exact ⟨mk, methk, ck, hn, a1, a2, a3, a4, a5, a6, a7, a8⟩
theorem cx_of (hexec : p.tables.exec = Jvm.exec) (hw : s0.WarmedH s.vm) {k' : Nat} (hk : k' < 292) {mk : MethodId} {methk : Method} {ck : Code} (hm : Mt k' s mk methk ck) : Cx s0 k' p s mk methk ck := by
  obtain ⟨hn, a1, a2, a3, a4, a5, a6, a7, a8⟩ := hm
  refine ⟨hexec, a3, a4, a5, a6, ?_, hw, (name_of_methodNamed hn a1).1, a7, Or.inl hk⟩
  rw [← (okN (Or.inl hk)).2.2.1]
  exact findClass_of_methodNamed hn
/-- the step into a call: the link is warm behind it -/
def Iv (p : Program) (l : Launch) (e : Env) (R : Room) (s : State) (m : MethodId) (args : Array Value) (below : List Frame) (meth : Method) (c : Code) (H : Heap) (locs : List Loc) (cells slots : Nat) (g : JFrame) (rest : List Value) (mk : MethodId) (a : Array Value) : Prop :=
  ∀ T : State, T.heap = H → Stand p l e R s m args below meth c T locs cells slots → ∃ vm₁, Stand p l e R s m args below meth c (T.setVm vm₁) locs cells slots ∧ ∀ target, (∀ acts, Steps p.tables e below (doInvoke e ((T.setVm vm₁).setTop { g with stack := rest }) acts mk a).1 target) → Steps p.tables e below (T.setTop g) target
theorem args_fit (vs : List Value) : (lg_sl vs).length = wds vs := by
  induction vs with
  | nil => rfl
  | cons v vs ih =>
    unfold lg_sl wds at ih ⊢
    rw [List.flatMap_cons, List.length_append, ih, List.map_cons, List.sum_cons]
    congr 1
    cases v <;> rfl
theorem ent_args {ad : Nat → Nat} : ∀ (vs : List Value) (i : Nat), lv_args i (vs.map (vM ad)) = lM ad (ent i vs)
  | [], _ => rfl
  | v :: vs, i => by
    have e1 : (if (vM ad v).category = 2 then i + 2 else i + 1) = i + v.category := by
      rw [vM_cat]; cases v <;> rfl
    show (i, vM ad v) :: lv_args (if (vM ad v).category = 2 then i + 2 else i + 1) (vs.map (vM ad)) = (i, vM ad v) :: lM ad (ent (i + v.category) vs)
    rw [e1, ent_args vs]
theorem wds_map {ad : Nat → Nat} (vs : List Value) : wds (vs.map (vM ad)) = wds vs := by
  unfold wds
  rw [List.map_map]
  congr 1
  exact List.map_congr_left fun v _ => vM_cat
/-- a method by its name, at a state -/
def Mg (y : MethodName) (b : ByteArray) (n : Nat) (r : Option FieldType) (s : State) (mk : MethodId) (methk : Method) (ck : Code) : Prop :=
  s.methodNamed? y = some mk ∧ s.vm.method? mk = some methk ∧ methk.code = some ck ∧ ck.code = b ∧ ck.maxLocals = n ∧ methk.sig.returnType = r ∧ methk.locks = false
/-- a call: the callee's walk is given -/
theorem call_Wg {aC : Array Value} {Sr : List Value} {o1 : OU} {h1 : AH} {y : MethodName} {yb : ByteArray} {yn : Nat} {yr : Option FieldType} (hyp : plainName y.cls = true) (hyn : yn ≤ 29) (hmo : hC h ≤ hC h1 ∧ hS h ≤ hS h1)
    (hsize : ls.size = c.maxLocals) (hwm : s0.WarmedH s.vm) (hR : Rp s0 D dA xt hE h H) (hfr : Fr s0 s H cells) (hlo : ∀ q ∈ locs, s0.heap.size ≤ q.base) (hd : 1 ≤ R.frames) (hw : 48 ≤ R.locals) (hcl : cells + (hC h1 - hC h) ≤ R.cells) (hsl : slots + (hS h1 - hS h) ≤ R.slots) (hS8 : (Sr.map fun v => v.category).sum ≤ 8)
    {ig : Instr} (hdg : decode c.code pc = .ok (ig, 3)) {mk : MethodId} {methk : Method} {ck : Code} (hm : Mg y yb yn yr s mk methk ck) {st : List Value}
    (hiv : Iv p l e R s m args below meth c H locs cells slots (F0 m pc ls st) Sr mk aC)
    (hin : ∀ sC : State, s0.WarmedH sC.vm → sC.heap = H → Mg y yb yn yr sC mk methk ck → W p l e { frames := R.frames - 1, cells := R.cells - cells, slots := R.slots - slots, locals := R.locals - 48 } sC mk aC (.java (F0 m pc ls Sr) :: below) methk ck H [] 0 0 (EQ s0 D dA xt hE (.java (F0 m pc ls Sr) :: below) sC o1 h1 (hC h1 - hC h) (hS h1 - hS h)) (entryFrame mk aC yn)) {Q : State → Prop}
    (kk : ∀ (T' : State) (locs' : List Loc), Stand p l e R s m args below meth c T' locs' (cells + (hC h1 - hC h)) (slots + (hS h1 - hS h)) → Rp s0 D dA xt hE h1 T'.heap → Fr s0 s T'.heap (cells + (hC h1 - hC h)) → (∀ q ∈ locs', s0.heap.size ≤ q.base) →
      ∃ t, Steps p.tables e below (match o1 with
        | .inl v => T'.setTop (F0 m (pc + 3) ls ((v.map (vM (adO s0 xt))).toList ++ Sr))
        | .inr a => (T'.setTop (F0 m pc ls Sr)).pushFrame (.throwing (adO s0 xt a))) t ∧ Q t) : W p l e R s m args below meth c H locs cells slots Q (F0 m pc ls st) := by
  intro T hT X
  obtain ⟨vm₁, X₁, st₁⟩ := hiv T hT X
  have hH1 : (T.setVm vm₁).heap = H := hT
  revert X₁ st₁ hH1
  generalize T.setVm vm₁ = T₁
  intro X₁ st₁ hH1
  have hW1 := X₁.warmed
  have hw1 : s0.WarmedH T₁.vm := State.WarmedH.trans hwm hW1
  obtain ⟨hn, a1, a2, a3, a4, a5, a6⟩ := hm
  have hnamed1 : T₁.methodNamed? y = some mk := X₁.named hn
  have hmeth1 : T₁.vm.method? mk = some methk := by rw [hW1.alike.method?]; exact a1
  have hplain : T₁.plainMethod mk := State.plainMethod.of_name (fun q hq => by
    obtain ⟨k2, b1, b2⟩ := className_of_methodNamed hnamed1
    cases hq.symm.trans b1
    rw [b2]; exact hyp)
  obtain ⟨Y, hdo⟩ := X₁.into (g := F0 m pc ls Sr) rfl hsize hdg aC (R' := { frames := R.frames - 1, cells := R.cells - cells, slots := R.slots - slots, locals := R.locals - 48 }) hmeth1 a2 a6 hplain
    (by show R.frames - 1 + 1 ≤ _; omega) (by
      show 2 * 0 + (Sr.map fun v => v.category).sum + (ck.maxLocals + 11) + (R.locals - 48) ≤ R.locals
      omega) (by show cells + (R.cells - cells) ≤ _; omega) (by show slots + (R.slots - slots) ≤ _; omega)
  have hMt1 : Mg y yb yn yr (T₁.calling (F0 m pc ls Sr) mk aC) mk methk ck :=
    ⟨(congrFun (State.methodNamed?_of_vm (U := T₁.calling (F0 m pc ls Sr) mk aC) (V := T₁) rfl) y).trans hnamed1, hmeth1, a2, a3, a4, a5, a6⟩
  have h0 := hR.1
  have hz := hR.2.1
  obtain ⟨t, hst, hrun, hend, hWt, ⟨L1, hsame, hL1⟩, hRt⟩ := hin (T₁.calling (F0 m pc ls Sr) mk aC) hw1 hH1 hMt1 _ (by exact hH1) Y
  have hst1 : ∀ acts, Steps p.tables e below (doInvoke e (T₁.setTop { F0 m pc ls st with stack := Sr }) acts mk aC).1 t := by
    intro acts
    refine Eq.mpr ?_ (Steps.weaken (mid := [.java (F0 m pc ls Sr)]) hst)
    congr 1
    refine (hdo acts).trans ?_
    rw [a4]
  have hfr1 : ∀ T' : State, Rp s0 D dA xt hE h1 T'.heap → Fr s0 s T'.heap (cells + (hC h1 - hC h)) := by
    intro T' hR'
    refine ⟨hfr.1, hfr.2.1, ?_⟩
    have b1 := hR'.2.1
    have b2 := hfr.2.2
    have b3 := hR'.1
    omega
  have hlo1 : ∀ q ∈ locs ++ L1, s0.heap.size ≤ q.base := by
    intro q hq
    rcases List.mem_append.mp hq with z | z
    · exact hlo q z
    · exact hL1 q z
  cases o1 with
  | inl v =>
    obtain ⟨T', X', hW', hB', ht⟩ := X₁.outOf (g := F0 m pc ls Sr) rfl hdg hend hWt hsame
    have hh : T'.heap = t.heap := by rw [ht]; rfl
    obtain ⟨t2, b1, b2⟩ := kk T' (locs ++ L1) X' (by rw [hh]; exact hRt) (hfr1 T' (by rw [hh]; exact hRt)) hlo1
    refine ⟨t2, st₁ _ (fun acts => (hst1 acts).trans ?_), b2⟩
    rw [ht]
    exact b1
  | inr a =>
    obtain ⟨T', X', hW', hB', ht⟩ := X₁.outOfThrown (g := F0 m pc ls Sr) rfl hend hWt hsame
    have hh : T'.heap = t.heap := by rw [ht]; rfl
    obtain ⟨t2, b1, b2⟩ := kk T' (locs ++ L1) X' (by rw [hh]; exact hRt) (hfr1 T' (by rw [hh]; exact hRt)) hlo1
    refine ⟨t2, st₁ _ (fun acts => (hst1 acts).trans ?_), b2⟩
    rw [ht]
    exact b1
theorem call_W {as : List Value} {o1 : OU} {h1 : AH} {k' : Nat} (hk' : k' < 292) (hcall : Sm l s0 D dA xt hE d k' 0 (ent 0 as) [] h o1 h1) (hfit : wds as ≤ mxL k')
    (cx : Cx s0 k p s m meth c) (hR : Rp s0 D dA xt hE h H) (hl : lv_has ls (mxL k) (lM (adO s0 xt) L)) (hfr : Fr s0 s H cells) (hlo : ∀ q ∈ locs, s0.heap.size ≤ q.base) (hd : d + 1 ≤ R.frames) (hw : (d + 1) * 48 ≤ R.locals) (hcl : cells + (hC h1 - hC h) ≤ R.cells) (hsl : slots + (hS h1 - hS h) ≤ R.slots) (hS8 : wds S ≤ 8)
    {ig : Instr} (hdg : decode c.code pc = .ok (ig, 3)) {mk : MethodId} {methk : Method} {ck : Code} (hm : Mt k' s mk methk ck) {st : List Value}
    (hiv : Iv p l e R s m args below meth c H locs cells slots (F0 m pc ls st) (S.map (vM (adO s0 xt))) mk (as.map (vM (adO s0 xt))).toArray) {Q : State → Prop}
    (kk : ∀ (T' : State) (locs' : List Loc), Stand p l e R s m args below meth c T' locs' (cells + (hC h1 - hC h)) (slots + (hS h1 - hS h)) → Rp s0 D dA xt hE h1 T'.heap → Fr s0 s T'.heap (cells + (hC h1 - hC h)) → (∀ q ∈ locs', s0.heap.size ≤ q.base) →
      ∃ t, Steps p.tables e below (match o1 with
        | .inl v => T'.setTop (F0 m (pc + 3) ls ((v.map (vM (adO s0 xt))).toList ++ S.map (vM (adO s0 xt))))
        | .inr a => (T'.setTop (F0 m pc ls (S.map (vM (adO s0 xt))))).pushFrame (.throwing (adO s0 xt a))) t ∧ Q t) : W p l e R s m args below meth c H locs cells slots Q (F0 m pc ls st) := by
  obtain ⟨hn, a1, a2, a3, a4, a5, a6, a7, a8⟩ := hm
  have h0 := hR.1
  have hz := hR.2.1
  have hsum : ((S.map (vM (adO s0 xt))).map fun v => v.category).sum ≤ 8 := by
    have := wds_map (ad := adO s0 xt) S
    unfold wds at this hS8
    omega
  refine call_Wg (aC := (as.map (vM (adO s0 xt))).toArray) (Sr := S.map (vM (adO s0 xt))) (y := (mtA k').1) (yb := (mtA k').2.1) (yn := mxL k') (yr := (mtA k').2.2.1) (okN (Or.inl hk')).2.1 (okN (Or.inl hk')).2.2.2.2.1 hcall.1 (by rw [hl.1, cx.2.2.1]) cx.2.2.2.2.2.2.1 hR hfr hlo (by omega) (by omega) hcl hsl hsum hdg ⟨hn, a1, a2, a3, a4, a5, a6⟩ hiv ?_ kk
  intro sC hwC hHC ⟨b1, b2, b3, b4, b5, b6, b7⟩
  have hcx := cx_of (p := p) cx.1 hwC hk' ⟨b1, b2, b3, b4, b5, b6, b7, a7, a8.trans (by rw [show methk.sig = methk.sig from rfl])⟩
  have hle := lv_entry (as.map (vM (adO s0 xt))) (n := mxL k') (by rw [args_fit, wds_map]; exact hfit)
  rw [ent_args as 0] at hle
  have key := hcall.2 p e { frames := R.frames - 1, cells := R.cells - cells, slots := R.slots - slots, locals := R.locals - 48 } sC mk (as.map (vM (adO s0 xt))).toArray (.java (F0 m pc ls (S.map (vM (adO s0 xt)))) :: below) methk ck H [] 0 0 _ hcx hR hle
    ⟨by rw [hHC]; omega, fun q hq => by rw [hHC]; exact hR.2.2.1 q hq, by rw [hHC]; rfl⟩ (fun q hq => absurd hq List.not_mem_nil) (by show d ≤ R.frames - 1; omega) (by show d * 48 ≤ R.locals - 48; omega) (by show 0 + _ ≤ R.cells - cells; omega) (by show 0 + _ ≤ R.slots - slots; omega)
  rw [Nat.zero_add, Nat.zero_add] at key
  rw [lg_entry_eq]
  exact key
end

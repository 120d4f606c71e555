/-! the simulation, 9: new exceptions -/
set_option maxRecDepth 100000
theorem fcons {P : Cond → Prop} {a : Cond} {l : List Cond} (h : P a) (k : ∀ x ∈ l, P x) : ∀ x ∈ a :: l, P x := List.forall_mem_cons.mpr ⟨h, k⟩
theorem fapp {P : Cond → Prop} {a l : List Cond} (h : ∀ x ∈ a, P x) (k : ∀ x ∈ l, P x) : ∀ x ∈ a ++ l, P x := List.forall_mem_append.mpr ⟨h, k⟩
section
variable {args : Array Value} {s : State}
theorem exA (hts : ∀ w ∈ lw_all, w.before args s = true) (hs : ∀ n d, Cond.laysStatic "java/lang/Throwable" n d ∈ lw_tbl → (Cond.laysStatic "java/lang/Throwable" n d).before args s = true) (hd : ∀ x, Cond.declares x ∈ lw_tbl → (Cond.declares x).before args s = true) : ∀ a ∈ Bundle.throwableAtoms, a.before args s = true :=
  (fcons (hts _ q170) (fcons (hts _ q248) (fcons (hts _ q257) (fcons (hts _ q263) (fcons (hts _ q266) (fcons (hts _ q268) (fcons (hts _ q249) (fcons (hts _ q250) (fcons (hts _ q198) (fcons (hts _ q199) (fcons (hts _ q251) (fcons (hts _ q256) (fcons (hts _ q264) (fcons (hts _ q284) (fcons (hts _ q238) (fcons (hts _ q285) (fcons (hts _ q240) (fcons (hts _ q286) (fcons (hts _ q242) (fcons (hts _ q252) (fcons (hs _ _ q253) (fcons (hts _ q254) (fcons (hs _ _ q255) (fcons (hts _ q244) (fun _ h => absurd h List.not_mem_nil)))))))))))))))))))))))))
theorem exB (hts : ∀ w ∈ lw_all, w.before args s = true) (hs : ∀ n d, Cond.laysStatic "java/lang/Throwable" n d ∈ lw_tbl → (Cond.laysStatic "java/lang/Throwable" n d).before args s = true) (hd : ∀ x, Cond.declares x ∈ lw_tbl → (Cond.declares x).before args s = true) : ∀ a ∈ Bundle.throwableSAtoms, a.before args s = true :=
  (fcons (hts _ q280) (fcons (hts _ q281) (fcons (hts _ q283) (fcons (hts _ q244) (fun _ h => absurd h List.not_mem_nil)))))
theorem exC1 (hts : ∀ w ∈ lw_all, w.before args s = true) (hs : ∀ n d, Cond.laysStatic "java/lang/Throwable" n d ∈ lw_tbl → (Cond.laysStatic "java/lang/Throwable" n d).before args s = true) (hd : ∀ x, Cond.declares x ∈ lw_tbl → (Cond.declares x).before args s = true) : ∀ a ∈ Bundle.passSAtoms "java/lang/RuntimeException" "java/lang/Exception" 7 Bundle.six, a.before args s = true :=
  (fcons (hts _ q274) (fcons (hts _ q275) (fcons (hts _ q276) (fcons (hts _ q277) (fcons (hd _ q232) (fun _ h => absurd h List.not_mem_nil))))))
theorem exC2 (hts : ∀ w ∈ lw_all, w.before args s = true) (hs : ∀ n d, Cond.laysStatic "java/lang/Throwable" n d ∈ lw_tbl → (Cond.laysStatic "java/lang/Throwable" n d).before args s = true) (hd : ∀ x, Cond.declares x ∈ lw_tbl → (Cond.declares x).before args s = true) : ∀ a ∈ Bundle.passSAtoms "java/lang/Exception" "java/lang/Throwable" 7 Bundle.six, a.before args s = true :=
  (fcons (hts _ q277) (fcons (hts _ q278) (fcons (hts _ q279) (fcons (hts _ q280) (fcons (hd _ q234) (fun _ h => absurd h List.not_mem_nil))))))
theorem exO0 (hts : ∀ w ∈ lw_all, w.before args s = true) (hs : ∀ n d, Cond.laysStatic "java/lang/Throwable" n d ∈ lw_tbl → (Cond.laysStatic "java/lang/Throwable" n d).before args s = true) (hd : ∀ x, Cond.declares x ∈ lw_tbl → (Cond.declares x).before args s = true) (hc : ∀ a b, Cond.castable a b ∈ lw_tbl → (Cond.castable a b).before args s = true) (hr0 : (Cond.isRef (.static "java/lang/Throwable" "UNASSIGNED_STACK" "[Ljava/lang/StackTraceElement;")).before args s = true) (hr1 : (Cond.isRef (.static "java/lang/Throwable" "SUPPRESSED_SENTINEL" "Ljava/util/List;")).before args s = true) {own : String} {ic : Nat} (hl : (Cond.methodLink own ic ⟨(CI 0).1, "<init>", "(Ljava/lang/String;)V"⟩).before args s = true) : ∀ a ∈ Bundle.ownAtoms own ic (CI 0).1 ["java/lang/RuntimeException", "java/lang/Exception"], a.before args s = true :=
  fapp (fapp (fapp (exA hts hs hd) (exB hts hs hd)) (fapp (fcons (hts _ q271) (fcons (hts _ q272) (fcons (hts _ q273) (fcons (hts _ q274) (fcons (hd _ q230) (fun _ h => absurd h List.not_mem_nil)))))) (fapp (exC1 hts hs hd) (exC2 hts hs hd)))) (fcons hl (fcons (hts _ q227) (fcons (hc _ _ q228) (fcons (hts _ q235) (fcons (hts _ q236) (fcons (hts _ q237) (fcons (hts _ q239) (fcons (hts _ q241) (fcons (hts _ q243) (fcons hr0 (fcons hr1 (fcons (hts _ q247) (fcons (hts _ q246) (fcons (hts _ q245) (fun _ h => absurd h List.not_mem_nil)))))))))))))))
theorem exO11 (hts : ∀ w ∈ lw_all, w.before args s = true) (hs : ∀ n d, Cond.laysStatic "java/lang/Throwable" n d ∈ lw_tbl → (Cond.laysStatic "java/lang/Throwable" n d).before args s = true) (hd : ∀ x, Cond.declares x ∈ lw_tbl → (Cond.declares x).before args s = true) (hc : ∀ a b, Cond.castable a b ∈ lw_tbl → (Cond.castable a b).before args s = true) (hr0 : (Cond.isRef (.static "java/lang/Throwable" "UNASSIGNED_STACK" "[Ljava/lang/StackTraceElement;")).before args s = true) (hr1 : (Cond.isRef (.static "java/lang/Throwable" "SUPPRESSED_SENTINEL" "Ljava/util/List;")).before args s = true) {own : String} {ic : Nat} (hl : (Cond.methodLink own ic ⟨(CI 11).1, "<init>", "(Ljava/lang/String;)V"⟩).before args s = true) : ∀ a ∈ Bundle.ownAtoms own ic (CI 11).1 ["java/lang/RuntimeException", "java/lang/Exception"], a.before args s = true :=
  fapp (fapp (fapp (exA hts hs hd) (exB hts hs hd)) (fapp (fcons (hts _ q1313) (fcons (hts _ q1314) (fcons (hts _ q1315) (fcons (hts _ q274) (fcons (hd _ q230) (fun _ h => absurd h List.not_mem_nil)))))) (fapp (exC1 hts hs hd) (exC2 hts hs hd)))) (fcons hl (fcons (hts _ q1303) (fcons (hc _ _ q1304) (fcons (hts _ q1305) (fcons (hts _ q262) (fcons (hts _ q1306) (fcons (hts _ q1307) (fcons (hts _ q1308) (fcons (hts _ q1309) (fcons hr0 (fcons hr1 (fcons (hts _ q247) (fcons (hts _ q246) (fcons (hts _ q1310) (fun _ h => absurd h List.not_mem_nil)))))))))))))))
theorem exO12 (hts : ∀ w ∈ lw_all, w.before args s = true) (hs : ∀ n d, Cond.laysStatic "java/lang/Throwable" n d ∈ lw_tbl → (Cond.laysStatic "java/lang/Throwable" n d).before args s = true) (hd : ∀ x, Cond.declares x ∈ lw_tbl → (Cond.declares x).before args s = true) (hc : ∀ a b, Cond.castable a b ∈ lw_tbl → (Cond.castable a b).before args s = true) (hr0 : (Cond.isRef (.static "java/lang/Throwable" "UNASSIGNED_STACK" "[Ljava/lang/StackTraceElement;")).before args s = true) (hr1 : (Cond.isRef (.static "java/lang/Throwable" "SUPPRESSED_SENTINEL" "Ljava/util/List;")).before args s = true) {own : String} {ic : Nat} (hl : (Cond.methodLink own ic ⟨(CI 12).1, "<init>", "(Ljava/lang/String;)V"⟩).before args s = true) : ∀ a ∈ Bundle.ownAtoms own ic (CI 12).1 ["java/lang/RuntimeException", "java/lang/Exception"], a.before args s = true :=
  fapp (fapp (fapp (exA hts hs hd) (exB hts hs hd)) (fapp (fcons (hts _ q1340) (fcons (hts _ q1341) (fcons (hts _ q1342) (fcons (hts _ q274) (fcons (hd _ q230) (fun _ h => absurd h List.not_mem_nil)))))) (fapp (exC1 hts hs hd) (exC2 hts hs hd)))) (fcons hl (fcons (hts _ q1330) (fcons (hc _ _ q1331) (fcons (hts _ q1332) (fcons (hts _ q260) (fcons (hts _ q1333) (fcons (hts _ q1334) (fcons (hts _ q1335) (fcons (hts _ q1336) (fcons hr0 (fcons hr1 (fcons (hts _ q247) (fcons (hts _ q246) (fcons (hts _ q1337) (fun _ h => absurd h List.not_mem_nil)))))))))))))))
theorem exO13 (hts : ∀ w ∈ lw_all, w.before args s = true) (hs : ∀ n d, Cond.laysStatic "java/lang/Throwable" n d ∈ lw_tbl → (Cond.laysStatic "java/lang/Throwable" n d).before args s = true) (hd : ∀ x, Cond.declares x ∈ lw_tbl → (Cond.declares x).before args s = true) (hc : ∀ a b, Cond.castable a b ∈ lw_tbl → (Cond.castable a b).before args s = true) (hr0 : (Cond.isRef (.static "java/lang/Throwable" "UNASSIGNED_STACK" "[Ljava/lang/StackTraceElement;")).before args s = true) (hr1 : (Cond.isRef (.static "java/lang/Throwable" "SUPPRESSED_SENTINEL" "Ljava/util/List;")).before args s = true) {own : String} {ic : Nat} (hl : (Cond.methodLink own ic ⟨(CI 13).1, "<init>", "(Ljava/lang/String;)V"⟩).before args s = true) : ∀ a ∈ Bundle.ownAtoms own ic (CI 13).1 ["java/lang/RuntimeException", "java/lang/Exception"], a.before args s = true :=
  fapp (fapp (fapp (exA hts hs hd) (exB hts hs hd)) (fapp (fcons (hts _ q1382) (fcons (hts _ q1383) (fcons (hts _ q1384) (fcons (hts _ q274) (fcons (hd _ q230) (fun _ h => absurd h List.not_mem_nil)))))) (fapp (exC1 hts hs hd) (exC2 hts hs hd)))) (fcons hl (fcons (hts _ q1410) (fcons (hc _ _ q1411) (fcons (hts _ q1412) (fcons (hts _ q261) (fcons (hts _ q1413) (fcons (hts _ q1414) (fcons (hts _ q1415) (fcons (hts _ q1416) (fcons hr0 (fcons hr1 (fcons (hts _ q247) (fcons (hts _ q246) (fcons (hts _ q1417) (fun _ h => absurd h List.not_mem_nil)))))))))))))))
end
/-- what else stands at the law's start: no traces; the classes of exceptions; Throwable's statics; the String constants -/
def Wx (l : Launch) (s0 : State) (xt : Nat → Nat) (args0 : Array Value) : Prop := l.stackTraces = false ∧ Ng s0 ∧ (Cond.isRef (.static "java/lang/Throwable" "UNASSIGNED_STACK" "[Ljava/lang/StackTraceElement;")).before args0 s0 = true ∧ (Cond.isRef (.static "java/lang/Throwable" "SUPPRESSED_SENTINEL" "Ljava/util/List;")).before args0 s0 = true ∧ ∀ a, 2 ≤ a → a < K0 → vk_R (stT a).1 (stT a).2.1 (stT a).2.2 (xt a) s0
section
variable {s0 s : State} {args0 args : Array Value}
theorem ls_moved {C n d : String} (h : (Cond.laysStatic C n d).before args0 s0 = true) (hw : s0.WarmedH s.vm) (hh : ∀ q, q < s0.heap.size → s.heap[q]? = s0.heap[q]?) : (Cond.laysStatic C n d).before args s = true := by
  have h1 := Cond.laysStatic_setVm hw.alike h
  have e2 : (s0.setVm s.vm).fieldFound? C n d = s.fieldFound? C n d := rfl
  have e3 : (s0.setVm s.vm).vm = s.vm := rfl
  have e4 : (s0.setVm s.vm).heap = s0.heap := rfl
  simp only [Cond.before, Cond.holds, Cond.value, e2, e3, e4] at h1 ⊢
  cases hf : s.vm.findClass C with
  | none => simp [hf] at h1
  | some c =>
    cases hg : s.fieldFound? C n d with
    | none => simp [hf, hg] at h1
    | some x =>
      obtain ⟨c', k, i, f⟩ := x
      cases hst : k.statics with
      | none => simp [hf, hg, hst] at h1
      | some a =>
        cases hc : s0.heap[a]? with
        | none => simp [hf, hg, hst, hc] at h1
        | some cell =>
          have hlt : a < s0.heap.size := (Array.getElem?_eq_some_iff.mp hc).1
          have hc2 : s.heap[a]? = some cell := (hh a hlt).trans hc
          simp only [hf, hg, hst, hc, hc2, Option.bind_some] at h1 ⊢
          exact h1
theorem zq_ref {C n d : String} {A : Nat → Prop} (h : va_Zq C n d A s s.heap) : (Cond.isRef (.static C n d)).before args s = true := by
  rcases h with h | ⟨t, h⟩
  · obtain ⟨cf, kf, fi, f, a, cell, h1, h2, h3, h4, h5, h6, h7, h8⟩ := h
    simp [Cond.before, Cond.holds, Cond.value, Term.eval, State.fieldNamed?, h1, h2, h4, h5, h6, h7]
  · obtain ⟨cf, kf, fi, f, a, cell, h1, h2, h3, h4, h5, h6, h7, h8⟩ := h
    simp [Cond.before, Cond.holds, Cond.value, Term.eval, State.fieldNamed?, h1, h2, h4, h5, h6, h7]
end
section
variable {l : Launch} {s0 : State} {D : va_G} {dA : Nat → ClassId} {xt : Nat → Nat} {hE : AH} {args0 : Array Value} {d k pc : Nat} {L : LO} {S : List Value} {h h' : AH} {o : OU}
variable {p : Program} {e : Env} {R : Room} {s : State} {m : MethodId} {args : Array Value} {below : List Frame} {meth : Method} {c : Code} {H : Heap} {locs : List Loc} {cells slots : Nat} {ls : Array Slot}
theorem zq_at (wd : Wd s0 D dA xt hE args0) (hw : s0.WarmedH s.vm) (hss : ∀ q, q < s0.heap.size → s.heap[q]? = s0.heap[q]?) {n dd : String} (hl : Cond.laysStatic "java/lang/Throwable" n dd ∈ lw_tbl) (hr : (Cond.isRef (.static "java/lang/Throwable" n dd)).before args0 s0 = true) : va_Zq "java/lang/Throwable" n dd (fun q => s0.heap.size ≤ q) s s.heap := by
  have h1 : va_Zq "java/lang/Throwable" n dd (fun q => s0.heap.size ≤ q) s0 s0.heap := va_Zqof (wd.1 _ hl) (wd.1 _ (lw_all_tbl q170)) hr (fun a ha => Nat.not_le.mpr ha)
  rcases h1 with h1 | ⟨t, h1⟩
  · exact Or.inl ((va_Z.moved hw.alike h1).kept (fun q hq _ => hss q hq))
  · exact Or.inr ⟨t, (va_Z.moved hw.alike h1).kept (fun q hq _ => hss q hq)⟩
theorem own_at (wd : Wd s0 D dA xt hE args0) (wx : Wx l s0 xt args0) (hw : s0.WarmedH s.vm) (hss : ∀ q, q < s0.heap.size → s.heap[q]? = s0.heap[q]?) {t ic : Nat} {own : String} (ht : ex4 t) (hl : Cond.methodLink own ic ⟨(CI t).1, "<init>", "(Ljava/lang/String;)V"⟩ ∈ lw_all) : ∀ a ∈ Bundle.ownAtoms own ic (CI t).1 ["java/lang/RuntimeException", "java/lang/Exception"], a.before args s = true := by
  have hts := wd_ts (args := args) wd hw
  have hs : ∀ n d, Cond.laysStatic "java/lang/Throwable" n d ∈ lw_tbl → (Cond.laysStatic "java/lang/Throwable" n d).before args s = true := fun n d hm => ls_moved (wd.1 _ hm) hw hss
  have hd : ∀ x, Cond.declares x ∈ lw_tbl → (Cond.declares x).before args s = true := fun x hm => va_Nw.use rfl (va_Nw.warmD hw (va_Nw.of rfl (wd.1 _ hm)))
  have hc : ∀ a b, Cond.castable a b ∈ lw_tbl → (Cond.castable a b).before args s = true := fun a b hm => va_Nw.use rfl (va_Nw.warmC hw (va_Nw.of rfl (wd.1 _ hm)))
  have hr0 := zq_ref (args := args) (zq_at wd hw hss q253 wx.2.2.1)
  have hr1 := zq_ref (args := args) (zq_at wd hw hss q255 wx.2.2.2.1)
  rcases ht with rfl | rfl | rfl | rfl
  · exact exO0 hts hs hd hc hr0 hr1 (hts _ hl)
  · exact exO11 hts hs hd hc hr0 hr1 (hts _ hl)
  · exact exO12 hts hs hd hc hr0 hr1 (hts _ hl)
  · exact exO13 hts hs hd hc hr0 hr1 (hts _ hl)
set_option maxHeartbeats 2000000 in
theorem exc_W (wd : Wd s0 D dA xt hE args0) (wx : Wx l s0 xt args0) (cx : Cx s0 k p s m meth c) (hsz : s0.heap.size ≤ s.heap.size) (hss : ∀ q, q < s0.heap.size → s.heap[q]? = s0.heap[q]?) {t n3 : Nat} (ht : ex4 t) (hl : Cond.methodLink (oS (oN k)) n3 ⟨(CI t).1, "<init>", "(Ljava/lang/String;)V"⟩ ∈ lw_all)
    {cX : ClassId} {kX : Class} (hfX : s.vm.findClass (CI t).1 = some cX) (hkX : s.vm.classes[cX]? = some kX) {H1 : Heap} {a msg : Nat} (hcell : H1[a]? = some (blank cX kX)) (hnew : s.heap.size ≤ a) (hlo : ∀ q ∈ locs, s0.heap.size ≤ q.base) {rest : List Value} (hrest : (rest.map fun v => v.category).sum ≤ 8) (hRf : 6 ≤ R.frames) (hRl : 288 ≤ R.locals) (hls : ls.size = c.maxLocals)
    (hdg : decode (mtA k).2.1 pc = .ok (.invokespecial n3, 3)) {Q : State → Prop}
    (kk : ∀ (H2 : Heap) (locs2 : List Loc), (∃ cell : Cell, H2[a]? = some cell ∧ cell.cls = cX ∧ cell.vm = .none) → H2.size = H1.size → (∀ q : Nat, q ≠ a → H2[q]? = H1[q]?) → (∀ q ∈ locs2, s0.heap.size ≤ q.base) → W p l e R s m args below meth c H2 locs2 cells slots Q (F0 m (pc + 3) ls (.ref a :: rest))) :
    W p l e R s m args below meth c H1 locs cells slots Q (F0 m pc ls (.ref msg :: .ref a :: .ref a :: rest)) := by
  intro W₀ hT X
  have hatoms := own_at (args := args) wd wx cx.2.2.2.2.2.2.1 hss ht hl
  have htr : e.platform.stackTraces = false := by rw [X.admits.platform]; exact wx.1
  have howns : e.platform.frameOwnsMonitors = true := by rw [X.admits.platform]
  have hfin : e.platform.finalization = false := by rw [X.admits.platform]
  have hpl : e.platform.magicAccessors = ({} : Platform).magicAccessors := by rw [X.admits.platform]
  have hfits : Bundle.fit (CI t).1 = true ∧ ∀ n ∈ ["java/lang/RuntimeException", "java/lang/Exception"], Bundle.fit n = true := by
    rcases ht with rfl | rfl | rfl | rfl <;> exact ⟨by decide +kernel, by decide +kernel⟩
  have a' : ∀ x, x ∈ Bundle.ownAtoms (oS (oN k)) n3 (CI t).1 ["java/lang/RuntimeException", "java/lang/Exception"] → x.holds args s none s [] = true := fun x hx => hatoms x hx
  obtain ⟨T, Z0, LL, -, Y⟩ := ThrowableC.of_atoms (args := args) howns hfin hpl (fun x hx => hatoms x (by simp [Bundle.ownAtoms, hx]))
  obtain ⟨Z, M, LZ, LM, hnZ⟩ := Init0T.ofS_atoms (args := args) hpl LL Y (fun x hx => hatoms x (by simp [Bundle.ownAtoms, hx]))
  obtain ⟨P1, Ps, hlen, L1, hL, hP1m, hlink1, hlink⟩   := Bundle.chainS (args := args) hpl hnZ ["java/lang/RuntimeException", "java/lang/Exception"] (CI t).1 hfits.1 hfits.2 (fun x hx => hatoms x (by simp only [Bundle.ownAtoms, List.mem_append]; exact Or.inl (Or.inr hx)))
  have hfound : s.vm.findClass (CI t).1 = some P1.m.cls := findClass_of_methodNamed hP1m
  cases Option.some.inj (hfX.symm.trans hfound)
  obtain ⟨c1, kX', hc1, hk, hord, -, -, hn6⟩ := Cond.instantiable_spec (a' (.instantiable (CI t).1 6) (by simp [Bundle.ownAtoms]))
  cases Option.some.inj (hc1.symm.trans hfound)
  cases Option.some.inj (hkX.symm.trans hk)
  have hsel0 : selectMethod e.platform s.vm P1.m.cls T.fill0 = .method T.fill0 := by
    obtain ⟨c2, r2, m2, q1, q2, q3, q4, -⟩ := Cond.selects_spec (a' (.selects (CI t).1 Bundle.tFill0 Bundle.tFill0) (by simp [Bundle.ownAtoms]))
    cases Option.some.inj (q1.symm.trans hfound)
    cases Option.some.inj (q2.symm.trans (State.methodFound?_of_named Y.fill0 (by decide)))
    cases Option.some.inj (q3.symm.trans Y.fill0)
    rw [Launch.admits_selectMethod X.admits]; exact q4
  have hselF : selectMethod e.platform s.vm P1.m.cls T.fill = .method T.fill := by
    obtain ⟨c2, r2, m2, q1, q2, q3, q4, -⟩ := Cond.selects_spec (a' (.selects (CI t).1 Bundle.tFill Bundle.tFill) (by simp [Bundle.ownAtoms]))
    cases Option.some.inj (q1.symm.trans hfound)
    cases Option.some.inj (q2.symm.trans (State.methodFound?_of_named Y.fill (by decide)))
    cases Option.some.inj (q3.symm.trans Y.fill)
    rw [Launch.admits_selectMethod X.admits]; exact q4
  obtain ⟨cellS0, hcS0, hiss⟩ := Y.statics
  obtain ⟨u0, hu0⟩ := Cond.staticRefV Y.unassigned LL.unassignedStatic LL.statics hcS0 hiss (a' (.isRef (.static Bundle.tN "UNASSIGNED_STACK" Bundle.steD)) (by simp [Bundle.ownAtoms]))
  obtain ⟨sen, hsen⟩ := Cond.staticRefV Y.sentinel LL.sentinelStatic LL.statics hcS0 hiss (a' (.isRef (.static Bundle.tN "SUPPRESSED_SENTINEL" Bundle.listD)) (by simp [Bundle.ownAtoms]))
  obtain ⟨ci198, i198, fB, hk198, hg198, ha198, hsB, -, hnB, htB, hffB⟩ := Cond.ownField (t := .object "java/lang/Object") Y.found LL.cls (by decide +kernel) (a' (.fieldLink Bundle.tN 198 Bundle.tN "backtrace" "Ljava/lang/Object;") (by simp [Bundle.ownAtoms])) (a' (.lays Bundle.tN Bundle.tN "backtrace" "Ljava/lang/Object;") (by simp [Bundle.ownAtoms])) e.platform hpl
  obtain ⟨cellS, hcS', heS, -, hkeep⟩ := X.same.2.2.2.2.2 T.aS cellS0 hcS0
  have hcellS : W₀.heap[T.aS]? = some cellS := hcS'
  have haS : T.aS < s0.heap.size := by
    have hz := zq_at wd cx.2.2.2.2.2.2.1 hss q253 wx.2.2.1
    have key : ∀ v, va_Z "java/lang/Throwable" "UNASSIGNED_STACK" "[Ljava/lang/StackTraceElement;" v (fun q => s0.heap.size ≤ q) s s.heap → T.aS < s0.heap.size := by
      intro v ⟨cf, kf, fi, f, b, cel, h1, h2, h3, h4, h5, h6, h7, h8⟩
      have e1 := Option.some.inj (h1.symm.trans Y.unassigned)
      simp only [Prod.mk.injEq] at e1
      rw [e1.2.1] at h4
      have e2 := Option.some.inj (h4.symm.trans LL.statics)
      rw [← e2]
      exact Nat.not_le.mp h8
    rcases hz with hz | ⟨t, hz⟩
    · exact key _ hz
    · exact key _ hz
  have hout' : ∀ i, (⟨T.aS, i⟩ : Loc) ∉ locs := fun i hmem => absurd (hlo _ hmem) (Nat.not_le.mpr haS)
  have hknownS : cellS.vm ≠ .unknown := by
    rw [heS]; intro hu
    rw [show cellS0.vm = .unknown from hu] at hiss
    cases hiss
  have hneS : T.aS ≠ a := Nat.ne_of_lt (Nat.lt_of_lt_of_le haS (Nat.le_trans hsz hnew))
  obtain ⟨iM, hffM⟩ := Y.msg
  obtain ⟨tyC, dC, hdC, hdnC⟩ := Cond.laysAt hfound hk Y.cause (a' (.lays (CI t).1 Bundle.tN "cause" "Ljava/lang/Throwable;") (by simp [Bundle.ownAtoms]))
  obtain ⟨tyS, dS, hdS, hdnS⟩ := Cond.laysAt hfound hk Y.stack (a' (.lays (CI t).1 Bundle.tN "stackTrace" Bundle.steD) (by simp [Bundle.ownAtoms]))
  obtain ⟨tyP, dP, hdP, hdnP⟩ := Cond.laysAt hfound hk Y.supp (a' (.lays (CI t).1 Bundle.tN "suppressedExceptions" Bundle.listD) (by simp [Bundle.ownAtoms]))
  obtain ⟨tyM, dM, hdM, hdnM⟩ := Cond.laysAt hfound hk hffM (a' (.lays (CI t).1 Bundle.tN "detailMessage" "Ljava/lang/String;") (by simp [Bundle.ownAtoms]))
  obtain ⟨tyB, dB, hdB, hdnB⟩ := Cond.laysAt hfound hk hffB (a' (.lays (CI t).1 Bundle.tN "backtrace" "Ljava/lang/Object;") (by simp [Bundle.ownAtoms]))
  have bC := Cond.laysApart hdB hdC hdnB hdnC (by rw [hnB, Y.causeName]; decide)
  have bS := Cond.laysApart hdB hdS hdnB hdnS (by rw [hnB, Y.stackName]; decide)
  have bP := Cond.laysApart hdB hdP hdnB hdnP (by rw [hnB, Y.suppName]; decide)
  have hskip : SkipFacts T e.platform s (fun u => u) u0 ((preparedCellV T.toThrowableT (freshCell P1.m.cls kX) a u0 sen).withEntry W₀.cur) :=
    ⟨{ ci198 := ci198, i198 := i198, fBack := fB }, ⟨hk198, hg198, ha198, hsB⟩, by
      have := fresh_default (c := P1.m.cls) tyB
      rw [htB] at this
      simpa [preparedCellV, Cell.setSlot, Cell.withEntry, Array.getElem?_setIfInBounds, bC, bS, bP, bC.symm, bS.symm, bP.symm, defaultValue] using this, fun _ _ => rfl⟩
  have hd6 : decode c.code (F0 m pc ls (.ref msg :: .ref a :: .ref a :: rest)).pc = .ok (.invokespecial n3, 3) := by rw [cx.2.1]; exact hdg
  obtain ⟨tm, methC, cdC, kC, vm₁, hnC, -, -, -, -, -, -, -, hW₁, st1⟩ := Steps.initColdS (tb := p.tables) (e := e) (below := below) (s := s) (U := W₀) X.here cx.1 X.warmed hpl cx.2.2.2.2.2.1 (t := Bundle.initS (CI t).1) rfl rfl (Bundle.fit_spec hfits.1).2
    (a' (.methodLink (oS (oN k)) n3 (Bundle.initS (CI t).1)) (by simp [Bundle.ownAtoms])) (hatoms (.instanceMethod (Bundle.initS (CI t).1)) (by simp [Bundle.ownAtoms, Bundle.chainSAtoms, Bundle.passSAtoms])) (bytes := Bundle.six) (maxL := 2) (hatoms (.code (Bundle.initS (CI t).1) Bundle.six 2 none) (by simp [Bundle.ownAtoms, Bundle.chainSAtoms, Bundle.passSAtoms]))
    (f := F0 m pc ls (.ref msg :: .ref a :: .ref a :: rest)) rfl (a := a) (msg := .ref msg) (rest := .ref a :: rest) rfl hd6
  cases Option.some.inj (hnC.symm.trans hP1m)
  have X₁ := X.noted hW₁
  have hcellW : W₀.heap[a]? = some (freshCell P1.m.cls kX) := by rw [hT]; exact hcell
  obtain ⟨vm₂, X₂, st2⟩ := X₁.ctorMessageOffV cx.1 (g := F0 m pc ls (.ref a :: rest)) rfl hls T LL Z LZ M LM (P1 :: Ps)
    (fun P hP => by rcases List.mem_cons.mp hP with rfl | hP; exact L1; exact hL P hP) ⟨hlink1, hlink⟩ (u0 := u0) (sen := sen) (self := a) (msg := .ref msg) rfl (cell := freshCell P1.m.cls kX) (cellS := cellS)
    hcellW (fun _ => by simp) (by simp) rfl rfl hsel0 hselF hcellS hneS hknownS (by rw [hkeep _ (hout' _)]; exact hu0) (by rw [hkeep _ (hout' _)]; exact hsen)
    (Takes.of_laid hk hord tyC (by rw [Y.causeType]; rfl)) (Takes.of_laid hk hord tyS (by rw [Y.stackType]; exact fits_refV_array _ u0)) (Takes.of_laid hk hord tyP (by rw [Y.suppType]; exact fits_refV_object _ sen))
    (Takes.of_laid hk hord tyM (by rw [Y.msgType]; exact fits_refV_object _ ⟨.ref msg, rfl⟩)) Y.objLocals hskip htr [] hd6
    (by simp only [List.length_cons, hlen]; show 2 + 1 + 2 < R.frames; omega) (by
      simp only [List.length_cons, hlen]
      show 2 * 0 + (1 + (rest.map fun v => v.category).sum) + (13 * (2 + 1) + 42) ≤ R.locals
      omega)
  have hlt : a < ((W₀.setVm vm₁).setVm vm₂).heap.size := (Array.getElem?_eq_some_iff.mp hcellW).1
  obtain ⟨tt, b1, b2⟩ := kk _ _ ⟨_, heapAt_setCell_self (s := (W₀.setVm vm₁).setVm vm₂) (plainBareV T.toThrowableT (freshCell P1.m.cls kX) a u0 sen (.ref msg)) hlt, rfl, rfl⟩ (by rw [← hT]; simp [State.setCell]) (fun q hq => by rw [← hT]; exact heapAt_setCell_ne (s := (W₀.setVm vm₁).setVm vm₂) _ (fun z => hq z.symm)) (by
      intro q hq
      rcases List.mem_append.mp hq with z | z
      · exact hlo q z
      · simp only [List.mem_cons, List.not_mem_nil, or_false] at z
        have hb : q.base = a := by rcases z with rfl | rfl | rfl | rfl | rfl <;> rfl
        rw [hb]; omega) _ rfl X₂
  refine ⟨tt, st1 _ (fun acts => ?_), b2⟩
  rw [doInvoke_state]
  exact st2 _ b1
end

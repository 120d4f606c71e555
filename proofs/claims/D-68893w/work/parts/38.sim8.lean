/-! the simulation, 8: what is thrown, handlers -/
set_option maxRecDepth 100000
def FindT (e : Env) (s : State) (f : JFrame) (a : Addr) (h : Handler) (vm' : Vm) : Prop := ∀ (Q : Handler → Pre) (E : CtlPost) (d : Bool) (acts : List Action), wp (findHandler f a) Q E e d acts s ↔ Q h d acts (s.setVm vm')
section
variable {Q : Handler → Pre} {E : CtlPost} {e : Env} {dd : Bool} {acts : List Action} {T : State} {f : JFrame} {aa : Addr}
theorem fh_yes {x : ExceptionTableEntry} {t : List ExceptionTableEntry} {c : ClassId} {cell : Cell} (hx : covers x f.pc = true) (h0 : x.catchType ≠ 0) (hl : T.vm.ClassLinks e.platform f.method.cls x.catchType c) (hcell : T.heap[aa]? = some cell) (hobj : ∀ k, cell.vm ≠ .statics k) (hk : ∃ k, T.vm.classes[cell.cls]? = some k) (hc : ∃ k, T.vm.classes[c]? = some k) (hfit : T.vm.assignable cell.cls c = true) :
    wp (findHandler.go f aa (x :: t)) Q E e dd acts T ↔ Q (.found x.handlerPc) dd acts (T.setVm (T.vm.noted f.method.cls x.catchType (.cls c))) := by
  simp only [covers] at hx
  obtain ⟨ha, ht⟩ := (resolveClass_links e.toSetting hl).op (op := VmOp.resolveClass f.method.cls x.catchType) rfl
  have hal : T.vm.Alike (T.vm.noted f.method.cls x.catchType (.cls c)) := (Vm.Alike.refl T.vm).noted _ _ _
  obtain ⟨k1, hk1⟩ := hk
  obtain ⟨k2, hk2⟩ := hc
  obtain ⟨k1', hk1', -⟩ := hal.2.2 _ _ hk1
  obtain ⟨k2', hk2', -⟩ := hal.2.2 _ _ hk2
  have hfit' : (T.vm.noted f.method.cls x.catchType (.cls c)).assignable cell.cls c = true := by rw [hal.assignable]; exact hfit
  simp [findHandler.go, hx, h0, ha, ht, hcell, hobj, hk1', hk2', hfit', VmOp.dirties, VmOp.acts]
theorem fh_no {x : ExceptionTableEntry} {t : List ExceptionTableEntry} {c : ClassId} {cell : Cell} (hx : covers x f.pc = true) (h0 : x.catchType ≠ 0) (hl : T.vm.ClassLinks e.platform f.method.cls x.catchType c) (hcell : T.heap[aa]? = some cell) (hobj : ∀ k, cell.vm ≠ .statics k) (hk : ∃ k, T.vm.classes[cell.cls]? = some k) (hc : ∃ k, T.vm.classes[c]? = some k) (hfit : T.vm.assignable cell.cls c = false) :
    wp (findHandler.go f aa (x :: t)) Q E e dd acts T ↔ wp (findHandler.go f aa t) Q E e dd acts (T.setVm (T.vm.noted f.method.cls x.catchType (.cls c))) := by
  simp only [covers] at hx
  obtain ⟨ha, ht⟩ := (resolveClass_links e.toSetting hl).op (op := VmOp.resolveClass f.method.cls x.catchType) rfl
  have hal : T.vm.Alike (T.vm.noted f.method.cls x.catchType (.cls c)) := (Vm.Alike.refl T.vm).noted _ _ _
  obtain ⟨k1, hk1⟩ := hk
  obtain ⟨k2, hk2⟩ := hc
  obtain ⟨k1', hk1', -⟩ := hal.2.2 _ _ hk1
  obtain ⟨k2', hk2', -⟩ := hal.2.2 _ _ hk2
  have hfit' : (T.vm.noted f.method.cls x.catchType (.cls c)).assignable cell.cls c = false := by rw [hal.assignable]; exact hfit
  simp [findHandler.go, hx, h0, ha, ht, hcell, hobj, hk1', hk2', hfit', VmOp.dirties, VmOp.acts]
end
def ex4 (t : Nat) : Prop := t = 0 ∨ t = 11 ∨ t = 12 ∨ t = 13
/-- no class of what is thrown is another one's -/
def Ng (s0 : State) : Prop := ∀ a b, ex4 a → ex4 b → a ≠ b → ∀ ca cb, s0.vm.findClass (CI a).1 = some ca → s0.vm.findClass (CI b).1 = some cb → s0.vm.assignable ca cb = false
theorem Ng.moved {s0 s : State} (h : Ng s0) (hw : s0.WarmedH s.vm) : Ng s := by
  intro a b ha hb hab ca cb h1 h2
  rw [hw.alike.findClass] at h1 h2
  rw [hw.alike.assignable]
  exact h a b ha hb hab ca cb h1 h2
section
variable {e : Env} {s : State} {args : Array Value} {f : JFrame} {aa : Addr}
theorem hn_go {w t p' : Nat} (hts : ∀ w ∈ lw_all, w.before args s = true) (hpl : e.platform.magicAccessors = ({} : Platform).magicAccessors) (hown : s.vm.findClass (oS w) = some f.method.cls) {cell : Cell} (hcls : s.vm.findClass (CI t).1 = some cell.cls) (hobj : ∀ k, cell.vm ≠ .statics k) (hng : Ng s) :
    ∀ (es : List ExceptionTableEntry) (hs : List (Nat × Nat × Nat × Nat)), hRel w (es.map (fun h => (h.startPc, h.endPc, h.handlerPc, h.catchType))) hs = true → hnd hs f.pc t = some p' → ex4 t → ∀ T : State, s.WarmedH T.vm → T.heap[aa]? = some cell →
      ∃ vm', s.WarmedH vm' ∧ ∀ (Q : Handler → Pre) (E : CtlPost) (dd : Bool) (acts : List Action), wp (findHandler.go f aa es) Q E e dd acts T ↔ Q (.found p') dd acts (T.setVm vm') := by
  intro es
  induction es with
  | nil =>
    intro hs hrel hh
    cases hs with
    | nil => cases hh
    | cons q qs => cases hrel
  | cons x xs ih =>
    intro hs hrel hh ht4 T hW hcell
    cases hs with
    | nil => cases hrel
    | cons q qs =>
      have hrel' : (Nat.beq x.startPc q.1 && (Nat.beq x.endPc q.2.1 && (Nat.beq x.handlerPc q.2.2.1 && (decide ((w, x.catchType, q.2.2.2) ∈ clkL) && hRel w (xs.map (fun h => (h.startPc, h.endPc, h.handlerPc, h.catchType))) qs)))) = true := hrel
      simp only [Bool.and_eq_true, decide_eq_true_eq] at hrel'
      obtain ⟨r1, r2, r3, r4, r5⟩ := hrel'
      have r1 := Nat.eq_of_beq_eq_true r1
      have r2 := Nat.eq_of_beq_eq_true r2
      have r3 := Nat.eq_of_beq_eq_true r3
      obtain ⟨hlk, h0, h4⟩ := clk_ok _ r4
      obtain ⟨cC, hcC, hCL⟩ := Cond.classLink_spec hown (hts _ hlk) e.platform hpl
      obtain ⟨dk, _, _, kt, hd, _, _, _, _, hkt, _, hopen⟩ := hCL.here
      obtain ⟨kt', hkt', -⟩ := hW.alike.2.2 _ _ hkt
      obtain ⟨kc, hkc⟩ := Vm.classAt_of_findClass hcls
      obtain ⟨kc', hkc', -⟩ := hW.alike.2.2 _ _ hkc
      have hW1 : s.WarmedH (T.vm.noted f.method.cls x.catchType (.cls cC)) := hW.noted hd hopen (State.rightAt_cls hCL)
      have hh' : (if q.1 ≤ f.pc ∧ f.pc < q.2.1 ∧ q.2.2.2 = t then some q.2.2.1 else hnd qs f.pc t) = some p' := hh
      by_cases hcov : covers x f.pc = true
      · have hcov' : q.1 ≤ f.pc ∧ f.pc < q.2.1 := by
          simp only [covers, Bool.and_eq_true, decide_eq_true_eq] at hcov
          omega
        by_cases hqt : q.2.2.2 = t
        · rw [if_pos ⟨hcov'.1, hcov'.2, hqt⟩] at hh'
          have hp : x.handlerPc = p' := r3.trans (Option.some.inj hh')
          subst hqt
          cases hcls.symm.trans hcC
          refine ⟨_, hW1, fun Q E dd acts => ?_⟩
          rw [fh_yes hcov h0 (hW.classLinks hCL) hcell hobj ⟨kc', hkc'⟩ ⟨kt', hkt'⟩ (Vm.assignable_self _ _), hp]
        · rw [if_neg (fun z => hqt z.2.2)] at hh'
          obtain ⟨vm', a1, a2⟩ := ih qs r5 hh' ht4 (T.setVm (T.vm.noted f.method.cls x.catchType (.cls cC))) hW1 hcell
          refine ⟨vm', a1, fun Q E dd acts => ?_⟩
          rw [fh_no hcov h0 (hW.classLinks hCL) hcell hobj ⟨kc', hkc'⟩ ⟨kt', hkt'⟩ (by rw [hW.alike.assignable]; exact hng _ _ ht4 h4 (fun z => hqt z.symm) _ _ hcls hcC)]
          exact a2 Q E dd acts
      · have hncov : ¬ (q.1 ≤ f.pc ∧ f.pc < q.2.1 ∧ q.2.2.2 = t) := by
          intro z
          refine hcov ?_
          simp only [covers, Bool.and_eq_true, decide_eq_true_eq]
          omega
        rw [if_neg hncov] at hh'
        obtain ⟨vm', a1, a2⟩ := ih qs r5 hh' ht4 T hW hcell
        refine ⟨vm', a1, fun Q E dd acts => ?_⟩
        rw [Jvm.W.findHandler_go_skip (by simpa using hcov)]
        exact a2 Q E dd acts
theorem stx_catch {s : State} {a : Addr} {f : JFrame} {r : List Frame} {pc : Nat} {vm' : Vm} (hfind : FindT e s f a (.found pc) vm') :
    (stepThrowing e s a (.java f :: r)).Is ((s.setVm vm').setFrames (.java { f with pc := pc, stack := [.ref a] } :: r)) [] := by
  simp only [stepThrowing, searchFrame, vmDo]
  generalize hr : Sem.go _ e false [] s = res
  obtain ⟨as, rfl, ha⟩ := Sem.eq_ok_of hr (a := Handler.found pc) (s' := s.setVm vm') (acts' := []) (by simp [hfind _ _ _ _])
  exact ⟨rfl, ha⟩
theorem sf_sv_sf (u : State) (vm' : Vm) (F G : List Frame) : ((u.setFrames F).setVm vm').setFrames G = (u.setVm vm').setFrames G := by
  have h1 : (u.setFrames F).setVm vm' = (u.setVm vm').setFrames F := rfl
  rw [h1, State.setFrames_setFrames]
theorem steps_catch {tb : Tables} {s target : State} {g : JFrame} {c : Code} {below : List Frame} {a : Addr} (h : At s g.method c below) {pc : Nat} {vm' : Vm}
    (hfind : FindT e ((s.setTop g).pushFrame (.throwing a)) g a (.found pc) vm') (hrest : Steps tb e below ((s.setVm vm').setTop { g with pc := pc, stack := [.ref a] }) target) :
    Steps tb e below ((s.setTop g).pushFrame (.throwing a)) target := by
  obtain ⟨hgo, hw⟩ := h.throwing a
  refine Steps.head hgo hw ?_
  rw [stepThread_throwing (frames_entered h.top _), (stx_catch (s := (s.setTop g).pushFrame (.throwing a)) hfind).1]
  obtain ⟨g₀, hg⟩ := Option.isSome_iff_exists.mp h.top
  obtain ⟨r, hr⟩ := State.topJava?_eq_some.mp hg
  have hr' : (s.setVm vm').frames = .java g₀ :: r := hr
  rw [State.setTop_of_frames _ hr'] at hrest
  rw [hr, List.tail_cons, State.pushFrame, sf_sv_sf, State.setTop_of_frames _ hr, sf_sv_sf]
  exact hrest
end
theorem hRel_nil {w : Nat} {es : List ExceptionTableEntry} (h : hRel w (es.map (fun h => (h.startPc, h.endPc, h.handlerPc, h.catchType))) [] = true) : es = [] := by
  cases es with
  | nil => rfl
  | cons x xs => cases h
section
variable {l : Launch} {s0 : State} {D : va_G} {dA : Nat → ClassId} {xt : Nat → Nat} {hE : AH} {args0 : Array Value} {d k pc : Nat} {L : LO} {S : List Value} {h h' : AH} {o : OU}
theorem exc_k {k : Nat} (h : k < 292 ∨ k = 294) : k < 295 := by omega
/-- a call that returns -/
theorem sm_call (wd : Wd s0 D dA xt hE args0) {n' : Nat} {q : Nat × Nat × Nat × Nat} {ig : Instr} (hc : codeAt k pc = some ig) (hlen : ilen ig = 3) (hq : mT (oN k) n' = some q) (hkd : q.1 ≤ 4) (hig : ((q.1 = 0 ∨ q.1 = 3) ∧ ig = .invokevirtual n') ∨ (q.1 = 1 ∧ ig = .invokestatic n') ∨ ((q.1 = 2 ∨ q.1 = 4) ∧ ig = .invokespecial n')) (hk' : q.2.1 < 292) (hSl : q.2.2.1 ≤ S.length) (hS8 : wds (S.drop q.2.2.1) ≤ 8) (hfit : wds (S.take q.2.2.1) ≤ mxL q.2.1) (hrc : (Nat.beq q.1 1 || isC h ((S.take q.2.2.1).getLastD .null) q.2.2.2) = true) {v : Option Value} {h1 : AH}
    (hcall : Sm l s0 D dA xt hE d q.2.1 0 (ent 0 (S.take q.2.2.1).reverse) [] h (.inl v) h1) (hk : Sm l s0 D dA xt hE (d + 1) k (pc + 3) L (v.toList ++ S.drop q.2.2.1) h1 o h') : Sm l s0 D dA xt hE (d + 1) k pc L S h o h' := by
  have m1 := hcall.1
  have m2 := hk.1
  refine ⟨by omega, fun p e R s m args below meth c H locs cells slots ls cx hR hl hfr hlo hd hw hcl hsl => ?_⟩
  have hdg : decode (mtA k).2.1 pc = .ok (ig, 3) := dec_at cx hc hlen (by decide)
  obtain ⟨mk, methk, ck, hm⟩ := mt_at wd cx.2.2.2.2.2.2.1 hk'
  refine call_W hk' hcall (by
    have : wds (S.take q.2.2.1).reverse = wds (S.take q.2.2.1) := by unfold wds; rw [List.map_reverse, List.sum_reverse]
    rw [this]; exact hfit) cx hR hl hfr hlo hd hw (by omega) (by omega) hS8 (by rw [cx.2.1]; exact hdg) hm (iv_all wd cx hR hq hkd hig hdg hSl hrc hm hk') ?_
  intro T' locs' X' hR' hfr' hlo'
  have kk := hk.2 p e R s m args below meth c T'.heap locs' (cells + (hC h1 - hC h)) (slots + (hS h1 - hS h)) ls cx hR' hl hfr' hlo' hd hw (by omega) (by omega) T' rfl X'
  rw [show cells + (hC h1 - hC h) + (hC h' - hC h1) = cells + (hC h' - hC h) by omega, show slots + (hS h1 - hS h) + (hS h' - hS h1) = slots + (hS h' - hS h) by omega] at kk
  have e1 : (v.toList ++ S.drop q.2.2.1).map (vM (adO s0 xt)) = (v.map (vM (adO s0 xt))).toList ++ (S.drop q.2.2.1).map (vM (adO s0 xt)) := by
    rw [List.map_append]; cases v <;> rfl
  rw [e1] at kk
  exact kk
/-- a call that throws, in a method without handlers -/
theorem sm_callT (wd : Wd s0 D dA xt hE args0) {n' : Nat} {q : Nat × Nat × Nat × Nat} {ig : Instr} (hc : codeAt k pc = some ig) (hlen : ilen ig = 3) (hq : mT (oN k) n' = some q) (hkd : q.1 ≤ 4) (hig : ((q.1 = 0 ∨ q.1 = 3) ∧ ig = .invokevirtual n') ∨ (q.1 = 1 ∧ ig = .invokestatic n') ∨ ((q.1 = 2 ∨ q.1 = 4) ∧ ig = .invokespecial n')) (hk' : q.2.1 < 292) (hSl : q.2.2.1 ≤ S.length) (hS8 : wds (S.drop q.2.2.1) ≤ 8) (hfit : wds (S.take q.2.2.1) ≤ mxL q.2.1) (hrc : (Nat.beq q.1 1 || isC h ((S.take q.2.2.1).getLastD .null) q.2.2.2) = true) {a : Nat} {h1 : AH}
    (hcall : Sm l s0 D dA xt hE d q.2.1 0 (ent 0 (S.take q.2.2.1).reverse) [] h (.inr a) h1) (ht : hTab k = []) : Sm l s0 D dA xt hE (d + 1) k pc L S h (.inr a) h1 := by
  refine ⟨hcall.1, fun p e R s m args below meth c H locs cells slots ls cx hR hl hfr hlo hd hw hcl hsl => ?_⟩
  have hdg : decode (mtA k).2.1 pc = .ok (ig, 3) := dec_at cx hc hlen (by decide)
  obtain ⟨mk, methk, ck, hm⟩ := mt_at wd cx.2.2.2.2.2.2.1 hk'
  refine call_W hk' hcall (by
    have : wds (S.take q.2.2.1).reverse = wds (S.take q.2.2.1) := by unfold wds; rw [List.map_reverse, List.sum_reverse]
    rw [this]; exact hfit) cx hR hl hfr hlo hd hw hcl hsl hS8 (by rw [cx.2.1]; exact hdg) hm (iv_all wd cx hR hq hkd hig hdg hSl hrc hm hk') ?_
  intro T' locs' X' hR' hfr' hlo'
  have hes : c.exceptionTable.toList = [] := by
    have h1 := okH k (exc_k cx.2.2.2.2.2.2.2.2.2)
    rw [← cx.2.2.2.2.2.2.2.2.1, ht] at h1
    exact hRel_nil h1
  obtain ⟨a1, a2, a3, a4, a5⟩ := X'.leaveThrown (adO s0 xt a) (g := F0 m pc ls ((S.drop q.2.2.1).map (vM (adO s0 xt)))) rfl rfl rfl (by rw [hes]; intro x hx; cases hx) cx.2.2.2.2.1
  exact ⟨_, a1, a2, a3, a4, ⟨locs', a5, hlo'⟩, hR'⟩
/-- a call that throws what is caught here -/
theorem sm_callH (wd : Wd s0 D dA xt hE args0) (hng : Ng s0) {n' : Nat} {q : Nat × Nat × Nat × Nat} {ig : Instr} (hc : codeAt k pc = some ig) (hlen : ilen ig = 3) (hq : mT (oN k) n' = some q) (hkd : q.1 ≤ 4) (hig : ((q.1 = 0 ∨ q.1 = 3) ∧ ig = .invokevirtual n') ∨ (q.1 = 1 ∧ ig = .invokestatic n') ∨ ((q.1 = 2 ∨ q.1 = 4) ∧ ig = .invokespecial n')) (hk' : q.2.1 < 292) (hSl : q.2.2.1 ≤ S.length) (hS8 : wds (S.drop q.2.2.1) ≤ 8) (hfit : wds (S.take q.2.2.1) ≤ mxL q.2.1) (hrc : (Nat.beq q.1 1 || isC h ((S.take q.2.2.1).getLastD .null) q.2.2.2) = true) {a p' : Nat} {h1 : AH}
    (hcall : Sm l s0 D dA xt hE d q.2.1 0 (ent 0 (S.take q.2.2.1).reverse) [] h (.inr a) h1) (ht : hnd (hTab k) pc (hT h1 a) = some p') (hk : Sm l s0 D dA xt hE (d + 1) k p' L [.ref a] h1 o h') : Sm l s0 D dA xt hE (d + 1) k pc L S h o h' := by
  have m1 := hcall.1
  have m2 := hk.1
  refine ⟨by omega, fun p e R s m args below meth c H locs cells slots ls cx hR hl hfr hlo hd hw hcl hsl => ?_⟩
  have hdg : decode (mtA k).2.1 pc = .ok (ig, 3) := dec_at cx hc hlen (by decide)
  obtain ⟨mk, methk, ck, hm⟩ := mt_at wd cx.2.2.2.2.2.2.1 hk'
  refine call_W hk' hcall (by
    have : wds (S.take q.2.2.1).reverse = wds (S.take q.2.2.1) := by unfold wds; rw [List.map_reverse, List.sum_reverse]
    rw [this]; exact hfit) cx hR hl hfr hlo hd hw (by omega) (by omega) hS8 (by rw [cx.2.1]; exact hdg) hm (iv_all wd cx hR hq hkd hig hdg hSl hrc hm hk') ?_
  intro T' locs' X' hR' hfr' hlo'
  have hrel := okH k (exc_k cx.2.2.2.2.2.2.2.2.2)
  rw [← cx.2.2.2.2.2.2.2.2.1] at hrel
  have ht4 : ∀ (es hs : List (Nat × Nat × Nat × Nat)), hRel (oN k) es hs = true → hnd hs pc (hT h1 a) = some p' → ex4 (hT h1 a) := by
    intro es
    induction es with
    | nil =>
      intro hs hr hh
      cases hs with
      | nil => cases hh
      | cons q qs => cases hr
    | cons x xs ih =>
      intro hs hr hh
      cases hs with
      | nil => cases hr
      | cons q qs =>
        have hr' : (Nat.beq x.1 q.1 && (Nat.beq x.2.1 q.2.1 && (Nat.beq x.2.2.1 q.2.2.1 && (decide ((oN k, x.2.2.2, q.2.2.2) ∈ clkL) && hRel (oN k) xs qs)))) = true := hr
        simp only [Bool.and_eq_true, decide_eq_true_eq] at hr'
        have hh' : (if q.1 ≤ pc ∧ pc < q.2.1 ∧ q.2.2.2 = hT h1 a then some q.2.2.1 else hnd qs pc (hT h1 a)) = some p' := hh
        by_cases hq : q.1 ≤ pc ∧ pc < q.2.1 ∧ q.2.2.2 = hT h1 a
        · rw [← hq.2.2]
          exact (clk_ok _ hr'.2.2.2.1).2.2
        · rw [if_neg hq] at hh'
          exact ih qs hr'.2.2.2.2 hh'
  have h4 := ht4 _ _ hrel ht
  have hc14 : hT h1 a < 14 := by rcases h4 with z | z | z | z <;> omega
  have hwm := cx.2.2.2.2.2.2.1
  obtain ⟨ha, haC⟩ := rp_x20 wd hR' (a := a) (by omega)
  have he := rp_ws (s0 := s0) (dA := dA) (xt := xt) ha haC
  rw [cE_o rfl hc14] at he
  obtain ⟨cell, hcell, hobj, hcls⟩ := va_recv (wd_K wd hwm) hR'.2.2.2.1 (clS_at _ hc14) he
  have hpl : e.platform.magicAccessors = ({} : Platform).magicAccessors := by rw [X'.admits.platform]
  obtain ⟨vm', b1, b2⟩ := hn_go (f := F0 m pc ls ((S.drop q.2.2.1).map (vM (adO s0 xt)))) (aa := adO s0 xt a) (wd_ts (args := args) wd hwm) hpl cx.2.2.2.2.2.1 hcls (VmData.ne_statics_of hobj) (hng.moved hwm) c.exceptionTable.toList (hTab k) hrel ht h4 ((T'.setTop (F0 m pc ls ((S.drop q.2.2.1).map (vM (adO s0 xt))))).pushFrame (.throwing (adO s0 xt a))) X'.warmed hcell
  obtain ⟨t, c1, c2⟩ := hk.2 p e R s m args below meth c T'.heap locs' (cells + (hC h1 - hC h)) (slots + (hS h1 - hS h)) ls cx hR' hl hfr' hlo' hd hw (by omega) (by omega) (T'.setVm vm') rfl (X'.noted b1)
  rw [show cells + (hC h1 - hC h) + (hC h' - hC h1) = cells + (hC h' - hC h) by omega, show slots + (hS h1 - hS h) + (hS h' - hS h1) = slots + (hS h' - hS h) by omega] at c2
  refine ⟨t, ?_, c2⟩
  have hx : At T' (F0 m pc ls ((S.drop q.2.2.1).map (vM (adO s0 xt)))).method c below := X'.here
  refine steps_catch hx (vm' := vm') (pc := p') ?_ c1
  intro Q E dd acts
  rw [Jvm.W.findHandler_eq (meth := meth) (code := c) X'.method' X'.code]
  exact b2 Q E dd acts
/-- athrow, in a method without handlers -/
theorem sm_athrow {a : Nat} (hc : codeAt k pc = some .athrow) (ht : hTab k = []) : Sm l s0 D dA xt hE d k pc L (.ref a :: S) h (.inr a) h := by
  refine ⟨⟨Nat.le_refl _, Nat.le_refl _⟩, fun p e R s m args below meth c H locs cells slots ls cx hR hl hfr hlo hd hw hcl hsl => ?_⟩
  have hdg : decode (mtA k).2.1 pc = .ok (.athrow, 1) := dec_at cx hc rfl (by decide)
  have hes : c.exceptionTable.toList = [] := by
    have h1 := okH k (exc_k cx.2.2.2.2.2.2.2.2.2)
    rw [← cx.2.2.2.2.2.2.2.2.1, ht] at h1
    exact hRel_nil h1
  rw [Nat.sub_self, Nat.sub_self, Nat.add_zero, Nat.add_zero]
  intro T hT X
  obtain ⟨a1, a2, a3, a4, a5⟩ := X.athrowLeaves cx.1 (g := F0 m pc ls (.ref (adO s0 xt a) :: S.map (vM (adO s0 xt)))) rfl rfl rfl (by rw [hes]; intro x hx; cases hx) rfl (by rw [cx.2.1]; exact hdg) cx.2.2.2.2.1
  exact ⟨_, a1, a2, a3, a4, ⟨locs, a5, hlo⟩, by show Rp s0 D dA xt hE h T.heap; rw [hT]; exact hR⟩
end

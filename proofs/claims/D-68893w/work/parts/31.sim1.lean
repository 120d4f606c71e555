/-! the simulation, 1: the abstract heap in the machine's; what one step of the abstract machine is there -/
set_option maxRecDepth 100000
def adO (s0 : State) (xt : Nat → Nat) (i : Nat) : Nat := if i < K0 then xt i else s0.heap.size + (i - K0)
def vM (ad : Nat → Nat) (v : Value) : Value := match v with
  | .ref a => .ref (ad a)
  | w => w
theorem vM_cat {ad : Nat → Nat} {v : Value} : (vM ad v).category = v.category := by cases v <;> rfl
def fV (ad : Nat → Nat) (h : AH) (i c j : Nat) : Value := match tyC c j with
  | .long => .long (hL h i j)
  | .int => .int (hI h i j)
  | .boolean => .int (hI h i j)
  | _ => vM ad (hR h i j)
def cE (dA : Nat → ClassId) (ad : Nat → Nat) (h : AH) (i : Nat) : va_E :=
  if hT h i < 20 then .inr (hT h i, (List.range (CI (hT h i)).2.2).map (fV ad h i (hT h i)))
  else if hT h i = 22 then .inl (dA 2, hN h i, .inr (.inl (hL h i)))
  else if hT h i = 24 then .inl (dA 4, hN h i, .inr (.inr (.inr (.inr (fun j => (rfV (hR h i j)).map ad)))))
  else .inl (dA (hT h i - 20), hN h i, .inl (hI h i))
def wO (s0 : State) (dA : Nat → ClassId) (ad : Nat → Nat) (h : AH) : va_W := (List.range (hC h - K0)).map (fun i => (s0.heap.size + i, cE dA ad h (K0 + i)))
theorem wO_at {s0 : State} {dA : Nat → ClassId} {ad : Nat → Nat} {h : AH} {i : Nat} (hi : i < hC h - K0) : (wO s0 dA ad h)[i]? = some (s0.heap.size + i, cE dA ad h (K0 + i)) := by
  unfold wO
  rw [List.getElem?_map, List.getElem?_range hi]
  rfl
theorem wO_len {s0 : State} {dA : Nat → ClassId} {ad : Nat → Nat} {h : AH} : (wO s0 dA ad h).length = hC h - K0 := by simp [wO]
theorem wO_set {s0 : State} {dA : Nat → ClassId} {ad : Nat → Nat} {h h' : AH} {a : Nat} {e : va_E} (ha : K0 ≤ a) (hc : hC h' = hC h) (hk : ∀ b, b ≠ a → cE dA ad h' b = cE dA ad h b) (he : cE dA ad h' a = e) : (wO s0 dA ad h).set (a - K0) (s0.heap.size + (a - K0), e) = wO s0 dA ad h' := by
  refine List.ext_getElem? fun i => ?_
  rw [List.getElem?_set]
  by_cases hi : i < hC h - K0
  · rw [wO_at (h := h') (by rw [hc]; exact hi)]
    by_cases hq : a - K0 = i
    · rw [if_pos hq, if_pos (by rw [wO_len]; omega), ← hq, show K0 + (a - K0) = a by omega, he]
    · rw [if_neg hq, wO_at hi, hk _ (by omega)]
  · have h1 : (wO s0 dA ad h')[i]? = none := List.getElem?_eq_none (by rw [wO_len, hc]; omega)
    have h2 : (wO s0 dA ad h)[i]? = none := List.getElem?_eq_none (by rw [wO_len]; omega)
    rw [h1]
    by_cases hq : a - K0 = i
    · rw [if_pos hq, if_neg (by rw [wO_len]; omega)]
    · rw [if_neg hq, h2]
theorem wO_push {s0 : State} {dA : Nat → ClassId} {ad : Nat → Nat} {h h' : AH} {e : va_E} (ha : K0 ≤ hC h) (hc : hC h' = hC h + 1) (hk : ∀ b, b ≠ hC h → cE dA ad h' b = cE dA ad h b) (he : cE dA ad h' (hC h) = e) : wO s0 dA ad h' = wO s0 dA ad h ++ [(s0.heap.size + (hC h - K0), e)] := by
  unfold wO
  rw [hc, show hC h + 1 - K0 = (hC h - K0) + 1 by omega, List.range_succ, List.map_append]
  congr 1
  · refine List.map_congr_left fun i hi => ?_
    rw [List.mem_range] at hi
    rw [hk _ (by omega)]
  · simp only [List.map_cons, List.map_nil]
    rw [show K0 + (hC h - K0) = hC h by omega, he]
theorem wO_D {s0 : State} {dA : Nat → ClassId} {ad : Nat → Nat} {h : AH} : va_D (fun q => s0.heap.size ≤ q) (wO s0 dA ad h) := by
  have key : ∀ (k : Nat) (q : Nat × va_E), (wO s0 dA ad h)[k]? = some q → q.1 = s0.heap.size + k := by
    intro k q hk
    have hl := (List.getElem?_eq_some_iff.mp hk).1
    rw [wO_len] at hl
    rw [wO_at hl] at hk
    cases hk
    rfl
  refine ⟨fun i j p q hp hq e => ?_, fun k q hk => ?_⟩
  · have h1 := key i p hp
    have h2 := key j q hq
    omega
  · rw [key k q hk]
    omega
def tyS (dA : Nat → ClassId) : List (ClassId × FieldType) := [(dA 0, .int), (dA 1, .byte), (dA 2, .long), (dA 3, .boolean), (dA 4, .object "java/lang/String")]
/-- the machine's heap holds the abstract one; below is what was there -/
def Rp (s0 : State) (D : va_G) (dA : Nat → ClassId) (xt : Nat → Nat) (hE h : AH) (H : Heap) : Prop :=
  K0 ≤ hC h ∧ H.size = s0.heap.size + (hC h - K0) ∧ (∀ q, q < s0.heap.size → H[q]? = s0.heap[q]?) ∧ va_P D clS (wO s0 dA (adO s0 xt) h) H ∧ (∀ a, hC h ≤ a → hT h a = 999) ∧ ∀ i, i < K0 → hT h i = hT hE i ∧ hN h i = hN hE i ∧ hI h i = hI hE i
/-- a method's frame -/
def Cx (s0 : State) (k : Nat) (p : Program) (s : State) (m : MethodId) (meth : Method) (c : Code) : Prop :=
  p.tables.exec = Jvm.exec ∧ c.code = (mtA k).2.1 ∧ c.maxLocals = mxL k ∧ meth.sig.returnType = (mtA k).2.2.1 ∧ meth.locks = false ∧ s.vm.findClass (oS (oN k)) = some m.cls ∧ s0.WarmedH s.vm ∧ meth.name = (mtA k).1.name ∧ c.exceptionTable.toList.map (fun h => (h.startPc, h.endPc, h.handlerPc, h.catchType)) = (mtA k).2.2.2 ∧ (k < 292 ∨ k = 294)
def oM (ad : Nat → Nat) (o : OU) : Outcome := match o with
  | .inl v => .returned (v.map (vM ad))
  | .inr a => .threw (ad a)
def EQ (s0 : State) (D : va_G) (dA : Nat → ClassId) (xt : Nat → Nat) (hE : AH) (below : List Frame) (s : State) (o : OU) (h' : AH) (cells slots : Nat) : State → Prop := fun t =>
  t.status = .running ∧ Ended t below (oM (adO s0 xt) o) ∧ s.WarmedH t.vm ∧ (∃ L, s.sameButNew ({ t with vm := s.vm } : State) L cells slots ∧ ∀ q ∈ L, s0.heap.size ≤ q.base) ∧ Rp s0 D dA xt hE h' t.heap
def lM (ad : Nat → Nat) (L : LO) : List (Nat × Value) := L.map (fun q => (q.1, vM ad q.2))
/-- the heap since the method's start -/
def Fr (s0 s : State) (H : Heap) (cells : Nat) : Prop := s0.heap.size ≤ s.heap.size ∧ (∀ q, q < s0.heap.size → s.heap[q]? = s0.heap[q]?) ∧ H.size = s.heap.size + cells
/-- the walk from here ends as the abstract run says -/
def Sw (l : Launch) (s0 : State) (D : va_G) (dA : Nat → ClassId) (xt : Nat → Nat) (hE : AH) (d k pc : Nat) (L : LO) (S : List Value) (h : AH) (o : OU) (h' : AH) : Prop :=
  ∀ (p : Program) (e : Env) (R : Room) (s : State) (m : MethodId) (args : Array Value) (below : List Frame) (meth : Method) (c : Code) (H : Heap) (locs : List Loc) (cells slots : Nat) (ls : Array Slot),
    Cx s0 k p s m meth c → Rp s0 D dA xt hE h H → lv_has ls (mxL k) (lM (adO s0 xt) L) → Fr s0 s H cells → (∀ q ∈ locs, s0.heap.size ≤ q.base) → d ≤ R.frames → d * 48 ≤ R.locals → cells + (hC h' - hC h) ≤ R.cells → slots + (hS h' - hS h) ≤ R.slots →
    W p l e R s m args below meth c H locs cells slots (EQ s0 D dA xt hE below s o h' (cells + (hC h' - hC h)) (slots + (hS h' - hS h))) (F0 m pc ls (S.map (vM (adO s0 xt))))
def Sm (l : Launch) (s0 : State) (D : va_G) (dA : Nat → ClassId) (xt : Nat → Nat) (hE : AH) (d k pc : Nat) (L : LO) (S : List Value) (h : AH) (o : OU) (h' : AH) : Prop :=
  (hC h ≤ hC h' ∧ hS h ≤ hS h') ∧ Sw l s0 D dA xt hE d k pc L S h o h'
theorem dec_at {s0 : State} {k pc : Nat} {p : Program} {s : State} {m : MethodId} {meth : Method} {c : Code} (cx : Cx s0 k p s m meth c) {i : Instr} (hc : codeAt k pc = some i) {n : Nat} (hn : ilen i = n) (h0 : ¬ n = 0) : decode (mtA k).2.1 pc = .ok (i, n) := by
  obtain ⟨l, h1, h2⟩ := (okN cx.2.2.2.2.2.2.2.2.2).1 pc i hc
  rcases h2 with h2 | h2
  · exact absurd (hn.symm.trans h2) h0
  · rw [h1, h2, hn]
section
variable {l : Launch} {s0 : State} {D : va_G} {dA : Nat → ClassId} {xt : Nat → Nat} {hE : AH} {d k pc : Nat} {L : LO} {S : List Value} {h h' : AH} {o : OU}
theorem sm_iadd {a b : Int32} (hc : codeAt k pc = some (.iadd)) (hk : Sm l s0 D dA xt hE d k (pc + 1) L (.int (a + b) :: S) h o h') : Sm l s0 D dA xt hE d k pc L (.int b :: .int a :: S) h o h' := by
  refine ⟨hk.1, fun p e R s m args below meth c H locs cells slots ls cx hR hl hfr hlo hd hw hcl hsl => ?_⟩
  exact lv_iadd cx.1 cx.2.1 (dec_at cx hc rfl (by decide)) (hk.2 p e R s m args below meth c H locs cells slots ls cx hR hl hfr hlo hd hw hcl hsl)
theorem sm_isub {a b : Int32} (hc : codeAt k pc = some (.isub)) (hk : Sm l s0 D dA xt hE d k (pc + 1) L (.int (a - b) :: S) h o h') : Sm l s0 D dA xt hE d k pc L (.int b :: .int a :: S) h o h' := by
  refine ⟨hk.1, fun p e R s m args below meth c H locs cells slots ls cx hR hl hfr hlo hd hw hcl hsl => ?_⟩
  exact lv_isub cx.1 cx.2.1 (dec_at cx hc rfl (by decide)) (hk.2 p e R s m args below meth c H locs cells slots ls cx hR hl hfr hlo hd hw hcl hsl)
theorem sm_imul {a b : Int32} (hc : codeAt k pc = some (.imul)) (hk : Sm l s0 D dA xt hE d k (pc + 1) L (.int (a * b) :: S) h o h') : Sm l s0 D dA xt hE d k pc L (.int b :: .int a :: S) h o h' := by
  refine ⟨hk.1, fun p e R s m args below meth c H locs cells slots ls cx hR hl hfr hlo hd hw hcl hsl => ?_⟩
  exact lv_imul cx.1 cx.2.1 (dec_at cx hc rfl (by decide)) (hk.2 p e R s m args below meth c H locs cells slots ls cx hR hl hfr hlo hd hw hcl hsl)
theorem sm_iand {a b : Int32} (hc : codeAt k pc = some (.iand)) (hk : Sm l s0 D dA xt hE d k (pc + 1) L (.int (a &&& b) :: S) h o h') : Sm l s0 D dA xt hE d k pc L (.int b :: .int a :: S) h o h' := by
  refine ⟨hk.1, fun p e R s m args below meth c H locs cells slots ls cx hR hl hfr hlo hd hw hcl hsl => ?_⟩
  exact lv_iand cx.1 cx.2.1 (dec_at cx hc rfl (by decide)) (hk.2 p e R s m args below meth c H locs cells slots ls cx hR hl hfr hlo hd hw hcl hsl)
theorem sm_ior {a b : Int32} (hc : codeAt k pc = some (.ior)) (hk : Sm l s0 D dA xt hE d k (pc + 1) L (.int (a ||| b) :: S) h o h') : Sm l s0 D dA xt hE d k pc L (.int b :: .int a :: S) h o h' := by
  refine ⟨hk.1, fun p e R s m args below meth c H locs cells slots ls cx hR hl hfr hlo hd hw hcl hsl => ?_⟩
  exact lv_ior cx.1 cx.2.1 (dec_at cx hc rfl (by decide)) (hk.2 p e R s m args below meth c H locs cells slots ls cx hR hl hfr hlo hd hw hcl hsl)
theorem sm_ixor {a b : Int32} (hc : codeAt k pc = some (.ixor)) (hk : Sm l s0 D dA xt hE d k (pc + 1) L (.int (a ^^^ b) :: S) h o h') : Sm l s0 D dA xt hE d k pc L (.int b :: .int a :: S) h o h' := by
  refine ⟨hk.1, fun p e R s m args below meth c H locs cells slots ls cx hR hl hfr hlo hd hw hcl hsl => ?_⟩
  exact lv_ixor cx.1 cx.2.1 (dec_at cx hc rfl (by decide)) (hk.2 p e R s m args below meth c H locs cells slots ls cx hR hl hfr hlo hd hw hcl hsl)
theorem sm_ishl {a b : Int32} (hc : codeAt k pc = some (.ishl)) (hk : Sm l s0 D dA xt hE d k (pc + 1) L (.int (a <<< (b &&& 31)) :: S) h o h') : Sm l s0 D dA xt hE d k pc L (.int b :: .int a :: S) h o h' := by
  refine ⟨hk.1, fun p e R s m args below meth c H locs cells slots ls cx hR hl hfr hlo hd hw hcl hsl => ?_⟩
  exact lv_ishl cx.1 cx.2.1 (dec_at cx hc rfl (by decide)) (hk.2 p e R s m args below meth c H locs cells slots ls cx hR hl hfr hlo hd hw hcl hsl)
theorem sm_ishr {a b : Int32} (hc : codeAt k pc = some (.ishr)) (hk : Sm l s0 D dA xt hE d k (pc + 1) L (.int (a >>> (b &&& 31)) :: S) h o h') : Sm l s0 D dA xt hE d k pc L (.int b :: .int a :: S) h o h' := by
  refine ⟨hk.1, fun p e R s m args below meth c H locs cells slots ls cx hR hl hfr hlo hd hw hcl hsl => ?_⟩
  exact lv_ishr cx.1 cx.2.1 (dec_at cx hc rfl (by decide)) (hk.2 p e R s m args below meth c H locs cells slots ls cx hR hl hfr hlo hd hw hcl hsl)
theorem sm_idiv {a b : Int32} (hc : codeAt k pc = some (.idiv)) (hb : ¬ b = 0) (hk : Sm l s0 D dA xt hE d k (pc + 1) L (.int (a / b) :: S) h o h') : Sm l s0 D dA xt hE d k pc L (.int b :: .int a :: S) h o h' := by
  refine ⟨hk.1, fun p e R s m args below meth c H locs cells slots ls cx hR hl hfr hlo hd hw hcl hsl => ?_⟩
  exact lv_idiv cx.1 cx.2.1 (dec_at cx hc rfl (by decide)) hb (hk.2 p e R s m args below meth c H locs cells slots ls cx hR hl hfr hlo hd hw hcl hsl)
theorem sm_irem {a b : Int32} (hc : codeAt k pc = some (.irem)) (hb : ¬ b = 0) (hk : Sm l s0 D dA xt hE d k (pc + 1) L (.int (a - a / b * b) :: S) h o h') : Sm l s0 D dA xt hE d k pc L (.int b :: .int a :: S) h o h' := by
  refine ⟨hk.1, fun p e R s m args below meth c H locs cells slots ls cx hR hl hfr hlo hd hw hcl hsl => ?_⟩
  exact lv_irem cx.1 cx.2.1 (dec_at cx hc rfl (by decide)) hb (hk.2 p e R s m args below meth c H locs cells slots ls cx hR hl hfr hlo hd hw hcl hsl)
theorem sm_ladd {a b : Int64} (hc : codeAt k pc = some (.ladd)) (hk : Sm l s0 D dA xt hE d k (pc + 1) L (.long (a + b) :: S) h o h') : Sm l s0 D dA xt hE d k pc L (.long b :: .long a :: S) h o h' := by
  refine ⟨hk.1, fun p e R s m args below meth c H locs cells slots ls cx hR hl hfr hlo hd hw hcl hsl => ?_⟩
  exact lv_ladd cx.1 cx.2.1 (dec_at cx hc rfl (by decide)) (hk.2 p e R s m args below meth c H locs cells slots ls cx hR hl hfr hlo hd hw hcl hsl)
theorem sm_lsub {a b : Int64} (hc : codeAt k pc = some (.lsub)) (hk : Sm l s0 D dA xt hE d k (pc + 1) L (.long (a - b) :: S) h o h') : Sm l s0 D dA xt hE d k pc L (.long b :: .long a :: S) h o h' := by
  refine ⟨hk.1, fun p e R s m args below meth c H locs cells slots ls cx hR hl hfr hlo hd hw hcl hsl => ?_⟩
  exact lv_lsub cx.1 cx.2.1 (dec_at cx hc rfl (by decide)) (hk.2 p e R s m args below meth c H locs cells slots ls cx hR hl hfr hlo hd hw hcl hsl)
theorem sm_lmul {a b : Int64} (hc : codeAt k pc = some (.lmul)) (hk : Sm l s0 D dA xt hE d k (pc + 1) L (.long (a * b) :: S) h o h') : Sm l s0 D dA xt hE d k pc L (.long b :: .long a :: S) h o h' := by
  refine ⟨hk.1, fun p e R s m args below meth c H locs cells slots ls cx hR hl hfr hlo hd hw hcl hsl => ?_⟩
  exact lv_lmul cx.1 cx.2.1 (dec_at cx hc rfl (by decide)) (hk.2 p e R s m args below meth c H locs cells slots ls cx hR hl hfr hlo hd hw hcl hsl)
theorem sm_land {a b : Int64} (hc : codeAt k pc = some (.land)) (hk : Sm l s0 D dA xt hE d k (pc + 1) L (.long (a &&& b) :: S) h o h') : Sm l s0 D dA xt hE d k pc L (.long b :: .long a :: S) h o h' := by
  refine ⟨hk.1, fun p e R s m args below meth c H locs cells slots ls cx hR hl hfr hlo hd hw hcl hsl => ?_⟩
  exact lv_land cx.1 cx.2.1 (dec_at cx hc rfl (by decide)) (hk.2 p e R s m args below meth c H locs cells slots ls cx hR hl hfr hlo hd hw hcl hsl)
theorem sm_lor {a b : Int64} (hc : codeAt k pc = some (.lor)) (hk : Sm l s0 D dA xt hE d k (pc + 1) L (.long (a ||| b) :: S) h o h') : Sm l s0 D dA xt hE d k pc L (.long b :: .long a :: S) h o h' := by
  refine ⟨hk.1, fun p e R s m args below meth c H locs cells slots ls cx hR hl hfr hlo hd hw hcl hsl => ?_⟩
  exact lv_lor cx.1 cx.2.1 (dec_at cx hc rfl (by decide)) (hk.2 p e R s m args below meth c H locs cells slots ls cx hR hl hfr hlo hd hw hcl hsl)
theorem sm_lxor {a b : Int64} (hc : codeAt k pc = some (.lxor)) (hk : Sm l s0 D dA xt hE d k (pc + 1) L (.long (a ^^^ b) :: S) h o h') : Sm l s0 D dA xt hE d k pc L (.long b :: .long a :: S) h o h' := by
  refine ⟨hk.1, fun p e R s m args below meth c H locs cells slots ls cx hR hl hfr hlo hd hw hcl hsl => ?_⟩
  exact lv_lxor cx.1 cx.2.1 (dec_at cx hc rfl (by decide)) (hk.2 p e R s m args below meth c H locs cells slots ls cx hR hl hfr hlo hd hw hcl hsl)
theorem sm_lshl {a : Int64} {b : Int32} (hc : codeAt k pc = some (.lshl)) (hk : Sm l s0 D dA xt hE d k (pc + 1) L (.long (a <<< (b.toInt64 &&& 63)) :: S) h o h') : Sm l s0 D dA xt hE d k pc L (.int b :: .long a :: S) h o h' := by
  refine ⟨hk.1, fun p e R s m args below meth c H locs cells slots ls cx hR hl hfr hlo hd hw hcl hsl => ?_⟩
  exact lv_lshl cx.1 cx.2.1 (dec_at cx hc rfl (by decide)) rfl (hk.2 p e R s m args below meth c H locs cells slots ls cx hR hl hfr hlo hd hw hcl hsl)
theorem sm_lshr {a : Int64} {b : Int32} (hc : codeAt k pc = some (.lshr)) (hk : Sm l s0 D dA xt hE d k (pc + 1) L (.long (a >>> (b.toInt64 &&& 63)) :: S) h o h') : Sm l s0 D dA xt hE d k pc L (.int b :: .long a :: S) h o h' := by
  refine ⟨hk.1, fun p e R s m args below meth c H locs cells slots ls cx hR hl hfr hlo hd hw hcl hsl => ?_⟩
  exact lv_lshr cx.1 cx.2.1 (dec_at cx hc rfl (by decide)) rfl (hk.2 p e R s m args below meth c H locs cells slots ls cx hR hl hfr hlo hd hw hcl hsl)
theorem sm_lushr {a : Int64} {b : Int32} (hc : codeAt k pc = some (.lushr)) (hk : Sm l s0 D dA xt hE d k (pc + 1) L (.long ((a.toUInt64 >>> (b.toInt64.toUInt64 &&& Int64.toUInt64 63)).toInt64) :: S) h o h') : Sm l s0 D dA xt hE d k pc L (.int b :: .long a :: S) h o h' := by
  refine ⟨hk.1, fun p e R s m args below meth c H locs cells slots ls cx hR hl hfr hlo hd hw hcl hsl => ?_⟩
  exact lv_lushr cx.1 cx.2.1 (dec_at cx hc rfl (by decide)) rfl (hk.2 p e R s m args below meth c H locs cells slots ls cx hR hl hfr hlo hd hw hcl hsl)
theorem sm_lneg {a : Int64} (hc : codeAt k pc = some (.lneg)) (hk : Sm l s0 D dA xt hE d k (pc + 1) L (.long (-a) :: S) h o h') : Sm l s0 D dA xt hE d k pc L (.long a :: S) h o h' := by
  refine ⟨hk.1, fun p e R s m args below meth c H locs cells slots ls cx hR hl hfr hlo hd hw hcl hsl => ?_⟩
  exact lv_lneg cx.1 cx.2.1 (dec_at cx hc rfl (by decide)) (hk.2 p e R s m args below meth c H locs cells slots ls cx hR hl hfr hlo hd hw hcl hsl)
theorem sm_lcmp {a b : Int64} (hc : codeAt k pc = some (.lcmp)) (hk : Sm l s0 D dA xt hE d k (pc + 1) L (.int (lg_cmp a b) :: S) h o h') : Sm l s0 D dA xt hE d k pc L (.long b :: .long a :: S) h o h' := by
  refine ⟨hk.1, fun p e R s m args below meth c H locs cells slots ls cx hR hl hfr hlo hd hw hcl hsl => ?_⟩
  exact W.lcmp cx.1 cx.2.1 (dec_at cx hc rfl (by decide)) (hk.2 p e R s m args below meth c H locs cells slots ls cx hR hl hfr hlo hd hw hcl hsl)
theorem sm_i2l {a : Int32} (hc : codeAt k pc = some (.i2l)) (hk : Sm l s0 D dA xt hE d k (pc + 1) L (.long a.toInt64 :: S) h o h') : Sm l s0 D dA xt hE d k pc L (.int a :: S) h o h' := by
  refine ⟨hk.1, fun p e R s m args below meth c H locs cells slots ls cx hR hl hfr hlo hd hw hcl hsl => ?_⟩
  exact lv_i2l cx.1 cx.2.1 (dec_at cx hc rfl (by decide)) rfl (hk.2 p e R s m args below meth c H locs cells slots ls cx hR hl hfr hlo hd hw hcl hsl)
theorem sm_l2i {a : Int64} (hc : codeAt k pc = some (.l2i)) (hk : Sm l s0 D dA xt hE d k (pc + 1) L (.int a.toInt32 :: S) h o h') : Sm l s0 D dA xt hE d k pc L (.long a :: S) h o h' := by
  refine ⟨hk.1, fun p e R s m args below meth c H locs cells slots ls cx hR hl hfr hlo hd hw hcl hsl => ?_⟩
  exact lv_l2i cx.1 cx.2.1 (dec_at cx hc rfl (by decide)) rfl (hk.2 p e R s m args below meth c H locs cells slots ls cx hR hl hfr hlo hd hw hcl hsl)
theorem sm_i2b {a : Int32} (hc : codeAt k pc = some (.i2b)) (hk : Sm l s0 D dA xt hE d k (pc + 1) L (.int a.toInt8.toInt32 :: S) h o h') : Sm l s0 D dA xt hE d k pc L (.int a :: S) h o h' := by
  refine ⟨hk.1, fun p e R s m args below meth c H locs cells slots ls cx hR hl hfr hlo hd hw hcl hsl => ?_⟩
  exact lv_i2b cx.1 cx.2.1 (dec_at cx hc rfl (by decide)) rfl (hk.2 p e R s m args below meth c H locs cells slots ls cx hR hl hfr hlo hd hw hcl hsl)
theorem sm_iconst {n : Int} (hc : codeAt k pc = some (.iconst n)) (hk : Sm l s0 D dA xt hE d k (pc + 1) L (.int (Int32.ofInt n) :: S) h o h') : Sm l s0 D dA xt hE d k pc L (S) h o h' := by
  refine ⟨hk.1, fun p e R s m args below meth c H locs cells slots ls cx hR hl hfr hlo hd hw hcl hsl => ?_⟩
  exact lv_iconst cx.1 cx.2.1 (dec_at cx hc rfl (by decide)) rfl (hk.2 p e R s m args below meth c H locs cells slots ls cx hR hl hfr hlo hd hw hcl hsl)
theorem sm_bipush {n : Int} (hc : codeAt k pc = some (.bipush n)) (hk : Sm l s0 D dA xt hE d k (pc + 2) L (.int (Int8.ofInt n).toInt32 :: S) h o h') : Sm l s0 D dA xt hE d k pc L (S) h o h' := by
  refine ⟨hk.1, fun p e R s m args below meth c H locs cells slots ls cx hR hl hfr hlo hd hw hcl hsl => ?_⟩
  exact lv_bipush cx.1 cx.2.1 (dec_at cx hc rfl (by decide)) rfl (hk.2 p e R s m args below meth c H locs cells slots ls cx hR hl hfr hlo hd hw hcl hsl)
theorem sm_sipush {n : Int} (hc : codeAt k pc = some (.sipush n)) (hk : Sm l s0 D dA xt hE d k (pc + 3) L (.int (Int16.ofInt n).toInt32 :: S) h o h') : Sm l s0 D dA xt hE d k pc L (S) h o h' := by
  refine ⟨hk.1, fun p e R s m args below meth c H locs cells slots ls cx hR hl hfr hlo hd hw hcl hsl => ?_⟩
  exact lv_sipush cx.1 cx.2.1 (dec_at cx hc rfl (by decide)) rfl (hk.2 p e R s m args below meth c H locs cells slots ls cx hR hl hfr hlo hd hw hcl hsl)
theorem sm_lconst {n : Fin 2} (hc : codeAt k pc = some (.lconst n)) (hk : Sm l s0 D dA xt hE d k (pc + 1) L (.long (Int64.ofNat n.val) :: S) h o h') : Sm l s0 D dA xt hE d k pc L (S) h o h' := by
  refine ⟨hk.1, fun p e R s m args below meth c H locs cells slots ls cx hR hl hfr hlo hd hw hcl hsl => ?_⟩
  exact lv_lconst cx.1 cx.2.1 (dec_at cx hc rfl (by decide)) rfl (hk.2 p e R s m args below meth c H locs cells slots ls cx hR hl hfr hlo hd hw hcl hsl)
theorem sm_dup {v : Value} (hc : codeAt k pc = some (.dup)) (hv : v.category = 1) (hk : Sm l s0 D dA xt hE d k (pc + 1) L (v :: v :: S) h o h') : Sm l s0 D dA xt hE d k pc L (v :: S) h o h' := by
  refine ⟨hk.1, fun p e R s m args below meth c H locs cells slots ls cx hR hl hfr hlo hd hw hcl hsl => ?_⟩
  exact lv_dup cx.1 cx.2.1 (dec_at cx hc rfl (by decide)) (vM_cat.trans hv) (hk.2 p e R s m args below meth c H locs cells slots ls cx hR hl hfr hlo hd hw hcl hsl)
theorem sm_dup_x1 {v w : Value} (hc : codeAt k pc = some (.dup_x1)) (hv : v.category = 1) (hv2 : w.category = 1) (hk : Sm l s0 D dA xt hE d k (pc + 1) L (v :: w :: v :: S) h o h') : Sm l s0 D dA xt hE d k pc L (v :: w :: S) h o h' := by
  refine ⟨hk.1, fun p e R s m args below meth c H locs cells slots ls cx hR hl hfr hlo hd hw hcl hsl => ?_⟩
  exact lv_dup_x1 cx.1 cx.2.1 (dec_at cx hc rfl (by decide)) (vM_cat.trans hv) (vM_cat.trans hv2) (hk.2 p e R s m args below meth c H locs cells slots ls cx hR hl hfr hlo hd hw hcl hsl)
theorem sm_pop {v : Value} (hc : codeAt k pc = some (.pop)) (hv : v.category = 1) (hk : Sm l s0 D dA xt hE d k (pc + 1) L (S) h o h') : Sm l s0 D dA xt hE d k pc L (v :: S) h o h' := by
  refine ⟨hk.1, fun p e R s m args below meth c H locs cells slots ls cx hR hl hfr hlo hd hw hcl hsl => ?_⟩
  exact lv_pop cx.1 cx.2.1 (dec_at cx hc rfl (by decide)) (vM_cat.trans hv) (hk.2 p e R s m args below meth c H locs cells slots ls cx hR hl hfr hlo hd hw hcl hsl)
theorem sm_pop2 {a : Int64} (hc : codeAt k pc = some (.pop2)) (hk : Sm l s0 D dA xt hE d k (pc + 1) L (S) h o h') : Sm l s0 D dA xt hE d k pc L (.long a :: S) h o h' := by
  refine ⟨hk.1, fun p e R s m args below meth c H locs cells slots ls cx hR hl hfr hlo hd hw hcl hsl => ?_⟩
  exact lv_pop2_2 (va := .long a) cx.1 cx.2.1 (dec_at cx hc rfl (by decide)) rfl (hk.2 p e R s m args below meth c H locs cells slots ls cx hR hl hfr hlo hd hw hcl hsl)
theorem lM_at {ad : Nat → Nat} {ls : Array Slot} {n i : Nat} {v : Value} (hl : lv_has ls n (lM ad L)) (hv : L.lookup i = some v) : ls[i]? = some (.val (vM ad v)) := hl.2.2 (i, vM ad v) (List.mem_map.mpr ⟨(i, v), lk_mem hv, rfl⟩)
theorem sm_iload {i : Nat} {a : Int32} (hc : codeAt k pc = some (.iload i)) (hi : L.lookup i = some (.int a)) (hk : Sm l s0 D dA xt hE d k (pc + 2) L (.int a :: S) h o h') : Sm l s0 D dA xt hE d k pc L (S) h o h' := by
  refine ⟨hk.1, fun p e R s m args below meth c H locs cells slots ls cx hR hl hfr hlo hd hw hcl hsl => ?_⟩
  exact lv_iload cx.1 cx.2.1 (dec_at cx hc rfl (by decide)) (lM_at hl hi) (hk.2 p e R s m args below meth c H locs cells slots ls cx hR hl hfr hlo hd hw hcl hsl)
theorem sm_iload_n {i : Fin 4} {a : Int32} (hc : codeAt k pc = some (.iload_n i)) (hi : L.lookup i.val = some (.int a)) (hk : Sm l s0 D dA xt hE d k (pc + 1) L (.int a :: S) h o h') : Sm l s0 D dA xt hE d k pc L (S) h o h' := by
  refine ⟨hk.1, fun p e R s m args below meth c H locs cells slots ls cx hR hl hfr hlo hd hw hcl hsl => ?_⟩
  exact lv_iload_n cx.1 cx.2.1 (dec_at cx hc rfl (by decide)) rfl (lM_at hl hi) (hk.2 p e R s m args below meth c H locs cells slots ls cx hR hl hfr hlo hd hw hcl hsl)
theorem sm_lload {i : Nat} {a : Int64} (hc : codeAt k pc = some (.lload i)) (hi : L.lookup i = some (.long a)) (hk : Sm l s0 D dA xt hE d k (pc + 2) L (.long a :: S) h o h') : Sm l s0 D dA xt hE d k pc L (S) h o h' := by
  refine ⟨hk.1, fun p e R s m args below meth c H locs cells slots ls cx hR hl hfr hlo hd hw hcl hsl => ?_⟩
  exact lv_lload cx.1 cx.2.1 (dec_at cx hc rfl (by decide)) (lM_at hl hi) (hk.2 p e R s m args below meth c H locs cells slots ls cx hR hl hfr hlo hd hw hcl hsl)
theorem sm_lload_n {i : Fin 4} {a : Int64} (hc : codeAt k pc = some (.lload_n i)) (hi : L.lookup i.val = some (.long a)) (hk : Sm l s0 D dA xt hE d k (pc + 1) L (.long a :: S) h o h') : Sm l s0 D dA xt hE d k pc L (S) h o h' := by
  refine ⟨hk.1, fun p e R s m args below meth c H locs cells slots ls cx hR hl hfr hlo hd hw hcl hsl => ?_⟩
  exact lv_lload_n cx.1 cx.2.1 (dec_at cx hc rfl (by decide)) rfl (lM_at hl hi) (hk.2 p e R s m args below meth c H locs cells slots ls cx hR hl hfr hlo hd hw hcl hsl)
theorem sm_aload {i : Nat} {a : Nat} (hc : codeAt k pc = some (.aload i)) (hi : L.lookup i = some (.ref a)) (hk : Sm l s0 D dA xt hE d k (pc + 2) L (.ref a :: S) h o h') : Sm l s0 D dA xt hE d k pc L (S) h o h' := by
  refine ⟨hk.1, fun p e R s m args below meth c H locs cells slots ls cx hR hl hfr hlo hd hw hcl hsl => ?_⟩
  exact lv_aload cx.1 cx.2.1 (dec_at cx hc rfl (by decide)) (lM_at hl hi) (hk.2 p e R s m args below meth c H locs cells slots ls cx hR hl hfr hlo hd hw hcl hsl)
theorem sm_aload_n {i : Fin 4} {a : Nat} (hc : codeAt k pc = some (.aload_n i)) (hi : L.lookup i.val = some (.ref a)) (hk : Sm l s0 D dA xt hE d k (pc + 1) L (.ref a :: S) h o h') : Sm l s0 D dA xt hE d k pc L (S) h o h' := by
  refine ⟨hk.1, fun p e R s m args below meth c H locs cells slots ls cx hR hl hfr hlo hd hw hcl hsl => ?_⟩
  exact lv_aload_n cx.1 cx.2.1 (dec_at cx hc rfl (by decide)) rfl (lM_at hl hi) (hk.2 p e R s m args below meth c H locs cells slots ls cx hR hl hfr hlo hd hw hcl hsl)
theorem lM_st1 {ad : Nat → Nat} {i : Nat} {v : Value} : (i, vM ad v) :: (lM ad L).filter (fun q => !(q.1 == i) && !(q.1 + 1 == i && q.2.category == 2)) = lM ad (st1 L i v) := by
  unfold lM st1
  rw [List.map_cons, List.filter_map]
  congr 2
  refine List.filter_congr fun q _ => ?_
  simp only [Function.comp, vM_cat]
theorem lM_st2 {ad : Nat → Nat} {i : Nat} {v : Value} : (i, vM ad v) :: (lM ad L).filter (fun q => !(q.1 == i) && (!(q.1 == i + 1) && !(q.1 + 1 == i && q.2.category == 2))) = lM ad (st2 L i v) := by
  unfold lM st2
  rw [List.map_cons, List.filter_map]
  congr 2
  refine List.filter_congr fun q _ => ?_
  simp only [Function.comp, vM_cat]
theorem sm_istore {i : Nat} {a : Int32} (hc : codeAt k pc = some (.istore i)) (hn : i < mxL k) (hk : Sm l s0 D dA xt hE d k (pc + 2) (st1 L i (.int a)) S h o h') : Sm l s0 D dA xt hE d k pc L (.int a :: S) h o h' := by
  refine ⟨hk.1, fun p e R s m args below meth c H locs cells slots ls cx hR hl hfr hlo hd hw hcl hsl => ?_⟩
  exact lv_istore cx.1 cx.2.1 (dec_at cx hc rfl (by decide)) hl hn (lM_st1 (v := .int a)) (fun ls hl => hk.2 p e R s m args below meth c H locs cells slots ls cx hR hl hfr hlo hd hw hcl hsl)
theorem sm_istore_n {i : Fin 4} {a : Int32} (hc : codeAt k pc = some (.istore_n i)) (hn : i.val < mxL k) (hk : Sm l s0 D dA xt hE d k (pc + 1) (st1 L i.val (.int a)) S h o h') : Sm l s0 D dA xt hE d k pc L (.int a :: S) h o h' := by
  refine ⟨hk.1, fun p e R s m args below meth c H locs cells slots ls cx hR hl hfr hlo hd hw hcl hsl => ?_⟩
  exact lv_istore_n cx.1 cx.2.1 (dec_at cx hc rfl (by decide)) rfl hl hn (lM_st1 (v := .int a)) (fun ls hl => hk.2 p e R s m args below meth c H locs cells slots ls cx hR hl hfr hlo hd hw hcl hsl)
theorem sm_lstore {i : Nat} {a : Int64} (hc : codeAt k pc = some (.lstore i)) (hn : i + 1 < mxL k) (hk : Sm l s0 D dA xt hE d k (pc + 2) (st2 L i (.long a)) S h o h') : Sm l s0 D dA xt hE d k pc L (.long a :: S) h o h' := by
  refine ⟨hk.1, fun p e R s m args below meth c H locs cells slots ls cx hR hl hfr hlo hd hw hcl hsl => ?_⟩
  exact lv_lstore cx.1 cx.2.1 (dec_at cx hc rfl (by decide)) hl hn (lM_st2 (v := .long a)) (fun ls hl => hk.2 p e R s m args below meth c H locs cells slots ls cx hR hl hfr hlo hd hw hcl hsl)
theorem sm_lstore_n {i : Fin 4} {a : Int64} (hc : codeAt k pc = some (.lstore_n i)) (hn : i.val + 1 < mxL k) (hk : Sm l s0 D dA xt hE d k (pc + 1) (st2 L i.val (.long a)) S h o h') : Sm l s0 D dA xt hE d k pc L (.long a :: S) h o h' := by
  refine ⟨hk.1, fun p e R s m args below meth c H locs cells slots ls cx hR hl hfr hlo hd hw hcl hsl => ?_⟩
  exact lv_lstore_n cx.1 cx.2.1 (dec_at cx hc rfl (by decide)) rfl hl hn (lM_st2 (v := .long a)) (fun ls hl => hk.2 p e R s m args below meth c H locs cells slots ls cx hR hl hfr hlo hd hw hcl hsl)
theorem sm_astore {i : Nat} {a : Nat} (hc : codeAt k pc = some (.astore i)) (hn : i < mxL k) (hk : Sm l s0 D dA xt hE d k (pc + 2) (st1 L i (.ref a)) S h o h') : Sm l s0 D dA xt hE d k pc L (.ref a :: S) h o h' := by
  refine ⟨hk.1, fun p e R s m args below meth c H locs cells slots ls cx hR hl hfr hlo hd hw hcl hsl => ?_⟩
  exact lv_astore cx.1 cx.2.1 (dec_at cx hc rfl (by decide)) hl hn (lM_st1 (v := .ref a)) (fun ls hl => hk.2 p e R s m args below meth c H locs cells slots ls cx hR hl hfr hlo hd hw hcl hsl)
theorem sm_astore_n {i : Fin 4} {a : Nat} (hc : codeAt k pc = some (.astore_n i)) (hn : i.val < mxL k) (hk : Sm l s0 D dA xt hE d k (pc + 1) (st1 L i.val (.ref a)) S h o h') : Sm l s0 D dA xt hE d k pc L (.ref a :: S) h o h' := by
  refine ⟨hk.1, fun p e R s m args below meth c H locs cells slots ls cx hR hl hfr hlo hd hw hcl hsl => ?_⟩
  exact lv_astore_n cx.1 cx.2.1 (dec_at cx hc rfl (by decide)) rfl hl hn (lM_st1 (v := .ref a)) (fun ls hl => hk.2 p e R s m args below meth c H locs cells slots ls cx hR hl hfr hlo hd hw hcl hsl)
theorem sm_iinc {i : Nat} {n : Int} {a : Int32} (hc : codeAt k pc = some (.iinc i n)) (hi : L.lookup i = some (.int a)) (hn : i < mxL k) (hk : Sm l s0 D dA xt hE d k (pc + 3) (st1 L i (.int (a + Int32.ofInt n))) S h o h') : Sm l s0 D dA xt hE d k pc L S h o h' := by
  refine ⟨hk.1, fun p e R s m args below meth c H locs cells slots ls cx hR hl hfr hlo hd hw hcl hsl => ?_⟩
  obtain ⟨j, hj⟩ := List.getElem?_of_mem (lk_mem hi)
  exact lv_iinc (k := j) cx.1 cx.2.1 (dec_at cx hc rfl (by decide)) hl (by unfold lM; rw [List.getElem?_map, hj]; rfl) rfl hn (lM_st1 (v := .int (a + Int32.ofInt n))) (fun ls hl => hk.2 p e R s m args below meth c H locs cells slots ls cx hR hl hfr hlo hd hw hcl hsl)
theorem sm_goto {t : Nat} {n : Int} (hc : codeAt k pc = some (.goto n)) (ht : (pc : Int) + n = (t : Int)) (hk : Sm l s0 D dA xt hE d k t L S h o h') : Sm l s0 D dA xt hE d k pc L S h o h' := by
  refine ⟨hk.1, fun p e R s m args below meth c H locs cells slots ls cx hR hl hfr hlo hd hw hcl hsl => ?_⟩
  exact lv_goto cx.1 cx.2.1 (dec_at cx hc rfl (by decide)) ht (hk.2 p e R s m args below meth c H locs cells slots ls cx hR hl hfr hlo hd hw hcl hsl)
theorem sm_ic_eq {a b : Int32} {t : Nat} {n : Int} (hc : codeAt k pc = some (.if_icmp .eq n)) (ht : (pc : Int) + n = (t : Int)) (ho : hC h ≤ hC h' ∧ hS h ≤ hS h') (h1 : a = b → Sm l s0 D dA xt hE d k t L S h o h') (h2 : ¬ a = b → Sm l s0 D dA xt hE d k (pc + 3) L S h o h') : Sm l s0 D dA xt hE d k pc L (.int b :: .int a :: S) h o h' := by
  refine ⟨ho, fun p e R s m args below meth c H locs cells slots ls cx hR hl hfr hlo hd hw hcl hsl => ?_⟩
  exact lv_icmp_eq cx.1 cx.2.1 (dec_at cx hc rfl (by decide)) ht (fun q => (h1 q).2 p e R s m args below meth c H locs cells slots ls cx hR hl hfr hlo hd hw hcl hsl) (fun q => (h2 q).2 p e R s m args below meth c H locs cells slots ls cx hR hl hfr hlo hd hw hcl hsl)
theorem sm_if_eq {a : Int32} {t : Nat} {n : Int} (hc : codeAt k pc = some (.ifCond .eq n)) (ht : (pc : Int) + n = (t : Int)) (ho : hC h ≤ hC h' ∧ hS h ≤ hS h') (h1 : a = 0 → Sm l s0 D dA xt hE d k t L S h o h') (h2 : ¬ a = 0 → Sm l s0 D dA xt hE d k (pc + 3) L S h o h') : Sm l s0 D dA xt hE d k pc L (.int a :: S) h o h' := by
  refine ⟨ho, fun p e R s m args below meth c H locs cells slots ls cx hR hl hfr hlo hd hw hcl hsl => ?_⟩
  exact lv_if_eq cx.1 cx.2.1 (dec_at cx hc rfl (by decide)) ht (fun q => (h1 q).2 p e R s m args below meth c H locs cells slots ls cx hR hl hfr hlo hd hw hcl hsl) (fun q => (h2 q).2 p e R s m args below meth c H locs cells slots ls cx hR hl hfr hlo hd hw hcl hsl)
theorem sm_ic_ne {a b : Int32} {t : Nat} {n : Int} (hc : codeAt k pc = some (.if_icmp .ne n)) (ht : (pc : Int) + n = (t : Int)) (ho : hC h ≤ hC h' ∧ hS h ≤ hS h') (h1 : ¬ a = b → Sm l s0 D dA xt hE d k t L S h o h') (h2 : a = b → Sm l s0 D dA xt hE d k (pc + 3) L S h o h') : Sm l s0 D dA xt hE d k pc L (.int b :: .int a :: S) h o h' := by
  refine ⟨ho, fun p e R s m args below meth c H locs cells slots ls cx hR hl hfr hlo hd hw hcl hsl => ?_⟩
  exact lv_icmp_ne cx.1 cx.2.1 (dec_at cx hc rfl (by decide)) ht (fun q => (h1 q).2 p e R s m args below meth c H locs cells slots ls cx hR hl hfr hlo hd hw hcl hsl) (fun q => (h2 q).2 p e R s m args below meth c H locs cells slots ls cx hR hl hfr hlo hd hw hcl hsl)
theorem sm_if_ne {a : Int32} {t : Nat} {n : Int} (hc : codeAt k pc = some (.ifCond .ne n)) (ht : (pc : Int) + n = (t : Int)) (ho : hC h ≤ hC h' ∧ hS h ≤ hS h') (h1 : ¬ a = 0 → Sm l s0 D dA xt hE d k t L S h o h') (h2 : a = 0 → Sm l s0 D dA xt hE d k (pc + 3) L S h o h') : Sm l s0 D dA xt hE d k pc L (.int a :: S) h o h' := by
  refine ⟨ho, fun p e R s m args below meth c H locs cells slots ls cx hR hl hfr hlo hd hw hcl hsl => ?_⟩
  exact lv_if_ne cx.1 cx.2.1 (dec_at cx hc rfl (by decide)) ht (fun q => (h1 q).2 p e R s m args below meth c H locs cells slots ls cx hR hl hfr hlo hd hw hcl hsl) (fun q => (h2 q).2 p e R s m args below meth c H locs cells slots ls cx hR hl hfr hlo hd hw hcl hsl)
theorem sm_ic_lt {a b : Int32} {t : Nat} {n : Int} (hc : codeAt k pc = some (.if_icmp .lt n)) (ht : (pc : Int) + n = (t : Int)) (ho : hC h ≤ hC h' ∧ hS h ≤ hS h') (h1 : a < b → Sm l s0 D dA xt hE d k t L S h o h') (h2 : ¬ a < b → Sm l s0 D dA xt hE d k (pc + 3) L S h o h') : Sm l s0 D dA xt hE d k pc L (.int b :: .int a :: S) h o h' := by
  refine ⟨ho, fun p e R s m args below meth c H locs cells slots ls cx hR hl hfr hlo hd hw hcl hsl => ?_⟩
  exact lv_icmp_lt cx.1 cx.2.1 (dec_at cx hc rfl (by decide)) ht (fun q => (h1 q).2 p e R s m args below meth c H locs cells slots ls cx hR hl hfr hlo hd hw hcl hsl) (fun q => (h2 q).2 p e R s m args below meth c H locs cells slots ls cx hR hl hfr hlo hd hw hcl hsl)
theorem sm_if_lt {a : Int32} {t : Nat} {n : Int} (hc : codeAt k pc = some (.ifCond .lt n)) (ht : (pc : Int) + n = (t : Int)) (ho : hC h ≤ hC h' ∧ hS h ≤ hS h') (h1 : a < 0 → Sm l s0 D dA xt hE d k t L S h o h') (h2 : ¬ a < 0 → Sm l s0 D dA xt hE d k (pc + 3) L S h o h') : Sm l s0 D dA xt hE d k pc L (.int a :: S) h o h' := by
  refine ⟨ho, fun p e R s m args below meth c H locs cells slots ls cx hR hl hfr hlo hd hw hcl hsl => ?_⟩
  exact lv_if_lt cx.1 cx.2.1 (dec_at cx hc rfl (by decide)) ht (fun q => (h1 q).2 p e R s m args below meth c H locs cells slots ls cx hR hl hfr hlo hd hw hcl hsl) (fun q => (h2 q).2 p e R s m args below meth c H locs cells slots ls cx hR hl hfr hlo hd hw hcl hsl)
theorem sm_ic_ge {a b : Int32} {t : Nat} {n : Int} (hc : codeAt k pc = some (.if_icmp .ge n)) (ht : (pc : Int) + n = (t : Int)) (ho : hC h ≤ hC h' ∧ hS h ≤ hS h') (h1 : b ≤ a → Sm l s0 D dA xt hE d k t L S h o h') (h2 : ¬ b ≤ a → Sm l s0 D dA xt hE d k (pc + 3) L S h o h') : Sm l s0 D dA xt hE d k pc L (.int b :: .int a :: S) h o h' := by
  refine ⟨ho, fun p e R s m args below meth c H locs cells slots ls cx hR hl hfr hlo hd hw hcl hsl => ?_⟩
  exact lv_icmp_ge cx.1 cx.2.1 (dec_at cx hc rfl (by decide)) ht (fun q => (h1 q).2 p e R s m args below meth c H locs cells slots ls cx hR hl hfr hlo hd hw hcl hsl) (fun q => (h2 q).2 p e R s m args below meth c H locs cells slots ls cx hR hl hfr hlo hd hw hcl hsl)
theorem sm_if_ge {a : Int32} {t : Nat} {n : Int} (hc : codeAt k pc = some (.ifCond .ge n)) (ht : (pc : Int) + n = (t : Int)) (ho : hC h ≤ hC h' ∧ hS h ≤ hS h') (h1 : 0 ≤ a → Sm l s0 D dA xt hE d k t L S h o h') (h2 : ¬ 0 ≤ a → Sm l s0 D dA xt hE d k (pc + 3) L S h o h') : Sm l s0 D dA xt hE d k pc L (.int a :: S) h o h' := by
  refine ⟨ho, fun p e R s m args below meth c H locs cells slots ls cx hR hl hfr hlo hd hw hcl hsl => ?_⟩
  exact lv_if_ge cx.1 cx.2.1 (dec_at cx hc rfl (by decide)) ht (fun q => (h1 q).2 p e R s m args below meth c H locs cells slots ls cx hR hl hfr hlo hd hw hcl hsl) (fun q => (h2 q).2 p e R s m args below meth c H locs cells slots ls cx hR hl hfr hlo hd hw hcl hsl)
theorem sm_ic_gt {a b : Int32} {t : Nat} {n : Int} (hc : codeAt k pc = some (.if_icmp .gt n)) (ht : (pc : Int) + n = (t : Int)) (ho : hC h ≤ hC h' ∧ hS h ≤ hS h') (h1 : b < a → Sm l s0 D dA xt hE d k t L S h o h') (h2 : ¬ b < a → Sm l s0 D dA xt hE d k (pc + 3) L S h o h') : Sm l s0 D dA xt hE d k pc L (.int b :: .int a :: S) h o h' := by
  refine ⟨ho, fun p e R s m args below meth c H locs cells slots ls cx hR hl hfr hlo hd hw hcl hsl => ?_⟩
  exact lv_icmp_gt cx.1 cx.2.1 (dec_at cx hc rfl (by decide)) ht (fun q => (h1 q).2 p e R s m args below meth c H locs cells slots ls cx hR hl hfr hlo hd hw hcl hsl) (fun q => (h2 q).2 p e R s m args below meth c H locs cells slots ls cx hR hl hfr hlo hd hw hcl hsl)
theorem sm_if_gt {a : Int32} {t : Nat} {n : Int} (hc : codeAt k pc = some (.ifCond .gt n)) (ht : (pc : Int) + n = (t : Int)) (ho : hC h ≤ hC h' ∧ hS h ≤ hS h') (h1 : 0 < a → Sm l s0 D dA xt hE d k t L S h o h') (h2 : ¬ 0 < a → Sm l s0 D dA xt hE d k (pc + 3) L S h o h') : Sm l s0 D dA xt hE d k pc L (.int a :: S) h o h' := by
  refine ⟨ho, fun p e R s m args below meth c H locs cells slots ls cx hR hl hfr hlo hd hw hcl hsl => ?_⟩
  exact lv_if_gt cx.1 cx.2.1 (dec_at cx hc rfl (by decide)) ht (fun q => (h1 q).2 p e R s m args below meth c H locs cells slots ls cx hR hl hfr hlo hd hw hcl hsl) (fun q => (h2 q).2 p e R s m args below meth c H locs cells slots ls cx hR hl hfr hlo hd hw hcl hsl)
theorem sm_ic_le {a b : Int32} {t : Nat} {n : Int} (hc : codeAt k pc = some (.if_icmp .le n)) (ht : (pc : Int) + n = (t : Int)) (ho : hC h ≤ hC h' ∧ hS h ≤ hS h') (h1 : a ≤ b → Sm l s0 D dA xt hE d k t L S h o h') (h2 : ¬ a ≤ b → Sm l s0 D dA xt hE d k (pc + 3) L S h o h') : Sm l s0 D dA xt hE d k pc L (.int b :: .int a :: S) h o h' := by
  refine ⟨ho, fun p e R s m args below meth c H locs cells slots ls cx hR hl hfr hlo hd hw hcl hsl => ?_⟩
  exact lv_icmp_le cx.1 cx.2.1 (dec_at cx hc rfl (by decide)) ht (fun q => (h1 q).2 p e R s m args below meth c H locs cells slots ls cx hR hl hfr hlo hd hw hcl hsl) (fun q => (h2 q).2 p e R s m args below meth c H locs cells slots ls cx hR hl hfr hlo hd hw hcl hsl)
theorem sm_if_le {a : Int32} {t : Nat} {n : Int} (hc : codeAt k pc = some (.ifCond .le n)) (ht : (pc : Int) + n = (t : Int)) (ho : hC h ≤ hC h' ∧ hS h ≤ hS h') (h1 : a ≤ 0 → Sm l s0 D dA xt hE d k t L S h o h') (h2 : ¬ a ≤ 0 → Sm l s0 D dA xt hE d k (pc + 3) L S h o h') : Sm l s0 D dA xt hE d k pc L (.int a :: S) h o h' := by
  refine ⟨ho, fun p e R s m args below meth c H locs cells slots ls cx hR hl hfr hlo hd hw hcl hsl => ?_⟩
  exact lv_if_le cx.1 cx.2.1 (dec_at cx hc rfl (by decide)) ht (fun q => (h1 q).2 p e R s m args below meth c H locs cells slots ls cx hR hl hfr hlo hd hw hcl hsl) (fun q => (h2 q).2 p e R s m args below meth c H locs cells slots ls cx hR hl hfr hlo hd hw hcl hsl)
end

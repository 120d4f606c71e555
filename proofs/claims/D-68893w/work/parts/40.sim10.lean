/-! the simulation, 10: length and charAt of the String constants, as the JDK's code has them (the decode rows: the claim's names/) -/
set_option maxRecDepth 100000
theorem dJ6_length_0 : decode cJ6_length 0 = .ok (.aload_n 0, 1) := by decide +kernel
theorem dJ6_length_1 : decode cJ6_length 1 = .ok (.getfield 9, 3) := by decide +kernel
theorem dJ6_length_4 : decode cJ6_length 4 = .ok (.arraylength, 1) := by decide +kernel
theorem dJ6_length_5 : decode cJ6_length 5 = .ok (.aload_n 0, 1) := by decide +kernel
theorem dJ6_length_6 : decode cJ6_length 6 = .ok (.invokevirtual 335, 3) := by decide +kernel
theorem dJ6_length_9 : decode cJ6_length 9 = .ok (.ishr, 1) := by decide +kernel
theorem dJ6_length_10 : decode cJ6_length 10 = .ok (.ireturn, 1) := by decide +kernel
theorem dJ6_coder_0 : decode cJ6_coder 0 = .ok (.getstatic 38, 3) := by decide +kernel
theorem dJ6_coder_3 : decode cJ6_coder 3 = .ok (.ifCond .eq 10, 3) := by decide +kernel
theorem dJ6_coder_6 : decode cJ6_coder 6 = .ok (.aload_n 0, 1) := by decide +kernel
theorem dJ6_coder_7 : decode cJ6_coder 7 = .ok (.getfield 15, 3) := by decide +kernel
theorem dJ6_coder_10 : decode cJ6_coder 10 = .ok (.goto 4, 3) := by decide +kernel
theorem dJ6_coder_13 : decode cJ6_coder 13 = .ok (.iconst 1, 1) := by decide +kernel
theorem dJ6_coder_14 : decode cJ6_coder 14 = .ok (.ireturn, 1) := by decide +kernel
theorem dJ6_charAt_0 : decode cJ6_charAt 0 = .ok (.aload_n 0, 1) := by decide +kernel
theorem dJ6_charAt_1 : decode cJ6_charAt 1 = .ok (.invokevirtual 492, 3) := by decide +kernel
theorem dJ6_charAt_4 : decode cJ6_charAt 4 = .ok (.ifCond .eq 12, 3) := by decide +kernel
theorem dJ6_charAt_7 : decode cJ6_charAt 7 = .ok (.aload_n 0, 1) := by decide +kernel
theorem dJ6_charAt_8 : decode cJ6_charAt 8 = .ok (.getfield 9, 3) := by decide +kernel
theorem dJ6_charAt_11 : decode cJ6_charAt 11 = .ok (.iload_n 1, 1) := by decide +kernel
theorem dJ6_charAt_12 : decode cJ6_charAt 12 = .ok (.invokestatic 495, 3) := by decide +kernel
theorem dJ6_charAt_15 : decode cJ6_charAt 15 = .ok (.ireturn, 1) := by decide +kernel
theorem dJ6_charAt_16 : decode cJ6_charAt 16 = .ok (.aload_n 0, 1) := by decide +kernel
theorem dJ6_charAt_17 : decode cJ6_charAt 17 = .ok (.getfield 9, 3) := by decide +kernel
theorem dJ6_charAt_20 : decode cJ6_charAt 20 = .ok (.iload_n 1, 1) := by decide +kernel
theorem dJ6_charAt_21 : decode cJ6_charAt 21 = .ok (.invokestatic 498, 3) := by decide +kernel
theorem dJ6_charAt_24 : decode cJ6_charAt 24 = .ok (.ireturn, 1) := by decide +kernel
theorem dJ6_isLatin1_0 : decode cJ6_isLatin1 0 = .ok (.getstatic 38, 3) := by decide +kernel
theorem dJ6_isLatin1_3 : decode cJ6_isLatin1 3 = .ok (.ifCond .eq 14, 3) := by decide +kernel
theorem dJ6_isLatin1_6 : decode cJ6_isLatin1 6 = .ok (.aload_n 0, 1) := by decide +kernel
theorem dJ6_isLatin1_7 : decode cJ6_isLatin1 7 = .ok (.getfield 15, 3) := by decide +kernel
theorem dJ6_isLatin1_10 : decode cJ6_isLatin1 10 = .ok (.ifCond .ne 7, 3) := by decide +kernel
theorem dJ6_isLatin1_13 : decode cJ6_isLatin1 13 = .ok (.iconst 1, 1) := by decide +kernel
theorem dJ6_isLatin1_14 : decode cJ6_isLatin1 14 = .ok (.goto 4, 3) := by decide +kernel
theorem dJ6_isLatin1_17 : decode cJ6_isLatin1 17 = .ok (.iconst 0, 1) := by decide +kernel
theorem dJ6_isLatin1_18 : decode cJ6_isLatin1 18 = .ok (.ireturn, 1) := by decide +kernel
theorem dJ6_checkIndex_0 : decode cJ6_checkIndex 0 = .ok (.iload_n 0, 1) := by decide +kernel
theorem dJ6_checkIndex_1 : decode cJ6_checkIndex 1 = .ok (.iload_n 1, 1) := by decide +kernel
theorem dJ6_checkIndex_2 : decode cJ6_checkIndex 2 = .ok (.getstatic 1053, 3) := by decide +kernel
theorem dJ6_checkIndex_5 : decode cJ6_checkIndex 5 = .ok (.invokestatic 1059, 3) := by decide +kernel
theorem dJ6_checkIndex_8 : decode cJ6_checkIndex 8 = .ok (.pop, 1) := by decide +kernel
theorem dJ6_checkIndex_9 : decode cJ6_checkIndex 9 = .ok (.return_, 1) := by decide +kernel
theorem dJ7_charAt_0 : decode cJ7_charAt 0 = .ok (.iload_n 1, 1) := by decide +kernel
theorem dJ7_charAt_1 : decode cJ7_charAt 1 = .ok (.aload_n 0, 1) := by decide +kernel
theorem dJ7_charAt_2 : decode cJ7_charAt 2 = .ok (.arraylength, 1) := by decide +kernel
theorem dJ7_charAt_3 : decode cJ7_charAt 3 = .ok (.invokestatic 9, 3) := by decide +kernel
theorem dJ7_charAt_6 : decode cJ7_charAt 6 = .ok (.aload_n 0, 1) := by decide +kernel
theorem dJ7_charAt_7 : decode cJ7_charAt 7 = .ok (.iload_n 1, 1) := by decide +kernel
theorem dJ7_charAt_8 : decode cJ7_charAt 8 = .ok (.baload, 1) := by decide +kernel
theorem dJ7_charAt_9 : decode cJ7_charAt 9 = .ok (.sipush 255, 3) := by decide +kernel
theorem dJ7_charAt_12 : decode cJ7_charAt 12 = .ok (.iand, 1) := by decide +kernel
theorem dJ7_charAt_13 : decode cJ7_charAt 13 = .ok (.i2c, 1) := by decide +kernel
theorem dJ7_charAt_14 : decode cJ7_charAt 14 = .ok (.ireturn, 1) := by decide +kernel
theorem dJ8_checkIndex_0 : decode cJ8_checkIndex 0 = .ok (.iload_n 0, 1) := by decide +kernel
theorem dJ8_checkIndex_1 : decode cJ8_checkIndex 1 = .ok (.ifCond .lt 8, 3) := by decide +kernel
theorem dJ8_checkIndex_4 : decode cJ8_checkIndex 4 = .ok (.iload_n 0, 1) := by decide +kernel
theorem dJ8_checkIndex_5 : decode cJ8_checkIndex 5 = .ok (.iload_n 1, 1) := by decide +kernel
theorem dJ8_checkIndex_6 : decode cJ8_checkIndex 6 = .ok (.if_icmp .lt 10, 3) := by decide +kernel
theorem dJ8_checkIndex_9 : decode cJ8_checkIndex 9 = .ok (.aload_n 2, 1) := by decide +kernel
theorem dJ8_checkIndex_10 : decode cJ8_checkIndex 10 = .ok (.iload_n 0, 1) := by decide +kernel
theorem dJ8_checkIndex_11 : decode cJ8_checkIndex 11 = .ok (.iload_n 1, 1) := by decide +kernel
theorem dJ8_checkIndex_12 : decode cJ8_checkIndex 12 = .ok (.invokestatic 95, 3) := by decide +kernel
theorem dJ8_checkIndex_15 : decode cJ8_checkIndex 15 = .ok (.athrow, 1) := by decide +kernel
theorem dJ8_checkIndex_16 : decode cJ8_checkIndex 16 = .ok (.iload_n 0, 1) := by decide +kernel
theorem dJ8_checkIndex_17 : decode cJ8_checkIndex 17 = .ok (.ireturn, 1) := by decide +kernel
/-- the String constants and String's statics at the law's start -/
def Ws (s0 : State) (xt : Nat → Nat) (hE : AH) : Prop :=
  va_Z "java/lang/String" "COMPACT_STRINGS" "Z" (.int 1) (fun q => s0.heap.size ≤ q) s0 s0.heap ∧ va_Zq "jdk/internal/util/Preconditions" "SIOOBE_FORMATTER" "Ljava/util/function/BiFunction;" (fun q => s0.heap.size ≤ q) s0 s0.heap ∧
  ∀ a, 2 ≤ a → a < K0 → hN hE a < 2 ^ 31 ∧ (∀ j, j < hN hE a → 0 ≤ hI hE a j ∧ hI hE a j < 128) ∧ va_O "java/lang/String" (adO s0 xt a) (fun q => s0.heap.size ≤ q) s0 s0.heap ∧ ∃ v : Nat, va_OF "java/lang/String" "coder" "B" (.int 0) (adO s0 xt a) (fun q => s0.heap.size ≤ q) s0 s0.heap ∧ va_OF "java/lang/String" "value" "[B" (.ref v) (adO s0 xt a) (fun q => s0.heap.size ≤ q) s0 s0.heap ∧ va_T .byte v (hN hE a) (fun j => .int (hI hE a j)) (fun q => s0.heap.size ≤ q) s0 s0.heap
section
variable {l : Launch} {s0 : State} {D : va_G} {dA : Nat → ClassId} {xt : Nat → Nat} {hE : AH} {args0 : Array Value} {d k pc : Nat} {L : LO} {S : List Value} {h h' : AH} {o : OU}
variable {p : Program} {e : Env} {R : Room} {s : State} {m : MethodId} {args : Array Value} {below : List Frame} {meth : Method} {c : Code} {H : Heap} {locs : List Loc} {cells slots : Nat} {ls : Array Slot}
/-- a method of the tables, by its word -/
theorem mg_at (wd : Wd s0 D dA xt hE args0) (hw : s0.WarmedH s.vm) {y : MethodName} {yb : ByteArray} {yn : Nat} {yr : Option FieldType} (hc : Cond.code y yb yn yr ∈ lw_all) : ∃ mk methk ck, Mg y yb yn yr s mk methk ck ∧ parseMethodDescriptor y.desc = some methk.sig := by
  have hb := wd_ts (args := #[]) wd hw _ hc
  obtain ⟨mk, hn⟩ := Cond.code_named hb
  obtain ⟨methk, ck, a1, a2, a3, a4, a5, a6, a7, a8⟩ := Cond.code_spec hn hb
  exact ⟨mk, methk, ck, ⟨hn, a1, a2, a3, a4, a5, a6⟩, a8⟩
theorem iv_str (wd : Wd s0 D dA xt hE args0) (hexec : p.tables.exec = Jvm.exec) (hw : s0.WarmedH s.vm) {own : String} (hown : s.vm.findClass own = some m.cls) {n' : Nat} {y : MethodName} {yb : ByteArray} {yn : Nat} {yr : Option FieldType} (hl : Cond.methodLink own n' y ∈ lw_all) (hin : Cond.instanceMethod y ∈ lw_all) (hse : Cond.selects "java/lang/String" y y ∈ lw_all) (hy : y.cls ≠ "java/lang/invoke/MethodHandle" ∧ y.cls ≠ "java/lang/invoke/VarHandle") {b : Nat} {cell : Cell} (hcell : H[b]? = some cell) (hobj : cell.vm.isStatics = false) (hcls : s.vm.findClass "java/lang/String" = some cell.cls) {as rest : List Value} {mk : MethodId} {methk : Method} {ck : Code} (hm : Mg y yb yn yr s mk methk ck) (hp : as.length = methk.sig.parameters.length) (hdg : decode c.code pc = .ok (.invokevirtual n', 3)) :
    Iv p l e R s m args below meth c H locs cells slots (F0 m pc ls (as.reverse ++ .ref b :: rest)) rest mk (.ref b :: as).toArray := by
  have hts := wd_ts (args := args) wd hw
  obtain ⟨hn0, a1, -⟩ := hm
  obtain ⟨mk', methM, hnamed, hmethM, hstM, habM⟩ := Cond.instanceMethod_spec (hts _ hin)
  cases hn0.symm.trans hnamed
  cases a1.symm.trans hmethM
  obtain ⟨c2, r2, m2, q1, q2, q3, q4, kP, hkP, hkPi⟩ := Cond.selects_spec (hts _ hse)
  cases hcls.symm.trans q1
  cases (State.methodFound?_of_named hnamed hy).symm.trans q2
  cases hnamed.symm.trans q3
  intro T hT X
  have hselP : selectMethod e.platform s.vm cell.cls mk = .method mk := by rw [Launch.admits_selectMethod X.admits]; exact q4
  obtain ⟨vm₁, X₁, hstep₁⟩ := X.invokevirtual hexec hown (hts _ hl) hnamed hmethM hstM hkP hkPi hy (a := b) (cell := cell) (by rw [hT]; exact hcell)
    (fun y hy => by rw [hy] at hobj; cases hobj) hselP hmethM habM hkP hkPi (g := F0 m pc ls (as.reverse ++ .ref b :: rest)) rfl (argsL := as) (rest := rest) hp rfl hdg
  exact ⟨vm₁, X₁, hstep₁⟩
theorem iv_stt (wd : Wd s0 D dA xt hE args0) (hexec : p.tables.exec = Jvm.exec) (hw : s0.WarmedH s.vm) {own : String} (hown : s.vm.findClass own = some m.cls) {n' : Nat} {y : MethodName} {yb : ByteArray} {yn : Nat} {yr : Option FieldType} (hl : Cond.methodLink own n' y ∈ lw_all) (hst : Cond.static y ∈ lw_all) (hini : Cond.initialized y.cls ∈ lw_all) (hy : y.cls ≠ "java/lang/invoke/MethodHandle" ∧ y.cls ≠ "java/lang/invoke/VarHandle") {as rest : List Value} {mk : MethodId} {methk : Method} {ck : Code} (hm : Mg y yb yn yr s mk methk ck) (hp : as.length = methk.sig.parameters.length) (hdg : decode c.code pc = .ok (.invokestatic n', 3)) :
    Iv p l e R s m args below meth c H locs cells slots (F0 m pc ls (as.reverse ++ rest)) rest mk as.toArray := by
  have hts := wd_ts (args := args) wd hw
  obtain ⟨hn0, a1, -⟩ := hm
  obtain ⟨kP, hkP, -⟩ := className_of_methodNamed hn0
  have hstatic : methk.isStatic = true := Cond.static_spec hn0 a1 (hts _ hst)
  have hinitP : kP.init = .initialized := Cond.initialized_spec (findClass_of_methodNamed hn0) hkP (hts _ hini)
  intro T hT X
  obtain ⟨vm₁, X₁, hstep₁⟩ := X.invokestatic hexec hown (hts _ hl) hn0 a1 hstatic hkP hinitP hy (g := F0 m pc ls (as.reverse ++ rest)) rfl (argsL := as) (rest := rest) hp rfl hdg
  exact ⟨vm₁, X₁, hstep₁⟩
/-- what is known at the entry of such a method -/
theorem ws_at (ws : Ws s0 xt hE) (hR : Rp s0 D dA xt hE h H) (hw : s0.WarmedH s.vm) (hH : ∀ q, q < s0.heap.size → s.heap[q]? = s0.heap[q]?) {a : Nat} (ha : 2 ≤ a) (hb : a < K0) : va_O "java/lang/String" (adO s0 xt a) (fun q => s0.heap.size ≤ q) s s.heap ∧ ∃ v : Nat, va_OF "java/lang/String" "coder" "B" (.int 0) (adO s0 xt a) (fun q => s0.heap.size ≤ q) s s.heap ∧ va_OF "java/lang/String" "value" "[B" (.ref v) (adO s0 xt a) (fun q => s0.heap.size ≤ q) s s.heap ∧ va_T .byte v (hN hE a) (fun j => .int (hI hE a j)) (fun q => s0.heap.size ≤ q) s s.heap := by
  obtain ⟨-, -, h1, v, h2, h3, h4⟩ := ws.2.2 a ha hb
  exact ⟨(va_O.moved hw.alike h1).kept (fun q hq _ => hH q hq), v, (va_OF.moved hw.alike h2).kept (fun q hq _ => hH q hq), (va_OF.moved hw.alike h3).kept (fun q hq _ => hH q hq), (va_T.moved hw.alike h4).kept (fun q hq _ => hH q hq)⟩
theorem va_Snil (hH : s.heap = H) : va_S (fun q => s0.heap.size ≤ q) s.heap H [] := by rw [hH]; exact ⟨Nat.le_refl _, fun _ _ _ => rfl, fun q hq => absurd hq List.not_mem_nil⟩
theorem j_coder (wd : Wd s0 D dA xt hE args0) (ws : Ws s0 xt hE) {a : Nat} (ha : 2 ≤ a) (hb : a < K0) (hexec : p.tables.exec = Jvm.exec) (hR : Rp s0 D dA xt hE h H) (hw : s0.WarmedH s.vm) (hH : s.heap = H) (hm : Mg yJ6_coder cJ6_coder 1 (some .byte) s m meth c) : W p l e R s m #[.ref (adO s0 xt a)] below meth c H [] 0 0 (EQ s0 D dA xt hE below s (.inl (some (.int 0))) h 0 0) (entryFrame m #[.ref (adO s0 xt a)] 1) := by
  obtain ⟨hn, a1, a2, a3, a4, a5, a6⟩ := hm
  have hown : s.vm.findClass "java/lang/String" = some m.cls := findClass_of_methodNamed hn
  have hts := wd_ts (args := #[.ref (adO s0 xt a)]) wd hw
  have hpre : ∀ q, q < s0.heap.size → s.heap[q]? = s0.heap[q]? := by rw [hH]; exact hR.2.2.1
  have hZ := (va_Z.moved hw.alike ws.1).kept (fun q hq _ => hpre q hq)
  obtain ⟨-, v, hOc, -, -⟩ := ws_at ws hR hw hpre ha hb
  have hS := va_Snil (s0 := s0) hH
  show W _ _ _ _ _ _ _ _ _ _ _ _ _ _ _ (entryFrame m [Value.ref (adO s0 xt a)].toArray 1)
  rw [lg_entry_eq]
  have hl := lv_entry [Value.ref (adO s0 xt a)] (n := 1) (Nat.le_of_ble_eq_true rfl)
  revert hl
  generalize (lg_sl [Value.ref (adO s0 xt a)] ++ List.replicate (1 - (lg_sl [Value.ref (adO s0 xt a)]).length) Slot.unset).toArray = ls
  intro hl
  have hl : lv_has ls 1 [(0, .ref (adO s0 xt a))] := hl
  refine va_gets hexec a3 hZ hS hown (hts _ q694) (fun _ z => z) dJ6_coder_0 ?_
  refine lv_if_eq (tgt := 13) hexec a3 dJ6_coder_3 (by decide) (fun z => absurd z (by decide)) (fun _ => ?_)
  refine lv_aload_n hexec a3 dJ6_coder_6 rfl (lv_at hl 0 rfl) ?_
  refine vk_getf hexec a3 hOc hS hown (hts _ q2218) (fun _ z => z) dJ6_coder_7 ?_
  refine lv_goto (tgt := 14) hexec a3 dJ6_coder_10 (by decide) ?_
  exact W_mono (fun t => MQ_EQ (v := some (.int 0))) (W.zret hexec a3 a5 rfl (fun t ht _ => ⟨rfl, by rw [ht]; exact hR⟩) (fun q hq => absurd hq List.not_mem_nil) dJ6_coder_14 a6)
theorem j_isLatin1 (wd : Wd s0 D dA xt hE args0) (ws : Ws s0 xt hE) {a : Nat} (ha : 2 ≤ a) (hb : a < K0) (hexec : p.tables.exec = Jvm.exec) (hR : Rp s0 D dA xt hE h H) (hw : s0.WarmedH s.vm) (hH : s.heap = H) (hm : Mg yJ6_isLatin1 cJ6_isLatin1 1 (some .boolean) s m meth c) : W p l e R s m #[.ref (adO s0 xt a)] below meth c H [] 0 0 (EQ s0 D dA xt hE below s (.inl (some (.int 1))) h 0 0) (entryFrame m #[.ref (adO s0 xt a)] 1) := by
  obtain ⟨hn, a1, a2, a3, a4, a5, a6⟩ := hm
  have hown : s.vm.findClass "java/lang/String" = some m.cls := findClass_of_methodNamed hn
  have hts := wd_ts (args := #[.ref (adO s0 xt a)]) wd hw
  have hpre : ∀ q, q < s0.heap.size → s.heap[q]? = s0.heap[q]? := by rw [hH]; exact hR.2.2.1
  have hZ := (va_Z.moved hw.alike ws.1).kept (fun q hq _ => hpre q hq)
  obtain ⟨-, v, hOc, -, -⟩ := ws_at ws hR hw hpre ha hb
  have hS := va_Snil (s0 := s0) hH
  show W _ _ _ _ _ _ _ _ _ _ _ _ _ _ _ (entryFrame m [Value.ref (adO s0 xt a)].toArray 1)
  rw [lg_entry_eq]
  have hl := lv_entry [Value.ref (adO s0 xt a)] (n := 1) (Nat.le_of_ble_eq_true rfl)
  revert hl
  generalize (lg_sl [Value.ref (adO s0 xt a)] ++ List.replicate (1 - (lg_sl [Value.ref (adO s0 xt a)]).length) Slot.unset).toArray = ls
  intro hl
  have hl : lv_has ls 1 [(0, .ref (adO s0 xt a))] := hl
  refine va_gets hexec a3 hZ hS hown (hts _ q694) (fun _ z => z) dJ6_isLatin1_0 ?_
  refine lv_if_eq (tgt := 17) hexec a3 dJ6_isLatin1_3 (by decide) (fun z => absurd z (by decide)) (fun _ => ?_)
  refine lv_aload_n hexec a3 dJ6_isLatin1_6 rfl (lv_at hl 0 rfl) ?_
  refine vk_getf hexec a3 hOc hS hown (hts _ q2218) (fun _ z => z) dJ6_isLatin1_7 ?_
  refine lv_if_ne (tgt := 17) hexec a3 dJ6_isLatin1_10 (by decide) (fun z => absurd rfl z) (fun _ => ?_)
  refine lv_iconst (v := 1) hexec a3 dJ6_isLatin1_13 (by decide) ?_
  refine lv_goto (tgt := 18) hexec a3 dJ6_isLatin1_14 (by decide) ?_
  exact W_mono (fun t => MQ_EQ (v := some (.int 1))) (W.zret hexec a3 a5 rfl (fun t ht _ => ⟨rfl, by rw [ht]; exact hR⟩) (fun q hq => absurd hq List.not_mem_nil) dJ6_isLatin1_18 a6)
theorem j_pre (wd : Wd s0 D dA xt hE args0) {i n : Int32} (h0 : ¬ i < 0) (h1 : i < n) {fo : Value} (hexec : p.tables.exec = Jvm.exec) (hR : Rp s0 D dA xt hE h H) (hfo : fo.category = 1) (hm : Mg yJ8_checkIndex cJ8_checkIndex 3 (some .int) s m meth c) : W p l e R s m #[.int i, .int n, fo] below meth c H [] 0 0 (EQ s0 D dA xt hE below s (.inl (some (.int i))) h 0 0) (entryFrame m #[.int i, .int n, fo] 3) := by
  obtain ⟨hn, a1, a2, a3, a4, a5, a6⟩ := hm
  show W _ _ _ _ _ _ _ _ _ _ _ _ _ _ _ (entryFrame m [Value.int i, Value.int n, fo].toArray 3)
  rw [lg_entry_eq]
  have hl := lv_entry [Value.int i, Value.int n, fo] (n := 3) (by rw [args_fit]; show 1 + (1 + (fo.category + 0)) ≤ 3; rw [hfo]; decide)
  revert hl
  generalize (lg_sl [Value.int i, Value.int n, fo] ++ List.replicate (3 - (lg_sl [Value.int i, Value.int n, fo]).length) Slot.unset).toArray = ls
  intro hl
  have hl : lv_has ls 3 [(0, .int i), (1, .int n), (2, fo)] := hl
  refine lv_iload_n hexec a3 dJ8_checkIndex_0 rfl (lv_at hl 0 rfl) ?_
  refine lv_if_lt (tgt := 9) hexec a3 dJ8_checkIndex_1 (by decide) (fun z => absurd z h0) (fun _ => ?_)
  refine lv_iload_n hexec a3 dJ8_checkIndex_4 rfl (lv_at hl 0 rfl) ?_
  refine lv_iload_n hexec a3 dJ8_checkIndex_5 rfl (lv_at hl 1 rfl) ?_
  refine lv_icmp_lt (tgt := 16) hexec a3 dJ8_checkIndex_6 (by decide) (fun _ => ?_) (fun z => absurd h1 z)
  refine lv_iload_n hexec a3 dJ8_checkIndex_16 rfl (lv_at hl 0 rfl) ?_
  exact W_mono (fun t => MQ_EQ (v := some (.int i))) (W.iret hexec a3 a5 (fun t ht _ => ⟨rfl, by rw [ht]; exact hR⟩) (fun q hq => absurd hq List.not_mem_nil) dJ8_checkIndex_17 a6)
theorem j_go {aC : Array Value} {Sr : List Value} {v : Option Value} {y : MethodName} {yb : ByteArray} {yn : Nat} {yr : Option FieldType} (hyp : plainName y.cls = true) (hyn : yn ≤ 29) (hsize : ls.size = c.maxLocals) (hwm : s0.WarmedH s.vm) (hR : Rp s0 D dA xt hE h H) (hfr : Fr s0 s H cells) (hlo : ∀ q ∈ locs, s0.heap.size ≤ q.base) (hd : 1 ≤ R.frames) (hw : 48 ≤ R.locals) (hcl : cells ≤ R.cells) (hsl : slots ≤ R.slots) (hS8 : (Sr.map fun v => v.category).sum ≤ 8)
    {ig : Instr} (hdg : decode c.code pc = .ok (ig, 3)) {mk : MethodId} {methk : Method} {ck : Code} (hm : Mg y yb yn yr s mk methk ck) {st : List Value}
    (hiv : Iv p l e R s m args below meth c H locs cells slots (F0 m pc ls st) Sr mk aC)
    (hin : ∀ sC : State, s0.WarmedH sC.vm → sC.heap = H → Mg y yb yn yr sC mk methk ck → W p l e { frames := R.frames - 1, cells := R.cells - cells, slots := R.slots - slots, locals := R.locals - 48 } sC mk aC (.java (F0 m pc ls Sr) :: below) methk ck H [] 0 0 (EQ s0 D dA xt hE (.java (F0 m pc ls Sr) :: below) sC (.inl v) h 0 0) (entryFrame mk aC yn)) {Q : State → Prop}
    (kk : ∀ (H' : Heap) (locs' : List Loc), Rp s0 D dA xt hE h H' → Fr s0 s H' cells → (∀ q ∈ locs', s0.heap.size ≤ q.base) → W p l e R s m args below meth c H' locs' cells slots Q (F0 m (pc + 3) ls ((v.map (vM (adO s0 xt))).toList ++ Sr))) : W p l e R s m args below meth c H locs cells slots Q (F0 m pc ls st) := by
  refine call_Wg (o1 := .inl v) (h1 := h) hyp hyn ⟨Nat.le_refl _, Nat.le_refl _⟩ hsize hwm hR hfr hlo hd hw (by omega) (by omega) hS8 hdg hm hiv ?_ ?_
  · intro sC h1 h2 h3
    rw [Nat.sub_self, Nat.sub_self]
    exact hin sC h1 h2 h3
  · intro T' locs' X' hR' hfr' hlo'
    rw [Nat.sub_self, Nat.add_zero] at hfr'
    rw [Nat.sub_self, Nat.sub_self, Nat.add_zero, Nat.add_zero] at X'
    exact kk T'.heap locs' hR' hfr' hlo' T' rfl X'
theorem fr_0 (hR : Rp s0 D dA xt hE h H) (hH : s.heap = H) : Fr s0 s H 0 := ⟨by rw [hH, hR.2.1]; omega, by rw [hH]; exact hR.2.2.1, by rw [hH]; rfl⟩
theorem va_Slo (hfr : Fr s0 s H cells) (hR : Rp s0 D dA xt hE h H) (hlo : ∀ q ∈ locs, s0.heap.size ≤ q.base) : va_S (fun q => s0.heap.size ≤ q) s.heap H locs := fr_S hR hfr hlo
theorem j_chk (wd : Wd s0 D dA xt hE args0) (ws : Ws s0 xt hE) {i n : Int32} (h0 : ¬ i < 0) (h1 : i < n) (hexec : p.tables.exec = Jvm.exec) (hR : Rp s0 D dA xt hE h H) (hw : s0.WarmedH s.vm) (hH : s.heap = H) (hRf : 1 ≤ R.frames) (hRl : 48 ≤ R.locals) (hm : Mg yJ6_checkIndex cJ6_checkIndex 2 none s m meth c) : W p l e R s m #[.int i, .int n] below meth c H [] 0 0 (EQ s0 D dA xt hE below s (.inl none) h 0 0) (entryFrame m #[.int i, .int n] 2) := by
  obtain ⟨hn, a1, a2, a3, a4, a5, a6⟩ := hm
  have hown : s.vm.findClass "java/lang/String" = some m.cls := findClass_of_methodNamed hn
  have hts := wd_ts (args := #[.int i, .int n]) wd hw
  have hpre : ∀ q, q < s0.heap.size → s.heap[q]? = s0.heap[q]? := by rw [hH]; exact hR.2.2.1
  have hS := va_Snil (s0 := s0) hH
  show W _ _ _ _ _ _ _ _ _ _ _ _ _ _ _ (entryFrame m [Value.int i, Value.int n].toArray 2)
  rw [lg_entry_eq]
  have hl := lv_entry [Value.int i, Value.int n] (n := 2) (Nat.le_of_ble_eq_true rfl)
  revert hl
  generalize (lg_sl [Value.int i, Value.int n] ++ List.replicate (2 - (lg_sl [Value.int i, Value.int n]).length) Slot.unset).toArray = ls
  intro hl
  have hl : lv_has ls 2 [(0, .int i), (1, .int n)] := hl
  refine lv_iload_n hexec a3 dJ6_checkIndex_0 rfl (lv_at hl 0 rfl) ?_
  refine lv_iload_n hexec a3 dJ6_checkIndex_1 rfl (lv_at hl 1 rfl) ?_
  have key : ∀ fo : Value, fo.category = 1 → va_Z "jdk/internal/util/Preconditions" "SIOOBE_FORMATTER" "Ljava/util/function/BiFunction;" fo (fun q => s0.heap.size ≤ q) s0 s0.heap → W p l e R s m #[.int i, .int n] below meth c H [] 0 0 (EQ s0 D dA xt hE below s (.inl none) h 0 0) (F0 m 2 ls [.int n, .int i]) := by
    intro fo hfo hZ0
    have hZ := (va_Z.moved hw.alike hZ0).kept (fun q hq _ => hpre q hq)
    refine va_gets hexec a3 hZ hS hown (hts _ q710) (fun _ z => z) dJ6_checkIndex_2 ?_
    obtain ⟨mk, methk, ck, hmk, hsig⟩ := mg_at wd hw q714
    refine j_go (aC := #[.int i, .int n, fo]) (Sr := []) (v := some (.int i)) (y := yJ8_checkIndex) (by decide +kernel) (by decide) (hl.1.trans a4.symm) hw hR (fr_0 hR hH) (fun q hq => absurd hq List.not_mem_nil) hRf hRl (Nat.zero_le _) (Nat.zero_le _) (by decide) (by rw [a3]; exact dJ6_checkIndex_5) hmk
      (iv_stt wd hexec hw hown q712 q713 q186 ⟨by decide +kernel, by decide +kernel⟩ (as := [.int i, .int n, fo]) (rest := []) hmk (by
        have e1 : (parseMethodDescriptor yJ8_checkIndex.desc).map (fun d => d.parameters.length) = some 3 := by decide +kernel
        rw [show parseMethodDescriptor yJ8_checkIndex.desc = some methk.sig from hsig] at e1
        exact (Option.some.inj e1).symm) (by rw [a3]; exact dJ6_checkIndex_5))
      (fun sC b1 b2 b3 => j_pre wd h0 h1 hexec hR hfo b3) ?_
    intro H' locs' hR' hfr' hlo'
    refine lv_pop hexec a3 dJ6_checkIndex_8 rfl ?_
    exact W_mono (fun t => MQ_EQ (v := none)) (W.vret hexec a3 a5 (fun t ht _ => ⟨rfl, by rw [ht]; exact hR'⟩) hlo' dJ6_checkIndex_9 a6)
  rcases ws.2.1 with hz | ⟨t, hz⟩
  · exact key _ rfl hz
  · exact key _ rfl hz
theorem and255 {x : Int32} (h0 : 0 ≤ x) (h1 : x < 128) : x &&& 255 = x ∧ (x.toUInt32 % 65536).toInt32 = x ∧ narrow .char (.int x) = .int x := by
  obtain ⟨n, hn, rfl⟩ : ∃ n : Nat, n < 128 ∧ x = Int32.ofNat n := by
    refine ⟨x.toInt.toNat, ?_, ?_⟩
    · rw [Int32.lt_iff_toInt_lt] at h1
      have : (128 : Int32).toInt = 128 := rfl
      rw [Int32.le_iff_toInt_le] at h0
      have h2 : (0 : Int32).toInt = 0 := rfl
      omega
    · rw [Int32.le_iff_toInt_le] at h0
      have h2 : (0 : Int32).toInt = 0 := rfl
      apply Int32.toInt.inj
      rw [Int32.toInt_ofNat_of_lt]
      · omega
      · rw [Int32.lt_iff_toInt_lt] at h1
        have : (128 : Int32).toInt = 128 := rfl
        omega
  have key : ∀ n : Nat, n < 128 → (Int32.ofNat n &&& 255 = Int32.ofNat n ∧ ((Int32.ofNat n).toUInt32 % 65536).toInt32 = Int32.ofNat n ∧ narrow .char (.int (Int32.ofNat n)) = .int (Int32.ofNat n)) := by decide +kernel
  exact key n hn
theorem j_latin (wd : Wd s0 D dA xt hE args0) (ws : Ws s0 xt hE) {a v : Nat} {i : Int32} (ha : 2 ≤ a) (hb : a < K0) (hi : ixN i (hN hE a) = true) (hv : va_T .byte v (hN hE a) (fun j => .int (hI hE a j)) (fun q => s0.heap.size ≤ q) s0 s0.heap) (hexec : p.tables.exec = Jvm.exec) (hR : Rp s0 D dA xt hE h H) (hw : s0.WarmedH s.vm) (hH : s.heap = H) (hRf : 2 ≤ R.frames) (hRl : 96 ≤ R.locals) (hm : Mg yJ7_charAt cJ7_charAt 2 (some .char) s m meth c) : W p l e R s m #[.ref v, .int i] below meth c H [] 0 0 (EQ s0 D dA xt hE below s (.inl (some (.int (hI hE a i.toNatClampNeg)))) h 0 0) (entryFrame m #[.ref v, .int i] 2) := by
  obtain ⟨hn, a1, a2, a3, a4, a5, a6⟩ := hm
  have hown : s.vm.findClass "java/lang/StringLatin1" = some m.cls := findClass_of_methodNamed hn
  have hpre : ∀ q, q < s0.heap.size → s.heap[q]? = s0.heap[q]? := by rw [hH]; exact hR.2.2.1
  have hS := va_Snil (s0 := s0) hH
  have hT := (va_T.moved hw.alike hv).kept (fun q hq _ => hpre q hq)
  obtain ⟨hN31, hbyt, -⟩ := ws.2.2 a ha hb
  have hix := hi
  unfold ixN at hix
  rw [Bool.and_eq_true, decide_eq_true_iff, decide_eq_true_iff] at hix
  have h0 : ¬ i < 0 := Int32.not_lt.mpr hix.1
  have h1 : i < Int32.ofNat (hN hE a) := by
    rw [Int32.lt_iff_toInt_lt, Int32.toInt_ofNat_of_lt (by omega)]
    have := hix.2
    have h2 := Int32.le_iff_toInt_le.mp hix.1
    have h3 : (0 : Int32).toInt = 0 := rfl
    have h4 : i.toNatClampNeg = i.toInt.toNat := rfl
    omega
  obtain ⟨b1, b2⟩ := hbyt _ hix.2
  obtain ⟨c1, c2, c3⟩ := and255 b1 b2
  show W _ _ _ _ _ _ _ _ _ _ _ _ _ _ _ (entryFrame m [Value.ref v, Value.int i].toArray 2)
  rw [lg_entry_eq]
  have hl := lv_entry [Value.ref v, Value.int i] (n := 2) (Nat.le_of_ble_eq_true rfl)
  revert hl
  generalize (lg_sl [Value.ref v, Value.int i] ++ List.replicate (2 - (lg_sl [Value.ref v, Value.int i]).length) Slot.unset).toArray = ls
  intro hl
  have hl : lv_has ls 2 [(0, .ref v), (1, .int i)] := hl
  refine lv_iload_n hexec a3 dJ7_charAt_0 rfl (lv_at hl 1 rfl) ?_
  refine lv_aload_n hexec a3 dJ7_charAt_1 rfl (lv_at hl 0 rfl) ?_
  refine va_tlen hexec a3 hT hS rfl dJ7_charAt_2 ?_
  obtain ⟨mk, methk, ck, hmk, hsig⟩ := mg_at wd hw q709
  refine j_go (aC := #[.int i, .int (Int32.ofNat (hN hE a))]) (Sr := []) (v := none) (y := yJ6_checkIndex) (by decide +kernel) (by decide) (hl.1.trans a4.symm) hw hR (fr_0 hR hH) (fun q hq => absurd hq List.not_mem_nil) (by omega) (by omega) (Nat.zero_le _) (Nat.zero_le _) (by decide) (by rw [a3]; exact dJ7_charAt_3) hmk
    (iv_stt wd hexec hw hown q707 q708 q184 ⟨by decide +kernel, by decide +kernel⟩ (as := [.int i, .int (Int32.ofNat (hN hE a))]) (rest := []) hmk (by
      have e1 : (parseMethodDescriptor yJ6_checkIndex.desc).map (fun d => d.parameters.length) = some 2 := by decide +kernel
      rw [show parseMethodDescriptor yJ6_checkIndex.desc = some methk.sig from hsig] at e1
      exact (Option.some.inj e1).symm) (by rw [a3]; exact dJ7_charAt_3))
    (fun sC d1 d2 d3 => j_chk wd ws h0 h1 hexec hR d1 d2 (by show 1 ≤ R.frames - 1; omega) (by show 48 ≤ R.locals - 48; omega) d3) ?_
  intro H' locs' hR' hfr' hlo'
  have hS' := va_Slo hfr' hR' hlo'
  refine lv_aload_n hexec a3 dJ7_charAt_6 rfl (lv_at hl 0 rfl) ?_
  refine lv_iload_n hexec a3 dJ7_charAt_7 rfl (lv_at hl 1 rfl) ?_
  refine va_tb hexec a3 hT hS' (ix_in hi) rfl dJ7_charAt_8 ?_
  refine lv_sipush (v := 255) hexec a3 dJ7_charAt_9 (by decide) ?_
  refine lv_iand hexec a3 dJ7_charAt_12 ?_
  rw [c1]
  refine lv_i2c hexec a3 dJ7_charAt_13 c2 ?_
  exact W_mono (fun t => MQ_EQ (v := some (.int (hI hE a i.toNatClampNeg)))) (W.zret hexec a3 a5 c3 (fun t ht _ => ⟨rfl, by rw [ht]; exact hR'⟩) hlo' dJ7_charAt_14 a6)
theorem j_charAt (wd : Wd s0 D dA xt hE args0) (ws : Ws s0 xt hE) {a : Nat} {i : Int32} (ha : 2 ≤ a) (hb : a < K0) (hi : ixN i (hN hE a) = true) (hexec : p.tables.exec = Jvm.exec) (hR : Rp s0 D dA xt hE h H) (hw : s0.WarmedH s.vm) (hH : s.heap = H) (hRf : 3 ≤ R.frames) (hRl : 144 ≤ R.locals) (hm : Mg yJ6_charAt cJ6_charAt 2 (some .char) s m meth c) : W p l e R s m #[.ref (adO s0 xt a), .int i] below meth c H [] 0 0 (EQ s0 D dA xt hE below s (.inl (some (.int (hI hE a i.toNatClampNeg)))) h 0 0) (entryFrame m #[.ref (adO s0 xt a), .int i] 2) := by
  obtain ⟨hn, a1, a2, a3, a4, a5, a6⟩ := hm
  have hown : s.vm.findClass "java/lang/String" = some m.cls := findClass_of_methodNamed hn
  have hts := wd_ts (args := #[.ref (adO s0 xt a), .int i]) wd hw
  have hpre : ∀ q, q < s0.heap.size → s.heap[q]? = s0.heap[q]? := by rw [hH]; exact hR.2.2.1
  have hix := hi
  unfold ixN at hix
  rw [Bool.and_eq_true, decide_eq_true_iff, decide_eq_true_iff] at hix
  obtain ⟨hN31, hbyt, hO0, v, hc0, hv0, hT0⟩ := ws.2.2 a ha hb
  have hO := (va_O.moved hw.alike hO0).kept (fun q hq _ => hpre q hq)
  have hOv := (va_OF.moved hw.alike hv0).kept (fun q hq _ => hpre q hq)
  obtain ⟨b1, b2⟩ := hbyt _ hix.2
  obtain ⟨-, -, c3⟩ := and255 b1 b2
  show W _ _ _ _ _ _ _ _ _ _ _ _ _ _ _ (entryFrame m [Value.ref (adO s0 xt a), Value.int i].toArray 2)
  rw [lg_entry_eq]
  have hl := lv_entry [Value.ref (adO s0 xt a), Value.int i] (n := 2) (Nat.le_of_ble_eq_true rfl)
  revert hl
  generalize (lg_sl [Value.ref (adO s0 xt a), Value.int i] ++ List.replicate (2 - (lg_sl [Value.ref (adO s0 xt a), Value.int i]).length) Slot.unset).toArray = ls
  intro hl
  have hl : lv_has ls 2 [(0, .ref (adO s0 xt a)), (1, .int i)] := hl
  refine lv_aload_n hexec a3 dJ6_charAt_0 rfl (lv_at hl 0 rfl) ?_
  obtain ⟨mk, methk, ck, hmk, hsig⟩ := mg_at wd hw q703
  obtain ⟨cell, hcell, hobj, hcls, -⟩ := hO
  refine j_go (aC := #[.ref (adO s0 xt a)]) (Sr := []) (v := some (.int 1)) (y := yJ6_isLatin1) (by decide +kernel) (by decide) (hl.1.trans a4.symm) hw hR (fr_0 hR hH) (fun q hq => absurd hq List.not_mem_nil) (by omega) (by omega) (Nat.zero_le _) (Nat.zero_le _) (by decide) (by rw [a3]; exact dJ6_charAt_1) hmk
    (iv_str wd hexec hw hown q700 q701 q702 ⟨by decide +kernel, by decide +kernel⟩ (by rw [← hH]; exact hcell) hobj hcls (as := []) (rest := []) hmk (by
      have e1 : (parseMethodDescriptor yJ6_isLatin1.desc).map (fun d => d.parameters.length) = some 0 := by decide +kernel
      rw [show parseMethodDescriptor yJ6_isLatin1.desc = some methk.sig from hsig] at e1
      exact (Option.some.inj e1).symm) (by rw [a3]; exact dJ6_charAt_1))
    (fun sC d1 d2 d3 => j_isLatin1 wd ws ha hb hexec hR d1 d2 d3) ?_
  intro H' locs' hR' hfr' hlo'
  have hS' := va_Slo hfr' hR' hlo'
  refine lv_if_eq (tgt := 16) hexec a3 dJ6_charAt_4 (by decide) (fun z => absurd z (by decide)) (fun _ => ?_)
  refine lv_aload_n hexec a3 dJ6_charAt_7 rfl (lv_at hl 0 rfl) ?_
  refine vk_getf hexec a3 hOv hS' hown (hts _ q2217) (fun _ z => z) dJ6_charAt_8 ?_
  refine lv_iload_n hexec a3 dJ6_charAt_11 rfl (lv_at hl 1 rfl) ?_
  obtain ⟨mk2, methk2, ck2, hmk2, hsig2⟩ := mg_at wd hw q706
  refine j_go (aC := #[.ref v, .int i]) (Sr := []) (v := some (.int (hI hE a i.toNatClampNeg))) (y := yJ7_charAt) (by decide +kernel) (by decide) (hl.1.trans a4.symm) hw hR' hfr' hlo' (by omega) (by omega) (Nat.zero_le _) (Nat.zero_le _) (by decide) (by rw [a3]; exact dJ6_charAt_12) hmk2
    (iv_stt wd hexec hw hown q704 q705 q185 ⟨by decide +kernel, by decide +kernel⟩ (as := [.ref v, .int i]) (rest := []) hmk2 (by
      have e1 : (parseMethodDescriptor yJ7_charAt.desc).map (fun d => d.parameters.length) = some 2 := by decide +kernel
      rw [show parseMethodDescriptor yJ7_charAt.desc = some methk2.sig from hsig2] at e1
      exact (Option.some.inj e1).symm) (by rw [a3]; exact dJ6_charAt_12))
    (fun sC d1 d2 d3 => j_latin wd ws ha hb hi hT0 hexec hR' d1 d2 (by show 2 ≤ R.frames - 1; omega) (by show 96 ≤ R.locals - 48; omega) d3) ?_
  intro H2 locs2 hR2 hfr2 hlo2
  exact W_mono (fun t => MQ_EQ (v := some (.int (hI hE a i.toNatClampNeg)))) (W.zret hexec a3 a5 c3 (fun t ht _ => ⟨rfl, by rw [ht]; exact hR2⟩) hlo2 dJ6_charAt_15 a6)
theorem j_length (wd : Wd s0 D dA xt hE args0) (ws : Ws s0 xt hE) {a : Nat} (ha : 2 ≤ a) (hb : a < K0) (hexec : p.tables.exec = Jvm.exec) (hR : Rp s0 D dA xt hE h H) (hw : s0.WarmedH s.vm) (hH : s.heap = H) (hRf : 1 ≤ R.frames) (hRl : 48 ≤ R.locals) (hm : Mg yJ6_length cJ6_length 1 (some .int) s m meth c) : W p l e R s m #[.ref (adO s0 xt a)] below meth c H [] 0 0 (EQ s0 D dA xt hE below s (.inl (some (.int (Int32.ofNat (hN hE a))))) h 0 0) (entryFrame m #[.ref (adO s0 xt a)] 1) := by
  obtain ⟨hn, a1, a2, a3, a4, a5, a6⟩ := hm
  have hown : s.vm.findClass "java/lang/String" = some m.cls := findClass_of_methodNamed hn
  have hts := wd_ts (args := #[.ref (adO s0 xt a)]) wd hw
  have hpre : ∀ q, q < s0.heap.size → s.heap[q]? = s0.heap[q]? := by rw [hH]; exact hR.2.2.1
  have hS := va_Snil (s0 := s0) hH
  obtain ⟨hO, v, hOc, hOv, hT⟩ := ws_at ws hR hw hpre ha hb
  show W _ _ _ _ _ _ _ _ _ _ _ _ _ _ _ (entryFrame m [Value.ref (adO s0 xt a)].toArray 1)
  rw [lg_entry_eq]
  have hl := lv_entry [Value.ref (adO s0 xt a)] (n := 1) (Nat.le_of_ble_eq_true rfl)
  revert hl
  generalize (lg_sl [Value.ref (adO s0 xt a)] ++ List.replicate (1 - (lg_sl [Value.ref (adO s0 xt a)]).length) Slot.unset).toArray = ls
  intro hl
  have hl : lv_has ls 1 [(0, .ref (adO s0 xt a))] := hl
  refine lv_aload_n hexec a3 dJ6_length_0 rfl (lv_at hl 0 rfl) ?_
  refine vk_getf hexec a3 hOv hS hown (hts _ q2217) (fun _ z => z) dJ6_length_1 ?_
  refine va_tlen hexec a3 hT hS rfl dJ6_length_4 ?_
  refine lv_aload_n hexec a3 dJ6_length_5 rfl (lv_at hl 0 rfl) ?_
  obtain ⟨mk, methk, ck, hmk, hsig⟩ := mg_at wd hw q693
  obtain ⟨cell, hcell, hobj, hcls, -⟩ := hO
  refine j_go (aC := #[.ref (adO s0 xt a)]) (Sr := [.int (Int32.ofNat (hN hE a))]) (v := some (.int 0)) (y := yJ6_coder) (by decide +kernel) (by decide) (hl.1.trans a4.symm) hw hR (fr_0 hR hH) (fun q hq => absurd hq List.not_mem_nil) hRf hRl (Nat.zero_le _) (Nat.zero_le _) (by show 1 + 0 ≤ 8; omega) (by rw [a3]; exact dJ6_length_6) hmk
    (iv_str wd hexec hw hown q690 q691 q692 ⟨by decide +kernel, by decide +kernel⟩ (by rw [← hH]; exact hcell) hobj hcls (as := []) (rest := [.int (Int32.ofNat (hN hE a))]) hmk (by
      have e1 : (parseMethodDescriptor yJ6_coder.desc).map (fun d => d.parameters.length) = some 0 := by decide +kernel
      rw [show parseMethodDescriptor yJ6_coder.desc = some methk.sig from hsig] at e1
      exact (Option.some.inj e1).symm) (by rw [a3]; exact dJ6_length_6))
    (fun sC d1 d2 d3 => j_coder wd ws ha hb hexec hR d1 d2 d3) ?_
  intro H' locs' hR' hfr' hlo'
  refine lv_ishr hexec a3 dJ6_length_9 ?_
  have e0 : Int32.ofNat (hN hE a) >>> ((0 : Int32) &&& 31) = Int32.ofNat (hN hE a) := by
    generalize Int32.ofNat (hN hE a) = x
    show x >>> (0 : Int32) = x
    exact Int32.shiftRight_zero
  rw [e0]
  exact W_mono (fun t => MQ_EQ (v := some (.int (Int32.ofNat (hN hE a))))) (W.iret hexec a3 a5 (fun t ht _ => ⟨rfl, by rw [ht]; exact hR'⟩) hlo' dJ6_length_10 a6)
end

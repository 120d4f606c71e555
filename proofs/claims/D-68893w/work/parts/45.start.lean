/-! the law's start as the abstract machine has it -/
set_option maxRecDepth 100000
def wdB : List Int32 := [109, 111, 100, 117, 108, 101, 32, 101, 110, 100, 109, 111, 100, 117, 108, 101, 32, 105, 110, 112, 117, 116, 32, 111, 117, 116, 112, 117, 116, 32, 119, 105, 114, 101, 32, 114, 101, 103, 32, 97, 115, 115, 105, 103, 110, 32, 97, 108, 119, 97, 121, 115, 32, 112, 111, 115, 101, 100, 103, 101, 32, 99, 108, 111, 99, 107, 32, 98, 101, 103, 105, 110, 32, 101, 110, 100, 32, 105, 102, 32, 101, 108, 115, 101, 32, 99, 97, 115, 101, 32, 101, 110, 100, 99, 97, 115, 101, 32, 100, 101, 102, 97, 117, 108, 116, 32, 97, 115, 115, 101, 114, 116, 32]
def stBy : List (List Int32) := [[116, 111, 111, 32, 108, 111, 110, 103], [110, 111, 116, 32, 97, 115, 32, 115, 97, 105, 100], [110, 111, 32, 115, 117, 99, 104, 32, 119, 104, 97, 116], [110, 111, 32, 99, 105, 114, 99, 117, 105, 116], [110, 111, 32, 115, 117, 99, 104, 32, 115, 105, 103, 110, 97, 108], [109, 111, 100, 117, 108, 101], [101, 110, 100, 109, 111, 100, 117, 108, 101], [105, 110, 112, 117, 116], [111, 117, 116, 112, 117, 116], [119, 105, 114, 101], [114, 101, 103], [97, 115, 115, 105, 103, 110], [97, 108, 119, 97, 121, 115], [112, 111, 115, 101, 100, 103, 101], [99, 108, 111, 99, 107], [98, 101, 103, 105, 110], [101, 110, 100], [105, 102], [101, 108, 115, 101], [99, 97, 115, 101], [101, 110, 100, 99, 97, 115, 101], [100, 101, 102, 97, 117, 108, 116], [97, 115, 115, 101, 114, 116], [97, 32, 102, 97, 117, 108, 116]]
def stLn : List Nat := [8, 11, 12, 10, 14, 6, 9, 5, 6, 4, 3, 6, 6, 7, 5, 5, 3, 2, 4, 4, 7, 7, 6, 7]
/-- the heap at the start: the script (0), WORDS (1), the String constants (2 ..) -/
def h00 (L : Nat) (xs : Nat → Int32) : AH := (fun a j => if a = 0 then xs j else if a = 1 then wdB.getD j 0 else (stBy.getD (a - 2) []).getD j 0, fun _ _ => 0, fun _ _ => .null, fun a => if a = 0 then 20 else if a = 1 then 21 else if a < 26 then 30 else 999, fun a => if a = 0 then L else if a = 1 then 113 else stLn.getD (a - 2) 0, 26, 0)
def tmS (i : Nat) : Term := .string (stT (i + 2)).1 (stT (i + 2)).2.1
theorem kS_ex : ∀ i, i < 24 → Cond.exactly (tmS i) "java/lang/String" ∈ flatC (Jvm.Cond.and given_1 narrow_1) := by decide +kernel
theorem kS_co : ∀ i, i < 24 → Cond.eq (.field (tmS i) "java/lang/String" "coder" "B") (.int 0) ∈ flatC (Jvm.Cond.and given_1 narrow_1) := by decide +kernel
theorem kS_ar : ∀ i, i < 24 → Cond.arrayOf (.field (tmS i) "java/lang/String" "value" "[B") .byte ∈ flatC (Jvm.Cond.and given_1 narrow_1) := by decide +kernel
theorem kS_le : ∀ i, i < 24 → Cond.eq (.length (.field (tmS i) "java/lang/String" "value" "[B")) (.int (Int32.ofNat (stLn.getD i 0))) ∈ flatC (Jvm.Cond.and given_1 narrow_1) := by decide +kernel
def flatA : Jvm.Cond → List Jvm.Cond → List Jvm.Cond
  | .and a b, acc => flatA a (flatA b acc)
  | c, acc => c :: acc
theorem flatA_eq : ∀ (c : Jvm.Cond) (acc : List Jvm.Cond), flatA c acc = flatC c ++ acc := by
  intro c
  induction c with
  | and a b iha ihb =>
    intro acc
    show flatA a (flatA b acc) = (flatC a ++ flatC b) ++ acc
    rw [ihb, iha, List.append_assoc]
  | _ => intro acc; rfl
theorem flc_at {n : Nat} {w : Jvm.Cond} (h : (flatA (Jvm.Cond.and given_1 narrow_1) [])[n]? = some w) : w ∈ flatC (Jvm.Cond.and given_1 narrow_1) := by
  have h1 := List.mem_of_getElem? h
  rw [flatA_eq, List.append_nil] at h1
  exact h1
def stPo : List Nat := [535, 566, 636, 601, 674, 186, 196, 210, 221, 234, 246, 258, 274, 291, 310, 328, 347, 365, 383, 404, 426, 452, 479, 506]
theorem kS_elx : ∀ i, i < 24 → ∀ j, j < stLn.getD i 0 → (flatA (Jvm.Cond.and given_1 narrow_1) [])[stPo.getD i 0 + j]? = some (Cond.eq (.elem (.field (tmS i) "java/lang/String" "value" "[B") (.int (Int32.ofNat j))) (.int ((stBy.getD i []).getD j 0))) := by decide +kernel
theorem kS_el (i : Nat) (hi : i < 24) (j : Nat) (hj : j < stLn.getD i 0) : Cond.eq (.elem (.field (tmS i) "java/lang/String" "value" "[B") (.int (Int32.ofNat j))) (.int ((stBy.getD i []).getD j 0)) ∈ flatC (Jvm.Cond.and given_1 narrow_1) := flc_at (kS_elx i hi j hj)
theorem kS_by : ∀ i, i < 24 → stLn.getD i 0 < 2 ^ 31 ∧ ∀ j, j < stLn.getD i 0 → 0 ≤ (stBy.getD i []).getD j 0 ∧ (stBy.getD i []).getD j 0 < 128 := by decide +kernel
theorem kS_rf : ∀ i, i < 24 → Cond.stringRef (stT (i + 2)).1 (stT (i + 2)).2.1 (stT (i + 2)).2.2 ∈ lw_tbl := by
  intro i hi
  have key : ∀ w n a, cT w n = some (.ref a) → Cond.stringRef (stT a).1 (stT a).2.1 (stT a).2.2 ∈ lw_tbl := by
    intro w n a h
    rcases okI _ _ _ h with ⟨y, z, -⟩ | ⟨b, tx, z, -, -, z4, z5⟩
    · cases z
    · cases z
      rw [z5]; exact z4
  have hx : ∀ i, i < 24 → ∃ w, w < 3 ∧ ∃ n, n < 150 ∧ cT w n = some (.ref (i + 2)) := by decide +kernel
  obtain ⟨w, -, n, -, hn⟩ := hx i hi
  exact key w n _ hn
theorem kW_ar : Cond.arrayOf (.static "CircuitCyclesModel" "WORDS" "[B") .byte ∈ flatC (Jvm.Cond.and given_1 narrow_1) := by decide +kernel
theorem kW_le : Cond.eq (.length (.static "CircuitCyclesModel" "WORDS" "[B")) (.int 113) ∈ flatC (Jvm.Cond.and given_1 narrow_1) := by decide +kernel
theorem kW_elx : ∀ j, j < 113 → (flatA (Jvm.Cond.and given_1 narrow_1) [])[14 + j]? = some (Cond.eq (.elem (.static "CircuitCyclesModel" "WORDS" "[B") (.int (Int32.ofNat j))) (.int (wdB.getD j 0))) := by decide +kernel
theorem kW_el (j : Nat) (hj : j < 113) : Cond.eq (.elem (.static "CircuitCyclesModel" "WORDS" "[B") (.int (Int32.ofNat j))) (.int (wdB.getD j 0)) ∈ flatC (Jvm.Cond.and given_1 narrow_1) := flc_at (kW_elx j hj)
def k_ng : List (Nat × Nat) := [(0, 11), (0, 12), (0, 13), (11, 0), (11, 12), (11, 13), (12, 0), (12, 11), (12, 13), (13, 0), (13, 11), (13, 12)]
theorem kN_all : ∀ q ∈ k_ng, Cond.not (Cond.castable (CI q.1).1 (CI q.2).1) ∈ flatC (Jvm.Cond.and given_1 narrow_1) := by decide +kernel
theorem kZ_cs : Cond.eq (.static "java/lang/String" "COMPACT_STRINGS" "Z") (.int 1) ∈ flatC (Jvm.Cond.and given_1 narrow_1) := by decide +kernel
theorem kZ_fo : Cond.isRef (.static "jdk/internal/util/Preconditions" "SIOOBE_FORMATTER" "Ljava/util/function/BiFunction;") ∈ flatC (Jvm.Cond.and given_1 narrow_1) := by decide +kernel
theorem kZ_us : Cond.isRef (.static "java/lang/Throwable" "UNASSIGNED_STACK" "[Ljava/lang/StackTraceElement;") ∈ flatC (Jvm.Cond.and given_1 narrow_1) := by decide +kernel
theorem kZ_se : Cond.isRef (.static "java/lang/Throwable" "SUPPRESSED_SENTINEL" "Ljava/util/List;") ∈ flatC (Jvm.Cond.and given_1 narrow_1) := by decide +kernel
theorem inst_C : ∀ c, c < 14 → ∃ n, Cond.instantiable (CI c).1 n ∈ lw_all
  | 0, _ => ⟨_, okW1_46.2.2.1⟩
  | 1, _ => ⟨_, okW0_8.2.2.1⟩
  | 2, _ => ⟨_, okW1_7.2.2.1⟩
  | 3, _ => ⟨_, okW1_16.2.2.1⟩
  | 4, _ => ⟨_, okW3_9.2.2.1⟩
  | 5, _ => ⟨_, okW1_25.2.2.1⟩
  | 6, _ => ⟨_, okW5_9.2.2.1⟩
  | 7, _ => ⟨_, okW5_18.2.2.1⟩
  | 8, _ => ⟨_, okW5_25.2.2.1⟩
  | 9, _ => ⟨_, okW1_35.2.2.1⟩
  | 10, _ => ⟨_, okW0_55.2.2.1⟩
  | 11, _ => ⟨_, okW1_80.2.2.1⟩
  | 12, _ => ⟨_, okW1_53.2.2.1⟩
  | 13, _ => ⟨_, okW1_71.2.2.1⟩
  | n + 14, h => absurd h (by omega)
section
variable {s : State} {args : Array Value}
theorem K_cls (hts : ∀ w ∈ lw_all, w.before args s = true) : ∃ D : va_G, ∀ c, c < 14 → u_Kn s (CI c).1 (CI c).2.1 (CI c).2.2 (D.1 c) (D.2 c) := by
  have h1 : ∀ c, ∃ q : ClassId × (Nat → Nat), c < 14 → u_Kn s (CI c).1 (CI c).2.1 (CI c).2.2 q.1 q.2 := by
    intro c
    by_cases hc : c < 14
    · obtain ⟨n, hn⟩ := inst_C c hc
      obtain ⟨cC, iS, hK⟩ := u_known hts (in_C c hc) (hts _ hn)
      exact ⟨(cC, iS), fun _ => hK⟩
    · exact ⟨(0, fun _ => 0), fun z => absurd z hc⟩
  have h2 := fun c => Classical.choose_spec (h1 c)
  exact ⟨(fun c => (Classical.choose (h1 c)).1, fun c => (Classical.choose (h1 c)).2), fun c hc => h2 c hc⟩
theorem K_arr (hts : ∀ w ∈ lw_all, w.before args s = true) (hov : va_AO "java/lang/String" s) : ∃ dA : Nat → ClassId, ∀ (k : Nat) (q : ClassId × FieldType), (tyS dA)[k]? = some q → ArrOfT s q.1 q.2 ∧ va_RA s q.1 q.2 := by
  have key : ∀ ty : FieldType, (∀ C, ty ≠ .object C) → Cond.arrayClass ty ∈ lw_all → ∃ cA, ArrOfT s cA ty ∧ va_RA s cA ty := by
    intro ty hty hm
    obtain ⟨cA, kA, comp, h1, h2, h3⟩ := Cond.arrayClass_spec (hts _ hm)
    refine ⟨cA, fun n z => ⟨fun k h => (by cases h), kA, h2, comp, h3⟩, ?_⟩
    cases ty with
    | object C => exact absurd rfl (hty C)
    | _ => exact h1
  obtain ⟨c0, a0⟩ := key .int (fun C z => by cases z) q367
  obtain ⟨c1, a1⟩ := key .byte (fun C z => by cases z) q295
  obtain ⟨c2, a2⟩ := key .long (fun C z => by cases z) q1774
  obtain ⟨c3, a3⟩ := key .boolean (fun C z => by cases z) q1775
  obtain ⟨c4, a4⟩ : ∃ cA, ArrOfT s cA (.object "java/lang/String") ∧ va_RA s cA (.object "java/lang/String") := by
    obtain ⟨comp, cA, kA, h1, h2, h3, h4, h5⟩ := Cond.arrayOver_spec hov
    exact ⟨cA, fun n z => ⟨fun k h => (by cases h), kA, h3, comp, h4⟩, kA, comp, h3, h4, h1, h5⟩
  refine ⟨fun k => if k = 0 then c0 else if k = 1 then c1 else if k = 2 then c2 else if k = 3 then c3 else c4, fun k q hq => ?_⟩
  match k, hq with
  | 0, hq => cases hq; exact a0
  | 1, hq => cases hq; exact a1
  | 2, hq => cases hq; exact a2
  | 3, hq => cases hq; exact a3
  | 4, hq => cases hq; exact a4
  | n + 5, hq => cases hq
theorem ng_of (hs : ∀ c ∈ flatC (Jvm.Cond.and given_1 narrow_1), c.before args s = true) : Ng s := by
  intro a b ha hb hab ca cb h1 h2
  have hm : (a, b) ∈ k_ng := by
    rcases ha with rfl | rfl | rfl | rfl <;> rcases hb with rfl | rfl | rfl | rfl <;> first | exact absurd rfl hab | decide
  have h3 := hs _ (kN_all _ hm)
  simp only [Cond.before, Cond.holds, Cond.value, h1, h2] at h3
  cases hz : s.vm.assignable ca cb with
  | false => rfl
  | true => simp [hz] at h3
end
section
variable {p : Program} {e : Env} {s : State} {m : MethodId} {below : List Frame} {meth : Method} {c : Code}
theorem start_of (law : ∀ (L : Nat) (xs : Nat → Int32), L ≤ 384 → ∃ h', ev 1900 294 0 [(0, .ref 0)] [] (h00 L xs) = some (.inl (some (.int 1)), h') ∧ hC h' ≤ MC ∧ hS h' ≤ MS) (l : Launch) (hst : l.stackTraces = false) {b L : Nat} {xs : Nat → Int32} (hL : L ≤ 384) (C0 : lw_At p s m meth c b L xs) (hnm : meth.name = "law") (htb : c.exceptionTable.toList = []) : W p l e room_1 s m #[Value.ref b] below meth c s.heap [] 0 0 (lw_Z below #[Value.ref b] s) (entryFrame m ([Value.ref b] : List Value).toArray 8) := by
  obtain ⟨hx, hb, hr, hml, hown, hts0, hX, hbl, hlocks, hgv⟩ := C0
  have hs := flat_of_before _ hgv
  have hA : ∀ a : Nat, a < s.heap.size → ¬ (s.heap.size ≤ a) := fun a ha => Nat.not_le.mpr ha
  have hts : ∀ w ∈ lw_all, w.before #[Value.ref b] s = true := fun w hw => hts0 w (lw_all_tbl hw)
  obtain ⟨D, hD⟩ := K_cls hts
  obtain ⟨dA, hdA⟩ := K_arr hts (va_AO.of (hts0 _ q207))
  have hK : va_K D clS (tyS dA) s := by
    refine ⟨fun c q hq => ?_, hdA⟩
    have hl : c < 14 := (List.getElem?_eq_some_iff.mp hq).1
    rw [clS_at c hl] at hq
    cases hq
    exact hD c hl
  obtain ⟨tW, hW1, hW2⟩ := va_Tof (A := fun q => s.heap.size ≤ q) (N := 113) (f := fun j => .int (wdB.getD j 0)) (by decide) (hs _ kW_ar) (va_eqt (hs _ kW_le)) (fun j hj => va_eqt (hs _ (kW_el j hj))) hA
  have hstr : ∀ i : Nat, ∃ q : Nat × Nat, i < 24 → (tmS i).eval #[Value.ref b] s none [] s = some (.ref q.1) ∧ va_O "java/lang/String" q.1 (fun q => s.heap.size ≤ q) s s.heap ∧ va_OF "java/lang/String" "coder" "B" (.int 0) q.1 (fun q => s.heap.size ≤ q) s s.heap ∧ va_OF "java/lang/String" "value" "[B" (.ref q.2) q.1 (fun q => s.heap.size ≤ q) s s.heap ∧ va_T .byte q.2 (stLn.getD i 0) (fun j => .int ((stBy.getD i []).getD j 0)) (fun q => s.heap.size ≤ q) s s.heap := by
    intro i
    by_cases hi : i < 24
    · obtain ⟨a, c, cA, kA, z1, z2, z3, z4, z5, z6, -⟩ := Cond.exactly_spec (args := #[Value.ref b]) (first := s) (o := none) (s := s) (idx := []) (t := tmS i) (cls := "java/lang/String") (hs _ (kS_ex i hi))
      obtain ⟨t, ht, hT⟩ := va_Tof (f := fun j => .int ((stBy.getD i []).getD j 0)) (A := fun q => s.heap.size ≤ q) (kS_by i hi).1 (hs _ (kS_ar i hi)) (va_eqt (hs _ (kS_le i hi))) (fun j hj => va_eqt (hs _ (kS_el i hi j hj))) hA
      exact ⟨(a, t), fun _ => ⟨z1, ⟨cA, z3, z5, by rw [z6]; exact z2, hA a (Array.getElem?_eq_some_iff.mp z3).1⟩, vk_OFof z1 (va_eqt (hs _ (kS_co i hi))) hA, vk_OFof z1 ht hA, hT⟩⟩
    · exact ⟨(0, 0), fun z => absurd z hi⟩
  obtain ⟨adK, adV, hS1⟩ : ∃ adK adV : Nat → Nat, ∀ i, i < 24 → (tmS i).eval #[Value.ref b] s none [] s = some (.ref (adK i)) ∧ va_O "java/lang/String" (adK i) (fun q => s.heap.size ≤ q) s s.heap ∧ va_OF "java/lang/String" "coder" "B" (.int 0) (adK i) (fun q => s.heap.size ≤ q) s s.heap ∧ va_OF "java/lang/String" "value" "[B" (.ref (adV i)) (adK i) (fun q => s.heap.size ≤ q) s s.heap ∧ va_T .byte (adV i) (stLn.getD i 0) (fun j => .int ((stBy.getD i []).getD j 0)) (fun q => s.heap.size ≤ q) s s.heap :=
    ⟨fun i => (Classical.choose (hstr i)).1, fun i => (Classical.choose (hstr i)).2, fun i hi => Classical.choose_spec (hstr i) hi⟩
  have xtd : ∃ xt : Nat → Nat, xt 0 = b ∧ xt 1 = tW ∧ ∀ i, xt (i + 2) = adK i := ⟨fun i => if i = 0 then b else if i = 1 then tW else adK (i - 2), rfl, rfl, fun i => by simp⟩
  obtain ⟨xt, x0, x1, x2⟩ := xtd
  have hZW : va_Z "CircuitCyclesModel" "WORDS" "[B" (.ref tW) (fun q => s.heap.size ≤ q) s s.heap := va_Zof (hts0 _ q1818) (hts _ q181) hW1 hA
  have wd : Wd s D dA xt (h00 L xs) #[Value.ref b] := by
    refine ⟨hts0, hK, ⟨rfl, rfl, fun i h2 hi => ?_⟩, ⟨?_, ?_⟩, ⟨?_, ?_⟩⟩
    · show (if i = 0 then 20 else if i = 1 then 21 else if i < 26 then 30 else 999) = 30
      rw [if_neg (by omega), if_neg (by omega), if_pos hi]
    · rw [x0]; exact hX
    · rw [x0]; exact hbl
    · rw [x1]; exact hW2
    · rw [x1]; exact hZW
  have hev : ∀ i, i < 24 → vk_R (stT (i + 2)).1 (stT (i + 2)).2.1 (stT (i + 2)).2.2 (adK i) s := fun i hi => vk_R.of (A := #[Value.ref b]) (hts0 _ (kS_rf i hi)) (hS1 i hi).1
  have wx : Wx l s xt #[Value.ref b] := by
    refine ⟨hst, ng_of hs, hs _ kZ_us, hs _ kZ_se, fun a h2 hk => ?_⟩
    have := hev (a - 2) (by have : K0 = 26 := rfl; omega)
    rw [show a - 2 + 2 = a by omega] at this
    rw [show a = a - 2 + 2 by omega, x2]
    rw [show a - 2 + 2 = a by omega]
    exact this
  have ws : Ws s xt (h00 L xs) := by
    refine ⟨va_Zof (hts0 _ q695) (hts _ q184) (va_eqt (hs _ kZ_cs)) hA, va_Zqof (hts0 _ q711) (hts _ q186) (hs _ kZ_fo) hA, fun a h2 hk => ?_⟩
    have hk26 : K0 = 26 := rfl
    have hi : a - 2 < 24 := by omega
    have eN : hN (h00 L xs) a = stLn.getD (a - 2) 0 := by
      show (if a = 0 then L else if a = 1 then 113 else stLn.getD (a - 2) 0) = _
      rw [if_neg (by omega), if_neg (by omega)]
    have eI : hI (h00 L xs) a = fun j => (stBy.getD (a - 2) []).getD j 0 := by
      funext j
      show (if a = 0 then xs j else if a = 1 then wdB.getD j 0 else (stBy.getD (a - 2) []).getD j 0) = _
      rw [if_neg (by omega), if_neg (by omega)]
    have eA : adO s xt a = adK (a - 2) := by
      rw [show adO s xt a = xt a from if_pos hk, show a = a - 2 + 2 by omega, x2]
      rw [show a - 2 + 2 - 2 = a - 2 by omega]
    rw [eN, eI, eA]
    obtain ⟨-, g1, g2, g3, g4⟩ := hS1 (a - 2) hi
    exact ⟨(kS_by _ hi).1, (kS_by _ hi).2, g1, adV (a - 2), g2, g3, g4⟩
  obtain ⟨h', he, hCC, hSS⟩ := law L xs hL
  have hsm := sim_ev wd wx ws he
  have hRp : Rp s D dA xt (h00 L xs) (h00 L xs) s.heap := by
    refine ⟨Nat.le_refl _, rfl, fun _ _ => rfl, ?_, fun a ha => ?_, fun i _ => ⟨rfl, rfl, rfl⟩⟩
    · intro k q hq
      have : (wO s dA (adO s xt) (h00 L xs)) = [] := rfl
      rw [this] at hq
      cases hq
    · have : hC (h00 L xs) = 26 := rfl
      show (if a = 0 then 20 else if a = 1 then 21 else if a < 26 then 30 else 999) = 999
      rw [if_neg (by omega), if_neg (by omega), if_neg (by omega)]
  have hcx : Cx s 294 p s m meth c := ⟨hx, hb, hml, hr, hlocks, hown, State.WarmedH.refl s, hnm, by rw [htb]; rfl, Or.inr rfl⟩
  rw [lg_entry_eq]
  have hl := lv_entry [Value.ref b] (n := 8) (Nat.le_of_ble_eq_true rfl)
  have e0 : adO s xt 0 = b := by rw [show adO s xt 0 = xt 0 from if_pos (by decide)]; exact x0
  have hle := hsm.2 p e room_1 s m #[Value.ref b] below meth c s.heap [] 0 0 _ hcx hRp (by
    show lv_has _ 8 [(0, .ref (adO s xt 0))]
    rw [e0]
    exact hl) ⟨Nat.le_refl _, fun _ _ => rfl, rfl⟩ (fun q hq => absurd hq List.not_mem_nil) (by decide) (by decide) (by
      show 0 + (hC h' - 26) ≤ 600384
      have : MC = 600410 := rfl
      omega) (by
      show 0 + (hS h' - 0) ≤ 7289834
      have : MS = 7289834 := rfl
      omega)
  refine W_mono (fun t ht => ?_) hle
  obtain ⟨t1, t2, t3, ⟨L1, t4, t5⟩, t6⟩ := ht
  refine ⟨.returned (some (.int 1)), t1, t2, rfl, ⟨_, rfl⟩, t3, ?_⟩
  refine t4.weaken (fun y hy hlt => absurd hlt (Nat.not_lt.mpr (t5 y hy))) ?_ ?_
  · show 0 + (hC h' - 26) ≤ 600384
    have : MC = 600410 := rfl
    omega
  · show 0 + (hS h' - 0) ≤ 7289834
    have : MS = 7289834 := rfl
    omega
end


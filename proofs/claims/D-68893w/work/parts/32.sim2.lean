/-! the simulation, 2: fields and arrays -/
set_option maxRecDepth 100000
/-- what stands at the law's start: the tables' words, the known kinds of cells, what was there before: the script (0), WORDS (1), the String constants (2 ..) -/
def Wd (s0 : State) (D : va_G) (dA : Nat → ClassId) (xt : Nat → Nat) (hE : AH) (args0 : Array Value) : Prop :=
  (∀ w ∈ lw_tbl, w.before args0 s0 = true) ∧ va_K D clS (tyS dA) s0 ∧ (hT hE 0 = 20 ∧ hT hE 1 = 21 ∧ ∀ i, 2 ≤ i → i < K0 → hT hE i = 30) ∧
  (va_X (xt 0) (hN hE 0) (hI hE 0) s0 s0.heap ∧ xt 0 < s0.heap.size) ∧
  (va_T .byte (xt 1) (hN hE 1) (fun j => .int (hI hE 1 j)) (fun q => s0.heap.size ≤ q) s0 s0.heap ∧ va_Z "CircuitCyclesModel" "WORDS" "[B" (.ref (xt 1)) (fun q => s0.heap.size ≤ q) s0 s0.heap)
section
variable {l : Launch} {s0 : State} {D : va_G} {dA : Nat → ClassId} {xt : Nat → Nat} {hE : AH} {args0 : Array Value} {d k pc : Nat} {L : LO} {S : List Value} {h h' : AH} {o : OU}
variable {p : Program} {e : Env} {R : Room} {s : State} {m : MethodId} {args : Array Value} {below : List Frame} {meth : Method} {c : Code} {H : Heap} {locs : List Loc} {cells slots : Nat} {ls : Array Slot}
theorem wd_ts (wd : Wd s0 D dA xt hE args0) (hw : s0.WarmedH s.vm) : ∀ w ∈ lw_all, w.before args s = true := fun w hm => word_at hw (lw_self w hm).2 (wd.1 w (lw_all_tbl hm))
theorem wd_K (wd : Wd s0 D dA xt hE args0) (hw : s0.WarmedH s.vm) : va_K D clS (tyS dA) s := va_K.moved hw.alike wd.2.1
theorem wd_nF (wd : Wd s0 D dA xt hE args0) (hw : s0.WarmedH s.vm) {a : String} {i : Nat} {b n f host : String} (hm : Cond.fieldLinkNest a i b n f host ∈ lw_tbl) : (Cond.fieldLinkNest a i b n f host).before args s = true := va_Nw.use rfl (va_Nw.warmF hw (va_Nw.of rfl (wd.1 _ hm)))
theorem wd_nM (wd : Wd s0 D dA xt hE args0) (hw : s0.WarmedH s.vm) {a : String} {i : Nat} {x : MethodName} {host : String} (hm : Cond.methodLinkNest a i x host ∈ lw_tbl) : (Cond.methodLinkNest a i x host).before args s = true := va_Nw.use rfl (va_Nw.warmM hw (va_Nw.of rfl (wd.1 _ hm)))
theorem rp_ad {a : Nat} (ha : K0 ≤ a) : adO s0 xt a = s0.heap.size + (a - K0) := if_neg (by omega)
theorem rp_x20 (wd : Wd s0 D dA xt hE args0) (hR : Rp s0 D dA xt hE h H) {a : Nat} (ht : hT h a < 20) : K0 ≤ a ∧ a < hC h := by
  rcases Nat.lt_or_ge a K0 with q | q
  · exfalso
    have h1 := (hR.2.2.2.2.2 a q).1
    rcases Nat.lt_or_ge a 2 with z | z
    · rcases (show a = 0 ∨ a = 1 by omega) with rfl | rfl
      · rw [wd.2.2.1.1] at h1; omega
      · rw [wd.2.2.1.2.1] at h1; omega
    · rw [wd.2.2.1.2.2 a z q] at h1; omega
  · refine ⟨q, ?_⟩
    rcases Nat.lt_or_ge a (hC h) with z | z
    · exact z
    · rw [hR.2.2.2.2.1 a z] at ht; omega
theorem rp_lt (hR : Rp s0 D dA xt hE h H) {a : Nat} (ht : hT h a ≠ 999) : a < hC h := by
  rcases Nat.lt_or_ge a (hC h) with z | z
  · exact z
  · exact absurd (hR.2.2.2.2.1 a z) ht
theorem rp_ws {a : Nat} (ha : K0 ≤ a) (hc : a < hC h) : (wO s0 dA (adO s0 xt) h)[a - K0]? = some (adO s0 xt a, cE dA (adO s0 xt) h a) := by
  rw [wO_at (by omega), rp_ad ha, show K0 + (a - K0) = a by omega]
theorem fl_at {ad : Nat → Nat} {a c f : Nat} (hf : f < (CI c).2.2) : ((List.range (CI c).2.2).map (fV ad h a c))[f]? = some (fV ad h a c f) := by
  rw [List.getElem?_map, List.getElem?_range hf]; rfl
theorem cE_o {ad : Nat → Nat} {a c : Nat} (ht : hT h a = c) (hc : c < 14) : cE dA ad h a = .inr (c, (List.range (CI c).2.2).map (fV ad h a c)) := by
  unfold cE
  rw [ht, if_pos (by omega)]
/-- getfield -/
theorem sm_get (wd : Wd s0 D dA xt hE args0) {a n : Nat} {q : Nat × Nat × Nat × Bool} {v : Value} (hc : codeAt k pc = some (.getfield n)) (hf : fT (oN k) n = some q) (ht : hT h a = q.1) (hv : fV (adO s0 xt) h a q.1 q.2.1 = vM (adO s0 xt) v) (hk : Sm l s0 D dA xt hE d k (pc + 3) L (v :: S) h o h') : Sm l s0 D dA xt hE d k pc L (.ref a :: S) h o h' := by
  refine ⟨hk.1, fun p e R s m args below meth c H locs cells slots ls cx hR hl hfr hlo hd hw hcl hsl => ?_⟩
  obtain ⟨hc14, hfN, hlink, -, -, -⟩ := okF _ _ _ hf
  obtain ⟨ha, haC⟩ := rp_x20 wd hR (by rw [ht]; omega)
  have hdg : decode (mtA k).2.1 pc = .ok (.getfield n, 3) := dec_at cx hc rfl (by decide)
  have hwm := cx.2.2.2.2.2.2.1
  have he := rp_ws (s0 := s0) (dA := dA) (xt := xt) ha haC
  rw [cE_o ht hc14] at he
  have kk := hk.2 p e R s m args below meth c H locs cells slots ls cx hR hl hfr hlo hd hw hcl hsl
  have hfv := (fl_at (h := h) (ad := adO s0 xt) (a := a) hfN).trans (congrArg some hv)
  rcases hlink with hlink | ⟨host, hlink, -⟩
  · exact va_get cx.1 cx.2.1 (wd_ts wd hwm) (in_C _ hc14) cx.2.2.2.2.2.1 (wd_K wd hwm) hR.2.2.2.1 (a - K0) he (clS_at _ hc14) q.2.1 hfN (wd_ts wd hwm _ hlink) (fun _ z => z) hfv hdg kk
  · exact va_getN cx.1 cx.2.1 (wd_ts wd hwm) (in_C _ hc14) cx.2.2.2.2.2.1 (wd_K wd hwm) hR.2.2.2.1 (a - K0) he (clS_at _ hc14) q.2.1 hfN (wd_nF wd hwm hlink) (fun _ z => z) hfv hdg kk
/-- the heap behind a store -/
theorem rp_set {h1 : AH} {H1 : Heap} {a : Nat} {e1 : va_E} (hR : Rp s0 D dA xt hE h H) (ha : K0 ≤ a) (hc : hC h1 = hC h) (hT1 : hT h1 = hT h) (hN1 : hN h1 = hN h) (hI1 : ∀ b, b ≠ a → hI h1 b = hI h b) (hk : ∀ b, b ≠ a → cE dA (adO s0 xt) h1 b = cE dA (adO s0 xt) h b) (he : cE dA (adO s0 xt) h1 a = e1) (hz : H1.size = H.size) (hb : ∀ q, q < s0.heap.size → H1[q]? = H[q]?) (hP : va_P D clS ((wO s0 dA (adO s0 xt) h).set (a - K0) (adO s0 xt a, e1)) H1) : Rp s0 D dA xt hE h1 H1 := by
  refine ⟨by rw [hc]; exact hR.1, by rw [hz, hc]; exact hR.2.1, fun q hq => (hb q hq).trans (hR.2.2.1 q hq), ?_, fun b hb => by rw [hT1]; exact hR.2.2.2.2.1 b (by rw [← hc]; exact hb), fun i hi => ?_⟩
  · rw [rp_ad ha, wO_set ha hc hk he] at hP
    exact hP
  · rw [hT1, hN1, hI1 i (by omega)]
    exact hR.2.2.2.2.2 i hi
theorem va_Srf (hlo : ∀ q ∈ locs, s0.heap.size ≤ q.base) : va_S (fun q => s0.heap.size ≤ q) H H locs := ⟨Nat.le_refl _, fun _ _ _ => rfl, hlo⟩
/-- the size of the heap behind a store: not more than was made -/
theorem W_size {H1 : Heap} {Q : State → Prop} {g : JFrame} (hfr : Fr s0 s H cells) (hS : H.size ≤ H1.size) (kk : H1.size = H.size → W p l e R s m args below meth c H1 locs cells slots Q g) : W p l e R s m args below meth c H1 locs cells slots Q g := by
  intro T hT X
  have h1 := X.heapSize
  rw [hT, ← hfr.2.2] at h1
  exact kk (by omega) T hT X
/-- putfield -/
theorem sm_put (wd : Wd s0 D dA xt hE args0) {a n : Nat} {q : Nat × Nat × Nat × Bool} {v : Value} {h1 : AH} (hc : codeAt k pc = some (.putfield n)) (hf : fT (oN k) n = some q) (ht : hT h a = q.1) (hfi : q.2.2.2 = false ∨ iN k = q.1) (hn : narrow (tyC q.1 q.2.1) (vM (adO s0 xt) v) = vM (adO s0 xt) v) (hfit : fits (tyC q.1 q.2.1) (vM (adO s0 xt) v) = true)
    (hc1 : hC h1 = hC h) (hs1 : hS h1 = hS h) (hT1 : hT h1 = hT h) (hN1 : hN h1 = hN h) (hI1 : ∀ b, b ≠ a → hI h1 b = hI h b) (hk1 : ∀ b, b ≠ a → cE dA (adO s0 xt) h1 b = cE dA (adO s0 xt) h b) (he1 : cE dA (adO s0 xt) h1 a = .inr (q.1, ((List.range (CI q.1).2.2).map (fV (adO s0 xt) h a q.1)).set q.2.1 (vM (adO s0 xt) v)))
    (hk : Sm l s0 D dA xt hE d k (pc + 3) L S h1 o h') : Sm l s0 D dA xt hE d k pc L (v :: .ref a :: S) h o h' := by
  refine ⟨by rw [← hc1, ← hs1]; exact hk.1, fun p e R s m args below meth c H locs cells slots ls cx hR hl hfr hlo hd hw hcl hsl => ?_⟩
  obtain ⟨hc14, hfN, hlink, -, hfin, hdecl⟩ := okF _ _ _ hf
  obtain ⟨ha, haC⟩ := rp_x20 wd hR (by rw [ht]; omega)
  have hdg : decode (mtA k).2.1 pc = .ok (.putfield n, 3) := dec_at cx hc rfl (by decide)
  have hwm := cx.2.2.2.2.2.2.1
  have he := rp_ws (s0 := s0) (dA := dA) (xt := xt) ha haC
  rw [cE_o ht hc14] at he
  have kk : ∀ (H1 : Heap) (locs1 : List Loc), va_P D clS ((wO s0 dA (adO s0 xt) h).set (a - K0) (adO s0 xt a, .inr (q.1, ((List.range (CI q.1).2.2).map (fV (adO s0 xt) h a q.1)).set q.2.1 (vM (adO s0 xt) v)))) H1 → va_D (fun q => s0.heap.size ≤ q) ((wO s0 dA (adO s0 xt) h).set (a - K0) (adO s0 xt a, .inr (q.1, ((List.range (CI q.1).2.2).map (fV (adO s0 xt) h a q.1)).set q.2.1 (vM (adO s0 xt) v)))) → va_S (fun q => s0.heap.size ≤ q) H H1 locs1 → W p l e R s m args below meth c H1 locs1 cells slots (EQ s0 D dA xt hE below s o h' (cells + (hC h' - hC h)) (slots + (hS h' - hS h))) (F0 m (pc + 3) ls (S.map (vM (adO s0 xt)))) := by
    intro H1 locs1 hP1 hD1 hS1
    refine W_size hfr hS1.1 fun hz => ?_
    have hR1 : Rp s0 D dA xt hE h1 H1 := rp_set hR ha hc1 hT1 hN1 hI1 hk1 he1 hz (fun q hq => hS1.2.1 q (by have := hR.2.1; omega) (by simp only; omega)) hP1
    have hfr1 : Fr s0 s H1 cells := ⟨hfr.1, hfr.2.1, hz.trans hfr.2.2⟩
    have := hk.2 p e R s m args below meth c H1 locs1 cells slots ls cx hR1 hl hfr1 hS1.2.2 hd hw (by rw [hc1]; exact hcl) (by rw [hs1]; exact hsl)
    rw [hc1, hs1] at this
    exact this
  rcases hfi with hfi | hfi
  · rcases hlink with hlink | ⟨host, hlink, -⟩
    · exact va_put cx.1 cx.2.1 (wd_ts wd hwm) (in_C _ hc14) (tyC q.1) (ty_C _ hc14) (nm_C _ hc14) cx.2.2.2.2.2.1 (wd_K wd hwm) hR.2.2.2.1 wO_D (va_Srf hlo) (a - K0) he (clS_at _ hc14) q.2.1 hfN (wd_ts wd hwm _ hlink) (fun _ z => z) (hfin.trans hfi) (ty_C _ hc14 _ hfN) hn hfit (by simpa using hfN) hdg kk
    · exact va_putN cx.1 cx.2.1 (wd_ts wd hwm) (in_C _ hc14) (tyC q.1) (ty_C _ hc14) (nm_C _ hc14) cx.2.2.2.2.2.1 (wd_K wd hwm) hR.2.2.2.1 wO_D (va_Srf hlo) (a - K0) he (clS_at _ hc14) q.2.1 hfN (wd_nF wd hwm hlink) (fun _ z => z) (hfin.trans hfi) (ty_C _ hc14 _ hfN) hn hfit (by simpa using hfN) hdg kk
  · by_cases hb : q.2.2.2 = true
    · have hin := (okN cx.2.2.2.2.2.2.2.2.2).2.2.2.2.2.2.1
      rw [hfi] at hin
      rcases hin with hin | ⟨hin1, hin2⟩
      · omega
      · rcases hlink with hlink | ⟨host, hlink, hne⟩
        · exact va_putF cx.1 cx.2.1 (wd_ts wd hwm) (in_C _ hc14) (tyC q.1) (ty_C _ hc14) (nm_C _ hc14) cx.2.2.2.2.2.1 (wd_K wd hwm) hR.2.2.2.1 wO_D (va_Srf hlo) (a - K0) he (clS_at _ hc14) q.2.1 hfN (wd_ts wd hwm _ hlink) (fun _ z => z) (hfin.trans hb) (cx.2.2.2.2.2.2.2.1.trans hin1) ((hdecl hb).trans hin2) (ty_C _ hc14 _ hfN) hn hfit (by simpa using hfN) hdg kk
        · exact absurd hin2.symm hne
    · rw [Bool.not_eq_true] at hb
      rcases hlink with hlink | ⟨host, hlink, -⟩
      · exact va_put cx.1 cx.2.1 (wd_ts wd hwm) (in_C _ hc14) (tyC q.1) (ty_C _ hc14) (nm_C _ hc14) cx.2.2.2.2.2.1 (wd_K wd hwm) hR.2.2.2.1 wO_D (va_Srf hlo) (a - K0) he (clS_at _ hc14) q.2.1 hfN (wd_ts wd hwm _ hlink) (fun _ z => z) (hfin.trans hb) (ty_C _ hc14 _ hfN) hn hfit (by simpa using hfN) hdg kk
      · exact va_putN cx.1 cx.2.1 (wd_ts wd hwm) (in_C _ hc14) (tyC q.1) (ty_C _ hc14) (nm_C _ hc14) cx.2.2.2.2.2.1 (wd_K wd hwm) hR.2.2.2.1 wO_D (va_Srf hlo) (a - K0) he (clS_at _ hc14) q.2.1 hfN (wd_nF wd hwm hlink) (fun _ z => z) (hfin.trans hb) (ty_C _ hc14 _ hfN) hn hfit (by simpa using hfN) hdg kk
/-- what the cells are behind a store -/
theorem cE_sI {ad : Nat → Nat} {a f : Nat} {x : Int32} {b : Nat} (hb : b ≠ a) : cE dA ad (sI h a f x) b = cE dA ad h b := by
  have e1 : hI (sI h a f x) b = hI h b := by funext j; exact if_neg (fun z => hb z.1)
  have e2 : ∀ c j, fV ad (sI h a f x) b c j = fV ad h b c j := by
    intro c j
    unfold fV
    rw [e1]; rfl
  unfold cE
  rw [e1, show (fV ad (sI h a f x) b (hT (sI h a f x) b)) = fV ad h b (hT h b) from funext (e2 _)]; rfl
theorem cE_sL {ad : Nat → Nat} {a f : Nat} {x : Int64} {b : Nat} (hb : b ≠ a) : cE dA ad (sL h a f x) b = cE dA ad h b := by
  have e1 : hL (sL h a f x) b = hL h b := by funext j; exact if_neg (fun z => hb z.1)
  have e2 : ∀ c j, fV ad (sL h a f x) b c j = fV ad h b c j := by
    intro c j
    unfold fV
    rw [e1]; rfl
  unfold cE
  rw [e1, show (fV ad (sL h a f x) b (hT (sL h a f x) b)) = fV ad h b (hT h b) from funext (e2 _)]; rfl
theorem cE_sR {ad : Nat → Nat} {a f : Nat} {x : Value} {b : Nat} (hb : b ≠ a) : cE dA ad (sR h a f x) b = cE dA ad h b := by
  have e1 : hR (sR h a f x) b = hR h b := by funext j; exact if_neg (fun z => hb z.1)
  have e2 : ∀ c j, fV ad (sR h a f x) b c j = fV ad h b c j := by
    intro c j
    unfold fV
    rw [e1]; rfl
  unfold cE
  rw [e1, show (fV ad (sR h a f x) b (hT (sR h a f x) b)) = fV ad h b (hT h b) from funext (e2 _)]; rfl
theorem fs_set {ad : Nat → Nat} {h1 : AH} {a c f : Nat} {w : Value} (h1f : fV ad h1 a c f = w) (h1o : ∀ j, j ≠ f → fV ad h1 a c j = fV ad h a c j) : (List.range (CI c).2.2).map (fV ad h1 a c) = ((List.range (CI c).2.2).map (fV ad h a c)).set f w := by
  refine List.ext_getElem? fun i => ?_
  rw [List.getElem?_set, List.getElem?_map, List.getElem?_map]
  by_cases hi : i < (CI c).2.2
  · rw [List.getElem?_range hi]
    by_cases hq : f = i
    · subst hq
      rw [if_pos rfl, if_pos (by simpa using hi)]
      simp [h1f]
    · rw [if_neg hq]
      simp [h1o i (fun z => hq z.symm)]
  · rw [show (List.range (CI c).2.2)[i]? = none from List.getElem?_eq_none (by simpa using Nat.not_lt.mp hi)]
    by_cases hq : f = i
    · rw [if_pos hq, if_neg (by simpa using (by omega : ¬ f < (CI c).2.2))]; rfl
    · rw [if_neg hq]; rfl
end

/-! equations of the second machine's runs, by instruction -/
set_option maxRecDepth 100000
noncomputable def mS (B : Bool) (d k : Nat) (as : List Value) (h : SG) : RSG := evS B d k 0 (ent 0 as) [] h
def kV (r : RSG) (f : SG → RSG) : RSG := match r with
  | some (.inl none, h) => f h
  | some (.inr a, h) => some (.inr a, h)
  | _ => none
def kI (r : RSG) (f : Int32 → SG → RSG) : RSG := match r with
  | some (.inl (some (.int x)), h) => f x h
  | some (.inr a, h) => some (.inr a, h)
  | _ => none
def kJ (r : RSG) (f : Int64 → SG → RSG) : RSG := match r with
  | some (.inl (some (.long x)), h) => f x h
  | some (.inr a, h) => some (.inr a, h)
  | _ => none
def kR (r : RSG) (f : Nat → SG → RSG) : RSG := match r with
  | some (.inl (some (.ref x)), h) => f x h
  | some (.inr a, h) => some (.inr a, h)
  | _ => none
def ckS (b : Bool) (r : RSG) : RSG := bif b then r else none
theorem ckS_cg {b : Bool} {r s : RSG} (e : r = s) : ckS b r = ckS b s := by rw [e]
theorem kV_ok {h : SG} {f : SG → RSG} : kV (some (.inl none, h)) f = f h := rfl
theorem kI_ok {x : Int32} {h : SG} {f : Int32 → SG → RSG} : kI (some (.inl (some (.int x)), h)) f = f x h := rfl
theorem kJ_ok {x : Int64} {h : SG} {f : Int64 → SG → RSG} : kJ (some (.inl (some (.long x)), h)) f = f x h := rfl
theorem kR_ok {x : Nat} {h : SG} {f : Nat → SG → RSG} : kR (some (.inl (some (.ref x)), h)) f = f x h := rfl
theorem kV_ex {a : Nat} {h : SG} {f : SG → RSG} : kV (some (.inr a, h)) f = some (.inr a, h) := rfl
theorem kI_ex {a : Nat} {h : SG} {f : Int32 → SG → RSG} : kI (some (.inr a, h)) f = some (.inr a, h) := rfl
theorem kJ_ex {a : Nat} {h : SG} {f : Int64 → SG → RSG} : kJ (some (.inr a, h)) f = some (.inr a, h) := rfl
theorem kR_ex {a : Nat} {h : SG} {f : Nat → SG → RSG} : kR (some (.inr a, h)) f = some (.inr a, h) := rfl
theorem kV_cg {r : RSG} {f g : SG → RSG} (e : ∀ h, f h = g h) : kV r f = kV r g := by rw [funext e]
theorem kI_cg {r : RSG} {f g : Int32 → SG → RSG} (e : ∀ x h, f x h = g x h) : kI r f = kI r g := by rw [funext fun x => funext (e x)]
theorem kJ_cg {r : RSG} {f g : Int64 → SG → RSG} (e : ∀ x h, f x h = g x h) : kJ r f = kJ r g := by rw [funext fun x => funext (e x)]
theorem kR_cg {r : RSG} {f g : Nat → SG → RSG} (e : ∀ x h, f x h = g x h) : kR r f = kR r g := by rw [funext fun x => funext (e x)]
theorem es_cut {B : Bool} {d k pc : Nat} {L L1 : LO} {S : List Value} {h : SG} {ks : List Nat} (hl : livAt k pc = some ks) (hn : nrm (some ks) L = L1) (hi : nrm (some ks) L1 = L1) : evS B d k pc L S h = evS B d k pc L1 S h := by
  rw [evS_eq, evS_eq d k pc L1]
  unfold stpS
  rw [hl, hn, hi]
/-- straight on -/
def stxS (B : Bool) : Nat → Nat → Nat → Nat → LO → List Value → SG → Option (Nat × LO × List Value × SG)
  | 0, _, _, pc, L, S, h => some (pc, L, S, h)
  | m + 1, d, k, pc, L, S, h => match codeAt k pc with
    | none => none
    | some i => match exS B d k i pc (nrm (livAt k pc) L) S h with
      | some (.inl (pc', L', S', h')) => stxS B m d k pc' L' S' h'
      | _ => none
theorem es_st {B : Bool} (m : Nat) {d k pc pc' : Nat} {L L' : LO} {S S' : List Value} {h h' : SG} (e : stxS B m d k pc L S h = some (pc', L', S', h')) : evS B d k pc L S h = evS B d k pc' L' S' h' := by
  induction m generalizing pc L S h with
  | zero => cases e; rfl
  | succ m ih =>
    unfold stxS at e
    rw [evS_eq]
    unfold stpS
    cases hc : codeAt k pc with
    | none => rw [hc] at e; cases e
    | some i =>
      rw [hc] at e
      dsimp only at e ⊢
      cases he : exS B d k i pc (nrm (livAt k pc) L) S h with
      | none => rw [he] at e; cases e
      | some r =>
        rw [he] at e
        rcases r with ⟨pc1, L1, S1, h1⟩ | ⟨o, h1⟩ | ⟨k1, as, pc1, L1, S1, h1⟩
        · exact ih e
        · cases e
        · cases e
section
variable {d k pc : Nat} {L L1 : LO} {S : List Value} {h : SG} {i : Instr}
theorem es_at {B : Bool} (hc : codeAt k pc = some i) (hn : nrm (livAt k pc) L = L1) : evS B d k pc L S h = match exS B d k i pc L1 S h with
    | none => none
    | some (.inl (pc', L', S', h')) => evS B d k pc' L' S' h'
    | some (.inr (.inl (o, h'))) => some (o, h')
    | some (.inr (.inr (k', as, pc', L', S', h'))) => match d with
      | 0 => none
      | d' + 1 => match evS B d' k' 0 (ent 0 as) [] h' with
        | none => none
        | some (.inl v, h2) => bif rtOK (rTy k') v then evS B (d' + 1) k pc' L' (v.toList ++ S') h2 else none
        | some (.inr a, h2) => bif (hTab k).isEmpty then some (.inr a, h2) else none := by
  rw [evS_eq]
  unfold stpS
  rw [hc, hn]
  rfl
/-- an instruction that may fail -/
theorem es_ob {B : Bool} {α : Type} {o : Option α} {pc' : Nat} {L' : LO} {S' : α → List Value} {h' : α → SG} (hc : codeAt k pc = some i) (hn : nrm (livAt k pc) L = L1) (he : exS B d k i pc L1 S h = ob o (fun x => nxS pc' L' (S' x) (h' x))) : evS B d k pc L S h = ob o (fun x => evS B d k pc' L' (S' x) (h' x)) := by
  rw [es_at hc hn, he]
  cases o <;> rfl
theorem es_br {B : Bool} {c : Prop} {ic : Decidable c} {p1 p2 : Nat} {L' : LO} {S' : List Value} (hc : codeAt k pc = some i) (hn : nrm (livAt k pc) L = L1) (he : exS B d k i pc L1 S h = ite c (nxS p1 L' S' h) (nxS p2 L' S' h)) : evS B d k pc L S h = ite c (evS B d k p1 L' S' h) (evS B d k p2 L' S' h) := by
  rw [es_at hc hn, he]
  by_cases hq : c
  · rw [if_pos hq, if_pos hq]; rfl
  · rw [if_neg hq, if_neg hq]; rfl
theorem es_fin {B : Bool} {o : OU} {h' : SG} (hc : codeAt k pc = some i) (hn : nrm (livAt k pc) L = L1) (he : exS B d k i pc L1 S h = finS o h') : evS B d k pc L S h = some (o, h') := by
  rw [es_at hc hn, he]; rfl
theorem es_ckn {B : Bool} {b : Bool} {pc' : Nat} {L' : LO} {S' : List Value} {h' : SG} (hc : codeAt k pc = some i) (hn : nrm (livAt k pc) L = L1) (he : exS B d k i pc L1 S h = bif b then nxS pc' L' S' h' else none) : evS B d k pc L S h = ckS b (evS B d k pc' L' S' h') := by
  rw [es_at hc hn, he]
  cases b <;> rfl
theorem es_finZ {B : Bool} {a : Int32} {h' : SG} (hc : codeAt k pc = some i) (hn : nrm (livAt k pc) L = L1) (he : exS B d k i pc L1 S h = if a = 0 ∨ a = 1 then finS (.inl (some (.int a))) h' else none) : evS B d k pc L S h = if a = 0 ∨ a = 1 then some (.inl (some (.int a)), h') else none := by
  rw [es_at hc hn, he]
  by_cases hq : a = 0 ∨ a = 1
  · rw [if_pos hq, if_pos hq]; rfl
  · rw [if_neg hq, if_neg hq]
theorem es_sw {B : Bool} {a : Int32} {cs : List (Int32 × Nat)} {df : Nat} {L' : LO} {S' : List Value} (hc : codeAt k pc = some i) (hn : nrm (livAt k pc) L = L1) (he : exS B d k i pc L1 S h = nxS (selT a cs df) L' S' h) : evS B d k pc L S h = evS B d k (selT a cs df) L' S' h := by
  rw [es_at hc hn, he]; rfl
/-- calls -/
theorem es_call {B : Bool} {b : Bool} {k' pc' : Nat} {as S' : List Value} {L' : LO} {h' : SG} (hc : codeAt k pc = some i) (hn : nrm (livAt k pc) L = L1) (he : exS B (d + 1) k i pc L1 S h = bif b then calS k' as pc' L' S' h' else none) : evS B (d + 1) k pc L S h = ckS b (match mS B d k' as h' with
    | none => none
    | some (.inl v, h2) => bif rtOK (rTy k') v then evS B (d + 1) k pc' L' (v.toList ++ S') h2 else none
    | some (.inr a, h2) => bif (hTab k).isEmpty then some (.inr a, h2) else none) := by
  rw [es_at hc hn, he]
  cases b
  · rfl
  · dsimp only [cond_true, calS, mS, ckS]
theorem es_cV {B : Bool} {b : Bool} {k' pc' : Nat} {as S' : List Value} {L' : LO} {h' : SG} (hc : codeAt k pc = some i) (hn : nrm (livAt k pc) L = L1) (he : exS B (d + 1) k i pc L1 S h = bif b then calS k' as pc' L' S' h' else none) (hh : hTab k = []) (hv : rTy k' = 0) : evS B (d + 1) k pc L S h = ckS b (kV (mS B d k' as h') (fun h2 => evS B (d + 1) k pc' L' S' h2)) := by
  rw [es_call hc hn he, hh, hv]
  refine ckS_cg ?_
  rcases mS B d k' as h' with _ | ⟨v | a, h2⟩
  · rfl
  · rcases v with _ | v
    · rfl
    · cases v <;> rfl
  · rfl
theorem es_cI {B : Bool} {b : Bool} {k' pc' : Nat} {as S' : List Value} {L' : LO} {h' : SG} (hc : codeAt k pc = some i) (hn : nrm (livAt k pc) L = L1) (he : exS B (d + 1) k i pc L1 S h = bif b then calS k' as pc' L' S' h' else none) (hh : hTab k = []) (hv : (Nat.beq (rTy k') 1 || Nat.beq (rTy k') 4) = true) : evS B (d + 1) k pc L S h = ckS b (kI (mS B d k' as h') (fun x h2 => evS B (d + 1) k pc' L' (.int x :: S') h2)) := by
  have hr : rTy k' = 1 ∨ rTy k' = 4 := by
    rcases Bool.or_eq_true_iff.mp hv with z | z
    · exact Or.inl (Nat.eq_of_beq_eq_true z)
    · exact Or.inr (Nat.eq_of_beq_eq_true z)
  rw [es_call hc hn he, hh]
  refine ckS_cg ?_
  rcases mS B d k' as h' with _ | ⟨v | a, h2⟩
  · rfl
  · rcases v with _ | v
    · rcases hr with hr | hr <;> rw [hr] <;> rfl
    · rcases hr with hr | hr <;> rw [hr] <;> cases v <;> rfl
  · rfl
theorem es_cJ {B : Bool} {b : Bool} {k' pc' : Nat} {as S' : List Value} {L' : LO} {h' : SG} (hc : codeAt k pc = some i) (hn : nrm (livAt k pc) L = L1) (he : exS B (d + 1) k i pc L1 S h = bif b then calS k' as pc' L' S' h' else none) (hh : hTab k = []) (hv : rTy k' = 2) : evS B (d + 1) k pc L S h = ckS b (kJ (mS B d k' as h') (fun x h2 => evS B (d + 1) k pc' L' (.long x :: S') h2)) := by
  rw [es_call hc hn he, hh, hv]
  refine ckS_cg ?_
  rcases mS B d k' as h' with _ | ⟨v | a, h2⟩
  · rfl
  · rcases v with _ | v
    · rfl
    · cases v <;> rfl
  · rfl
theorem es_cR {B : Bool} {b : Bool} {k' pc' : Nat} {as S' : List Value} {L' : LO} {h' : SG} (hc : codeAt k pc = some i) (hn : nrm (livAt k pc) L = L1) (he : exS B (d + 1) k i pc L1 S h = bif b then calS k' as pc' L' S' h' else none) (hh : hTab k = []) (hv : rTy k' = 3) : evS B (d + 1) k pc L S h = ckS b (kR (mS B d k' as h') (fun x h2 => evS B (d + 1) k pc' L' (.ref x :: S') h2)) := by
  rw [es_call hc hn he, hh, hv]
  refine ckS_cg ?_
  rcases mS B d k' as h' with _ | ⟨v | a, h2⟩
  · rfl
  · rcases v with _ | v
    · rfl
    · cases v <;> rfl
  · rfl
/-- branches -/
theorem jpS_to {o : Int} {t : Nat} {f : Nat → XS} (ht : (pc : Int) + o = (t : Int)) : jpS pc o f = f t := by
  unfold jpS
  rw [ht, if_pos (Int.natCast_nonneg t)]
  rfl
theorem es_brc {B : Bool} {c : Prop} {ic : Decidable c} {b : Bool} {o : Int} {t : Nat} {S' : List Value} (hc : codeAt k pc = some i) (hn : nrm (livAt k pc) L = L1) (he : exS B d k i pc L1 S h = jpS pc o (fun t => ite (b = true) (nxS t L1 S' h) (nxS (pc + 3) L1 S' h))) (ht : (pc : Int) + o = (t : Int)) (hb : b = true ↔ c) : evS B d k pc L S h = ite c (evS B d k t L1 S' h) (evS B d k (pc + 3) L1 S' h) := by
  rw [es_at hc hn, he, jpS_to ht]
  by_cases hq : c
  · rw [if_pos hq, if_pos (hb.mpr hq)]; rfl
  · rw [if_neg hq, if_neg (fun z => hq (hb.mp z))]; rfl
theorem es_brn {B : Bool} {c : Prop} {ic : Decidable c} {b : Bool} {o : Int} {t : Nat} {S' : List Value} (hc : codeAt k pc = some i) (hn : nrm (livAt k pc) L = L1) (he : exS B d k i pc L1 S h = jpS pc o (fun t => ite (b = true) (nxS t L1 S' h) (nxS (pc + 3) L1 S' h))) (ht : (pc : Int) + o = (t : Int)) (hb : b = true ↔ ¬ c) : evS B d k pc L S h = ite c (evS B d k (pc + 3) L1 S' h) (evS B d k t L1 S' h) := by
  rw [es_at hc hn, he, jpS_to ht]
  by_cases hq : c
  · rw [if_pos hq, if_neg (fun z => hb.mp z hq)]; rfl
  · rw [if_neg hq, if_pos (hb.mpr hq)]; rfl
variable {a b : Int32} {o : Int} {t : Nat}
theorem is_eq {B : Bool} (hc : codeAt k pc = some (.if_icmp .eq o)) (hn : nrm (livAt k pc) L = L1) (ht : (pc : Int) + o = (t : Int)) : evS B d k pc L (.int b :: .int a :: S) h = if a = b then evS B d k t L1 S h else evS B d k (pc + 3) L1 S h := es_brc (b := cndI .eq a b) hc hn rfl ht decide_eq_true_iff
theorem is_ne {B : Bool} (hc : codeAt k pc = some (.if_icmp .ne o)) (hn : nrm (livAt k pc) L = L1) (ht : (pc : Int) + o = (t : Int)) : evS B d k pc L (.int b :: .int a :: S) h = if a = b then evS B d k (pc + 3) L1 S h else evS B d k t L1 S h := es_brn (b := cndI .ne a b) hc hn rfl ht (by simp [cndI])
theorem is_lt {B : Bool} (hc : codeAt k pc = some (.if_icmp .lt o)) (hn : nrm (livAt k pc) L = L1) (ht : (pc : Int) + o = (t : Int)) : evS B d k pc L (.int b :: .int a :: S) h = if a < b then evS B d k t L1 S h else evS B d k (pc + 3) L1 S h := es_brc (b := cndI .lt a b) hc hn rfl ht decide_eq_true_iff
theorem is_ge {B : Bool} (hc : codeAt k pc = some (.if_icmp .ge o)) (hn : nrm (livAt k pc) L = L1) (ht : (pc : Int) + o = (t : Int)) : evS B d k pc L (.int b :: .int a :: S) h = if b ≤ a then evS B d k t L1 S h else evS B d k (pc + 3) L1 S h := es_brc (b := cndI .ge a b) hc hn rfl ht decide_eq_true_iff
theorem is_gt {B : Bool} (hc : codeAt k pc = some (.if_icmp .gt o)) (hn : nrm (livAt k pc) L = L1) (ht : (pc : Int) + o = (t : Int)) : evS B d k pc L (.int b :: .int a :: S) h = if b < a then evS B d k t L1 S h else evS B d k (pc + 3) L1 S h := es_brc (b := cndI .gt a b) hc hn rfl ht decide_eq_true_iff
theorem is_le {B : Bool} (hc : codeAt k pc = some (.if_icmp .le o)) (hn : nrm (livAt k pc) L = L1) (ht : (pc : Int) + o = (t : Int)) : evS B d k pc L (.int b :: .int a :: S) h = if a ≤ b then evS B d k t L1 S h else evS B d k (pc + 3) L1 S h := es_brc (b := cndI .le a b) hc hn rfl ht decide_eq_true_iff
theorem zs_eq {B : Bool} (hc : codeAt k pc = some (.ifCond .eq o)) (hn : nrm (livAt k pc) L = L1) (ht : (pc : Int) + o = (t : Int)) : evS B d k pc L (.int a :: S) h = if a = 0 then evS B d k t L1 S h else evS B d k (pc + 3) L1 S h := es_brc (b := cndI .eq a 0) hc hn rfl ht decide_eq_true_iff
theorem zs_ne {B : Bool} (hc : codeAt k pc = some (.ifCond .ne o)) (hn : nrm (livAt k pc) L = L1) (ht : (pc : Int) + o = (t : Int)) : evS B d k pc L (.int a :: S) h = if a = 0 then evS B d k (pc + 3) L1 S h else evS B d k t L1 S h := es_brn (b := cndI .ne a 0) hc hn rfl ht (by simp [cndI])
theorem zs_lt {B : Bool} (hc : codeAt k pc = some (.ifCond .lt o)) (hn : nrm (livAt k pc) L = L1) (ht : (pc : Int) + o = (t : Int)) : evS B d k pc L (.int a :: S) h = if a < 0 then evS B d k t L1 S h else evS B d k (pc + 3) L1 S h := es_brc (b := cndI .lt a 0) hc hn rfl ht decide_eq_true_iff
theorem zs_ge {B : Bool} (hc : codeAt k pc = some (.ifCond .ge o)) (hn : nrm (livAt k pc) L = L1) (ht : (pc : Int) + o = (t : Int)) : evS B d k pc L (.int a :: S) h = if 0 ≤ a then evS B d k t L1 S h else evS B d k (pc + 3) L1 S h := es_brc (b := cndI .ge a 0) hc hn rfl ht decide_eq_true_iff
theorem zs_gt {B : Bool} (hc : codeAt k pc = some (.ifCond .gt o)) (hn : nrm (livAt k pc) L = L1) (ht : (pc : Int) + o = (t : Int)) : evS B d k pc L (.int a :: S) h = if 0 < a then evS B d k t L1 S h else evS B d k (pc + 3) L1 S h := es_brc (b := cndI .gt a 0) hc hn rfl ht decide_eq_true_iff
theorem zs_le {B : Bool} (hc : codeAt k pc = some (.ifCond .le o)) (hn : nrm (livAt k pc) L = L1) (ht : (pc : Int) + o = (t : Int)) : evS B d k pc L (.int a :: S) h = if a ≤ 0 then evS B d k t L1 S h else evS B d k (pc + 3) L1 S h := es_brc (b := cndI .le a 0) hc hn rfl ht decide_eq_true_iff
theorem ss_cons {B : Bool} {v : Int32} {r : List (Int32 × Nat)} {df : Nat} : evS B d k (selT a ((v, t) :: r) df) L S h = if a = v then evS B d k t L S h else evS B d k (selT a r df) L S h := by
  by_cases hq : a = v
  · rw [if_pos hq]; show evS B d k (if a = v then t else selT a r df) L S h = _; rw [if_pos hq]
  · rw [if_neg hq]; show evS B d k (if a = v then t else selT a r df) L S h = _; rw [if_neg hq]
theorem es_ng {B : Bool} {c : Prop} {ic : Decidable c} {L' : LO} {S' : List Value} {p2 : Nat} (hc : codeAt k pc = some i) (hn : nrm (livAt k pc) L = L1) (he : exS B d k i pc L1 S h = ite c none (nxS p2 L' S' h)) : evS B d k pc L S h = ite c none (evS B d k p2 L' S' h) := by
  rw [es_at hc hn, he]
  by_cases hq : c
  · rw [if_pos hq, if_pos hq]
  · rw [if_neg hq, if_neg hq]; rfl
theorem es_ix {B : Bool} {α : Type} {c : Prop} {ic : Decidable c} {x : α} {pc' : Nat} {L' : LO} {S' : α → List Value} {h' : α → SG} (hc : codeAt k pc = some i) (hn : nrm (livAt k pc) L = L1) (he : exS B d k i pc L1 S h = ob (ite c (some x) none) (fun z => nxS pc' L' (S' z) (h' z))) : evS B d k pc L S h = ite c (evS B d k pc' L' (S' x) (h' x)) none := by
  rw [es_at hc hn, he]
  by_cases hq : c
  · rw [if_pos hq, if_pos hq]; rfl
  · rw [if_neg hq, if_neg hq]; rfl
theorem es_ixp {B : Bool} {α : Type} {c : Prop} {ic : Decidable c} {x : α} {pc' : Nat} {L' : LO} {S' : α → List Value} {h' : α → SG} (hc : codeAt k pc = some i) (hn : nrm (livAt k pc) L = L1) (he : exS B d k i pc L1 S h = ob (ite c (some x) none) (fun z => nxS pc' L' (S' z) (h' z))) (hq : c) : evS B d k pc L S h = evS B d k pc' L' (S' x) (h' x) := by
  rw [es_ix hc hn he, if_pos hq]
theorem es_exc {B : Bool} {c : Prop} {ic : Decidable c} {o : OU} {h' : SG} (hc : codeAt k pc = some i) (hn : nrm (livAt k pc) L = L1) (he : exS B d k i pc L1 S h = ite c (finS o h') none) : evS B d k pc L S h = ite c (some (o, h')) none := by
  rw [es_at hc hn, he]
  by_cases hq : c
  · rw [if_pos hq, if_pos hq]; rfl
  · rw [if_neg hq, if_neg hq]
theorem es_none {B : Bool} (hc : codeAt k pc = some i) (hn : nrm (livAt k pc) L = L1) (he : exS B d k i pc L1 S h = none) : evS B d k pc L S h = none := by
  rw [es_at hc hn, he]
theorem es_thr {B : Bool} {o : OU} {h' : SG} {bb : Bool} (hc : codeAt k pc = some i) (hn : nrm (livAt k pc) L = L1) (he : exS B d k i pc L1 S h = bif bb then finS o h' else none) : evS B d k pc L S h = ckS bb (some (o, h')) := by
  rw [es_at hc hn, he]
  cases bb <;> rfl
theorem if_cgn {α : Type} {c : Prop} {i : Decidable c} {a b : α} {n : α} (e : a = b) : ite c a n = ite c b n := by rw [e]
end

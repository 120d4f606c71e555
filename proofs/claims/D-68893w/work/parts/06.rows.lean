/-! equations of runs, by instruction -/
set_option maxRecDepth 100000
noncomputable def mth (d k : Nat) (as : List Value) (h : AH) : RS := ev d k 0 (ent 0 as) [] h
def cV (r : RS) (f : AH → RS) : RS := match r with
  | some (.inl none, h) => f h
  | some (.inr a, h) => some (.inr a, h)
  | _ => none
def cI (r : RS) (f : Int32 → AH → RS) : RS := match r with
  | some (.inl (some (.int x)), h) => f x h
  | some (.inr a, h) => some (.inr a, h)
  | _ => none
def cJ (r : RS) (f : Int64 → AH → RS) : RS := match r with
  | some (.inl (some (.long x)), h) => f x h
  | some (.inr a, h) => some (.inr a, h)
  | _ => none
def cR (r : RS) (f : Nat → AH → RS) : RS := match r with
  | some (.inl (some (.ref x)), h) => f x h
  | some (.inr a, h) => some (.inr a, h)
  | _ => none
/-- the same in a method with handlers -/
def hX (hs : List (Nat × Nat × Nat × Nat)) (pc a : Nat) (h : AH) (g : Nat → RS) : RS := match hnd hs pc (hT h a) with
  | some p => g p
  | none => bif hs.isEmpty then some (.inr a, h) else none
def ck (b : Bool) (r : RS) : RS := bif b then r else none
theorem cV_ok {h : AH} {f : AH → RS} : cV (some (.inl none, h)) f = f h := rfl
theorem cI_ok {x : Int32} {h : AH} {f : Int32 → AH → RS} : cI (some (.inl (some (.int x)), h)) f = f x h := rfl
theorem cJ_ok {x : Int64} {h : AH} {f : Int64 → AH → RS} : cJ (some (.inl (some (.long x)), h)) f = f x h := rfl
theorem cR_ok {x : Nat} {h : AH} {f : Nat → AH → RS} : cR (some (.inl (some (.ref x)), h)) f = f x h := rfl
theorem cV_ex {a : Nat} {h : AH} {f : AH → RS} : cV (some (.inr a, h)) f = some (.inr a, h) := rfl
theorem cI_ex {a : Nat} {h : AH} {f : Int32 → AH → RS} : cI (some (.inr a, h)) f = some (.inr a, h) := rfl
theorem cJ_ex {a : Nat} {h : AH} {f : Int64 → AH → RS} : cJ (some (.inr a, h)) f = some (.inr a, h) := rfl
theorem cR_ex {a : Nat} {h : AH} {f : Nat → AH → RS} : cR (some (.inr a, h)) f = some (.inr a, h) := rfl
theorem ob_ok {α β : Type} {a : α} {f : α → Option β} : ob (some a) f = f a := rfl
theorem cV_cg {r : RS} {f g : AH → RS} (e : ∀ h, f h = g h) : cV r f = cV r g := by rw [funext e]
theorem cI_cg {r : RS} {f g : Int32 → AH → RS} (e : ∀ x h, f x h = g x h) : cI r f = cI r g := by rw [funext fun x => funext (e x)]
theorem cJ_cg {r : RS} {f g : Int64 → AH → RS} (e : ∀ x h, f x h = g x h) : cJ r f = cJ r g := by rw [funext fun x => funext (e x)]
theorem cR_cg {r : RS} {f g : Nat → AH → RS} (e : ∀ x h, f x h = g x h) : cR r f = cR r g := by rw [funext fun x => funext (e x)]
theorem ob_cg {α β : Type} {o : Option α} {f g : α → Option β} (e : ∀ x, f x = g x) : ob o f = ob o g := by rw [funext e]
theorem ck_cg {b : Bool} {r s : RS} (e : r = s) : ck b r = ck b s := by rw [e]
theorem if_cg {α : Type} {c : Prop} {i : Decidable c} {a b a' b' : α} (e : a = a') (f : b = b') : ite c a b = ite c a' b' := by rw [e, f]
theorem ev_cut {d k pc : Nat} {L L1 : LO} {S : List Value} {h : AH} {ks : List Nat} (hl : livAt k pc = some ks) (hn : nrm (some ks) L = L1) (hi : nrm (some ks) L1 = L1) : ev d k pc L S h = ev d k pc L1 S h := by
  rw [ev_eq, ev_eq d k pc L1]
  unfold stp
  rw [hl, hn, hi]
/-- straight on -/
def stx : Nat → Nat → Nat → Nat → LO → List Value → AH → Option (Nat × LO × List Value × AH)
  | 0, _, _, pc, L, S, h => some (pc, L, S, h)
  | m + 1, d, k, pc, L, S, h => match codeAt k pc with
    | none => none
    | some i => match ex d k i pc (nrm (livAt k pc) L) S h with
      | some (.inl (pc', L', S', h')) => stx m d k pc' L' S' h'
      | _ => none
theorem ev_st (m : Nat) {d k pc pc' : Nat} {L L' : LO} {S S' : List Value} {h h' : AH} (e : stx m d k pc L S h = some (pc', L', S', h')) : ev d k pc L S h = ev d k pc' L' S' h' := by
  induction m generalizing pc L S h with
  | zero => cases e; rfl
  | succ m ih =>
    unfold stx at e
    rw [ev_eq]
    unfold stp
    cases hc : codeAt k pc with
    | none => rw [hc] at e; cases e
    | some i =>
      rw [hc] at e
      dsimp only at e ⊢
      cases he : ex d k i pc (nrm (livAt k pc) L) S h with
      | none => rw [he] at e; cases e
      | some r =>
        rw [he] at e
        rcases r with ⟨pc1, L1, S1, h1⟩ | ⟨o, h1⟩ | ⟨k1, as, pc1, L1, S1, h1⟩
        · exact ih e
        · cases e
        · cases e
section
variable {d k pc : Nat} {L L1 : LO} {S : List Value} {h : AH} {i : Instr}
theorem ev_at (hc : codeAt k pc = some i) (hn : nrm (livAt k pc) L = L1) : ev d k pc L S h = match ex d k i pc L1 S h with
    | none => none
    | some (.inl (pc', L', S', h')) => ev d k pc' L' S' h'
    | some (.inr (.inl (o, h'))) => some (o, h')
    | some (.inr (.inr (k', as, pc', L', S', h'))) => match d with
      | 0 => none
      | d' + 1 => match ev d' k' 0 (ent 0 as) [] h' with
        | none => none
        | some (.inl v, h2) => bif rtOK (rTy k') v then ev (d' + 1) k pc' L' (v.toList ++ S') h2 else none
        | some (.inr a, h2) => match hnd (hTab k) pc (hT h2 a) with
          | some p => ev (d' + 1) k p L' [.ref a] h2
          | none => bif (hTab k).isEmpty then some (.inr a, h2) else none := by
  rw [ev_eq]
  unfold stp
  rw [hc, hn]
  rfl
/-- an instruction that may fail -/
theorem ev_ob {α : Type} {o : Option α} {pc' : Nat} {L' : LO} {S' : α → List Value} {h' : α → AH} (hc : codeAt k pc = some i) (hn : nrm (livAt k pc) L = L1) (he : ex d k i pc L1 S h = ob o (fun x => nx pc' L' (S' x) (h' x))) : ev d k pc L S h = ob o (fun x => ev d k pc' L' (S' x) (h' x)) := by
  rw [ev_at hc hn, he]
  cases o <;> rfl
theorem ev_br {c : Prop} {ic : Decidable c} {p1 p2 : Nat} {L' : LO} {S' : List Value} (hc : codeAt k pc = some i) (hn : nrm (livAt k pc) L = L1) (he : ex d k i pc L1 S h = ite c (nx p1 L' S' h) (nx p2 L' S' h)) : ev d k pc L S h = ite c (ev d k p1 L' S' h) (ev d k p2 L' S' h) := by
  rw [ev_at hc hn, he]
  by_cases hq : c
  · rw [if_pos hq, if_pos hq]; rfl
  · rw [if_neg hq, if_neg hq]; rfl
theorem ev_fin {o : OU} {h' : AH} (hc : codeAt k pc = some i) (hn : nrm (livAt k pc) L = L1) (he : ex d k i pc L1 S h = fin o h') : ev d k pc L S h = some (o, h') := by
  rw [ev_at hc hn, he]; rfl
theorem ev_ckn {b : Bool} {pc' : Nat} {L' : LO} {S' : List Value} {h' : AH} (hc : codeAt k pc = some i) (hn : nrm (livAt k pc) L = L1) (he : ex d k i pc L1 S h = bif b then nx pc' L' S' h' else none) : ev d k pc L S h = ck b (ev d k pc' L' S' h') := by
  rw [ev_at hc hn, he]
  cases b <;> rfl
/-- unsigned shift -/
def lus (a : Int64) (b : Int32) : Int64 := (a.toUInt64 >>> (b.toInt64.toUInt64 &&& Int64.toUInt64 63)).toInt64
theorem ev_thr {a : Nat} {h' : AH} {bb : Bool} (hc : codeAt k pc = some i) (hn : nrm (livAt k pc) L = L1) (he : ex d k i pc L1 S h = bif bb then fin (.inr a) h' else none) : ev d k pc L S h = ck bb (some (.inr a, h')) := by
  rw [ev_at hc hn, he]
  cases bb <;> rfl
theorem ev_finZ {a : Int32} {h' : AH} (hc : codeAt k pc = some i) (hn : nrm (livAt k pc) L = L1) (he : ex d k i pc L1 S h = if a = 0 ∨ a = 1 then fin (.inl (some (.int a))) h' else none) : ev d k pc L S h = if a = 0 ∨ a = 1 then some (.inl (some (.int a)), h') else none := by
  rw [ev_at hc hn, he]
  by_cases hq : a = 0 ∨ a = 1
  · rw [if_pos hq, if_pos hq]; rfl
  · rw [if_neg hq, if_neg hq]
theorem ev_sw {a : Int32} {cs : List (Int32 × Nat)} {df : Nat} {L' : LO} {S' : List Value} (hc : codeAt k pc = some i) (hn : nrm (livAt k pc) L = L1) (he : ex d k i pc L1 S h = nx (selT a cs df) L' S' h) : ev d k pc L S h = ev d k (selT a cs df) L' S' h := by
  rw [ev_at hc hn, he]; rfl
/-- calls -/
theorem ev_call {b : Bool} {k' pc' : Nat} {as S' : List Value} {L' : LO} {h' : AH} (hc : codeAt k pc = some i) (hn : nrm (livAt k pc) L = L1) (he : ex (d + 1) k i pc L1 S h = bif b then cal k' as pc' L' S' h' else none) : ev (d + 1) k pc L S h = ck b (match mth d k' as h' with
    | none => none
    | some (.inl v, h2) => bif rtOK (rTy k') v then ev (d + 1) k pc' L' (v.toList ++ S') h2 else none
    | some (.inr a, h2) => hX (hTab k) pc a h2 (fun p => ev (d + 1) k p L' [.ref a] h2)) := by
  rw [ev_at hc hn, he]
  cases b
  · rfl
  · dsimp only [cond_true, cal, mth, ck, hX]
theorem ev_cV {b : Bool} {k' pc' : Nat} {as S' : List Value} {L' : LO} {h' : AH} (hc : codeAt k pc = some i) (hn : nrm (livAt k pc) L = L1) (he : ex (d + 1) k i pc L1 S h = bif b then cal k' as pc' L' S' h' else none) (hh : hTab k = []) (hv : rTy k' = 0) : ev (d + 1) k pc L S h = ck b (cV (mth d k' as h') (fun h2 => ev (d + 1) k pc' L' S' h2)) := by
  rw [ev_call hc hn he, hh, hv]
  refine ck_cg ?_
  rcases mth d k' as h' with _ | ⟨v | a, h2⟩
  · rfl
  · rcases v with _ | v
    · rfl
    · cases v <;> rfl
  · rfl
theorem ev_cI {b : Bool} {k' pc' : Nat} {as S' : List Value} {L' : LO} {h' : AH} (hc : codeAt k pc = some i) (hn : nrm (livAt k pc) L = L1) (he : ex (d + 1) k i pc L1 S h = bif b then cal k' as pc' L' S' h' else none) (hh : hTab k = []) (hv : (Nat.beq (rTy k') 1 || Nat.beq (rTy k') 4) = true) : ev (d + 1) k pc L S h = ck b (cI (mth d k' as h') (fun x h2 => ev (d + 1) k pc' L' (.int x :: S') h2)) := by
  have hr : rTy k' = 1 ∨ rTy k' = 4 := by
    rcases Bool.or_eq_true_iff.mp hv with z | z
    · exact Or.inl (Nat.eq_of_beq_eq_true z)
    · exact Or.inr (Nat.eq_of_beq_eq_true z)
  rw [ev_call hc hn he, hh]
  refine ck_cg ?_
  rcases mth d k' as h' with _ | ⟨v | a, h2⟩
  · rfl
  · rcases v with _ | v
    · rcases hr with hr | hr <;> rw [hr] <;> rfl
    · rcases hr with hr | hr <;> rw [hr] <;> cases v <;> rfl
  · rfl
theorem ev_cJ {b : Bool} {k' pc' : Nat} {as S' : List Value} {L' : LO} {h' : AH} (hc : codeAt k pc = some i) (hn : nrm (livAt k pc) L = L1) (he : ex (d + 1) k i pc L1 S h = bif b then cal k' as pc' L' S' h' else none) (hh : hTab k = []) (hv : rTy k' = 2) : ev (d + 1) k pc L S h = ck b (cJ (mth d k' as h') (fun x h2 => ev (d + 1) k pc' L' (.long x :: S') h2)) := by
  rw [ev_call hc hn he, hh, hv]
  refine ck_cg ?_
  rcases mth d k' as h' with _ | ⟨v | a, h2⟩
  · rfl
  · rcases v with _ | v
    · rfl
    · cases v <;> rfl
  · rfl
theorem ev_cR {b : Bool} {k' pc' : Nat} {as S' : List Value} {L' : LO} {h' : AH} (hc : codeAt k pc = some i) (hn : nrm (livAt k pc) L = L1) (he : ex (d + 1) k i pc L1 S h = bif b then cal k' as pc' L' S' h' else none) (hh : hTab k = []) (hv : rTy k' = 3) : ev (d + 1) k pc L S h = ck b (cR (mth d k' as h') (fun x h2 => ev (d + 1) k pc' L' (.ref x :: S') h2)) := by
  rw [ev_call hc hn he, hh, hv]
  refine ck_cg ?_
  rcases mth d k' as h' with _ | ⟨v | a, h2⟩
  · rfl
  · rcases v with _ | v
    · rfl
    · cases v <;> rfl
  · rfl
/-- in a method with handlers -/
def cVh (r : RS) (f : AH → RS) (g : Nat → AH → RS) : RS := match r with
  | some (.inl none, h) => f h
  | some (.inr a, h) => g a h
  | _ => none
def cIh (r : RS) (f : Int32 → AH → RS) (g : Nat → AH → RS) : RS := match r with
  | some (.inl (some (.int x)), h) => f x h
  | some (.inr a, h) => g a h
  | _ => none
def cJh (r : RS) (f : Int64 → AH → RS) (g : Nat → AH → RS) : RS := match r with
  | some (.inl (some (.long x)), h) => f x h
  | some (.inr a, h) => g a h
  | _ => none
theorem cVh_ok {h : AH} {f : AH → RS} {g : Nat → AH → RS} : cVh (some (.inl none, h)) f g = f h := rfl
theorem cIh_ok {x : Int32} {h : AH} {f : Int32 → AH → RS} {g : Nat → AH → RS} : cIh (some (.inl (some (.int x)), h)) f g = f x h := rfl
theorem cJh_ok {x : Int64} {h : AH} {f : Int64 → AH → RS} {g : Nat → AH → RS} : cJh (some (.inl (some (.long x)), h)) f g = f x h := rfl
theorem cVh_ex {a : Nat} {h : AH} {f : AH → RS} {g : Nat → AH → RS} : cVh (some (.inr a, h)) f g = g a h := rfl
theorem cIh_ex {a : Nat} {h : AH} {f : Int32 → AH → RS} {g : Nat → AH → RS} : cIh (some (.inr a, h)) f g = g a h := rfl
theorem cJh_ex {a : Nat} {h : AH} {f : Int64 → AH → RS} {g : Nat → AH → RS} : cJh (some (.inr a, h)) f g = g a h := rfl
theorem cVh_cg {r : RS} {f f' : AH → RS} {g : Nat → AH → RS} (e : ∀ h, f h = f' h) : cVh r f g = cVh r f' g := by rw [funext e]
theorem cIh_cg {r : RS} {f f' : Int32 → AH → RS} {g : Nat → AH → RS} (e : ∀ x h, f x h = f' x h) : cIh r f g = cIh r f' g := by rw [funext fun x => funext (e x)]
theorem cJh_cg {r : RS} {f f' : Int64 → AH → RS} {g : Nat → AH → RS} (e : ∀ x h, f x h = f' x h) : cJh r f g = cJh r f' g := by rw [funext fun x => funext (e x)]
theorem ev_cVh {b : Bool} {k' pc' : Nat} {as S' : List Value} {L' : LO} {h' : AH} (hc : codeAt k pc = some i) (hn : nrm (livAt k pc) L = L1) (he : ex (d + 1) k i pc L1 S h = bif b then cal k' as pc' L' S' h' else none) (hv : rTy k' = 0) : ev (d + 1) k pc L S h = ck b (cVh (mth d k' as h') (fun h2 => ev (d + 1) k pc' L' S' h2) (fun a h2 => hX (hTab k) pc a h2 (fun p => ev (d + 1) k p L' [.ref a] h2))) := by
  rw [ev_call hc hn he, hv]
  refine ck_cg ?_
  rcases mth d k' as h' with _ | ⟨v | a, h2⟩
  · rfl
  · rcases v with _ | v
    · rfl
    · cases v <;> rfl
  · rfl
theorem ev_cIh {b : Bool} {k' pc' : Nat} {as S' : List Value} {L' : LO} {h' : AH} (hc : codeAt k pc = some i) (hn : nrm (livAt k pc) L = L1) (he : ex (d + 1) k i pc L1 S h = bif b then cal k' as pc' L' S' h' else none) (hv : (Nat.beq (rTy k') 1 || Nat.beq (rTy k') 4) = true) : ev (d + 1) k pc L S h = ck b (cIh (mth d k' as h') (fun x h2 => ev (d + 1) k pc' L' (.int x :: S') h2) (fun a h2 => hX (hTab k) pc a h2 (fun p => ev (d + 1) k p L' [.ref a] h2))) := by
  have hr : rTy k' = 1 ∨ rTy k' = 4 := by
    rcases Bool.or_eq_true_iff.mp hv with z | z
    · exact Or.inl (Nat.eq_of_beq_eq_true z)
    · exact Or.inr (Nat.eq_of_beq_eq_true z)
  rw [ev_call hc hn he]
  refine ck_cg ?_
  rcases mth d k' as h' with _ | ⟨v | a, h2⟩
  · rfl
  · rcases v with _ | v
    · rcases hr with hr | hr <;> rw [hr] <;> rfl
    · rcases hr with hr | hr <;> rw [hr] <;> cases v <;> rfl
  · rfl
theorem ev_cJh {b : Bool} {k' pc' : Nat} {as S' : List Value} {L' : LO} {h' : AH} (hc : codeAt k pc = some i) (hn : nrm (livAt k pc) L = L1) (he : ex (d + 1) k i pc L1 S h = bif b then cal k' as pc' L' S' h' else none) (hv : rTy k' = 2) : ev (d + 1) k pc L S h = ck b (cJh (mth d k' as h') (fun x h2 => ev (d + 1) k pc' L' (.long x :: S') h2) (fun a h2 => hX (hTab k) pc a h2 (fun p => ev (d + 1) k p L' [.ref a] h2))) := by
  rw [ev_call hc hn he, hv]
  refine ck_cg ?_
  rcases mth d k' as h' with _ | ⟨v | a, h2⟩
  · rfl
  · rcases v with _ | v
    · rfl
    · cases v <;> rfl
  · rfl
/-- branches -/
theorem jp_to {o : Int} {t : Nat} {f : Nat → XR} (ht : (pc : Int) + o = (t : Int)) : jp pc o f = f t := by
  unfold jp
  rw [ht, if_pos (Int.natCast_nonneg t)]
  rfl
theorem ev_brc {c : Prop} {ic : Decidable c} {b : Bool} {o : Int} {t : Nat} {S' : List Value} (hc : codeAt k pc = some i) (hn : nrm (livAt k pc) L = L1) (he : ex d k i pc L1 S h = jp pc o (fun t => ite (b = true) (nx t L1 S' h) (nx (pc + 3) L1 S' h))) (ht : (pc : Int) + o = (t : Int)) (hb : b = true ↔ c) : ev d k pc L S h = ite c (ev d k t L1 S' h) (ev d k (pc + 3) L1 S' h) := by
  rw [ev_at hc hn, he, jp_to ht]
  by_cases hq : c
  · rw [if_pos hq, if_pos (hb.mpr hq)]; rfl
  · rw [if_neg hq, if_neg (fun z => hq (hb.mp z))]; rfl
theorem ev_brn {c : Prop} {ic : Decidable c} {b : Bool} {o : Int} {t : Nat} {S' : List Value} (hc : codeAt k pc = some i) (hn : nrm (livAt k pc) L = L1) (he : ex d k i pc L1 S h = jp pc o (fun t => ite (b = true) (nx t L1 S' h) (nx (pc + 3) L1 S' h))) (ht : (pc : Int) + o = (t : Int)) (hb : b = true ↔ ¬ c) : ev d k pc L S h = ite c (ev d k (pc + 3) L1 S' h) (ev d k t L1 S' h) := by
  rw [ev_at hc hn, he, jp_to ht]
  by_cases hq : c
  · rw [if_pos hq, if_neg (fun z => hb.mp z hq)]; rfl
  · rw [if_neg hq, if_pos (hb.mpr hq)]; rfl
variable {a b : Int32} {o : Int} {t : Nat}
theorem i_eq (hc : codeAt k pc = some (.if_icmp .eq o)) (hn : nrm (livAt k pc) L = L1) (ht : (pc : Int) + o = (t : Int)) : ev d k pc L (.int b :: .int a :: S) h = if a = b then ev d k t L1 S h else ev d k (pc + 3) L1 S h := ev_brc (b := cndI .eq a b) hc hn rfl ht decide_eq_true_iff
theorem i_ne (hc : codeAt k pc = some (.if_icmp .ne o)) (hn : nrm (livAt k pc) L = L1) (ht : (pc : Int) + o = (t : Int)) : ev d k pc L (.int b :: .int a :: S) h = if a = b then ev d k (pc + 3) L1 S h else ev d k t L1 S h := ev_brn (b := cndI .ne a b) hc hn rfl ht (by simp [cndI])
theorem i_lt (hc : codeAt k pc = some (.if_icmp .lt o)) (hn : nrm (livAt k pc) L = L1) (ht : (pc : Int) + o = (t : Int)) : ev d k pc L (.int b :: .int a :: S) h = if a < b then ev d k t L1 S h else ev d k (pc + 3) L1 S h := ev_brc (b := cndI .lt a b) hc hn rfl ht decide_eq_true_iff
theorem i_ge (hc : codeAt k pc = some (.if_icmp .ge o)) (hn : nrm (livAt k pc) L = L1) (ht : (pc : Int) + o = (t : Int)) : ev d k pc L (.int b :: .int a :: S) h = if b ≤ a then ev d k t L1 S h else ev d k (pc + 3) L1 S h := ev_brc (b := cndI .ge a b) hc hn rfl ht decide_eq_true_iff
theorem i_gt (hc : codeAt k pc = some (.if_icmp .gt o)) (hn : nrm (livAt k pc) L = L1) (ht : (pc : Int) + o = (t : Int)) : ev d k pc L (.int b :: .int a :: S) h = if b < a then ev d k t L1 S h else ev d k (pc + 3) L1 S h := ev_brc (b := cndI .gt a b) hc hn rfl ht decide_eq_true_iff
theorem i_le (hc : codeAt k pc = some (.if_icmp .le o)) (hn : nrm (livAt k pc) L = L1) (ht : (pc : Int) + o = (t : Int)) : ev d k pc L (.int b :: .int a :: S) h = if a ≤ b then ev d k t L1 S h else ev d k (pc + 3) L1 S h := ev_brc (b := cndI .le a b) hc hn rfl ht decide_eq_true_iff
theorem z_eq (hc : codeAt k pc = some (.ifCond .eq o)) (hn : nrm (livAt k pc) L = L1) (ht : (pc : Int) + o = (t : Int)) : ev d k pc L (.int a :: S) h = if a = 0 then ev d k t L1 S h else ev d k (pc + 3) L1 S h := ev_brc (b := cndI .eq a 0) hc hn rfl ht decide_eq_true_iff
theorem z_ne (hc : codeAt k pc = some (.ifCond .ne o)) (hn : nrm (livAt k pc) L = L1) (ht : (pc : Int) + o = (t : Int)) : ev d k pc L (.int a :: S) h = if a = 0 then ev d k (pc + 3) L1 S h else ev d k t L1 S h := ev_brn (b := cndI .ne a 0) hc hn rfl ht (by simp [cndI])
theorem z_lt (hc : codeAt k pc = some (.ifCond .lt o)) (hn : nrm (livAt k pc) L = L1) (ht : (pc : Int) + o = (t : Int)) : ev d k pc L (.int a :: S) h = if a < 0 then ev d k t L1 S h else ev d k (pc + 3) L1 S h := ev_brc (b := cndI .lt a 0) hc hn rfl ht decide_eq_true_iff
theorem z_ge (hc : codeAt k pc = some (.ifCond .ge o)) (hn : nrm (livAt k pc) L = L1) (ht : (pc : Int) + o = (t : Int)) : ev d k pc L (.int a :: S) h = if 0 ≤ a then ev d k t L1 S h else ev d k (pc + 3) L1 S h := ev_brc (b := cndI .ge a 0) hc hn rfl ht decide_eq_true_iff
theorem z_gt (hc : codeAt k pc = some (.ifCond .gt o)) (hn : nrm (livAt k pc) L = L1) (ht : (pc : Int) + o = (t : Int)) : ev d k pc L (.int a :: S) h = if 0 < a then ev d k t L1 S h else ev d k (pc + 3) L1 S h := ev_brc (b := cndI .gt a 0) hc hn rfl ht decide_eq_true_iff
theorem z_le (hc : codeAt k pc = some (.ifCond .le o)) (hn : nrm (livAt k pc) L = L1) (ht : (pc : Int) + o = (t : Int)) : ev d k pc L (.int a :: S) h = if a ≤ 0 then ev d k t L1 S h else ev d k (pc + 3) L1 S h := ev_brc (b := cndI .le a 0) hc hn rfl ht decide_eq_true_iff
theorem s_cons {v : Int32} {r : List (Int32 × Nat)} {df : Nat} : ev d k (selT a ((v, t) :: r) df) L S h = if a = v then ev d k t L S h else ev d k (selT a r df) L S h := by
  by_cases hq : a = v
  · rw [if_pos hq]; show ev d k (if a = v then t else selT a r df) L S h = _; rw [if_pos hq]
  · rw [if_neg hq]; show ev d k (if a = v then t else selT a r df) L S h = _; rw [if_neg hq]
theorem ev_ng {c : Prop} {ic : Decidable c} {L' : LO} {S' : List Value} {p2 : Nat} (hc : codeAt k pc = some i) (hn : nrm (livAt k pc) L = L1) (he : ex d k i pc L1 S h = ite c none (nx p2 L' S' h)) : ev d k pc L S h = ite c none (ev d k p2 L' S' h) := by
  rw [ev_at hc hn, he]
  by_cases hq : c
  · rw [if_pos hq, if_pos hq]
  · rw [if_neg hq, if_neg hq]; rfl
end

/-! a plain parser of exps: with 'mn' (meaning) or for the grammar alone -/
abbrev Rs (α : Type) : Type := (Nat × Nat) ⊕ α
def bd {α β : Type} (r : Rs α) (f : α → Rs β) : Rs β := match r with
  | .inl e => .inl e
  | .inr a => f a
def mNx (T : Nat → Tok) (i : Nat) : Rs Nat := if tK (T (i + 1)) = 404 then .inl (1, tF (T (i + 1))) else .inr (i + 1)
def nd (T : Nat → Tok) (k i : Nat) : Rs Nat := if tK (T i) = k then mNx T i else .inl (2, tF (T i))
/-- takes a token that opens something -/
def opn (T : Nat → Tok) (i o : Nat) : Rs Nat := if o < 60 then mNx T i else .inl (3, tF (T i))
def zrk (k : Nat) : Nat := if k = 257 then 1 else if k = 256 then 2 else if k = 124 then 3 else if k = 94 then 4 else if k = 38 then 5 else if k = 258 ∨ k = 259 then 6 else if k = 60 ∨ k = 260 ∨ k = 62 ∨ k = 261 then 7 else if k = 262 ∨ k = 263 then 8 else if k = 43 ∨ k = 45 then 9 else if k = 42 then 10 else 0
def zun (k : Nat) : Bool := k == 126 || k == 33 || k == 45 || k == 38 || k == 124 || k == 94
abbrev Op : Type := Nat × Nat × Nat × Nat
abbrev ER : Type := Nat × List Op × Nat × Nat
def mUn (T : Nat → Tok) : Nat → Nat → List Nat → Rs (Nat × List Nat)
  | 0, i, us => .inr (i, us)
  | f + 1, i, us => if zun (tK (T i)) = true then bd (mNx T i) (fun j => mUn T f j (i :: us)) else .inr (i, us)
def apU (T : Nat → Tok) : List Nat → List Op → Nat → Nat → List Op × Nat × Nat
  | [], ops, w, c => (ops, w, c)
  | u :: us, ops, w, c => apU T us (ops ++ [(4, tK (T u), w, 0)]) (if tK (T u) = 126 ∨ tK (T u) = 45 then w else 1) (c + w)
def mMd (op a : Nat) : Nat := if zrk op < 3 ∨ zrk op = 6 ∨ zrk op = 7 then 1 else a
def mCt (op a b : Nat) : Nat := if zrk op = 8 then 3 * a + b else if op = 42 then a * a else max a b
def mPp (mn : Bool) (r : Nat) : List (Nat × Nat) → List Nat → List Op → Nat → Rs (List (Nat × Nat) × List Nat × List Op × Nat)
  | [], ws, ops, c => .inr ([], ws, ops, c)
  | (op, pl) :: pd, ws, ops, c =>
    if r ≤ zrk op then
      (if mn = true then (if (zrk op < 3 ∨ zrk op = 8) ∨ ws.tail.headD 0 = ws.headD 0 then mPp mn r pd (mMd op (ws.tail.headD 0) :: ws.tail.tail) (ops ++ [(5, op, mMd op (ws.tail.headD 0), 0)]) (c + mCt op (ws.tail.headD 0) (ws.headD 0)) else .inl (30, pl))
      else mPp mn r pd ws ops c)
    else .inr ((op, pl) :: pd, ws, ops, c)
/-- a part behind a name: its bounds, at the number -/
def mPt (T : Nat → Tok) (i : Nat) : Rs (Nat × Nat × Nat) := bd (mNx T i) (fun j => if tK (T j) = 58 then bd (mNx T j) (fun k => if tK (T k) = 401 then bd (mNx T k) (fun l => .inr (l, tV (T i), tV (T k))) else .inl (2, tF (T k))) else .inr (j, tV (T i), tV (T i)))
def mNm (mn : Bool) (T : Nat → Tok) (look : Nat → Option (Nat × Nat)) (ex : Nat → Nat → Rs ER) (i o : Nat) : Rs ER :=
  if mn = true ∧ look i = none then .inl (22, tF (T i)) else
  bd (mNx T i) (fun j =>
    if tK (T j) = 91 then bd (opn T j o) (fun k =>
      if tK (T k) = 401 then bd (mPt T k) (fun p => bd (nd T 93 p.1) (fun l =>
        if mn = true then (if p.2.2 ≤ p.2.1 ∧ p.2.1 < ((look i).getD (0, 0)).2 then .inr (l, [(1, ((look i).getD (0, 0)).1, 0, 0), (2, p.2.1, p.2.2, 0)], p.2.1 - p.2.2 + 1, 0) else .inl (30, tF (T j)))
        else .inr (l, [], 0, 0)))
      else bd (ex k (o + 1)) (fun e => bd (nd T 93 e.1) (fun l =>
        if mn = true then .inr (l, (1, ((look i).getD (0, 0)).1, 0, 0) :: e.2.1 ++ [(3, ((look i).getD (0, 0)).2, 0, 0)], 1, e.2.2.2 + max ((look i).getD (0, 0)).2 e.2.2.1)
        else .inr (l, [], 0, 0))))
    else .inr (j, (bif mn then [(1, ((look i).getD (0, 0)).1, 0, 0)] else []), (bif mn then ((look i).getD (0, 0)).2 else 0), 0))
/-- further exps in braces, from a comma on: how many, their widths' sum -/
def mCm (mn : Bool) (T : Nat → Tok) (ex : Nat → Nat → Rs ER) (o : Nat) : Nat → Nat → List Op → Nat → Nat → Nat → Rs (Nat × List Op × Nat × Nat × Nat)
  | 0, i, ops, w, c, m => .inr (i, ops, w, c, m)
  | f + 1, i, ops, w, c, m => if tK (T i) = 44 then bd (mNx T i) (fun j => bd (ex j o) (fun e => mCm mn T ex o f e.1 (ops ++ e.2.1 ++ (bif mn then [(9, e.2.2.1, 0, 0)] else [])) (w + e.2.2.1) (c + e.2.2.2) (m + 1))) else .inr (i, ops, w, c, m)
def mBr (mn : Bool) (T : Nat → Tok) (N : Nat) (ex : Nat → Nat → Rs ER) (i o : Nat) : Rs ER :=
  bd (opn T i o) (fun j =>
    bd (if tK (T j) = 401 then bd (mNx T j) (fun k => if tK (T k) = 123 then bd (opn T k (o + 1)) (fun l => bd (ex l (o + 2)) (fun e => bd (nd T 125 e.1) (fun p => .inr (p, e.2.1 ++ (bif mn then [(8, tV (T j), e.2.2.1, 0)] else []), tV (T j) * e.2.2.1, e.2.2.2)))) else .inl (2, tF (T k)))
      else bd (ex j (o + 1)) (fun e => bd (mCm mn T ex (o + 1) (N + 1) e.1 e.2.1 e.2.2.1 e.2.2.2 1) (fun q => .inr (q.1, q.2.1 ++ (bif mn then [(7, q.2.2.2.2, 0, 0)] else []), q.2.2.1, q.2.2.2.1))))
    (fun e => bd (nd T 125 e.1) (fun l => if mn = true ∧ ¬ (0 < e.2.2.1 ∧ e.2.2.1 < 65) then .inl (30, tF (T i)) else .inr (l, e.2.1, (bif mn then e.2.2.1 else 0), e.2.2.2))))
def mPr (mn : Bool) (T : Nat → Tok) (N : Nat) (look : Nat → Option (Nat × Nat)) (ex : Nat → Nat → Rs ER) (i o : Nat) : Rs ER :=
  if tK (T i) = 40 then bd (opn T i o) (fun j => bd (ex j (o + 1)) (fun e => bd (nd T 41 e.1) (fun l => .inr (l, e.2))))
  else if tK (T i) = 123 then mBr mn T N ex i o
  else if tK (T i) = 400 then mNm mn T look ex i o
  else if tK (T i) = 402 then bd (mNx T i) (fun j => .inr (j, (bif mn then [(0, tW (T i), 0, tV (T i))] else []), (bif mn then tW (T i) else 0), 0))
  else .inl (2, tF (T i))
def mLp (mn : Bool) (T : Nat → Tok) (N : Nat) (look : Nat → Option (Nat × Nat)) (ex : Nat → Nat → Rs ER) (o : Nat) : Nat → Nat → List (Nat × Nat) → List Nat → List Op → Nat → Rs ER
  | 0, _, _, _, _, _ => .inl (0, 0)
  | f + 1, i, pd, ws, ops, c => bd (mUn T (N + 1) i []) (fun u => bd (mPr mn T N look ex u.1 o) (fun e =>
      bd (mPp mn (zrk (tK (T e.1))) pd ((bif mn then (apU T u.2 e.2.1 e.2.2.1 e.2.2.2).2.1 else 0) :: ws) (ops ++ (bif mn then (apU T u.2 e.2.1 e.2.2.1 e.2.2.2).1 else [])) (c + (bif mn then (apU T u.2 e.2.1 e.2.2.1 e.2.2.2).2.2 else 0))) (fun s =>
        if zrk (tK (T e.1)) = 0 then .inr (e.1, s.2.2.1, s.2.1.headD 0, s.2.2.2)
        else bd (mNx T e.1) (fun j => mLp mn T N look ex o f j ((tK (T e.1), tF (T e.1)) :: s.1) s.2.1 s.2.2.1 s.2.2.2))))
def mEx (mn : Bool) (T : Nat → Tok) (N : Nat) (look : Nat → Option (Nat × Nat)) : Nat → Nat → Nat → Rs ER
  | 0, _, _ => .inl (0, 0)
  | f + 1, i, o => bd (mLp mn T N look (mEx mn T N look f) o (N + 1) i [] [] [] 0) (fun q =>
      if tK (T q.1) = 63 then bd (opn T q.1 o) (fun j => bd (mEx mn T N look f j (o + 1)) (fun a => bd (nd T 58 a.1) (fun k => bd (mEx mn T N look f k (o + 1)) (fun e =>
        if mn = true ∧ ¬ a.2.2.1 = e.2.2.1 then .inl (30, tF (T q.1)) else .inr (e.1, q.2.1 ++ a.2.1 ++ e.2.1 ++ (bif mn then [(6, 0, 0, 0)] else []), a.2.2.1, q.2.2.2 + a.2.2.2 + e.2.2.2 + (bif mn then max a.2.2.1 q.2.2.1 else 0))))))
      else .inr q)

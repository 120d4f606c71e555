/-! the abstract machine: heap by ids, one step, runs, their limit -/
set_option maxRecDepth 100000
abbrev AH : Type := (Nat → Nat → Int32) × (Nat → Nat → Int64) × (Nat → Nat → Value) × (Nat → Nat) × (Nat → Nat) × Nat × Nat
abbrev LO : Type := List (Nat × Value)
abbrev OU : Type := Option Value ⊕ Nat
abbrev RS : Type := Option (OU × AH)
abbrev XR : Type := Option ((Nat × LO × List Value × AH) ⊕ (OU × AH) ⊕ (Nat × List Value × Nat × LO × List Value × AH))
def hI (h : AH) : Nat → Nat → Int32 := h.1
def hL (h : AH) : Nat → Nat → Int64 := h.2.1
def hR (h : AH) : Nat → Nat → Value := h.2.2.1
def hT (h : AH) : Nat → Nat := h.2.2.2.1
def hN (h : AH) : Nat → Nat := h.2.2.2.2.1
def hC (h : AH) : Nat := h.2.2.2.2.2.1
def hS (h : AH) : Nat := h.2.2.2.2.2.2
def sI (h : AH) (a i : Nat) (v : Int32) : AH := (fun b j => if b = a ∧ j = i then v else hI h b j, h.2)
def sL (h : AH) (a i : Nat) (v : Int64) : AH := (h.1, fun b j => if b = a ∧ j = i then v else hL h b j, h.2.2)
def sR (h : AH) (a i : Nat) (v : Value) : AH := (h.1, h.2.1, fun b j => if b = a ∧ j = i then v else hR h b j, h.2.2.2)
/-- a new cell: tag t, length n, sl slots -/
def mkC (h : AH) (t n sl : Nat) : AH := (fun b j => if b = hC h then 0 else hI h b j, fun b j => if b = hC h then 0 else hL h b j, fun b j => if b = hC h then .null else hR h b j, fun b => if b = hC h then t else hT h b, fun b => if b = hC h then n else hN h b, hC h + 1, hS h + sl)
def cpI (h : AH) (a b sp dp n : Nat) : AH := (fun c j => if c = b then va_cpy (hI h a) (hI h b) sp dp n j else hI h c j, h.2)
abbrev K0 : Nat := 26
abbrev MC : Nat := 600410
abbrev MS : Nat := 7289834
/-- fields -/
def gI (h : AH) (a c f : Nat) : Option Int32 := if hT h a = c then some (hI h a f) else none
def gL (h : AH) (a c f : Nat) : Option Int64 := if hT h a = c then some (hL h a f) else none
def rfV (v : Value) : Option Nat := match v with
  | .ref b => some b
  | _ => none
def gR (h : AH) (a c f : Nat) : Option Nat := if hT h a = c then rfV (hR h a f) else none
def pI (h : AH) (a c f : Nat) (x : Int32) : Option AH := if hT h a = c then some (sI h a f x) else none
def pZ (h : AH) (a c f : Nat) (x : Int32) : Option AH := if hT h a = c ∧ (x = 0 ∨ x = 1) then some (sI h a f x) else none
def pL (h : AH) (a c f : Nat) (x : Int64) : Option AH := if hT h a = c then some (sL h a f x) else none
def pR (h : AH) (a c f b : Nat) : Option AH := if hT h a = c then some (sR h a f (.ref b)) else none
/-- arrays: tags 20 int, 21 byte, 22 long, 23 boolean, 24 String -/
def ixN (i : Int32) (n : Nat) : Bool := decide (0 ≤ i) && decide (i.toNatClampNeg < n)
def aI (h : AH) (a : Nat) (i : Int32) : Option Int32 := if hT h a = 20 ∧ ixN i (hN h a) = true then some (hI h a i.toNatClampNeg) else none
def aB (h : AH) (a : Nat) (i : Int32) : Option Int32 := if (hT h a = 21 ∨ hT h a = 23) ∧ ixN i (hN h a) = true then some (hI h a i.toNatClampNeg) else none
def aL (h : AH) (a : Nat) (i : Int32) : Option Int64 := if hT h a = 22 ∧ ixN i (hN h a) = true then some (hL h a i.toNatClampNeg) else none
def aR (h : AH) (a : Nat) (i : Int32) : Option Nat := if hT h a = 24 ∧ ixN i (hN h a) = true then rfV (hR h a i.toNatClampNeg) else none
def bI (h : AH) (a : Nat) (i x : Int32) : Option AH := if K0 ≤ a ∧ hT h a = 20 ∧ ixN i (hN h a) = true then some (sI h a i.toNatClampNeg x) else none
def bB (h : AH) (a : Nat) (i x : Int32) : Option AH := if K0 ≤ a ∧ ixN i (hN h a) = true then (if hT h a = 21 then some (sI h a i.toNatClampNeg x.toInt8.toInt32) else if hT h a = 23 ∧ (x = 0 ∨ x = 1) then some (sI h a i.toNatClampNeg x) else none) else none
def bL (h : AH) (a : Nat) (i : Int32) (x : Int64) : Option AH := if K0 ≤ a ∧ hT h a = 22 ∧ ixN i (hN h a) = true then some (sL h a i.toNatClampNeg x) else none
def bR (h : AH) (a : Nat) (i : Int32) (b : Nat) : Option AH := if K0 ≤ a ∧ hT h a = 24 ∧ hT h b = 30 ∧ b < K0 ∧ ixN i (hN h a) = true then some (sR h a i.toNatClampNeg (.ref b)) else none
def aN (h : AH) (a : Nat) : Option Int32 := if 20 ≤ hT h a ∧ hT h a ≤ 24 then some (Int32.ofNat (hN h a)) else none
def nA (h : AH) (t : Nat) (n : Int32) : Option (Nat × AH) := if 0 ≤ n ∧ n.toNatClampNeg ≤ 1000000 ∧ hC h + 1 ≤ MC ∧ hS h + n.toNatClampNeg ≤ MS then some (hC h, mkC h t n.toNatClampNeg n.toNatClampNeg) else none
def nO (h : AH) (t n : Nat) : Option (Nat × AH) := if hC h + 1 ≤ MC ∧ hS h + n ≤ MS then some (hC h, mkC h t n n) else none
def acp (h : AH) (a b : Nat) (sp dp n : Int32) : Option AH := if K0 ≤ a ∧ K0 ≤ b ∧ hT h a = 20 ∧ hT h b = 20 ∧ 0 ≤ sp ∧ 0 ≤ dp ∧ 0 ≤ n ∧ sp.toNatClampNeg + n.toNatClampNeg ≤ hN h a ∧ dp.toNatClampNeg + n.toNatClampNeg ≤ hN h b then some (cpI h a b sp.toNatClampNeg dp.toNatClampNeg n.toNatClampNeg) else none
/-- the String constants (ids 2 ..): their letters are those of the arrays hI -/
def stL (h : AH) (a : Nat) : Option Int32 := if hT h a = 30 ∧ a < K0 then some (Int32.ofNat (hN h a)) else none
def stC (h : AH) (a : Nat) (i : Int32) : Option Int32 := if hT h a = 30 ∧ a < K0 ∧ ixN i (hN h a) = true then some (hI h a i.toNatClampNeg) else none
/-- receiver of a kind -/
def isC (h : AH) (v : Value) (c : Nat) : Bool := match v with
  | .ref a => Nat.beq (hT h a) c
  | _ => false
def nx (pc : Nat) (L : LO) (S : List Value) (h : AH) : XR := some (.inl (pc, L, S, h))
def fin (o : OU) (h : AH) : XR := some (.inr (.inl (o, h)))
def cal (k : Nat) (as : List Value) (pc : Nat) (L : LO) (S : List Value) (h : AH) : XR := some (.inr (.inr (k, as, pc, L, S, h)))
def ob {α β : Type} (o : Option α) (f : α → Option β) : Option β := match o with
  | some a => f a
  | none => none
def q1 (S : List Value) (f : Value → List Value → XR) : XR := match S with
  | v :: S => f v S
  | _ => none
def qI (S : List Value) (f : Int32 → List Value → XR) : XR := match S with
  | .int a :: S => f a S
  | _ => none
def qA (S : List Value) (f : Nat → List Value → XR) : XR := match S with
  | .ref a :: S => f a S
  | _ => none
def qJ (S : List Value) (f : Int64 → List Value → XR) : XR := match S with
  | .long a :: S => f a S
  | _ => none
def qII (S : List Value) (f : Int32 → Int32 → List Value → XR) : XR := match S with
  | .int b :: .int a :: S => f a b S
  | _ => none
def qJJ (S : List Value) (f : Int64 → Int64 → List Value → XR) : XR := match S with
  | .long b :: .long a :: S => f a b S
  | _ => none
def qJI (S : List Value) (f : Int64 → Int32 → List Value → XR) : XR := match S with
  | .int b :: .long a :: S => f a b S
  | _ => none
/-- a local: of its kind -/
def lI (L : LO) (i : Nat) (f : Int32 → XR) : XR := match L.lookup i with
  | some (.int a) => f a
  | _ => none
def lJ (L : LO) (i : Nat) (f : Int64 → XR) : XR := match L.lookup i with
  | some (.long a) => f a
  | _ => none
def lA (L : LO) (i : Nat) (f : Nat → XR) : XR := match L.lookup i with
  | some (.ref a) => f a
  | _ => none
def st1 (L : LO) (i : Nat) (v : Value) : LO := (i, v) :: L.filter (fun q => !(q.1 == i) && !(q.1 + 1 == i && q.2.category == 2))
def st2 (L : LO) (i : Nat) (v : Value) : LO := (i, v) :: L.filter (fun q => !(q.1 == i) && (!(q.1 == i + 1) && !(q.1 + 1 == i && q.2.category == 2)))
/-- a jump -/
def jp (pc : Nat) (o : Int) (f : Nat → XR) : XR := if 0 ≤ (pc : Int) + o then f ((pc : Int) + o).toNat else none
def cndI (c : ClassFile.Cond) (x y : Int32) : Bool := match c with
  | .eq => decide (x = y)
  | .ne => !decide (x = y)
  | .lt => decide (x < y)
  | .ge => decide (y ≤ x)
  | .gt => decide (y < x)
  | .le => decide (x ≤ y)
def atag (t : ArrayType) : Nat := match t with
  | .int => 20
  | .byte => 21
  | .long => 22
  | .boolean => 23
  | _ => 99
def mxI (a b : Int32) : Int32 := if a < b then b else a
def mnI (a b : Int32) : Int32 := if b < a then b else a
def wds (S : List Value) : Nat := (S.map fun v => v.category).sum
/-- a call: kinds 0 virtual, 1 static, 2 init, 3 virtual of a nest mate, 4 init of a nest mate; 10 Object's init, 11 arraycopy, 12 a Throwable's init (with its new: see nwx), 13 length, 14 charAt -/
def exC (d : Nat) (q : Nat × Nat × Nat × Nat) (pc : Nat) (L : LO) (S : List Value) (h : AH) : XR :=
  match q with
  | (kd, k, n, c) => bif Nat.ble kd 4 then (bif Nat.ble n S.length && Nat.ble (wds (S.drop n)) 8 && Nat.ble (wds (S.take n)) (mxL k) && (Nat.beq kd 1 || isC h ((S.take n).getLastD .null) c) then cal k (S.take n).reverse (pc + 3) L (S.drop n) h else none)
    else bif Nat.beq kd 10 then (match S with
      | .ref _ :: S => bif Nat.ble 1 d && Nat.ble (wds S) 8 then nx (pc + 3) L S h else none
      | _ => none)
    else bif Nat.beq kd 11 then (match S with
      | .int m :: .int dp :: .ref w :: .int sp :: .ref v :: S => bif Nat.ble 1 d && Nat.ble (wds S) 8 then ob (acp h v w sp dp m) (fun h => nx (pc + 3) L S h) else none
      | _ => none)
    else bif Nat.beq kd 13 then (match S with
      | .ref v :: S => bif Nat.ble 6 d && Nat.ble (wds S) 8 then ob (stL h v) (fun x => nx (pc + 3) L (.int x :: S) h) else none
      | _ => none)
    else bif Nat.beq kd 14 then (match S with
      | .int i :: .ref v :: S => bif Nat.ble 6 d && Nat.ble (wds S) 8 then ob (stC h v i) (fun x => nx (pc + 3) L (.int x :: S) h) else none
      | _ => none)
    else bif Nat.beq kd 15 then (match S with
      | .int b :: .int a :: S => bif Nat.ble 1 d && Nat.ble (wds S) 8 then nx (pc + 3) L (.int (mxI a b) :: S) h else none
      | _ => none)
    else bif Nat.beq kd 16 then (match S with
      | .int b :: .int a :: S => bif Nat.ble 1 d && Nat.ble (wds S) 8 then nx (pc + 3) L (.int (mnI a b) :: S) h else none
      | _ => none)
    else none
/-- switches -/
def selT (a : Int32) (cs : List (Int32 × Nat)) (df : Nat) : Nat := match cs with
  | [] => df
  | (v, t) :: r => if a = v then t else selT a r df
def tcs (pc : Nat) (lo : Int) : List Int → List (Int32 × Nat)
  | [] => []
  | o :: r => (Int32.ofInt lo, ((pc : Int) + o).toNat) :: tcs pc (lo + 1) r
def lcs (pc : Nat) (ps : List (Int × Int)) : List (Int32 × Nat) := ps.map (fun q => (Int32.ofInt q.1, ((pc : Int) + q.2).toNat))
def tchk (pc : Nat) (df lo hi : Int) (os : List Int) : Bool := decide (-2147483648 ≤ lo) && decide (hi ≤ 2147483647) && decide (hi = lo + os.length - 1) && decide (0 ≤ (pc : Int) + df) && os.all (fun o => decide (0 ≤ (pc : Int) + o))
def lchk (pc : Nat) (df : Int) (ps : List (Int × Int)) : Bool := decide (0 ≤ (pc : Int) + df) && ps.all (fun q => decide (0 ≤ (pc : Int) + q.2) && decide (-2147483648 ≤ q.1) && decide (q.1 ≤ 2147483647)) && (ps.zip (ps.drop 1)).all (fun (a, next) => decide (a.1 < next.1))
/-- an exception: new, dup, ldc, <init>, in one -/
def exT (t : Nat) : Bool := Nat.beq t 0 || (Nat.beq t 11 || (Nat.beq t 12 || Nat.beq t 13))
def nwx (d k pc t : Nat) : Bool := Nat.ble 6 d && (match codeAt k (pc + 3), codeAt k (pc + 4), codeAt k (pc + 6) with
  | some .dup, some (.ldc n2), some (.invokespecial n3) => (match cT (oN k) n2, mT (oN k) n3 with
    | some (.ref _), some q3 => Nat.beq q3.1 12 && Nat.beq q3.2.2.2 t
    | _, _ => false)
  | _, _, _ => false)
def ex (d k : Nat) (i : Instr) (pc : Nat) (L : LO) (S : List Value) (h : AH) : XR := match i with
  | .aaload => (match S with
    | .int i :: .ref a :: S => ob (aR h a i) (fun x => nx (pc + 1) L (.ref x :: S) h)
    | _ => none)
  | .aastore => (match S with
    | .ref x :: .int i :: .ref a :: S => ob (bR h a i x) (fun h => nx (pc + 1) L S h)
    | _ => none)
  | .aload n => lA L n (fun a => nx (pc + 2) L (.ref a :: S) h)
  | .aload_n n => lA L n.val (fun a => nx (pc + 1) L (.ref a :: S) h)
  | .anewarray n => qI S (fun a S => bif Nat.beq (sLk k n) 1 then ob (nA h 24 a) (fun q => nx (pc + 3) L (.ref q.1 :: S) q.2) else none)
  | .areturn => (match S with
    | [.ref a] => bif Nat.beq (rTy k) 3 then fin (.inl (some (.ref a))) h else none
    | _ => none)
  | .arraylength => qA S (fun a S => ob (aN h a) (fun x => nx (pc + 1) L (.int x :: S) h))
  | .astore n => (match S with
    | .ref a :: S => bif Nat.ble (n + 1) (mxL k) then nx (pc + 2) (st1 L n (.ref a)) S h else none
    | _ => none)
  | .astore_n n => (match S with
    | .ref a :: S => bif Nat.ble (n.val + 1) (mxL k) then nx (pc + 1) (st1 L n.val (.ref a)) S h else none
    | _ => none)
  | .athrow => (match S with
    | .ref a :: _ => bif List.isEmpty (hTab k) && Nat.ble K0 a then fin (.inr a) h else none
    | _ => none)
  | .baload => (match S with
    | .int i :: .ref a :: S => ob (aB h a i) (fun x => nx (pc + 1) L (.int x :: S) h)
    | _ => none)
  | .bastore => (match S with
    | .int x :: .int i :: .ref a :: S => ob (bB h a i x) (fun h => nx (pc + 1) L S h)
    | _ => none)
  | .bipush n => nx (pc + 2) L (.int (Int8.ofInt n).toInt32 :: S) h
  | .dup => q1 S (fun v S => bif Nat.beq v.category 1 then nx (pc + 1) L (v :: v :: S) h else none)
  | .dup_x1 => q1 S (fun v S => q1 S (fun w S => bif Nat.beq v.category 1 && Nat.beq w.category 1 then nx (pc + 1) L (v :: w :: v :: S) h else none))
  | .getfield n => qA S (fun a S => ob (fT (oN k) n) (fun q => match q with
    | (c, f, t, _) => bif Nat.beq t 0 || Nat.beq t 3 then ob (gI h a c f) (fun x => nx (pc + 3) L (.int x :: S) h) else bif Nat.beq t 1 then ob (gL h a c f) (fun x => nx (pc + 3) L (.long x :: S) h) else ob (gR h a c f) (fun x => nx (pc + 3) L (.ref x :: S) h)))
  | .getstatic n => ob (gT (oN k) n) (fun a => nx (pc + 3) L (.ref a :: S) h)
  | .goto o => jp pc o (fun t => nx t L S h)
  | .i2b => qI S (fun a S => nx (pc + 1) L (.int a.toInt8.toInt32 :: S) h)
  | .i2l => qI S (fun a S => nx (pc + 1) L (.long a.toInt64 :: S) h)
  | .iadd => qII S (fun a b S => nx (pc + 1) L (.int (a + b) :: S) h)
  | .iaload => (match S with
    | .int i :: .ref a :: S => ob (aI h a i) (fun x => nx (pc + 1) L (.int x :: S) h)
    | _ => none)
  | .iand => qII S (fun a b S => nx (pc + 1) L (.int (a &&& b) :: S) h)
  | .iastore => (match S with
    | .int x :: .int i :: .ref a :: S => ob (bI h a i x) (fun h => nx (pc + 1) L S h)
    | _ => none)
  | .iconst n => nx (pc + 1) L (.int (Int32.ofInt n) :: S) h
  | .idiv => qII S (fun a b S => if b = 0 then none else nx (pc + 1) L (.int (a / b) :: S) h)
  | .if_icmp c o => qII S (fun a b S => jp pc o (fun t => if cndI c a b = true then nx t L S h else nx (pc + 3) L S h))
  | .ifCond c o => qI S (fun a S => jp pc o (fun t => if cndI c a 0 = true then nx t L S h else nx (pc + 3) L S h))
  | .iinc n c => lI L n (fun a => bif Nat.ble (n + 1) (mxL k) then nx (pc + 3) (st1 L n (.int (a + Int32.ofInt c))) S h else none)
  | .iload n => lI L n (fun a => nx (pc + 2) L (.int a :: S) h)
  | .iload_n n => lI L n.val (fun a => nx (pc + 1) L (.int a :: S) h)
  | .imul => qII S (fun a b S => nx (pc + 1) L (.int (a * b) :: S) h)
  | .invokespecial n => ob (mT (oN k) n) (fun q => bif Nat.beq q.1 2 || Nat.beq q.1 4 || Nat.beq q.1 10 then exC d q pc L S h else none)
  | .invokestatic n => ob (mT (oN k) n) (fun q => bif Nat.beq q.1 1 || Nat.beq q.1 11 || Nat.beq q.1 15 || Nat.beq q.1 16 then exC d q pc L S h else none)
  | .invokevirtual n => ob (mT (oN k) n) (fun q => bif Nat.beq q.1 0 || Nat.beq q.1 3 || Nat.beq q.1 13 || Nat.beq q.1 14 then exC d q pc L S h else none)
  | .ior => qII S (fun a b S => nx (pc + 1) L (.int (a ||| b) :: S) h)
  | .irem => qII S (fun a b S => if b = 0 then none else nx (pc + 1) L (.int (a - a / b * b) :: S) h)
  | .ireturn => (match S with
    | [.int a] => bif Nat.beq (rTy k) 1 then fin (.inl (some (.int a))) h else bif Nat.beq (rTy k) 4 then (if a = 0 ∨ a = 1 then fin (.inl (some (.int a))) h else none) else none
    | _ => none)
  | .ishl => qII S (fun a b S => nx (pc + 1) L (.int (a <<< (b &&& 31)) :: S) h)
  | .ishr => qII S (fun a b S => nx (pc + 1) L (.int (a >>> (b &&& 31)) :: S) h)
  | .istore n => qI S (fun a S => bif Nat.ble (n + 1) (mxL k) then nx (pc + 2) (st1 L n (.int a)) S h else none)
  | .istore_n n => qI S (fun a S => bif Nat.ble (n.val + 1) (mxL k) then nx (pc + 1) (st1 L n.val (.int a)) S h else none)
  | .isub => qII S (fun a b S => nx (pc + 1) L (.int (a - b) :: S) h)
  | .ixor => qII S (fun a b S => nx (pc + 1) L (.int (a ^^^ b) :: S) h)
  | .l2i => qJ S (fun a S => nx (pc + 1) L (.int a.toInt32 :: S) h)
  | .ladd => qJJ S (fun a b S => nx (pc + 1) L (.long (a + b) :: S) h)
  | .laload => (match S with
    | .int i :: .ref a :: S => ob (aL h a i) (fun x => nx (pc + 1) L (.long x :: S) h)
    | _ => none)
  | .land => qJJ S (fun a b S => nx (pc + 1) L (.long (a &&& b) :: S) h)
  | .lastore => (match S with
    | .long x :: .int i :: .ref a :: S => ob (bL h a i x) (fun h => nx (pc + 1) L S h)
    | _ => none)
  | .lcmp => qJJ S (fun a b S => nx (pc + 1) L (.int (lg_cmp a b) :: S) h)
  | .lconst n => nx (pc + 1) L (.long (Int64.ofNat n.val) :: S) h
  | .ldc n => ob (cT (oN k) n) (fun v => nx (pc + 2) L (v :: S) h)
  | .ldc2_w n => ob (jT (oN k) n) (fun v => nx (pc + 3) L (.long v :: S) h)
  | .lload n => lJ L n (fun a => nx (pc + 2) L (.long a :: S) h)
  | .lload_n n => lJ L n.val (fun a => nx (pc + 1) L (.long a :: S) h)
  | .lmul => qJJ S (fun a b S => nx (pc + 1) L (.long (a * b) :: S) h)
  | .lneg => qJ S (fun a S => nx (pc + 1) L (.long (-a) :: S) h)
  | .lookupswitch df ps => qI S (fun a S => bif lchk pc df ps.toList then nx (selT a (lcs pc ps.toList) ((pc : Int) + df).toNat) L S h else none)
  | .lor => qJJ S (fun a b S => nx (pc + 1) L (.long (a ||| b) :: S) h)
  | .lreturn => (match S with
    | [.long a] => bif Nat.beq (rTy k) 2 then fin (.inl (some (.long a))) h else none
    | _ => none)
  | .lshl => qJI S (fun a b S => nx (pc + 1) L (.long (a <<< (b.toInt64 &&& 63)) :: S) h)
  | .lshr => qJI S (fun a b S => nx (pc + 1) L (.long (a >>> (b.toInt64 &&& 63)) :: S) h)
  | .lstore n => qJ S (fun a S => bif Nat.ble (n + 2) (mxL k) then nx (pc + 2) (st2 L n (.long a)) S h else none)
  | .lstore_n n => qJ S (fun a S => bif Nat.ble (n.val + 2) (mxL k) then nx (pc + 1) (st2 L n.val (.long a)) S h else none)
  | .lsub => qJJ S (fun a b S => nx (pc + 1) L (.long (a - b) :: S) h)
  | .lushr => qJI S (fun a b S => nx (pc + 1) L (.long ((a.toUInt64 >>> (b.toInt64.toUInt64 &&& Int64.toUInt64 63)).toInt64) :: S) h)
  | .lxor => qJJ S (fun a b S => nx (pc + 1) L (.long (a ^^^ b) :: S) h)
  | .new n => ob (nT (oN k) n) (fun q => bif exT q.1 then (bif nwx d k pc q.1 && Nat.ble (wds S) 8 then ob (nO h q.1 q.2) (fun r => nx (pc + 9) L (.ref r.1 :: S) r.2) else none) else ob (nO h q.1 q.2) (fun r => nx (pc + 3) L (.ref r.1 :: S) r.2))
  | .newarray t => qI S (fun a S => bif Nat.beq (atag t) 99 then none else ob (nA h (atag t) a) (fun q => nx (pc + 2) L (.ref q.1 :: S) q.2))
  | .pop => q1 S (fun v S => bif Nat.beq v.category 1 then nx (pc + 1) L S h else none)
  | .pop2 => qJ S (fun a S => nx (pc + 1) L S h)
  | .putfield n => q1 S (fun x S => qA S (fun v S => ob (fT (oN k) n) (fun q => match q with
    | (c, f, t, fi) => bif !fi || (Nat.beq (iN k) c) then (match x with
      | .int a => bif Nat.beq t 0 then ob (pI h v c f a) (fun h => nx (pc + 3) L S h) else bif Nat.beq t 3 then ob (pZ h v c f a) (fun h => nx (pc + 3) L S h) else none
      | .long a => bif Nat.beq t 1 then ob (pL h v c f a) (fun h => nx (pc + 3) L S h) else none
      | .ref a => bif Nat.beq t 2 then ob (pR h v c f a) (fun h => nx (pc + 3) L S h) else none
      | _ => none) else none)))
  | .return_ => (match S with
    | [] => bif Nat.beq (rTy k) 0 then fin (.inl none) h else none
    | _ => none)
  | .sipush n => nx (pc + 3) L (.int (Int16.ofInt n).toInt32 :: S) h
  | .tableswitch df lo hi os => qI S (fun a S => bif tchk pc df lo hi os.toList then nx (selT a (tcs pc lo os.toList) ((pc : Int) + df).toNat) L S h else none)
  | _ => none
/-- the slots that are kept at a cut point -/
def nrm (ks : Option (List Nat)) (L : LO) : LO := match ks with
  | none => L
  | some ks => ks.filterMap (fun i => match L.lookup i with
    | some v => some (i, v)
    | none => none)
/-- the arguments as locals -/
def ent (n : Nat) : List Value → LO
  | [] => []
  | v :: r => (n, v) :: ent (n + v.category) r
def hnd (hs : List (Nat × Nat × Nat × Nat)) (pc t : Nat) : Option Nat := match hs with
  | [] => none
  | (b, e, p, c) :: r => if b ≤ pc ∧ pc < e ∧ c = t then some p else hnd r pc t
def rtOK (r : Nat) (v : Option Value) : Bool := match v with
  | none => Nat.beq r 0
  | some (.int _) => Nat.beq r 1 || Nat.beq r 4
  | some (.long _) => Nat.beq r 2
  | some (.ref _) => Nat.beq r 3
  | _ => false
abbrev RC : Type := Nat → Nat → Nat → LO → List Value → AH → RS
def stp (rec : RC) : RC := fun d k pc L S h => match codeAt k pc with
  | none => none
  | some i => match ex d k i pc (nrm (livAt k pc) L) S h with
    | none => none
    | some (.inl (pc', L', S', h')) => rec d k pc' L' S' h'
    | some (.inr (.inl (o, h'))) => some (o, h')
    | some (.inr (.inr (k', as, pc', L', S', h'))) => match d with
      | 0 => none
      | d' + 1 => match rec d' k' 0 (ent 0 as) [] h' with
        | none => none
        | some (.inl v, h2) => bif rtOK (rTy k') v then rec (d' + 1) k pc' L' (v.toList ++ S') h2 else none
        | some (.inr a, h2) => match hnd (hTab k) pc (hT h2 a) with
          | some p => rec (d' + 1) k p L' [.ref a] h2
          | none => bif (hTab k).isEmpty then some (.inr a, h2) else none
def run : Nat → RC
  | 0 => fun _ _ _ _ _ _ => none
  | n + 1 => stp (run n)
theorem stp_mono {r1 r2 : RC} (h : ∀ d k pc L S hh x, r1 d k pc L S hh = some x → r2 d k pc L S hh = some x) : ∀ d k pc L S hh x, stp r1 d k pc L S hh = some x → stp r2 d k pc L S hh = some x := by
  intro d k pc L S hh x hx
  unfold stp at hx ⊢
  cases hc : codeAt k pc with
  | none => rw [hc] at hx; cases hx
  | some i =>
    rw [hc] at hx
    dsimp only at hx ⊢
    cases he : ex d k i pc (nrm (livAt k pc) L) S hh with
    | none => rw [he] at hx; cases hx
    | some r =>
      rw [he] at hx
      rcases r with ⟨pc', L', S', h'⟩ | ⟨o, h'⟩ | ⟨k', as, pc', L', S', h'⟩
      · exact h _ _ _ _ _ _ _ hx
      · exact hx
      · dsimp only at hx ⊢
        cases d with
        | zero => cases hx
        | succ d' =>
          dsimp only at hx ⊢
          cases hr : r1 d' k' 0 (ent 0 as) [] h' with
          | none => rw [hr] at hx; cases hx
          | some y =>
            rw [hr] at hx
            rw [h _ _ _ _ _ _ _ hr]
            obtain ⟨o, h2⟩ := y
            cases o with
            | inl v =>
              dsimp only at hx ⊢
              cases hb : rtOK (rTy k') v with
              | false => rw [hb] at hx; cases hx
              | true => rw [hb] at hx; exact h _ _ _ _ _ _ _ hx
            | inr a =>
              dsimp only at hx ⊢
              cases hn : hnd (hTab k) pc (hT h2 a) with
              | none => rw [hn] at hx; exact hx
              | some p => rw [hn] at hx; exact h _ _ _ _ _ _ _ hx
theorem run_succ : ∀ (n : Nat) d k pc L S hh x, run n d k pc L S hh = some x → run (n + 1) d k pc L S hh = some x := by
  intro n
  induction n with
  | zero => intro d k pc L S hh x h; cases h
  | succ n ih => exact stp_mono ih
theorem run_le {n m : Nat} (hnm : n ≤ m) : ∀ d k pc L S hh x, run n d k pc L S hh = some x → run m d k pc L S hh = some x := by
  induction hnm with
  | refl => intro d k pc L S hh x h; exact h
  | step _ ih => intro d k pc L S hh x h; exact run_succ _ _ _ _ _ _ _ _ (ih _ _ _ _ _ _ _ h)
noncomputable def ev : RC := fun d k pc L S h => Classical.epsilon (fun r : RS => (∃ n, run n d k pc L S h = r ∧ r ≠ none) ∨ ((∀ n, run n d k pc L S h = none) ∧ r = none))
theorem ev_spec (d k pc : Nat) (L : LO) (S : List Value) (h : AH) : (∃ n, run n d k pc L S h = ev d k pc L S h ∧ ev d k pc L S h ≠ none) ∨ ((∀ n, run n d k pc L S h = none) ∧ ev d k pc L S h = none) := by
  refine Classical.epsilon_spec (p := fun r : RS => (∃ n, run n d k pc L S h = r ∧ r ≠ none) ∨ ((∀ n, run n d k pc L S h = none) ∧ r = none)) ?_
  by_cases hx : ∃ n, run n d k pc L S h ≠ none
  · obtain ⟨n, hn⟩ := hx
    exact ⟨_, Or.inl ⟨n, rfl, hn⟩⟩
  · exact ⟨none, Or.inr ⟨fun n => Classical.byContradiction fun z => hx ⟨n, z⟩, rfl⟩⟩
theorem ev_of_run {n d k pc : Nat} {L : LO} {S : List Value} {h : AH} {x : OU × AH} (hr : run n d k pc L S h = some x) : ev d k pc L S h = some x := by
  rcases ev_spec d k pc L S h with ⟨m, hm, hne⟩ | ⟨ha, -⟩
  · cases he : ev d k pc L S h with
    | none => exact absurd he hne
    | some y =>
      rw [he] at hm
      have h1 := run_le (Nat.le_max_left n m) _ _ _ _ _ _ _ hr
      have h2 := run_le (Nat.le_max_right n m) _ _ _ _ _ _ _ hm
      rw [h1] at h2
      exact h2.symm
  · rw [ha n] at hr; cases hr
theorem run_of_ev {d k pc : Nat} {L : LO} {S : List Value} {h : AH} {x : OU × AH} (he : ev d k pc L S h = some x) : ∃ n, run n d k pc L S h = some x := by
  rcases ev_spec d k pc L S h with ⟨m, hm, -⟩ | ⟨-, hz⟩
  · exact ⟨m, hm.trans he⟩
  · rw [he] at hz; cases hz
/-- the equation of all runs -/
theorem ev_eq (d k pc : Nat) (L : LO) (S : List Value) (h : AH) : ev d k pc L S h = stp ev d k pc L S h := by
  cases hs : stp ev d k pc L S h with
  | some x =>
    have key : ∃ n, run n d k pc L S h = some x := by
      unfold stp at hs
      cases hc : codeAt k pc with
      | none => rw [hc] at hs; cases hs
      | some i =>
        rw [hc] at hs
        dsimp only at hs
        cases he : ex d k i pc (nrm (livAt k pc) L) S h with
        | none => rw [he] at hs; cases hs
        | some r =>
          rw [he] at hs
          rcases r with ⟨pc', L', S', h'⟩ | ⟨o, h'⟩ | ⟨k', as, pc', L', S', h'⟩
          · obtain ⟨n, hn⟩ := run_of_ev hs
            refine ⟨n + 1, ?_⟩
            show stp (run n) d k pc L S h = some x
            unfold stp
            rw [hc]; dsimp only; rw [he]
            exact hn
          · refine ⟨1, ?_⟩
            show stp (run 0) d k pc L S h = some x
            unfold stp
            rw [hc]; dsimp only; rw [he]
            exact hs
          · dsimp only at hs
            cases d with
            | zero => cases hs
            | succ d' =>
              dsimp only at hs
              cases hr : ev d' k' 0 (ent 0 as) [] h' with
              | none => rw [hr] at hs; cases hs
              | some y =>
                rw [hr] at hs
                obtain ⟨n1, hn1⟩ := run_of_ev hr
                obtain ⟨o, h2⟩ := y
                cases o with
                | inl v =>
                  dsimp only at hs
                  cases hb : rtOK (rTy k') v with
                  | false => rw [hb] at hs; cases hs
                  | true =>
                  rw [hb] at hs
                  obtain ⟨n2, hn2⟩ := run_of_ev hs
                  refine ⟨max n1 n2 + 1, ?_⟩
                  show stp (run (max n1 n2)) (d' + 1) k pc L S h = some x
                  unfold stp
                  rw [hc]; dsimp only; rw [he]; dsimp only
                  rw [run_le (Nat.le_max_left n1 n2) _ _ _ _ _ _ _ hn1]; dsimp only; rw [hb]
                  exact run_le (Nat.le_max_right n1 n2) _ _ _ _ _ _ _ hn2
                | inr a =>
                  dsimp only at hs
                  cases hn : hnd (hTab k) pc (hT h2 a) with
                  | none =>
                    rw [hn] at hs
                    refine ⟨n1 + 1, ?_⟩
                    show stp (run n1) (d' + 1) k pc L S h = some x
                    unfold stp
                    rw [hc]; dsimp only; rw [he]; dsimp only
                    rw [hn1]; dsimp only; rw [hn]
                    exact hs
                  | some p =>
                    rw [hn] at hs
                    obtain ⟨n2, hn2⟩ := run_of_ev hs
                    refine ⟨max n1 n2 + 1, ?_⟩
                    show stp (run (max n1 n2)) (d' + 1) k pc L S h = some x
                    unfold stp
                    rw [hc]; dsimp only; rw [he]; dsimp only
                    rw [run_le (Nat.le_max_left n1 n2) _ _ _ _ _ _ _ hn1]; dsimp only; rw [hn]
                    exact run_le (Nat.le_max_right n1 n2) _ _ _ _ _ _ _ hn2
    obtain ⟨n, hn⟩ := key
    exact ev_of_run hn
  | none =>
    cases he : ev d k pc L S h with
    | none => rfl
    | some x =>
      obtain ⟨n, hn⟩ := run_of_ev he
      cases n with
      | zero => cases hn
      | succ n =>
        have h1 := stp_mono (r1 := run n) (r2 := ev) (fun d k pc L S hh x hx => ev_of_run hx) _ _ _ _ _ _ _ hn
        rw [hs] at h1
        cases h1

/-! the abstract machine: its steps -/
def ins (M pc : Nat) : Option (Instr × Nat) := (tabs.getD M []).lookup pc
def mown (M : Nat) : Nat := mownT.getD M 0
def mret (M : Nat) : Nat := mretT.getD M 0
def mloc (M : Nat) : Nat := mlocT.getD M 0
def fld (M idx : Nat) : Option (Nat × Nat × Nat) := fldT.lookup (mown M, idx)
def stat (M idx : Nat) : Option V := statT.lookup (mown M, idx)
def ldcv (M idx : Nat) : Option V := ldcT.lookup (mown M, idx)
def newk (M idx : Nat) : Option (Nat × Nat) := newT.lookup (mown M, idx)
def site (M pc : Nat) : Option Nat := siteT.lookup (M, pc)
def an (M pc : Nat) : Option (Nat × Nat) := anT.lookup (M, pc)
def site2 (M pc : Nat) : Option (Nat × Nat × Nat) := site2T.lookup (M, pc)
def putok (M K k : Nat) : Bool := !(finT.contains (K, k)) || decide (initT.lookup M = some K)
def inv (M idx : Nat) : Option (Nat × Nat × Nat × Nat) := invT.lookup (mown M, idx)
def absm (a K : Nat) : Option Nat := absT.lookup (a, K)
def elok (K K' : Nat) : Bool := elemT.contains (K, K')
def elob (K : Nat) : Bool := elemT.any (fun q => q.1 == K)
def slen (j : Nat) : Nat := (strT.getD j []).length
def sch (j i : Nat) : Int32 := (strT.getD j []).getD i 0
def mostC : List Int32 := [nI 9, nI 24, nI 999, nI 999]
/-- the handler that covers pc in M -/
def hdl (M pc : Nat) : Option Nat := if M = 19 ∧ 32 ≤ pc ∧ pc < 69 then some 72 else none
def tg (pc : Nat) (off : Int) : Option Nat := if 0 ≤ (pc : Int) + off then some ((pc : Int) + off).toNat else none
def clr (L : List V) (k : Nat) : List V := match L[k]? with
  | some (.inr (.inr (.inr true))) => L.set (k - 1) vU
  | some (.inr (.inl _)) => L.set (k + 1) vU
  | _ => L
def st1 (L : List V) (k : Nat) (v : V) : List V := (clr L k).set k v
def st2 (L : List V) (k : Nat) (v : V) : List V := ((st1 (st1 L k (vI 0)) (k + 1) (vI 0)).set k v).set (k + 1) vS
def ldI (L : List V) (k : Nat) (S : List V) : Option (List V × List V) := match L[k]? with
  | some (.inl x) => some (L, vI x :: S)
  | _ => none
def ldL (L : List V) (k : Nat) (S : List V) : Option (List V × List V) := match L[k]? with
  | some (.inr (.inl x)) => some (L, vL x :: S)
  | _ => none
def ldR (L : List V) (k : Nat) (S : List V) : Option (List V × List V) := match L[k]? with
  | some (.inr (.inr (.inl x))) => some (L, vR x :: S)
  | _ => none
def soI (L : List V) (k : Nat) (S : List V) : Option (List V × List V) := match S with
  | .inl x :: S' => if k < L.length then some (st1 L k (vI x), S') else none
  | _ => none
def soL (L : List V) (k : Nat) (S : List V) : Option (List V × List V) := match S with
  | .inr (.inl x) :: S' => if k + 1 < L.length then some (st2 L k (vL x), S') else none
  | _ => none
def soR (L : List V) (k : Nat) (S : List V) : Option (List V × List V) := match S with
  | .inr (.inr (.inl x)) :: S' => if k < L.length then some (st1 L k (vR x), S') else none
  | _ => none
def binI (f : Int32 → Int32 → Int32) (L S : List V) : Option (List V × List V) := match S with
  | .inl y :: .inl x :: S' => some (L, vI (f x y) :: S')
  | _ => none
def binL (f : Int64 → Int64 → Int64) (L S : List V) : Option (List V × List V) := match S with
  | .inr (.inl y) :: .inr (.inl x) :: S' => some (L, vL (f x y) :: S')
  | _ => none
def divI (f : Int32 → Int32 → Int32) (L S : List V) : Option (List V × List V) := match S with
  | .inl y :: .inl x :: S' => if y = 0 then none else some (L, vI (f x y) :: S')
  | _ => none
def divL (f : Int64 → Int64 → Int64) (L S : List V) : Option (List V × List V) := match S with
  | .inr (.inl y) :: .inr (.inl x) :: S' => if y = 0 then none else some (L, vL (f x y) :: S')
  | _ => none
def unI (f : Int32 → Int32) (L S : List V) : Option (List V × List V) := match S with
  | .inl x :: S' => some (L, vI (f x) :: S')
  | _ => none
def cat1 (v : V) : Bool := match v with
  | .inl _ => true
  | .inr (.inr (.inl _)) => true
  | _ => false
def dup1 (L S : List V) : Option (List V × List V) := match S with
  | v :: S' => if cat1 v then some (L, v :: v :: S') else none
  | _ => none
def dupB (L S : List V) : Option (List V × List V) := match S with
  | .inr (.inl x) :: S' => some (L, vL x :: vL x :: S')
  | v :: w :: S' => if cat1 v && cat1 w then some (L, v :: w :: v :: w :: S') else none
  | _ => none
def pop1 (L S : List V) : Option (List V × List V) := match S with
  | v :: S' => if cat1 v then some (L, S') else none
  | _ => none
/-- what goes on at the next instruction and leaves the memory -/
def pureI (i : Instr) (L S : List V) : Option (List V × List V) := match i with
  | .iconst n => some (L, vI (Int32.ofInt n) :: S)
  | .bipush n => some (L, vI (Int8.ofInt n).toInt32 :: S)
  | .sipush n => some (L, vI (Int16.ofInt n).toInt32 :: S)
  | .lconst n => some (L, vL (Int64.ofNat (n : Nat)) :: S)
  | .aconst_null => some (L, vR (0, 0) :: S)
  | .iload_n k => ldI L k S
  | .iload k => ldI L k S
  | .lload_n k => ldL L k S
  | .lload k => ldL L k S
  | .aload_n k => ldR L k S
  | .aload k => ldR L k S
  | .istore_n k => soI L k S
  | .istore k => soI L k S
  | .lstore_n k => soL L k S
  | .lstore k => soL L k S
  | .astore_n k => soR L k S
  | .astore k => soR L k S
  | .iinc k n => (match L[k]? with
    | some (.inl x) => some (st1 L k (vI (x + Int32.ofInt n)), S)
    | _ => none)
  | .iadd => binI (fun x y => x + y) L S
  | .isub => binI (fun x y => x - y) L S
  | .imul => binI (fun x y => x * y) L S
  | .iand => binI (fun x y => x &&& y) L S
  | .ior => binI (fun x y => x ||| y) L S
  | .ishl => binI (fun x y => x <<< (y &&& 31)) L S
  | .ishr => binI (fun x y => x >>> (y &&& 31)) L S
  | .idiv => divI (fun x y => x / y) L S
  | .irem => divI (fun x y => x - x / y * y) L S
  | .ineg => unI (fun x => -x) L S
  | .i2b => unI (fun x => x.toInt8.toInt32) L S
  | .i2c => unI (fun x => (x.toUInt32 % 65536).toInt32) L S
  | .ladd => binL (fun x y => x + y) L S
  | .lsub => binL (fun x y => x - y) L S
  | .lmul => binL (fun x y => x * y) L S
  | .land => binL (fun x y => x &&& y) L S
  | .lor => binL (fun x y => x ||| y) L S
  | .ldiv => divL (fun x y => x / y) L S
  | .lrem => divL (fun x y => x - x / y * y) L S
  | .lneg => (match S with
    | .inr (.inl x) :: S' => some (L, vL (-x) :: S')
    | _ => none)
  | .i2l => (match S with
    | .inl x :: S' => some (L, vL x.toInt64 :: S')
    | _ => none)
  | .l2i => (match S with
    | .inr (.inl x) :: S' => some (L, vI x.toInt32 :: S')
    | _ => none)
  | .lcmp => (match S with
    | .inr (.inl y) :: .inr (.inl x) :: S' => some (L, vI (lg_cmp x y) :: S')
    | _ => none)
  | .dup => dup1 L S
  | .dup2 => dupB L S
  | .pop => pop1 L S
  | _ => none
def cmp0 (c : ClassFile.Cond) (x : Int32) : Bool := match c with
  | .eq => decide (x = 0)
  | .ne => decide (¬ x = 0)
  | .lt => decide (x < 0)
  | .ge => decide (0 ≤ x)
  | .gt => decide (0 < x)
  | .le => decide (x ≤ 0)
def cmpI (c : ClassFile.Cond) (x y : Int32) : Bool := match c with
  | .eq => decide (x = y)
  | .ne => decide (¬ x = y)
  | .lt => decide (x < y)
  | .ge => decide (y ≤ x)
  | .gt => decide (y < x)
  | .le => decide (x ≤ y)
/-- what jumps -/
def jmpI (i : Instr) (pc : Nat) (S : List V) : Option (Nat × List V) := match i with
  | .goto off => (match tg pc off with
    | some t => some (t, S)
    | none => none)
  | .ifCond c off => (match S, tg pc off with
    | .inl x :: S', some t => some (if cmp0 c x = true then t else pc + 3, S')
    | _, _ => none)
  | .if_icmp c off => (match S, tg pc off with
    | .inl y :: .inl x :: S', some t => some (if cmpI c x y = true then t else pc + 3, S')
    | _, _ => none)
  | .ifnull off => (match S, tg pc off with
    | .inr (.inr (.inl p)) :: S', some t => if p.1 = 7 then none else some (if p.1 = 0 then t else pc + 3, S')
    | _, _ => none)
  | .ifnonnull off => (match S, tg pc off with
    | .inr (.inr (.inl p)) :: S', some t => if p.1 = 7 then none else some (if p.1 = 0 then pc + 3 else t, S')
    | _, _ => none)
  | .tableswitch d lo hi offs => (match S with
    | .inl x :: S' => if x.toInt < lo ∨ hi < x.toInt then (match tg pc d with
        | some t => some (t, S')
        | none => none)
      else (match offs[(x.toInt - lo).toNat]? with
        | some off => (match tg pc off with
          | some t => some (t, S')
          | none => none)
        | none => none)
    | _ => none)
  | .lookupswitch d ps => (match S with
    | .inl x :: S' => if (ps.toList.zip (ps.toList.drop 1)).all (fun (a, next) => a.1 < next.1) = true then (match tg pc (Op.lookupswitch.offset ps.toList d x.toInt) with
        | some t => some (t, S')
        | none => none)
      else none
    | _ => none)
  | _ => none
/-- a field's or an element's value, by its type: 0 int, 5 boolean, 1 long, 2 pointer -/
def rd (h : HS) (K j i t : Nat) : V := if t = 1 then vL (gL h K j i) else if t = 2 then vR (gR h K j i) else vI (gI h K j i)
def isB (x : Int32) : Prop := x = 0 ∨ x = 1
def wr (h : HS) (K j i t : Nat) (v : V) : Option HS := match v with
  | .inl x => if t = 0 then some (sI h K j i x) else if t = 5 then (if x = 0 ∨ x = 1 then some (sI h K j i x) else none) else none
  | .inr (.inl x) => if t = 1 then some (sL h K j i x) else none
  | .inr (.inr (.inl p)) => if t = 2 then some (sR h K j i p) else none
  | _ => none
/-- the room of the claim -/
def NCL : Nat := 601024
def NSL : Nat := 7293034
def atOf (t : ArrayType) : Nat := match t with
  | .int => 1
  | .byte => 2
  | .boolean => 3
  | .long => 4
  | _ => 0
def aLen (h : HS) (p : Pn) : Option Nat := if p.1 = 10 then some (scL h) else if p.1 = 9 then some (slen p.2) else if p.1 = 11 then some 4 else if 1048576 ≤ p.1 ∧ 1 ≤ p.1 % 16 ∧ p.1 % 16 ≤ 5 then some (klen p.1) else none
def ialI (h : HS) (p : Pn) (i : Int32) : Option Int32 := match aLen h p with
  | none => none
  | some n => if i < 0 ∨ n ≤ i.toNatClampNeg then none else if p.1 = 10 then some (scX h i.toNatClampNeg) else if p.1 = 11 then some (mostC.getD i.toNatClampNeg 0) else if p.1 % 16 = 1 ∧ 1048576 ≤ p.1 then some (gI h p.1 p.2 i.toNatClampNeg) else none
def balI (h : HS) (p : Pn) (i : Int32) : Option Int32 := match aLen h p with
  | none => none
  | some n => if i < 0 ∨ n ≤ i.toNatClampNeg then none else if p.1 = 9 then some (sch p.2 i.toNatClampNeg) else if (p.1 % 16 = 2 ∨ p.1 % 16 = 3) ∧ 1048576 ≤ p.1 then some (gI h p.1 p.2 i.toNatClampNeg) else none
def okix (p : Pn) (so : Nat) (i : Int32) : Bool := decide (1048576 ≤ p.1 ∧ p.1 % 16 = so ∧ ¬ (i < 0 ∨ klen p.1 ≤ i.toNatClampNeg))
/-- what reads or writes the memory -/
def heapI (M pc : Nat) (i : Instr) (S : List V) (h : HS) : Option (List V × HS) := match i with
  | .getfield idx => (match S, fld M idx with
    | .inr (.inr (.inl p)) :: S', some (K, k, t) => if p.1 = K then (if t = 3 then some (vR (9, p.2) :: S', h) else if t = 4 then some (vI (nI 0) :: S', h) else some (rd h K p.2 k t :: S', h)) else none
    | _, _ => none)
  | .putfield idx => (match S, fld M idx with
    | v :: .inr (.inr (.inl p)) :: S', some (K, k, t) => if p.1 = K ∧ putok M K k = true then (match wr h K p.2 k t v with
        | some h' => some (S', h')
        | none => none) else none
    | _, _ => none)
  | .getstatic idx => (match stat M idx with
    | some v => some (v :: S, h)
    | none => none)
  | .ldc idx => (match ldcv M idx with
    | some v => if cat1 v = true then some (v :: S, h) else none
    | none => none)
  | .ldc_w idx => (match ldcv M idx with
    | some v => if cat1 v = true then some (v :: S, h) else none
    | none => none)
  | .ldc2_w idx => (match ldcv M idx with
    | some v => if cat1 v = true then none else some (v :: S, h)
    | none => none)
  | .new idx => (match newk M idx with
    | some (K, n) => if nc h + 1 ≤ NCL ∧ ns h + n ≤ NSL then some (vR (K, cn h K) :: S, al h K n) else none
    | none => none)
  | .newarray t => (match S, site M pc with
    | .inl n :: S', some K => if n = nI (klen K) ∧ atOf t = K % 16 ∧ nc h + 1 ≤ NCL ∧ ns h + klen K ≤ NSL then some (vR (K, cn h K) :: S', al h K (klen K)) else none
    | _, _ => none)
  | .anewarray idx => (match S, an M pc with
    | .inl n :: S', some (idx', K) => if idx = idx' ∧ n = nI (klen K) ∧ nc h + 1 ≤ NCL ∧ ns h + klen K ≤ NSL then some (vR (K, cn h K) :: S', al h K (klen K)) else none
    | _, _ => none)
  | .multianewarray idx 2 => (match S, site2 M pc with
    | .inl m :: .inl n :: S', some (idx', K, K2) => if idx = idx' ∧ n = nI (klen K) ∧ m = nI (klen K2) ∧ nc h + 1 + klen K ≤ NCL ∧ ns h + klen K + klen K * klen K2 ≤ NSL then some (vR (K, cn h K) :: S', al2 h K (klen K) K2 (klen K2)) else none
    | _, _ => none)
  | .arraylength => (match S with
    | .inr (.inr (.inl p)) :: S' => (match aLen h p with
      | some n => some (vI (nI n) :: S', h)
      | none => none)
    | _ => none)
  | .iaload => (match S with
    | .inl i :: .inr (.inr (.inl p)) :: S' => (match ialI h p i with
      | some x => some (vI x :: S', h)
      | none => none)
    | _ => none)
  | .baload => (match S with
    | .inl i :: .inr (.inr (.inl p)) :: S' => (match balI h p i with
      | some x => some (vI x :: S', h)
      | none => none)
    | _ => none)
  | .laload => (match S with
    | .inl i :: .inr (.inr (.inl p)) :: S' => if okix p 4 i = true then some (vL (gL h p.1 p.2 i.toNatClampNeg) :: S', h) else none
    | _ => none)
  | .aaload => (match S with
    | .inl i :: .inr (.inr (.inl p)) :: S' => if okix p 5 i = true then some (vR (gR h p.1 p.2 i.toNatClampNeg) :: S', h) else none
    | _ => none)
  | .iastore => (match S with
    | .inl x :: .inl i :: .inr (.inr (.inl p)) :: S' => if okix p 1 i = true then some (S', sI h p.1 p.2 i.toNatClampNeg x) else none
    | _ => none)
  | .bastore => (match S with
    | .inl x :: .inl i :: .inr (.inr (.inl p)) :: S' => if okix p 2 i = true ∧ x.toInt8.toInt32 = x then some (S', sI h p.1 p.2 i.toNatClampNeg x) else if okix p 3 i = true ∧ (x = 0 ∨ x = 1) then some (S', sI h p.1 p.2 i.toNatClampNeg x) else none
    | _ => none)
  | .lastore => (match S with
    | .inr (.inl x) :: .inl i :: .inr (.inr (.inl p)) :: S' => if okix p 4 i = true then some (S', sL h p.1 p.2 i.toNatClampNeg x) else none
    | _ => none)
  | .aastore => (match S with
    | .inr (.inr (.inl q)) :: .inl i :: .inr (.inr (.inl p)) :: S' => if okix p 5 i = true ∧ (q.1 = 0 ∨ elok p.1 q.1 = true) ∧ elob p.1 = true then some (S', sR h p.1 p.2 i.toNatClampNeg q) else none
    | _ => none)
  | .invokespecial idx => (match S, inv M idx with
    | .inr (.inr (.inl p)) :: S', some (_, _, 4, _) => if 1048576 ≤ p.1 ∧ S'.length ≤ 10 then some (S', h) else none
    | _, _ => none)
  | .invokestatic idx => (match S, inv M idx with
    | .inl n :: .inl b :: .inr (.inr (.inl q)) :: .inl a :: .inr (.inr (.inl p)) :: S', some (_, _, 5, _) =>
      if 1048576 ≤ p.1 ∧ p.1 % 16 = 1 ∧ 1048576 ≤ q.1 ∧ q.1 % 16 = 1 ∧ p ≠ q ∧ S'.length ≤ 10 ∧ 0 ≤ a ∧ 0 ≤ b ∧ 0 ≤ n ∧ a.toNatClampNeg + n.toNatClampNeg ≤ klen p.1 ∧ b.toNatClampNeg + n.toNatClampNeg ≤ klen q.1 then some (S', cpI h p.1 p.2 a.toNatClampNeg q.1 q.2 b.toNatClampNeg n.toNatClampNeg) else none
    | _, _ => none)
  | _ => none
/-- a call: the method, its arguments, the stack below them -/
def cllI (M : Nat) (i : Instr) (S : List V) : Option (Nat × List V × List V) := match i with
  | .invokestatic idx => (match inv M idx with
    | some (M', n, 0, _) => if n ≤ S.length ∧ (S.drop n).length ≤ 10 then some (M', (S.take n).reverse, S.drop n) else none
    | _ => none)
  | .invokespecial idx => (match inv M idx with
    | some (M', n, 2, _) => (match S.drop n with
      | .inr (.inr (.inl p)) :: S' => if 1048576 ≤ p.1 ∧ S'.length ≤ 10 then some (M', vR p :: (S.take n).reverse, S') else none
      | _ => none)
    | _ => none)
  | .invokevirtual idx => (match inv M idx with
    | some (M', n, 1, rk) => (match S.drop n with
      | .inr (.inr (.inl p)) :: S' => if p.1 = rk ∧ S'.length ≤ 10 then some (M', vR p :: (S.take n).reverse, S') else none
      | _ => none)
    | some (a, n, 3, _) => (match S.drop n with
      | .inr (.inr (.inl p)) :: S' => (match absm a p.1 with
        | some M' => if S'.length ≤ 10 then some (M', vR p :: (S.take n).reverse, S') else none
        | none => none)
      | _ => none)
    | _ => none)
  | _ => none
/-- the end of a method -/
def endI (M pc : Nat) (i : Instr) (S : List V) (h : HS) : Option ((List V ⊕ Pn) × HS) := match i, S with
  | .return_, [] => if mret M = 0 then some (.inl [], h) else none
  | .ireturn, [.inl x] => if mret M = 1 ∨ (mret M = 2 ∧ (x = 0 ∨ x = 1)) ∨ (mret M = 3 ∧ x.toInt8.toInt32 = x) ∨ (mret M = 4 ∧ (x.toUInt32 % 65536).toInt32 = x) then some (.inl [vI x], h) else none
  | .lreturn, [.inr (.inl x)] => if mret M = 5 then some (.inl [vL x], h) else none
  | .areturn, [.inr (.inr (.inl p))] => if mret M = 6 then some (.inl [vR p], h) else none
  | .athrow, .inr (.inr (.inl p)) :: _ => if p.1 = 2097174 ∧ hdl M pc = none then some (.inr p, h) else none
  | _, _ => none
def spread (as : List V) : List V := as.flatMap (fun v => match v with
  | .inr (.inl x) => [vL x, vS]
  | v => [v])
def argOK (as : List V) : Bool := as.all (fun v => match v with
  | .inr (.inr (.inr _)) => false
  | _ => true)
def entL (M : Nat) (as : List V) : List V := spread as ++ List.replicate (mloc M - (spread as).length) vU
def exec : Nat → Nat → Nat → Nat → List V → List V → HS → Option ((List V ⊕ Pn) × HS)
  | 0, _, _, _, _, _, _ => none
  | n + 1, d, M, pc, L, S, h =>
    match ins M pc with
    | none => none
    | some (i, len) =>
      match pureI i L S with
      | some (L', S') => exec n d M (pc + len) L' S' h
      | none =>
      match jmpI i pc S with
      | some (pc', S') => exec n d M pc' L S' h
      | none =>
      match heapI M pc i S h with
      | some (S', h') => exec n d M (pc + len) L S' h'
      | none =>
      match cllI M i S with
      | some (M', as, S') =>
        (match d with
        | 0 => none
        | d' + 1 =>
          if (spread as).length ≤ mloc M' ∧ argOK as = true then
            (match exec n d' M' 0 (entL M' as) [] h with
            | none => none
            | some (.inl vs, h') => exec n d M (pc + len) L (vs ++ S') h'
            | some (.inr p, h') => (match hdl M pc with
              | none => some (.inr p, h')
              | some t => exec n d M t L [vR p] h'))
          else none)
      | none => endI M pc i S h
/-- from there on the machine comes to an end with Q -/
def X (d M pc : Nat) (L S : List V) (h : HS) (Q : (List V ⊕ Pn) × HS → Prop) : Prop := ∃ n r, exec n d M pc L S h = some r ∧ Q r
def Ev (d M : Nat) (as : List V) (h : HS) (Q : (List V ⊕ Pn) × HS → Prop) : Prop := X d M 0 (entL M as) [] h Q

/-! THE ABSTRACT MACHINE: values, heaps, one step of a method's frame, runs. Ints and longs are mathematical Ints (in range), references are numbers of cells, cells are tagged; all tables are in the part ahead. -/
abbrev ZV : Type := Int ⊕ (Int ⊕ (Option Nat ⊕ Unit))
def zI (i : Int) : ZV := Sum.inl i
def zL (i : Int) : ZV := Sum.inr (Sum.inl i)
def zO (o : Option Nat) : ZV := Sum.inr (Sum.inr (Sum.inl o))
abbrev zR (a : Nat) : ZV := zO (some a)
abbrev zN : ZV := zO none
def zU : ZV := Sum.inr (Sum.inr (Sum.inr ()))
/-- category 1 -/
def zc (v : ZV) : Bool := match v with | Sum.inr (Sum.inl _) => false | Sum.inr (Sum.inr (Sum.inr _)) => false | _ => true
/-- the heap: tags, fields, arrays of ints, of longs, of references; the next cell; the slots made; the statics -/
abbrev AH : Type := (Nat → Nat) × (Nat → Nat → ZV) × (Nat → List Int) × (Nat → List Int) × (Nat → List (Option Nat)) × Nat × Nat × (Nat → ZV)
def tg (A : AH) (a : Nat) : Nat := A.1 a
def fd (A : AH) (a k : Nat) : ZV := A.2.1 a k
def ia (A : AH) (a : Nat) : List Int := A.2.2.1 a
def la (A : AH) (a : Nat) : List Int := A.2.2.2.1 a
def ra (A : AH) (a : Nat) : List (Option Nat) := A.2.2.2.2.1 a
def nx (A : AH) : Nat := A.2.2.2.2.2.1
def sl (A : AH) : Nat := A.2.2.2.2.2.2.1
def sg (A : AH) (j : Nat) : ZV := A.2.2.2.2.2.2.2 j
def pF (A : AH) (a k : Nat) (v : ZV) : AH := (A.1, fun b j => if b = a ∧ j = k then v else A.2.1 b j, A.2.2)
def pI (A : AH) (a : Nat) (l : List Int) : AH := (A.1, A.2.1, fun b => if b = a then l else A.2.2.1 b, A.2.2.2)
def pL (A : AH) (a : Nat) (l : List Int) : AH := (A.1, A.2.1, A.2.2.1, fun b => if b = a then l else A.2.2.2.1 b, A.2.2.2.2)
def pR (A : AH) (a : Nat) (l : List (Option Nat)) : AH := (A.1, A.2.1, A.2.2.1, A.2.2.2.1, fun b => if b = a then l else A.2.2.2.2.1 b, A.2.2.2.2.2)
/-- a new object: tag t, default fields -/
def nO (A : AH) (t : Nat) : AH := (fun b => if b = nx A then t else A.1 b, fun b j => if b = nx A then (if zfk t j = 3 then zN else zI 0) else A.2.1 b j, A.2.2.1, A.2.2.2.1, A.2.2.2.2.1, nx A + 1, sl A + znf t, A.2.2.2.2.2.2.2)
/-- a new array of ints (or bytes, booleans), of longs, of references -/
def nA (A : AH) (t : Nat) (l : List Int) : AH := (fun b => if b = nx A then t else A.1 b, A.2.1, fun b => if b = nx A then l else A.2.2.1 b, A.2.2.2.1, A.2.2.2.2.1, nx A + 1, sl A + l.length, A.2.2.2.2.2.2.2)
def nJ (A : AH) (t : Nat) (l : List Int) : AH := (fun b => if b = nx A then t else A.1 b, A.2.1, A.2.2.1, fun b => if b = nx A then l else A.2.2.2.1 b, A.2.2.2.2.1, nx A + 1, sl A + l.length, A.2.2.2.2.2.2.2)
def nR (A : AH) (t : Nat) (l : List (Option Nat)) : AH := (fun b => if b = nx A then t else A.1 b, A.2.1, A.2.2.1, A.2.2.2.1, fun b => if b = nx A then l else A.2.2.2.2.1 b, nx A + 1, sl A + l.length, A.2.2.2.2.2.2.2)
/-- an array of n arrays (tag u) of m zeros -/
def nM (A : AH) (t u n m : Nat) : AH := (fun b => if b = nx A then t else if nx A < b ∧ b ≤ nx A + n then u else A.1 b, A.2.1, fun b => if nx A < b ∧ b ≤ nx A + n then List.replicate m 0 else A.2.2.1 b, A.2.2.2.1, fun b => if b = nx A then (List.range n).map (fun j => some (nx A + 1 + j)) else A.2.2.2.2.1 b, nx A + 1 + n, sl A + n + n * m, A.2.2.2.2.2.2.2)
def zw (x : Int) : Int := x.bmod 4294967296
def zhb (x : Int) : Int := (Int32.ofInt x).toInt8.toInt
def zarr (t : Nat) : Nat := if t = 20 ∨ t = 21 ∨ t = 22 ∨ t = 30 then 1 else if t = 23 then 2 else if 24 ≤ t ∧ t ≤ 29 ∨ t = 31 then 3 else 0
def zlen (A : AH) (a : Nat) : Nat := if zarr (tg A a) = 1 then (ia A a).length else if zarr (tg A a) = 2 then (la A a).length else (ra A a).length
/-- may a cell of tag u be an element of an array of tag t -/
def zel (t u : Nat) : Bool := if t = 24 then u == 6 else if t = 25 then u == 4 else if t = 26 then u == 7 else if t = 27 then u == 3 else t == 28 && u == 4
/-- does the value fit a field of this kind -/
def zfit (k : Nat) (v : ZV) : Bool := match v with
  | Sum.inl x => if k = 0 then true else if k = 1 then x == 0 || x == 1 else if k = 2 then decide (-128 ≤ x) && decide (x ≤ 127) else false
  | Sum.inr (Sum.inr (Sum.inl _)) => k == 3
  | _ => false
/-- does the int fit an answer of this kind -/
def zrfit (k : Nat) (x : Int) : Bool := if k = 0 then true else if k = 1 then x == 0 || x == 1 else if k = 2 then decide (0 ≤ x) && decide (x ≤ 65535) else false
/-- null, or made by this run -/
def zfr (o : Option Nat) : Bool := match o with | none => true | some a => decide (300 ≤ a)
/-- the length of an instruction -/
def zln (i : Instr) (n : Nat) : Bool := match i with
  | .iload _ | .aload _ | .istore _ | .astore _ | .bipush _ | .ldc _ | .newarray _ => n == 2
  | .sipush _ | .ldc2_w _ | .iinc _ _ | .getfield _ | .putfield _ | .getstatic _ | .new _ | .anewarray _ | .checkcast _ | .instanceof _ | .ifCond _ _ | .if_icmp _ _ | .if_acmp _ _ | .ifnull _ | .ifnonnull _ | .goto _ | .invokestatic _ | .invokespecial _ | .invokevirtual _ => n == 3
  | .multianewarray _ _ => n == 4
  | .invokeinterface _ _ => n == 5
  | .tableswitch _ _ _ _ | .lookupswitch _ _ => true
  | _ => n == 1
abbrev ZR : Type := Option ZV ⊕ Nat
abbrev ZCfg : Type := Nat × List ZV × List ZV × AH
/-- go on; call (method, its arguments, where it is asked, where it goes on, locals, the rest of the stack, heap); end -/
abbrev ZAct : Type := ZCfg ⊕ ((Nat × List ZV × Nat × ZCfg) ⊕ (ZR × AH))
def zgo (pc : Nat) (ls st : List ZV) (A : AH) : Option ZAct := some (Sum.inl (pc, ls, st, A))
def zbin (f : Int → Int → Int) (pc : Nat) (ls st : List ZV) (A : AH) : Option ZAct := match st with
  | Sum.inl b :: Sum.inl a :: r => zgo pc ls (zI (f a b) :: r) A
  | _ => none
def zbinL (f : Int → Int → Int) (pc : Nat) (ls st : List ZV) (A : AH) : Option ZAct := match st with
  | Sum.inr (Sum.inl b) :: Sum.inr (Sum.inl a) :: r => zgo pc ls (zL (f a b) :: r) A
  | _ => none
def zun (f : Int → Int) (pc : Nat) (ls st : List ZV) (A : AH) : Option ZAct := match st with
  | Sum.inl a :: r => zgo pc ls (zI (f a) :: r) A
  | _ => none
def zil (i pc : Nat) (ls st : List ZV) (A : AH) : Option ZAct := match ls[i]? with
  | some (Sum.inl x) => zgo pc ls (zI x :: st) A
  | _ => none
def zal (i pc : Nat) (ls st : List ZV) (A : AH) : Option ZAct := match ls[i]? with
  | some (Sum.inr (Sum.inr (Sum.inl o))) => zgo pc ls (zO o :: st) A
  | _ => none
def zis (i pc : Nat) (ls st : List ZV) (A : AH) : Option ZAct := match st with
  | Sum.inl x :: r => if i < ls.length then zgo pc (ls.set i (zI x)) r A else none
  | _ => none
def zas (i pc : Nat) (ls st : List ZV) (A : AH) : Option ZAct := match st with
  | Sum.inr (Sum.inr (Sum.inl o)) :: r => if i < ls.length then zgo pc (ls.set i (zO o)) r A else none
  | _ => none
def zcmp (c : ClassFile.Cond) (a b : Int) : Bool := match c with
  | .eq => decide (a = b) | .ne => decide (a ≠ b) | .lt => decide (a < b) | .ge => decide (b ≤ a) | .gt => decide (b < a) | .le => decide (a ≤ b)
def zjmp (b : Bool) (pc n : Nat) (off : Int) (ls st : List ZV) (A : AH) : Option ZAct := match (pc : Int) + off with
  | Int.ofNat t => zgo (if b then t else pc + n) ls st A
  | _ => none
/-- arraycopy's contents -/
def zcpy {α : Type} (s d : List α) (sp dp n : Nat) : List α := d.take dp ++ ((s.drop sp).take n ++ d.drop (dp + n))
/-- pop n arguments: they come back in their order -/
def zpop : Nat → List ZV → List ZV → Option (List ZV × List ZV)
  | 0, acc, st => some (acc, st)
  | n + 1, acc, v :: st => zpop n (v :: acc) st
  | _ + 1, _, [] => none
/-- words of a stack -/
def zwt (l : List ZV) : Nat := (l.map (fun v => match v with | Sum.inr (Sum.inl _) => 2 | _ => 1)).sum
theorem zwt_le2 : ∀ l : List ZV, zwt l ≤ 2 * l.length
  | [] => Nat.le_refl _
  | v :: l => by
    have h := zwt_le2 l
    have e : zwt (v :: l) = (match v with | Sum.inr (Sum.inl _) => 2 | _ => 1) + zwt l := by simp [zwt]
    have h2 : (match v with | Sum.inr (Sum.inl _) => 2 | _ => 1) ≤ 2 := by split <;> omega
    rw [e, List.length_cons]
    omega
theorem zwt_le {l : List ZV} (h : l.length ≤ 4) : zwt l ≤ 8 := Nat.le_trans (zwt_le2 l) (by omega)
def zent (mj : Nat) (as : List ZV) : List ZV := as ++ List.replicate (zml mj - as.length) zU
/-- the intrinsics -/
def zintr (j pc : Nat) (ls st : List ZV) (A : AH) : Option ZAct := match j with
  | 1 => match st with
    | Sum.inr (Sum.inr (Sum.inl (some _))) :: r => if zwt r ≤ 8 then zgo pc ls r A else none
    | _ => none
  | 2 => match st with
    | Sum.inr (Sum.inl h) :: Sum.inr (Sum.inl l) :: Sum.inr (Sum.inl v) :: r => if zwt r ≤ 8 then zgo pc ls (zI (if l ≤ v ∧ v ≤ h then 1 else 0) :: r) A else none
    | _ => none
  | 3 => match st with
    | Sum.inl n :: Sum.inl dp :: Sum.inr (Sum.inr (Sum.inl (some d))) :: Sum.inl sp :: Sum.inr (Sum.inr (Sum.inl (some s))) :: r =>
      if zwt r ≤ 8 ∧ 0 ≤ n ∧ 0 ≤ dp ∧ 0 ≤ sp ∧ tg A s = tg A d ∧ sp.toNat + n.toNat ≤ zlen A s ∧ dp.toNat + n.toNat ≤ zlen A d then
        (if tg A d = 20 ∨ tg A d = 21 then zgo pc ls r (pI A d (zcpy (ia A s) (ia A d) sp.toNat dp.toNat n.toNat))
         else if tg A d = 24 ∨ tg A d = 25 ∨ tg A d = 28 then zgo pc ls r (pR A d (zcpy (ra A s) (ra A d) sp.toNat dp.toNat n.toNat)) else none)
      else none
    | _ => none
  | 4 => match st with
    | Sum.inr (Sum.inr (Sum.inl (some s))) :: r => if zwt r ≤ 8 ∧ tg A s = 20 then zgo pc ls (zR (nx A) :: r) (nA A 20 (ia A s)) else none
    | _ => none
  | 5 => match st with
    | Sum.inr (Sum.inr (Sum.inl (some s))) :: r => if zwt r ≤ 8 ∧ tg A s = 28 then zgo pc ls (zR 34 :: r) A else none
    | _ => none
  | _ => none
/-- a callee's key: 1000 a constructor, 1000 + t super's method for receivers of tag t, t by the receiver, 2000 + t by the receiver through an interface -/
def zkey (mode : Nat) (ts : List (Nat × Nat)) (t : Nat) : Nat := if mode = 1 then (if (zlk ts 1000).isSome = true then 1000 else 1000 + t) else if mode = 2 then t else 2000 + t
/-- which intrinsic by which opcode -/
def zim (mode j : Nat) : Bool := (mode == 1 && j == 1) || (mode == 0 && (j == 2 || j == 3)) || (mode == 2 && (j == 4 || j == 5))
/-- a call; mode 0: static, 1: invokespecial, 2: invokevirtual, 3: invokeinterface -/
def zcall (pc n o i mode : Nat) (ls st : List ZV) (A : AH) : Option ZAct :=
  match zIT o i with
  | some j => if zim mode j = true then zintr j (pc + n) ls st A else none
  | none => match zCT o i with
    | some (na, ts) => match zpop na [] st with
      | some (as, r) =>
        if 8 < zwt r then none else if as.all zc = false then none else if mode = 0 then (match zlk ts 999 with
          | some mj => some (Sum.inr (Sum.inl (mj, as, pc, (pc + n, ls, r, A))))
          | none => none)
        else (match as with
          | Sum.inr (Sum.inr (Sum.inl (some a))) :: _ => (match zlk ts (zkey mode ts (tg A a)) with
            | some mj => some (Sum.inr (Sum.inl (mj, as, pc, (pc + n, ls, r, A))))
            | none => none)
          | _ => none)
      | none => none
    | none => none
/-- an exception (a cell of tag 5) over this frame: a handler of the method's own table, or out -/
def zthrow (mi pc : Nat) (ls : List ZV) (a : Nat) (A : AH) : Option ZAct :=
  match zHT mi pc with
  | some (some h) => zgo h ls [zR a] A
  | some none => none
  | none => some (Sum.inr (Sum.inr (Sum.inr a, A)))
def zstep (mi pc n : Nat) (ls st : List ZV) (A : AH) (i : Instr) : Option ZAct := match i with
  | .iconst v => zgo (pc + n) ls (zI (Int32.ofInt v).toInt :: st) A
  | .bipush v => zgo (pc + n) ls (zI (Int8.ofInt v).toInt :: st) A
  | .sipush v => zgo (pc + n) ls (zI (Int16.ofInt v).toInt :: st) A
  | .ldc ix => match zKT (zow mi) ix with
    | some (Sum.inl v) => zgo (pc + n) ls (zI v :: st) A
    | some (Sum.inr a) => zgo (pc + n) ls (zR a :: st) A
    | none => none
  | .ldc2_w ix => match zLT (zow mi) ix with
    | some v => zgo (pc + n) ls (zL v :: st) A
    | none => none
  | .lconst v => zgo (pc + n) ls (zL (v : Nat) :: st) A
  | .aconst_null => zgo (pc + n) ls (zN :: st) A
  | .iload ix => zil ix (pc + n) ls st A
  | .iload_n ix => zil ix (pc + n) ls st A
  | .aload ix => zal ix (pc + n) ls st A
  | .aload_n ix => zal ix (pc + n) ls st A
  | .istore ix => zis ix (pc + n) ls st A
  | .istore_n ix => zis ix (pc + n) ls st A
  | .astore ix => zas ix (pc + n) ls st A
  | .astore_n ix => zas ix (pc + n) ls st A
  | .iinc ix c => match ls[ix]? with
    | some (Sum.inl x) => zgo (pc + n) (ls.set ix (zI (zw (x + c)))) st A
    | _ => none
  | .iadd => zbin (fun a b => zw (a + b)) (pc + n) ls st A
  | .isub => zbin (fun a b => zw (a - b)) (pc + n) ls st A
  | .imul => zbin (fun a b => zw (a * b)) (pc + n) ls st A
  | .idiv => match st with
    | Sum.inl b :: Sum.inl a :: r => if b = 0 then none else zgo (pc + n) ls (zI (Int32.ofInt a / Int32.ofInt b).toInt :: r) A
    | _ => none
  | .irem => match st with
    | Sum.inl b :: Sum.inl a :: r => if b = 0 then none else zgo (pc + n) ls (zI (Int32.ofInt a - Int32.ofInt a / Int32.ofInt b * Int32.ofInt b).toInt :: r) A
    | _ => none
  | .iand => zbin (fun a b => (Int32.ofInt a &&& Int32.ofInt b).toInt) (pc + n) ls st A
  | .ior => zbin (fun a b => (Int32.ofInt a ||| Int32.ofInt b).toInt) (pc + n) ls st A
  | .ishl => zbin (fun a b => (Int32.ofInt a <<< (Int32.ofInt b &&& 31)).toInt) (pc + n) ls st A
  | .ishr => zbin (fun a b => (Int32.ofInt a >>> (Int32.ofInt b &&& 31)).toInt) (pc + n) ls st A
  | .iushr => zbin (fun a b => ((Int32.ofInt a).toUInt32 >>> ((Int32.ofInt b).toUInt32 &&& Int32.toUInt32 31)).toInt32.toInt) (pc + n) ls st A
  | .i2b => zun zhb (pc + n) ls st A
  | .i2c => zun (fun a => ((Int32.ofInt a).toUInt32 % 65536).toInt32.toInt) (pc + n) ls st A
  | .i2l => match st with
    | Sum.inl a :: r => zgo (pc + n) ls (zL a :: r) A
    | _ => none
  | .land => zbinL (fun a b => (Int64.ofInt a &&& Int64.ofInt b).toInt) (pc + n) ls st A
  | .lor => zbinL (fun a b => (Int64.ofInt a ||| Int64.ofInt b).toInt) (pc + n) ls st A
  | .lxor => zbinL (fun a b => (Int64.ofInt a ^^^ Int64.ofInt b).toInt) (pc + n) ls st A
  | .lshl => match st with
    | Sum.inl b :: Sum.inr (Sum.inl a) :: r => zgo (pc + n) ls (zL (Int64.ofInt a <<< ((Int32.ofInt b).toInt64 &&& 63)).toInt :: r) A
    | _ => none
  | .lshr => match st with
    | Sum.inl b :: Sum.inr (Sum.inl a) :: r => zgo (pc + n) ls (zL (Int64.ofInt a >>> ((Int32.ofInt b).toInt64 &&& 63)).toInt :: r) A
    | _ => none
  | .lcmp => match st with
    | Sum.inr (Sum.inl b) :: Sum.inr (Sum.inl a) :: r => zgo (pc + n) ls (zI (if a < b then -1 else if a = b then 0 else 1) :: r) A
    | _ => none
  | .dup => match st with
    | v :: r => if zc v then zgo (pc + n) ls (v :: v :: r) A else none
    | _ => none
  | .dup_x1 => match st with
    | v :: u :: r => if zc v && zc u then zgo (pc + n) ls (v :: u :: v :: r) A else none
    | _ => none
  | .dup2 => match st with
    | v :: u :: r => if zc v && zc u then zgo (pc + n) ls (v :: u :: v :: u :: r) A else none
    | _ => none
  | .pop => match st with
    | v :: r => if zc v then zgo (pc + n) ls r A else none
    | _ => none
  | .getfield ix => match zFT (zow mi) ix with
    | some (t, k) => (match st with
      | Sum.inr (Sum.inr (Sum.inl (some a))) :: r => if tg A a = t then zgo (pc + n) ls (fd A a k :: r) A else none
      | _ => none)
    | none => none
  | .putfield ix => match zFT (zow mi) ix with
    | some (t, k) => (match st with
      | v :: Sum.inr (Sum.inr (Sum.inl (some a))) :: r => if tg A a = t ∧ zfit (zfk t k) v = true ∧ zput mi t k = true then zgo (pc + n) ls r (pF A a k v) else none
      | _ => none)
    | none => none
  | .getstatic ix => match zST (zow mi) ix with
    | some j => zgo (pc + n) ls (sg A j :: st) A
    | none => none
  | .iaload => match st with
    | Sum.inl j :: Sum.inr (Sum.inr (Sum.inl (some a))) :: r => if (tg A a = 20 ∨ tg A a = 30) ∧ 0 ≤ j ∧ j.toNat < (ia A a).length then zgo (pc + n) ls (zI ((ia A a).getD j.toNat 0) :: r) A else none
    | _ => none
  | .baload => match st with
    | Sum.inl j :: Sum.inr (Sum.inr (Sum.inl (some a))) :: r => if (tg A a = 21 ∨ tg A a = 22) ∧ 0 ≤ j ∧ j.toNat < (ia A a).length then zgo (pc + n) ls (zI ((ia A a).getD j.toNat 0) :: r) A else none
    | _ => none
  | .laload => match st with
    | Sum.inl j :: Sum.inr (Sum.inr (Sum.inl (some a))) :: r => if tg A a = 23 ∧ 0 ≤ j ∧ j.toNat < (la A a).length then zgo (pc + n) ls (zL ((la A a).getD j.toNat 0) :: r) A else none
    | _ => none
  | .aaload => match st with
    | Sum.inl j :: Sum.inr (Sum.inr (Sum.inl (some a))) :: r => if zarr (tg A a) = 3 ∧ 0 ≤ j ∧ j.toNat < (ra A a).length then zgo (pc + n) ls (zO ((ra A a).getD j.toNat none) :: r) A else none
    | _ => none
  | .iastore => match st with
    | Sum.inl x :: Sum.inl j :: Sum.inr (Sum.inr (Sum.inl (some a))) :: r => if tg A a = 20 ∧ 0 ≤ j ∧ j.toNat < (ia A a).length then zgo (pc + n) ls r (pI A a ((ia A a).set j.toNat x)) else none
    | _ => none
  | .bastore => match st with
    | Sum.inl x :: Sum.inl j :: Sum.inr (Sum.inr (Sum.inl (some a))) :: r =>
      if tg A a = 21 ∧ 0 ≤ j ∧ j.toNat < (ia A a).length then zgo (pc + n) ls r (pI A a ((ia A a).set j.toNat (zhb x)))
      else if tg A a = 22 ∧ 0 ≤ j ∧ j.toNat < (ia A a).length ∧ (x = 0 ∨ x = 1) then zgo (pc + n) ls r (pI A a ((ia A a).set j.toNat x)) else none
    | _ => none
  | .lastore => match st with
    | Sum.inr (Sum.inl x) :: Sum.inl j :: Sum.inr (Sum.inr (Sum.inl (some a))) :: r => if tg A a = 23 ∧ 0 ≤ j ∧ j.toNat < (la A a).length then zgo (pc + n) ls r (pL A a ((la A a).set j.toNat x)) else none
    | _ => none
  | .aastore => match st with
    | Sum.inr (Sum.inr (Sum.inl v)) :: Sum.inl j :: Sum.inr (Sum.inr (Sum.inl (some a))) :: r =>
      if 24 ≤ tg A a ∧ tg A a ≤ 28 ∧ 0 ≤ j ∧ j.toNat < (ra A a).length ∧ (∀ b, v = some b → zel (tg A a) (tg A b) = true) then zgo (pc + n) ls r (pR A a ((ra A a).set j.toNat v)) else none
    | _ => none
  | .arraylength => match st with
    | Sum.inr (Sum.inr (Sum.inl (some a))) :: r => if zarr (tg A a) = 0 then none else zgo (pc + n) ls (zI (zlen A a : Nat) :: r) A
    | _ => none
  | .newarray ty => match st with
    | Sum.inl k :: r => if 0 ≤ k ∧ k ≤ 1000000 then (match ty with
      | .int => zgo (pc + n) ls (zR (nx A) :: r) (nA A 20 (List.replicate k.toNat 0))
      | .byte => zgo (pc + n) ls (zR (nx A) :: r) (nA A 21 (List.replicate k.toNat 0))
      | .boolean => zgo (pc + n) ls (zR (nx A) :: r) (nA A 22 (List.replicate k.toNat 0))
      | .long => zgo (pc + n) ls (zR (nx A) :: r) (nJ A 23 (List.replicate k.toNat 0))
      | _ => none) else none
    | _ => none
  | .anewarray ix => match zNA (zow mi) ix with
    | some t => (match st with
      | Sum.inl k :: r => if 0 ≤ k ∧ k ≤ 1000000 ∧ t ≠ 29 then zgo (pc + n) ls (zR (nx A) :: r) (nR A t (List.replicate k.toNat none)) else none
      | _ => none)
    | none => none
  | .multianewarray ix dm => match zNA (zow mi) ix with
    | some t => (match st with
      | Sum.inl k :: Sum.inl j :: r => if t = 29 ∧ dm = 2 ∧ 0 ≤ k ∧ k ≤ 1000 ∧ 0 ≤ j ∧ j ≤ 1000 then zgo (pc + n) ls (zR (nx A) :: r) (nM A 29 22 j.toNat k.toNat) else none
      | _ => none)
    | none => none
  | .new ix => match zNT (zow mi) ix with
    | some t => zgo (pc + n) ls (zR (nx A) :: st) (nO A t)
    | none => none
  | .checkcast ix => match zXT (zow mi) ix with
    | some ts => (match st with
      | Sum.inr (Sum.inr (Sum.inl none)) :: r => zgo (pc + n) ls (zN :: r) A
      | Sum.inr (Sum.inr (Sum.inl (some a))) :: r => if ts.contains (tg A a) then zgo (pc + n) ls (zR a :: r) A else none
      | _ => none)
    | none => none
  | .instanceof ix => match zXT (zow mi) ix with
    | some ts => (match st with
      | Sum.inr (Sum.inr (Sum.inl (some a))) :: r => if ts.contains (tg A a) = true ∧ tg A a < 20 then zgo (pc + n) ls (zI 1 :: r) A else none
      | _ => none)
    | none => none
  | .ifCond c off => match st with
    | Sum.inl a :: r => zjmp (zcmp c a 0) pc n off ls r A
    | _ => none
  | .if_icmp c off => match st with
    | Sum.inl b :: Sum.inl a :: r => zjmp (zcmp c a b) pc n off ls r A
    | _ => none
  | .if_acmp c off => match st with
    | Sum.inr (Sum.inr (Sum.inl b)) :: Sum.inr (Sum.inr (Sum.inl a)) :: r => if a = b ∨ (zfr a = true ∧ zfr b = true) then zjmp (match c with | .eq => decide (a = b) | .ne => decide (a ≠ b)) pc n off ls r A else none
    | _ => none
  | .ifnull off => match st with
    | Sum.inr (Sum.inr (Sum.inl a)) :: r => zjmp (decide (a = none)) pc n off ls r A
    | _ => none
  | .ifnonnull off => match st with
    | Sum.inr (Sum.inr (Sum.inl a)) :: r => zjmp (decide (a ≠ none)) pc n off ls r A
    | _ => none
  | .goto off => zjmp true pc n off ls st A
  | .tableswitch d lo hi offs => match st with
    | Sum.inl x :: r => if x < lo ∨ hi < x then zjmp true pc n d ls r A else (match offs[(x - lo).toNat]? with
      | some off => zjmp true pc n off ls r A
      | none => none)
    | _ => none
  | .lookupswitch d ps => match st with
    | Sum.inl x :: r => if (ps.toList.zip (ps.toList.drop 1)).all (fun (a, next) => decide (a.1 < next.1)) then zjmp true pc n (Op.lookupswitch.offset ps.toList d x) ls r A else none
    | _ => none
  | .invokestatic ix => zcall pc n (zow mi) ix 0 ls st A
  | .invokespecial ix => zcall pc n (zow mi) ix 1 ls st A
  | .invokevirtual ix => zcall pc n (zow mi) ix 2 ls st A
  | .invokeinterface ix _ => zcall pc n (zow mi) ix 3 ls st A
  | .ireturn => match st with
    | [Sum.inl x] => if zrfit (zrk mi) x then some (Sum.inr (Sum.inr (Sum.inl (some (zI x)), A))) else none
    | _ => none
  | .areturn => match st with
    | [Sum.inr (Sum.inr (Sum.inl o))] => if zrk mi = 3 then some (Sum.inr (Sum.inr (Sum.inl (some (zO o)), A))) else none
    | _ => none
  | .return_ => match st with
    | [] => if zrk mi = 4 then some (Sum.inr (Sum.inr (Sum.inl none, A))) else none
    | _ => none
  | .athrow => match st with
    | Sum.inr (Sum.inr (Sum.inl (some a))) :: _ => if tg A a = 5 then zthrow mi pc ls a A else none
    | _ => none
  | _ => none
def zact (mi : Nat) (c : ZCfg) : Option ZAct := match decode (zcb mi) c.1 with
  | .ok (i, n) => if zln i n = true then zstep mi c.1 n c.2.1 c.2.2.1 c.2.2.2 i else none
  | _ => none
/-- a callee has answered r: what the caller does (asked at pc, to go on at c) -/
def zafter (mi pc : Nat) (c : ZCfg) (r : ZR) (A : AH) : Option ZAct := match r with
  | Sum.inl (some v) => zgo c.1 c.2.1 (v :: c.2.2.1) A
  | Sum.inl none => zgo c.1 c.2.1 c.2.2.1 A
  | Sum.inr a => if tg A a = 5 then zthrow mi pc c.2.1 a A else none
def zrun : Nat → Nat → Nat → ZCfg → Option (ZR × AH)
  | 0, _, _, _ => none
  | n + 1, d, mi, c => match zact mi c with
    | none => none
    | some (Sum.inl c') => zrun n d mi c'
    | some (Sum.inr (Sum.inr ra)) => some ra
    | some (Sum.inr (Sum.inl (mj, as, pc, c'))) => match d with
      | 0 => none
      | e + 1 => match zrun n e mj (0, zent mj as, [], c'.2.2.2) with
        | none => none
        | some (r, A) => match zafter mi pc c' r A with
          | none => none
          | some (Sum.inl c2) => zrun n (e + 1) mi c2
          | some (Sum.inr (Sum.inr ra)) => some ra
          | some (Sum.inr (Sum.inl _)) => none

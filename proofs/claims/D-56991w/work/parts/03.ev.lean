/-! THE EVALUATOR: a predicate transformer over the real decode and a simple heap. Ob: inl (kind, fields) a plain object or array; inr (kind, modCount, elements, pairs) a container (high level only).
    r: credits left (1 + n/4 for a cell of n slots); d: calls that may still be nested. -/
abbrev Ob : Type := (Nat × List Value) ⊕ (Nat × Int32 × List Value × List (Int32 × Value))
abbrev Hp : Type := Nat → Option Ob
abbrev Out : Type := (Option Value) ⊕ Nat
abbrev Post : Type := Out → Hp → Nat → Prop
abbrev MD : Type := Nat × MethodName × ByteArray × Nat × Option FieldType × List (Nat × Nat × Nat × Nat)
abbrev XT : Type := MD → Nat → List Value → List Value → Hp → Nat → Nat → Post → Prop
abbrev Tg : Type := MD ⊕ Nat
abbrev PrimT : Type := Nat → List Value → Hp → Nat → Post → Prop
abbrev Evn : Type := (Nat → Nat → Nat → Nat → Option Tg) × PrimT × (Nat → Value)
/-- no value: a local that isn't set -/
abbrev uV : Value := .retAddr 0
def upd_ (h : Hp) (a : Nat) (o : Ob) : Hp := fun q => if q = a then some o else h q
def kd (o : Ob) : Nat := match o with
  | .inl x => x.1
  | .inr x => x.1
def rdO (h : Hp) (a : Nat) : Option (Nat × List Value) := match h a with
  | some (.inl x) => some x
  | _ => none
def cst (n : Nat) : Nat := 1 + n / 4
/-- one step: go | write | new | return | throw | call | cast -/
abbrev St1 : Type := (Nat × List Value × List Value) ⊕ (Nat × Nat × List Value × Nat × List Value × List Value) ⊕ (Nat × List Value × Nat × List Value × List Value) ⊕ (Option Value) ⊕ Nat ⊕ (Nat × Nat × Nat × List Value × List Value × List Value) ⊕ (Nat × Nat × Nat × List Value × List Value)
abbrev sGo (pc : Nat) (L S : List Value) : Option St1 := some (.inl (pc, L, S))
abbrev sWr (a k : Nat) (fs : List Value) (pc : Nat) (L S : List Value) : Option St1 := some (.inr (.inl (a, k, fs, pc, L, S)))
abbrev sNw (k : Nat) (fs : List Value) (pc : Nat) (L S : List Value) : Option St1 := some (.inr (.inr (.inl (k, fs, pc, L, S))))
abbrev sRt (v : Option Value) : Option St1 := some (.inr (.inr (.inr (.inl v))))
abbrev sTh (e : Nat) : Option St1 := some (.inr (.inr (.inr (.inr (.inl e)))))
abbrev sCl (mode idx pc : Nat) (as L S : List Value) : Option St1 := some (.inr (.inr (.inr (.inr (.inr (.inl (mode, idx, pc, as, L, S)))))))
abbrev sCs (a idx pc : Nat) (L S : List Value) : Option St1 := some (.inr (.inr (.inr (.inr (.inr (.inr (a, idx, pc, L, S)))))))
def cat2 (v : Value) : Bool := match v with
  | .long _ => true
  | .double _ => true
  | _ => false
/-- a store at k breaks a long at k - 1 -/
def clr (L : List Value) (k : Nat) : List Value := match k with
  | 0 => L
  | j + 1 => match L[j]? with
    | some v => if cat2 v = true then L.set j uV else L
    | none => L
def st1 (L : List Value) (k : Nat) (v : Value) : List Value := (clr L k).set k v
def st2 (L : List Value) (k : Nat) (v : Value) : List Value := ((clr (clr L (k + 1)) k).set k v).set (k + 1) uV
def tgt_ (pc : Nat) (off : Int) : Nat := ((pc : Int) + off).toNat
def brI (c : ClassFile.Cond) (x y : Int32) : Bool := match c with
  | .eq => decide (x = y)
  | .ne => !decide (x = y)
  | .lt => decide (x < y)
  | .ge => decide (y ≤ x)
  | .gt => decide (y < x)
  | .le => decide (x ≤ y)
/-- a reference or null -/
def isR (v : Value) : Bool := match v with
  | .null => true
  | .ref _ => true
  | _ => false
def isI (v : Value) : Bool := match v with
  | .int _ => true
  | _ => false
def isL (v : Value) : Bool := match v with
  | .long _ => true
  | _ => false
def isF (v : Value) : Bool := match v with
  | .float _ => true
  | _ => false
def isD (v : Value) : Bool := match v with
  | .double _ => true
  | _ => false
/-- loads, by a check of the value's sort -/
def ldI (c : Value → Bool) (L S : List Value) (i nx : Nat) : Option St1 := match L[i]? with
  | some v => if c v = true then sGo nx L (v :: S) else none
  | none => none
def stI1 (c : Value → Bool) (L S : List Value) (i nx : Nat) : Option St1 := match S with
  | v :: S' => if c v = true ∧ i < L.length then sGo nx (st1 L i v) S' else none
  | [] => none
def stI2 (c : Value → Bool) (L S : List Value) (i nx : Nat) : Option St1 := match S with
  | v :: S' => if c v = true ∧ i + 1 < L.length then sGo nx (st2 L i v) S' else none
  | [] => none
/-- what may be answered where a type is declared -/
def retV (t : Option FieldType) (v : Value) : Bool := match t, v with
  | some .int, .int _ => true
  | some .boolean, .int x => decide (x = 0 ∨ x = 1)
  | some .char, .int x => decide (0 ≤ x ∧ x ≤ 65535)
  | _, _ => false
def retR (t : Option FieldType) : Bool := match t with
  | some (.object _) => true
  | some (.array _) => true
  | _ => false
/-- kinds that may be written -/
def wrK (k : Nat) : Bool := decide (k < 35 ∨ (900 ≤ k ∧ k < 905))
def arrIs (k b : Nat) : Bool := decide (k = b ∨ (b = 900 ∧ k = 910) ∨ (b = 904 ∧ (k = 911 ∨ k = 912 ∨ k = 914)))
/-- kinds that may be put into an Object[] -/
def obK (k : Nat) : Bool := decide (k < 35 ∨ (900 ≤ k ∧ k < 905))
/-- an element read -/
def arG (rd : Nat → Option (Nat × List Value)) (b : Nat) (c : Value → Bool) (nx : Nat) (L S : List Value) : Option St1 := match S with
  | .int i :: .ref a :: S' => match rd a with
    | some (k, fs) => if arrIs k b = true ∧ ¬ i < 0 then (match fs[i.toNatClampNeg]? with
      | some v => if c v = true then sGo nx L (v :: S') else none
      | none => none) else none
    | none => none
  | _ => none
def arP (rd : Nat → Option (Nat × List Value)) (b : Nat) (c : Value → Bool) (nx : Nat) (L S : List Value) : Option St1 := match S with
  | v :: .int i :: .ref a :: S' => match rd a with
    | some (k, fs) => if k = b ∧ ¬ i < 0 ∧ i.toNatClampNeg < fs.length ∧ c v = true then sWr a k (fs.set i.toNatClampNeg v) nx L S' else none
    | none => none
  | _ => none
def isZ (v : Value) : Bool := match v with
  | .int x => decide (x = 0 ∨ x = 1)
  | _ => false
def catS (S : List Value) : Nat := (S.map fun v => v.category).sum
def dfl (k : Nat) : List Value := (tys k).map defaultValue
/-- a 'new' that begins 'throw new X()' -/
def excAt (M : MD) (pc : Nat) : Option Nat := match decode M.2.2.1 (pc + 3), decode M.2.2.1 (pc + 4), decode M.2.2.1 (pc + 7) with
  | .ok (.dup, 1), .ok (.invokespecial j, 3), .ok (.athrow, 1) => if M.2.2.2.2.2 = [] then (pE M.1).lookup j else none
  | _, _, _ => none
/-- the expected length of an instruction (0: any) -/
def ilen (i : Instr) : Nat := match i with
  | .bipush _ => 2
  | .iload _ => 2
  | .lload _ => 2
  | .aload _ => 2
  | .fload _ => 2
  | .dload _ => 2
  | .istore _ => 2
  | .lstore _ => 2
  | .astore _ => 2
  | .fstore _ => 2
  | .dstore _ => 2
  | .ldc _ => 2
  | .newarray _ => 2
  | .sipush _ => 3
  | .ldc_w _ => 3
  | .ldc2_w _ => 3
  | .iinc _ _ => 3
  | .ifCond _ _ => 3
  | .if_icmp _ _ => 3
  | .if_acmp _ _ => 3
  | .ifnull _ => 3
  | .ifnonnull _ => 3
  | .goto _ => 3
  | .getfield _ => 3
  | .putfield _ => 3
  | .getstatic _ => 3
  | .new _ => 3
  | .anewarray _ => 3
  | .checkcast _ => 3
  | .invokestatic _ => 3
  | .invokevirtual _ => 3
  | .invokespecial _ => 3
  | .invokeinterface _ _ => 5
  | .tableswitch _ _ _ _ => 0
  | _ => 1
/-- the branch offset of an instruction -/
def ioff (i : Instr) : Int := match i with
  | .ifCond _ o => o
  | .if_icmp _ o => o
  | .if_acmp _ o => o
  | .ifnull o => o
  | .ifnonnull o => o
  | .goto o => o
  | _ => 0
def swO (dflt lo hi : Int) (offs : Array Int) (x : Int32) : Int := if x.toInt < lo ∨ hi < x.toInt then dflt else offs.getD (x.toInt - lo).toNat 0
/-- ONE STEP by the instruction i: rd reads plain objects, nx is the next pc, tg the branch's -/
def stI (sv : Nat → Value) (rd : Nat → Option (Nat × List Value)) (M : MD) (pc nx tg : Nat) (L S : List Value) (i : Instr) : Option St1 := match i with
  | .iconst n => sGo nx L (.int (Int32.ofInt n) :: S)
  | .bipush n => sGo nx L (.int (Int8.ofInt n).toInt32 :: S)
  | .sipush n => sGo nx L (.int (Int16.ofInt n).toInt32 :: S)
  | .lconst n => sGo nx L (.long (Int64.ofNat n.val) :: S)
  | .fconst n => if n = 0 then sGo nx L (.float FP.fconst0 :: S) else none
  | .dconst n => if n = 0 then sGo nx L (.double FP.dconst0 :: S) else none
  | .aconst_null => sGo nx L (.null :: S)
  | .ldc j => match (pK M.1).lookup j with
    | some (.inl v) => if isI v = true then sGo nx L (v :: S) else none
    | some (.inr m) => sGo nx L (sv m :: S)
    | none => none
  | .ldc2_w j => match (pK M.1).lookup j with
    | some (.inl v) => if isL v = true then sGo nx L (v :: S) else none
    | _ => none
  | .iload k => ldI isI L S k nx
  | .iload_n k => ldI isI L S k.val nx
  | .lload k => ldI isL L S k nx
  | .lload_n k => ldI isL L S k.val nx
  | .fload k => ldI isF L S k nx
  | .fload_n k => ldI isF L S k.val nx
  | .dload k => ldI isD L S k nx
  | .dload_n k => ldI isD L S k.val nx
  | .aload k => ldI isR L S k nx
  | .aload_n k => ldI isR L S k.val nx
  | .istore k => stI1 isI L S k nx
  | .istore_n k => stI1 isI L S k.val nx
  | .fstore k => stI1 isF L S k nx
  | .fstore_n k => stI1 isF L S k.val nx
  | .astore k => stI1 isR L S k nx
  | .astore_n k => stI1 isR L S k.val nx
  | .lstore k => stI2 isL L S k nx
  | .lstore_n k => stI2 isL L S k.val nx
  | .dstore k => stI2 isD L S k nx
  | .dstore_n k => stI2 isD L S k.val nx
  | .iinc k n => match L[k]? with
    | some (.int x) => if k < L.length then sGo nx (st1 L k (.int (x + Int32.ofInt n))) S else none
    | _ => none
  | .iadd => match S with
    | .int y :: .int x :: S => sGo nx L (.int (x + y) :: S)
    | _ => none
  | .isub => match S with
    | .int y :: .int x :: S => sGo nx L (.int (x - y) :: S)
    | _ => none
  | .imul => match S with
    | .int y :: .int x :: S => sGo nx L (.int (x * y) :: S)
    | _ => none
  | .iand => match S with
    | .int y :: .int x :: S => sGo nx L (.int (x &&& y) :: S)
    | _ => none
  | .ior => match S with
    | .int y :: .int x :: S => sGo nx L (.int (x ||| y) :: S)
    | _ => none
  | .ishl => match S with
    | .int y :: .int x :: S => sGo nx L (.int (x <<< (y &&& 31)) :: S)
    | _ => none
  | .ishr => match S with
    | .int y :: .int x :: S => sGo nx L (.int (x >>> (y &&& 31)) :: S)
    | _ => none
  | .iushr => match S with
    | .int y :: .int x :: S => sGo nx L (.int ((x.toUInt32 >>> (y.toUInt32 &&& Int32.toUInt32 31)).toInt32) :: S)
    | _ => none
  | .ladd => match S with
    | .long y :: .long x :: S => sGo nx L (.long (x + y) :: S)
    | _ => none
  | .lsub => match S with
    | .long y :: .long x :: S => sGo nx L (.long (x - y) :: S)
    | _ => none
  | .lmul => match S with
    | .long y :: .long x :: S => sGo nx L (.long (x * y) :: S)
    | _ => none
  | .idiv => match S with
    | .int y :: .int x :: S => if y = 0 then none else sGo nx L (.int (x / y) :: S)
    | _ => none
  | .irem => match S with
    | .int y :: .int x :: S => if y = 0 then none else sGo nx L (.int (x - x / y * y) :: S)
    | _ => none
  | .ldiv => match S with
    | .long y :: .long x :: S => if y = 0 then none else sGo nx L (.long (x / y) :: S)
    | _ => none
  | .ineg => match S with
    | .int x :: S => sGo nx L (.int (-x) :: S)
    | _ => none
  | .lneg => match S with
    | .long x :: S => sGo nx L (.long (-x) :: S)
    | _ => none
  | .i2l => match S with
    | .int x :: S => sGo nx L (.long (x.toInt64) :: S)
    | _ => none
  | .l2i => match S with
    | .long x :: S => sGo nx L (.int (x.toInt32) :: S)
    | _ => none
  | .i2c => match S with
    | .int x :: S => sGo nx L (.int ((x.toUInt32 % 65536).toInt32) :: S)
    | _ => none
  | .i2f => match S with
    | .int x :: S => sGo nx L (.float (FP.i2f x) :: S)
    | _ => none
  | .i2d => match S with
    | .int x :: S => sGo nx L (.double (FP.i2d x) :: S)
    | _ => none
  | .l2d => match S with
    | .long x :: S => sGo nx L (.double (FP.l2d x) :: S)
    | _ => none
  | .f2d => match S with
    | .float x :: S => if (FP.f2d x) &&& 0x7fffffffffffffff ≤ 0x7ff0000000000000 then sGo nx L (.double (FP.f2d x) :: S) else none
    | _ => none
  | .fdiv => match S with
    | .float y :: .float x :: S => if (FP.fdiv x y) &&& 0x7fffffff ≤ 0x7f800000 then sGo nx L (.float (FP.fdiv x y) :: S) else none
    | _ => none
  | .ddiv => match S with
    | .double y :: .double x :: S => if (FP.ddiv x y) &&& 0x7fffffffffffffff ≤ 0x7ff0000000000000 then sGo nx L (.double (FP.ddiv x y) :: S) else none
    | _ => none
  | .lcmp => match S with
    | .long y :: .long x :: S => sGo nx L (.int (lg_cmp x y) :: S)
    | _ => none
  | .fcmp op => match S with
    | .float y :: .float x :: S => sGo nx L (.int (Op.cmpValue (FP.fcmp x y) op) :: S)
    | _ => none
  | .dcmp op => match S with
    | .double y :: .double x :: S => sGo nx L (.int (Op.cmpValue (FP.dcmp x y) op) :: S)
    | _ => none
  | .dup => match S with
    | v :: S => if cat2 v = true then none else sGo nx L (v :: v :: S)
    | _ => none
  | .pop => match S with
    | v :: S => if cat2 v = true then none else sGo nx L S
    | _ => none
  | .dup_x1 => match S with
    | v :: w :: S => if cat2 v = true ∨ cat2 w = true then none else sGo nx L (v :: w :: v :: S)
    | _ => none
  | .dup2 => match S with
    | v :: S => if cat2 v = true then sGo nx L (v :: v :: S) else (match S with
      | w :: S => if cat2 w = true then none else sGo nx L (v :: w :: v :: w :: S)
      | _ => none)
    | _ => none
  | .ifCond c _ => match S with
    | .int x :: S => if brI c x 0 = true then sGo tg L S else sGo nx L S
    | _ => none
  | .if_icmp c _ => match S with
    | .int y :: .int x :: S => if brI c x y = true then sGo tg L S else sGo nx L S
    | _ => none
  | .if_acmp c _ => match S with
    | y :: x :: S => if isR x = true ∧ isR y = true then (if (x = y) ↔ (c = .eq) then sGo tg L S else sGo nx L S) else none
    | _ => none
  | .ifnull _ => match S with
    | .null :: S => sGo tg L S
    | .ref _ :: S => sGo nx L S
    | _ => none
  | .ifnonnull _ => match S with
    | .null :: S => sGo nx L S
    | .ref _ :: S => sGo tg L S
    | _ => none
  | .goto _ => sGo tg L S
  | .tableswitch dflt lo hi offs => match S with
    | .int x :: S => if hi - lo < (offs.size : Int) ∧ 0 ≤ (pc : Int) + swO dflt lo hi offs x then sGo (tgt_ pc (swO dflt lo hi offs x)) L S else none
    | _ => none
  | .getfield j => match S with
    | .ref a :: S => match (pF M.1).lookup j, rd a with
      | some f, some (k, fs) => match (fix k).idxOf? f with
        | some n => match fs[n]? with
          | some v => sGo nx L (v :: S)
          | none => none
        | none => none
      | _, _ => none
    | _ => none
  | .putfield j => match S with
    | v :: .ref a :: S => match (pF M.1).lookup j, rd a with
      | some f, some (k, fs) => match (fix k).idxOf? f with
        | some n => if wrK k = true ∧ n < fs.length ∧ fits (fty f) v = true ∧ (fin f = true → M.2.1.name = "<init>" ∧ fow f = M.1) then sWr a k (fs.set n v) nx L S else none
        | none => none
      | _, _ => none
    | _ => none
  | .getstatic j => match (pS M.1).lookup j with
    | some m => sGo nx L (sv m :: S)
    | none => none
  | .arraylength => match S with
    | .ref a :: S => match rd a with
      | some (k, fs) => if 900 ≤ k then sGo nx L (.int (nI fs.length) :: S) else none
      | none => none
    | _ => none
  | .iaload => arG rd 900 isI nx L S
  | .laload => arG rd 901 isL nx L S
  | .baload => arG rd 902 isI nx L S
  | .daload => arG rd 903 isD nx L S
  | .aaload => arG rd 904 isR nx L S
  | .iastore => arP rd 900 isI nx L S
  | .lastore => arP rd 901 isL nx L S
  | .bastore => arP rd 902 isZ nx L S
  | .dastore => arP rd 903 isD nx L S
  | .aastore => match S with
    | .ref b :: _ => match rd b with
      | some (kb, _) => if obK kb = true then arP rd 904 isR nx L S else none
      | none => none
    | _ => arP rd 904 isR nx L S
  | .new j => match (pN M.1).lookup j with
    | some (.inl k) => sNw k (dfl k) nx L S
    | some (.inr e) => if excAt M pc = some e ∧ catS S ≤ 8 then sTh e else none
    | none => none
  | .newarray ty => match S with
    | .int n :: S => if n < 0 ∨ 1000000 < n.toNatClampNeg then none else (match ty with
      | .int => sNw 900 (List.replicate n.toNatClampNeg (.int 0)) nx L S
      | .long => sNw 901 (List.replicate n.toNatClampNeg (.long 0)) nx L S
      | .boolean => sNw 902 (List.replicate n.toNatClampNeg (.int 0)) nx L S
      | .double => sNw 903 (List.replicate n.toNatClampNeg (.double 0)) nx L S
      | _ => none)
    | _ => none
  | .anewarray j => match S with
    | .int n :: S => if n < 0 ∨ 1000000 < n.toNatClampNeg ∨ ¬ (pN M.1).lookup j = some (.inr 904) then none else sNw 904 (List.replicate n.toNatClampNeg .null) nx L S
    | _ => none
  | .checkcast j => match S with
    | .null :: S => sGo nx L (.null :: S)
    | .ref a :: S => sCs a j nx L (.ref a :: S)
    | _ => none
  | .invokestatic j => match (pA M.1).lookup j with
    | some n => if n ≤ S.length then sCl 0 j nx (S.take n).reverse L (S.drop n) else none
    | none => none
  | .invokevirtual j => match (pA M.1).lookup j with
    | some n => if n ≤ S.length then sCl 1 j nx (S.take n).reverse L (S.drop n) else none
    | none => none
  | .invokespecial j => match (pA M.1).lookup j with
    | some n => if n ≤ S.length then sCl 2 j nx (S.take n).reverse L (S.drop n) else none
    | none => none
  | .invokeinterface j _ => match (pA M.1).lookup j with
    | some n => if n ≤ S.length then sCl 3 j nx (S.take n).reverse L (S.drop n) else none
    | none => none
  | .ireturn => match S with
    | [v] => if retV M.2.2.2.2.1 v = true then sRt (some v) else none
    | _ => none
  | .lreturn => match S with
    | [v] => if isL v = true ∧ M.2.2.2.2.1 = some .long then sRt (some v) else none
    | _ => none
  | .freturn => match S with
    | [v] => if isF v = true ∧ M.2.2.2.2.1 = some .float then sRt (some v) else none
    | _ => none
  | .dreturn => match S with
    | [v] => if isD v = true ∧ M.2.2.2.2.1 = some .double then sRt (some v) else none
    | _ => none
  | .areturn => match S with
    | [v] => if isR v = true ∧ retR M.2.2.2.2.1 = true then sRt (some v) else none
    | _ => none
  | .return_ => match S with
    | [] => if M.2.2.2.2.1 = none then sRt none else none
    | _ => none
  | _ => none
/-- the locals of an entry -/
def entL : List Value → List Value
  | [] => []
  | v :: vs => if cat2 v = true then v :: uV :: entL vs else v :: entL vs
def ent (n : Nat) (as : List Value) : List Value := entL as ++ List.replicate (n - (entL as).length) uV
/-- the handler of an exception of class e at pc -/
def hnd (M : MD) (pc e : Nat) : Option Nat := (M.2.2.2.2.2.find? fun x => decide (x.1 ≤ pc ∧ pc < x.2.1) && cth M.1 x.2.2.2 e).map fun x => x.2.2.1
/-- the exceptions that are thrown -/
def excK (e : Nat) : Bool := decide (e = 110 ∨ e = 114 ∨ e = 115 ∨ e = 121 ∨ e = 123)
def hOK (M : MD) : Bool := decide (M.1 = 0) && M.2.2.2.2.2.all fun z => (cth_t.lookup z.2.2.2).isSome
def Thr (X : XT) (M : MD) (pc : Nat) (L : List Value) (d : Nat) (Q : Post) (e : Nat) (h : Hp) (r : Nat) : Prop := match hnd M pc e with
  | some hp => excK e = true ∧ hOK M = true ∧ ∀ q : Nat, X M hp L [.ref q] h r d Q
  | none => M.2.2.2.2.2 = [] ∧ Q (.inr e) h r
/-- what goes on behind a call -/
def Aft (X : XT) (M : MD) (pc nx : Nat) (L S : List Value) (d : Nat) (Q : Post) : Post := fun o h r => match o with
  | .inl none => X M nx L S h r d Q
  | .inl (some v) => X M nx L (v :: S) h r d Q
  | .inr e => Thr X M pc L d Q e h r
/-- a target is run -/
def Run (E : Evn) (X : XT) (t : Tg) (as : List Value) (h : Hp) (r d : Nat) (K : Post) : Prop := match t with
  | .inl N => match d with
    | 0 => False
    | d' + 1 => (entL as).length ≤ N.2.2.2.1 ∧ ∃ R : Post, X N 0 (ent N.2.2.2.1 as) [] h r d' R ∧ (N.2.2.2.2.2 = [] ∨ ∀ e h' r', ¬ R (.inr e) h' r') ∧ ∀ o h' r', R o h' r' → K o h' r'
  | .inr p => 16 ≤ d ∧ E.2.1 p as h r K
/-- the kind of a call's receiver (0: none) -/
def rcv (mode : Nat) (as : List Value) (h : Hp) : Nat := if mode = 0 then 0 else match as with
  | .ref a :: _ => if mode = 2 then 0 else (match h a with
    | some o => kd o
    | none => 9999)
  | _ => 9999
def Do1 (E : Evn) (X : XT) (M : MD) (pc : Nat) (h : Hp) (r d : Nat) (Q : Post) (o : Option St1) : Prop := match o with
  | some (.inl (p, L, S)) => X M p L S h r d Q
  | some (.inr (.inl (a, k, fs, p, L, S))) => X M p L S (upd_ h a (.inl (k, fs))) r d Q
  | some (.inr (.inr (.inl (k, fs, p, L, S)))) => cst fs.length ≤ r ∧ ∀ q : Nat, h q = none → E.2.2 4 ≠ .ref q → X M p L (.ref q :: S) (upd_ h q (.inl (k, fs))) (r - cst fs.length) d Q
  | some (.inr (.inr (.inr (.inl v)))) => Q (.inl v) h r
  | some (.inr (.inr (.inr (.inr (.inl e))))) => 2 ≤ r ∧ Q (.inr e) h (r - 2)
  | some (.inr (.inr (.inr (.inr (.inr (.inl (mode, j, p, as, L, S))))))) => catS S ≤ 8 ∧ (match E.1 M.1 mode j (rcv mode as h) with
    | some t => Run E X t as h r d (Aft X M pc p L S d Q)
    | none => False)
  | some (.inr (.inr (.inr (.inr (.inr (.inr (a, j, p, L, S))))))) => (match h a with
    | some o => cok M.1 j (kd o) = true ∧ X M p L S h r d Q
    | none => False)
  | none => False
def StpE (E : Evn) (X : XT) : XT := fun M pc L S h r d Q => match decode M.2.2.1 pc with
  | .ok (i, len) => (len = ilen i ∨ ilen i = 0) ∧ 0 ≤ (pc : Int) + ioff i ∧ Do1 E X M pc h r d Q (stI E.2.2 (rdO h) M pc (pc + len) (tgt_ pc (ioff i)) L S i)
  | .error _ => False
/-- THE SEMANTICS: the least predicate that a step preserves -/
def Wp (E : Evn) : XT := fun M pc L S h r d Q => ∀ X : XT, (∀ M pc L S h r d Q, StpE E X M pc L S h r d Q → X M pc L S h r d Q) → X M pc L S h r d Q
def WpM (E : Evn) (M : MD) (as : List Value) (h : Hp) (r d : Nat) (Q : Post) : Prop := (entL as).length ≤ M.2.2.2.1 ∧ Wp E M 0 (ent M.2.2.2.1 as) [] h r d Q
/-- primitives say more of more -/
def PMon (E : Evn) : Prop := ∀ p as h r (K K' : Post), (∀ o h r, K o h r → K' o h r) → E.2.1 p as h r K → E.2.1 p as h r K'
theorem Run_mono {E : Evn} (hE : PMon E) {X Y : XT} (hXY : ∀ M pc L S h r d Q, X M pc L S h r d Q → Y M pc L S h r d Q) {t : Tg} {as : List Value} {h : Hp} {r d : Nat} {K K' : Post} (hK : ∀ o h r, K o h r → K' o h r) (H : Run E X t as h r d K) : Run E Y t as h r d K' := by
  cases t with
  | inl N =>
    cases d with
    | zero => exact H.elim
    | succ d =>
      obtain ⟨h0, R, h1, h3, h2⟩ := H
      exact ⟨h0, R, hXY _ _ _ _ _ _ _ _ h1, h3, fun o h r z => hK o h r (h2 o h r z)⟩
  | inr p => exact ⟨H.1, hE _ _ _ _ _ _ hK H.2⟩
theorem Thr_mono {X Y : XT} (hXY : ∀ M pc L S h r d Q, X M pc L S h r d Q → Y M pc L S h r d Q) {M : MD} {pc : Nat} {L : List Value} {d : Nat} {Q Q' : Post} (hQ : ∀ o h r, Q o h r → Q' o h r) (hq : ∀ M pc L S h r d, X M pc L S h r d Q → X M pc L S h r d Q') {e : Nat} {h : Hp} {r : Nat} (H : Thr X M pc L d Q e h r) : Thr Y M pc L d Q' e h r := by
  unfold Thr at H ⊢
  split at H
  · rename_i hp he
    exact ⟨H.1, H.2.1, fun q => hXY _ _ _ _ _ _ _ _ (hq _ _ _ _ _ _ _ (H.2.2 q))⟩
  · rename_i he
    exact ⟨H.1, hQ _ _ _ H.2⟩
theorem Aft_mono {X Y : XT} (hXY : ∀ M pc L S h r d Q, X M pc L S h r d Q → Y M pc L S h r d Q) {M : MD} {pc nx : Nat} {L S : List Value} {d : Nat} {Q Q' : Post} (hQ : ∀ o h r, Q o h r → Q' o h r) (hq : ∀ M pc L S h r d, X M pc L S h r d Q → X M pc L S h r d Q') {o : Out} {h : Hp} {r : Nat} (H : Aft X M pc nx L S d Q o h r) : Aft Y M pc nx L S d Q' o h r := by
  rcases o with (_ | v) | e
  · exact hXY _ _ _ _ _ _ _ _ (hq _ _ _ _ _ _ _ H)
  · exact hXY _ _ _ _ _ _ _ _ (hq _ _ _ _ _ _ _ H)
  · exact Thr_mono hXY hQ hq H
theorem Do1_mono {E : Evn} (hE : PMon E) {X Y : XT} (hXY : ∀ M pc L S h r d Q, X M pc L S h r d Q → Y M pc L S h r d Q) {M : MD} {pc : Nat} {h : Hp} {r d : Nat} {Q Q' : Post} (hQ : ∀ o h r, Q o h r → Q' o h r) (hq : ∀ M pc L S h r d, X M pc L S h r d Q → X M pc L S h r d Q') {o : Option St1} (H : Do1 E X M pc h r d Q o) : Do1 E Y M pc h r d Q' o := by
  rcases o with _ | (⟨p, L, S⟩ | ⟨a, k, fs, p, L, S⟩ | ⟨k, fs, p, L, S⟩ | v | e | ⟨mode, j, p, as, L, S⟩ | ⟨a, j, p, L, S⟩)
  · exact H
  · exact hXY _ _ _ _ _ _ _ _ (hq _ _ _ _ _ _ _ H)
  · exact hXY _ _ _ _ _ _ _ _ (hq _ _ _ _ _ _ _ H)
  · exact ⟨H.1, fun q z z2 => hXY _ _ _ _ _ _ _ _ (hq _ _ _ _ _ _ _ (H.2 q z z2))⟩
  · exact hQ _ _ _ H
  · exact ⟨H.1, hQ _ _ _ H.2⟩
  · refine ⟨H.1, ?_⟩
    have H2 := H.2
    split at H2
    · rename_i t ht
      exact Run_mono hE hXY (fun o h r z => Aft_mono hXY hQ hq z) H2
    · exact H2
  · show (match h a with | some o => _ | none => _)
    have H2 : (match h a with | some o => cok M.1 j (kd o) = true ∧ X M p L S h r d Q | none => False) := H
    split at H2
    · exact ⟨H2.1, hXY _ _ _ _ _ _ _ _ (hq _ _ _ _ _ _ _ H2.2)⟩
    · exact H2
theorem StpE_mono {E : Evn} (hE : PMon E) {X Y : XT} (hXY : ∀ M pc L S h r d Q, X M pc L S h r d Q → Y M pc L S h r d Q) {M : MD} {pc : Nat} {L S : List Value} {h : Hp} {r d : Nat} {Q Q' : Post} (hQ : ∀ o h r, Q o h r → Q' o h r) (hq : ∀ M pc L S h r d, X M pc L S h r d Q → X M pc L S h r d Q') (H : StpE E X M pc L S h r d Q) : StpE E Y M pc L S h r d Q' := by
  unfold StpE at H ⊢
  split at H
  · exact ⟨H.1, H.2.1, Do1_mono hE hXY hQ hq H.2.2⟩
  · exact H
theorem Wp_in {E : Evn} (hE : PMon E) {M : MD} {pc : Nat} {L S : List Value} {h : Hp} {r d : Nat} {Q : Post} (H : StpE E (Wp E) M pc L S h r d Q) : Wp E M pc L S h r d Q := by
  intro X hX
  exact hX _ _ _ _ _ _ _ _ (StpE_mono hE (fun M pc L S h r d Q z => z X hX) (fun _ _ _ z => z) (fun _ _ _ _ _ _ _ z => z) H)
theorem Wp_out {E : Evn} (hE : PMon E) {M : MD} {pc : Nat} {L S : List Value} {h : Hp} {r d : Nat} {Q : Post} (H : Wp E M pc L S h r d Q) : StpE E (Wp E) M pc L S h r d Q :=
  H (fun M pc L S h r d Q => StpE E (Wp E) M pc L S h r d Q) (fun M pc L S h r d Q z => StpE_mono hE (fun M pc L S h r d Q z => Wp_in hE z) (fun _ _ _ z => z) (fun _ _ _ _ _ _ _ z => z) z)
theorem Wp_eq {E : Evn} (hE : PMon E) {M : MD} {pc : Nat} {L S : List Value} {h : Hp} {r d : Nat} {Q : Post} : Wp E M pc L S h r d Q = StpE E (Wp E) M pc L S h r d Q := propext ⟨Wp_out hE, Wp_in hE⟩
theorem Wp_mono {E : Evn} (hE : PMon E) {M : MD} {pc : Nat} {L S : List Value} {h : Hp} {r d : Nat} {Q Q' : Post} (hQ : ∀ o h r, Q o h r → Q' o h r) (H : Wp E M pc L S h r d Q) : Wp E M pc L S h r d Q' := by
  have H2 := H (fun M pc L S h r d Q => ∀ Q' : Post, (∀ o h r, Q o h r → Q' o h r) → Wp E M pc L S h r d Q') (fun M pc L S h r d Q z Q' hQ => ?_) Q' hQ
  · exact H2
  · refine Wp_in hE ?_
    have z2 : StpE E (fun M pc L S h r d Q => ∀ Q' : Post, (∀ o h r, Q o h r → Q' o h r) → Wp E M pc L S h r d Q') M pc L S h r d Q' := StpE_mono (Y := fun M pc L S h r d Q => ∀ Q' : Post, (∀ o h r, Q o h r → Q' o h r) → Wp E M pc L S h r d Q') hE (fun _ _ _ _ _ _ _ _ z => z) hQ (fun M pc L S h r d z Q2 h2 => z Q2 (fun o h r w => h2 o h r (hQ o h r w))) z
    exact StpE_mono hE (fun M pc L S h r d Q z => z Q (fun _ _ _ w => w)) (fun _ _ _ w => w) (fun M pc L S h r d z => z) z2
theorem WpM_mono {E : Evn} (hE : PMon E) {M : MD} {as : List Value} {h : Hp} {r d : Nat} {Q Q' : Post} (hQ : ∀ o h r, Q o h r → Q' o h r) (H : WpM E M as h r d Q) : WpM E M as h r d Q' := ⟨H.1, Wp_mono hE hQ H.2⟩
/-- the step's equation, the instruction known -/
theorem Wp_at {E : Evn} (hE : PMon E) {M : MD} {pc : Nat} {i : Instr} {len : Nat} (hd : decode M.2.2.1 pc = .ok (i, len)) (hl : len = ilen i ∨ ilen i = 0) (h0 : 0 ≤ (pc : Int) + ioff i) {L S : List Value} {h : Hp} {r d : Nat} {Q : Post} {nx tg : Nat} (hn : pc + len = nx) (ht : tgt_ pc (ioff i) = tg) :
    Wp E M pc L S h r d Q = Do1 E (Wp E) M pc h r d Q (stI E.2.2 (rdO h) M pc nx tg L S i) := by
  subst hn; subst ht
  rw [Wp_eq hE]
  unfold StpE
  rw [hd]
  exact propext ⟨fun z => z.2.2, fun z => ⟨hl, h0, z⟩⟩
theorem Run_M {E : Evn} (hE : PMon E) {N : MD} {as : List Value} {h : Hp} {r d : Nat} {K : Post} (hN : N.2.2.2.2.2 = []) : Run E (Wp E) (.inl N) as h r (d + 1) K = WpM E N as h r d K :=
  propext ⟨fun z => ⟨z.1, z.2.elim fun R q => Wp_mono hE q.2.2 q.1⟩, fun z => ⟨z.1, K, z.2, Or.inl hN, fun _ _ _ w => w⟩⟩
theorem Run_W {E : Evn} {N : MD} {as : List Value} {h : Hp} {r d : Nat} {K : Post} (R : Post) (hR : WpM E N as h r d R) (hN : ∀ e h' r', ¬ R (.inr e) h' r') (hK : ∀ o h' r', R o h' r' → K o h' r') : Run E (Wp E) (.inl N) as h r (d + 1) K :=
  ⟨hR.1, R, hR.2, Or.inr hN, hK⟩

/-! THE ABSTRACT MACHINE: values are integers or numbered cells; a heap is a kind, ints and references by cell and place -/
abbrev AV : Type := Int ⊕ (Int ⊕ Option Nat)
abbrev vI (z : Int) : AV := Sum.inl z
abbrev vL (z : Int) : AV := Sum.inr (Sum.inl z)
abbrev vR (r : Option Nat) : AV := Sum.inr (Sum.inr r)
abbrev vA (q : Nat) : AV := Sum.inr (Sum.inr (some q))
abbrev vN : AV := Sum.inr (Sum.inr none)
abbrev HP : Type := (Nat × Nat) × (Nat → Option (Nat × Nat)) × (Nat → Int → Int) × (Nat → Int → Option Nat)
def hN (x : HP) : Nat := x.1.1
def hS (x : HP) : Nat := x.1.2
def hK (x : HP) : Nat → Option (Nat × Nat) := x.2.1
def hI (x : HP) : Nat → Int → Int := x.2.2.1
def hR (x : HP) : Nat → Int → Option Nat := x.2.2.2
def up {α : Type} (f : Int → α) (k : Int) (v : α) : Int → α := fun j => if j = k then v else f j
def stI (x : HP) (a : Nat) (k v : Int) : HP := (x.1, x.2.1, fun b => if b = a then up (hI x a) k v else hI x b, x.2.2.2)
def stR (x : HP) (a : Nat) (k : Int) (v : Option Nat) : HP := (x.1, x.2.1, x.2.2.1, fun b => if b = a then up (hR x a) k v else hR x b)
def stF (x : HP) (a : Nat) (f : Int → Int) : HP := (x.1, x.2.1, fun b => if b = a then f else hI x b, x.2.2.2)
/-- the kind of a cell is set anew -/
def stK (x : HP) (a c n : Nat) : HP := (x.1, fun b => if b = a then some (c, n) else hK x b, x.2.2.1, x.2.2.2)
def nwO (x : HP) (c n : Nat) : HP := ((hN x + 1, hS x + n), fun b => if b = hN x then some (c, n) else hK x b, fun b => if b = hN x then fun _ => 0 else hI x b, fun b => if b = hN x then fun _ => none else hR x b)
abbrev SR : Type := (Nat × List AV × List AV × HP) ⊕ Option AV ⊕ (Nat × HP) ⊕ (Nat × Nat × List AV × List AV)
def sN (pc : Nat) (ls st : List AV) (x : HP) : Option SR := some (.inl (pc, ls, st, x))
def sRet (v : Option AV) : Option SR := some (.inr (.inl v))
def sThr (q : Nat) (x : HP) : Option SR := some (.inr (.inr (.inl (q, x))))
/-- longs are handed to the two methods 'type' alone -/
def nLg (v : AV) : Bool := match v with
  | .inr (.inl _) => false
  | _ => true
def lok (mj : Nat) (args : List AV) : Bool := if mj = 14 ∨ mj = 86 then (match args with
  | [.inr (.inr _), .inr (.inl _)] => true
  | _ => false) else args.all nLg
/-- at most six operands -/
def sml (l : List AV) : Bool := match l with
  | [] => true
  | [_] => true
  | [_, _] => true
  | [_, _, _] => true
  | [_, _, _, _] => true
  | [_, _, _, _, _] => true
  | [_, _, _, _, _, _] => true
  | _ => false
def sCal (mj rj : Nat) (args rest : List AV) : Option SR := if lok mj args && sml rest then some (.inr (.inr (.inr (mj, rj, args, rest)))) else none
/-- what stands in an unset local or a long's second half -/
def jk : Int := 36893488147419103232
def inLb (z : Int) : Bool := decide (-9223372036854775808 ≤ z ∧ z < 9223372036854775808)
def inI (z : Int) : Bool := decide (-2147483648 ≤ z ∧ z < 2147483648)
abbrev inL (z : Int) : Prop := -9223372036854775808 ≤ z ∧ z < 9223372036854775808
/-- the range of a place of this type: int, char, short, byte, boolean -/
def rg (t : Nat) (z : Int) : Bool := match t with
  | 0 => true
  | 1 => decide (0 ≤ z ∧ z < 65536)
  | 2 => decide (-32768 ≤ z ∧ z < 32768)
  | 3 => decide (-128 ≤ z ∧ z < 128)
  | _ => decide (0 ≤ z ∧ z < 2)
def maxC : Nat := 600000
def maxS : Nat := 7300000
def iAnd (x y : Int) : Int := (Int32.ofInt x &&& Int32.ofInt y).toInt
def iOr (x y : Int) : Int := (Int32.ofInt x ||| Int32.ofInt y).toInt
def iShl (x y : Int) : Int := (Int32.ofInt x <<< (Int32.ofInt y &&& 31)).toInt
def iShr (x y : Int) : Int := (Int32.ofInt x >>> (Int32.ofInt y &&& 31)).toInt
def iI2c (x : Int) : Int := ((Int32.ofInt x).toUInt32 % 65536).toInt32.toInt
def iI2s (x : Int) : Int := (Int32.ofInt x).toInt16.toInt32.toInt
def iI2b (x : Int) : Int := (Int32.ofInt x).toInt8.toInt32.toInt
def iL2i (x : Int) : Int := (Int64.ofInt x).toInt32.toInt
def lAnd (x y : Int) : Int := (Int64.ofInt x &&& Int64.ofInt y).toInt
def lOr (x y : Int) : Int := (Int64.ofInt x ||| Int64.ofInt y).toInt
def lShl (x y : Int) : Int := (Int64.ofInt x <<< ((Int32.ofInt y).toInt64 &&& 63)).toInt
def lShr (x y : Int) : Int := (Int64.ofInt x >>> ((Int32.ofInt y).toInt64 &&& 63)).toInt
def lCmp (x y : Int) : Int := if x < y then -1 else if x = y then 0 else 1
/-- class c may stand where class k is named -/
def sub (c k : Nat) : Bool := Nat.beq c k || (Nat.beq k 4 && (Nat.beq c 5 || Nat.beq c 6))
def cnd (c : ClassFile.Cond) (x y : Int) : Bool := match c with
  | .eq => decide (x = y)
  | .ne => decide (¬ x = y)
  | .lt => decide (x < y)
  | .ge => decide (y ≤ x)
  | .gt => decide (y < x)
  | .le => decide (x ≤ y)
section
variable (pc len r1 r2 r3 r4 : Nat) (ls st : List AV) (x : HP)
def oLoadI (i : Nat) : Option SR := match ls[i]? with
  | some (.inl z) => sN (pc + len) ls (vI z :: st) x
  | _ => none
def oLoadL (i : Nat) : Option SR := match ls[i]? with
  | some (.inr (.inl z)) => if inLb z then sN (pc + len) ls (vL z :: st) x else none
  | _ => none
def oLoadA (i : Nat) : Option SR := match ls[i]? with
  | some (.inr (.inr r)) => sN (pc + len) ls (vR r :: st) x
  | _ => none
def oStoreI (i : Nat) : Option SR := match st with
  | .inl z :: t => if i < ls.length then sN (pc + len) (ls.set i (vI z)) t x else none
  | _ => none
def oStoreA (i : Nat) : Option SR := match st with
  | .inr (.inr r) :: t => if i < ls.length then sN (pc + len) (ls.set i (vR r)) t x else none
  | _ => none
def oInc (i : Nat) (n : Int) : Option SR := match ls[i]? with
  | some (.inl z) => if inI (z + n) then sN (pc + len) (ls.set i (vI (z + n))) st x else none
  | _ => none
def oBin (f : Int → Int → Int) : Option SR := match st with
  | .inl b :: .inl a :: t => if inI (f a b) then sN (pc + len) ls (vI (f a b) :: t) x else none
  | _ => none
/-- division and remainder of numbers that aren't below zero -/
def oDiv (f : Int → Int → Int) : Option SR := match st with
  | .inl b :: .inl a :: t => if 0 ≤ a ∧ 0 < b then sN (pc + len) ls (vI (f a b) :: t) x else none
  | _ => none
def oUn (f : Int → Int) : Option SR := match st with
  | .inl a :: t => if inI (f a) then sN (pc + len) ls (vI (f a) :: t) x else none
  | _ => none
def oI2l : Option SR := match st with
  | .inl a :: t => sN (pc + len) ls (vL a :: t) x
  | _ => none
def oL2i : Option SR := match st with
  | .inr (.inl a) :: t => sN (pc + len) ls (vI (iL2i a) :: t) x
  | _ => none
def oBinL (f : Int → Int → Int) : Option SR := match st with
  | .inr (.inl b) :: .inr (.inl a) :: t => sN (pc + len) ls (vL (f a b) :: t) x
  | _ => none
def oShL (f : Int → Int → Int) : Option SR := match st with
  | .inl b :: .inr (.inl a) :: t => sN (pc + len) ls (vL (f a b) :: t) x
  | _ => none
def oLcmp : Option SR := match st with
  | .inr (.inl b) :: .inr (.inl a) :: t => sN (pc + len) ls (vI (lCmp a b) :: t) x
  | _ => none
def oDup : Option SR := match st with
  | .inl a :: t => sN (pc + len) ls (vI a :: vI a :: t) x
  | .inr (.inr a) :: t => sN (pc + len) ls (vR a :: vR a :: t) x
  | _ => none
def oPop : Option SR := match st with
  | .inl _ :: t => sN (pc + len) ls t x
  | .inr (.inr _) :: t => sN (pc + len) ls t x
  | _ => none
/-- an int over a reference -/
def oDupX1 : Option SR := match st with
  | .inl a :: .inr (.inr b) :: t => sN (pc + len) ls (vI a :: vR b :: vI a :: t) x
  | _ => none
/-- an int over a reference, both twice -/
def oDup2 : Option SR := match st with
  | .inl a :: .inr (.inr b) :: t => sN (pc + len) ls (vI a :: vR b :: vI a :: vR b :: t) x
  | _ => none
def oIcmp (c : ClassFile.Cond) : Option SR := match st with
  | .inl b :: .inl a :: t => sN (if cnd c a b then r1 else pc + len) ls t x
  | _ => none
def oIf (c : ClassFile.Cond) : Option SR := match st with
  | .inl a :: t => sN (if cnd c a 0 then r1 else pc + len) ls t x
  | _ => none
def oIfnull (b : Bool) : Option SR := match st with
  | .inr (.inr none) :: t => sN (if b then r1 else pc + len) ls t x
  | .inr (.inr (some q)) :: t => match hK x q with
    | some _ => sN (if b then pc + len else r1) ls t x
    | none => none
  | _ => none
def tgt (o : Int) : Nat := ((pc : Int) + o).toNat
def tsw (z lo d : Int) : List Int → Int
  | [] => d
  | o :: l => if z = lo then o else tsw z (lo + 1) d l
def lsw (z d : Int) : List (Int × Int) → Int
  | [] => d
  | o :: l => if z = o.1 then o.2 else lsw z d l
def oTsw (d lo : Int) (l : List Int) : Option SR := match st with
  | .inl z :: t => sN (tgt pc (tsw z lo d l)) ls t x
  | _ => none
def oLsw (d : Int) (l : List (Int × Int)) : Option SR := match st with
  | .inl z :: t => sN (tgt pc (lsw z d l)) ls t x
  | _ => none
def oGetI : Option SR := match st with
  | .inr (.inr (some q)) :: t => match hK x q with
    | some (c, _) => if sub c r1 then sN (pc + len) ls (vI (hI x q r2) :: t) x else none
    | none => none
  | _ => none
def oGetR : Option SR := match st with
  | .inr (.inr (some q)) :: t => match hK x q with
    | some (c, _) => if sub c r1 then sN (pc + len) ls (vR (hR x q r2) :: t) x else none
    | none => none
  | _ => none
def oPutI : Option SR := match st with
  | .inl z :: .inr (.inr (some q)) :: t => match hK x q with
    | some (c, _) => if sub c r1 then if rg r3 z then sN (pc + len) ls t (stI x q r2 z) else none else none
    | none => none
  | _ => none
def oPutR : Option SR := match st with
  | .inr (.inr r) :: .inr (.inr (some q)) :: t => match hK x q with
    | some (c, _) => if sub c r1 then sN (pc + len) ls t (stR x q r2 r) else none
    | none => none
  | _ => none
def oNew : Option SR := if hN x + 1 ≤ maxC ∧ hS x + r2 ≤ maxS then sN (pc + len) ls (vA (hN x) :: st) (nwO x r1 r2) else none
def oNewA : Option SR := match st with
  | .inl z :: t => if 0 ≤ z ∧ z ≤ 100000 ∧ hN x + 1 ≤ maxC ∧ hS x + z.toNat ≤ maxS then sN (pc + len) ls (vA (hN x) :: t) (nwO x r1 z.toNat) else none
  | _ => none
/-- a load of an array of kind k -/
def oLdI (k : Nat) : Option SR := match st with
  | .inl i :: .inr (.inr (some q)) :: t => match hK x q with
    | some (c, n) => if c = k ∧ 0 ≤ i ∧ i < n then sN (pc + len) ls (vI (hI x q i) :: t) x else none
    | none => none
  | _ => none
def oLdB : Option SR := match st with
  | .inl i :: .inr (.inr (some q)) :: t => match hK x q with
    | some (c, n) => if (c = 23 ∨ c = 24) ∧ 0 ≤ i ∧ i < n then sN (pc + len) ls (vI (hI x q i) :: t) x else none
    | none => none
  | _ => none
def oLdL : Option SR := match st with
  | .inl i :: .inr (.inr (some q)) :: t => match hK x q with
    | some (c, n) => if c = 25 ∧ 0 ≤ i ∧ i < n then sN (pc + len) ls (vL (hI x q i) :: t) x else none
    | none => none
  | _ => none
def oLdR : Option SR := match st with
  | .inl i :: .inr (.inr (some q)) :: t => match hK x q with
    | some (c, n) => if (c = 26 ∨ c = 27) ∧ 0 ≤ i ∧ i < n then sN (pc + len) ls (vR (hR x q i) :: t) x else none
    | none => none
  | _ => none
/-- a store into an array of kind k, whose elements are of type ty -/
def oStI (k ty : Nat) : Option SR := match st with
  | .inl z :: .inl i :: .inr (.inr (some q)) :: t => match hK x q with
    | some (c, n) => if c = k ∧ 0 ≤ i ∧ i < n ∧ 4 ≤ q ∧ rg ty z then sN (pc + len) ls t (stI x q i z) else none
    | none => none
  | _ => none
def oStB : Option SR := match st with
  | .inl z :: .inl i :: .inr (.inr (some q)) :: t => match hK x q with
    | some (c, n) => if ((c = 23 ∧ rg 3 z) ∨ (c = 24 ∧ rg 4 z)) ∧ 0 ≤ i ∧ i < n ∧ 4 ≤ q then sN (pc + len) ls t (stI x q i z) else none
    | none => none
  | _ => none
def oStL : Option SR := match st with
  | .inr (.inl z) :: .inl i :: .inr (.inr (some q)) :: t => match hK x q with
    | some (c, n) => if c = 25 ∧ 0 ≤ i ∧ i < n ∧ 4 ≤ q then sN (pc + len) ls t (stI x q i z) else none
    | none => none
  | _ => none
/-- an element of an array of references: the cell must be of the array's own class -/
def oStR : Option SR := match st with
  | .inr (.inr (some v)) :: .inl i :: .inr (.inr (some q)) :: t => match hK x q, hK x v with
    | some (c, n), some (cv, _) => if ((c = 26 ∧ cv = 3) ∨ (c = 27 ∧ cv = 7)) ∧ 0 ≤ i ∧ i < n ∧ 4 ≤ q then sN (pc + len) ls t (stR x q i (some v)) else none
    | _, _ => none
  | _ => none
def oLen : Option SR := match st with
  | .inr (.inr (some q)) :: t => match hK x q with
    | some (c, n) => if 20 ≤ c then sN (pc + len) ls (vI n :: t) x else none
    | none => none
  | _ => none
def oInst : Option SR := match st with
  | .inr (.inr none) :: t => sN (pc + len) ls (vI 0 :: t) x
  | .inr (.inr (some q)) :: t => match hK x q with
    | some (c, _) => if c = 5 ∨ c = 6 then sN (pc + len) ls (vI (if c = r1 then 1 else 0) :: t) x else none
    | none => none
  | _ => none
def oCast : Option SR := match st with
  | .inr (.inr (some q)) :: t => match hK x q with
    | some (c, _) => if c = r1 then sN (pc + len) ls (vA q :: t) x else none
    | none => none
  | _ => none
def oStatic : Option SR := match r1 with
  | 0 => sN (pc + len) ls (vI 1 :: st) x
  | _ => if r1 ≤ 3 then sN (pc + len) ls (vA r1 :: st) x else none
def cpy (f g : Int → Int) (sp dp n : Int) : Int → Int := fun j => if dp ≤ j ∧ j < dp + n then f (sp + (j - dp)) else g j
def oCopy : Option SR := match st with
  | .inl n :: .inl dp :: .inr (.inr (some d)) :: .inl sp :: .inr (.inr (some s)) :: t => match hK x s, hK x d with
    | some (c1, n1), some (c2, n2) => if c1 = 23 ∧ c2 = 23 ∧ 4 ≤ d ∧ 4 ≤ s ∧ s ≠ d ∧ 0 ≤ sp ∧ 0 ≤ dp ∧ 0 ≤ n ∧ sp + n ≤ n1 ∧ dp + n ≤ n2 ∧ sml t = true then sN (pc + len) ls t (stF x d (cpy (hI x s) (hI x d) sp dp n)) else none
    | _, _ => none
  | _ => none
def oCallS : Option SR := if r1 = 1002 then oCopy pc len ls st x else if r2 ≤ st.length then sCal r1 r3 (st.take r2).reverse (st.drop r2) else none
/-- the receiver of a call of r2 arguments, itself among them -/
def rcv (r2 : Nat) (st : List AV) (x : HP) : Option Nat := match st[r2 - 1]? with
  | some (.inr (.inr (some q))) => match hK x q with
    | some (c, _) => some c
    | none => none
  | _ => none
/-- an exception's constructor, and the throw behind it -/
def oExi (r4 : Nat) (st : List AV) (x : HP) : Option SR := match st with
  | .inr (.inr (some q)) :: .inr (.inr (some p)) :: t => if q = p ∧ hK x q = some (r4, 6) ∧ sml t = true then sThr q (stK x q (r4 + 3) 6) else none
  | _ => none
def oCallI : Option SR := match rcv r2 st x with
  | some c => if r1 = 1000 then (if sml (st.drop 1) then sN (pc + len) ls (st.drop 1) x else none) else if r1 = 1001 then oExi r4 st x else if r2 ≤ st.length ∧ 1 ≤ r2 then sCal r1 r3 (st.take r2).reverse (st.drop r2) else none
  | none => none
def oCallV : Option SR := match rcv r2 st x with
  | some c => if r2 ≤ st.length ∧ 1 ≤ r2 then (if r1 = 500 then (if c = 5 then sCal 79 r3 (st.take r2).reverse (st.drop r2) else if c = 6 then sCal 80 r3 (st.take r2).reverse (st.drop r2) else none) else if c = r4 then sCal r1 r3 (st.take r2).reverse (st.drop r2) else none) else none
  | none => none
def oIret : Option SR := match st with
  | [.inl z] => if rg r1 z then sRet (some (vI z)) else none
  | _ => none
def oAret : Option SR := match st with
  | [.inr (.inr r)] => sRet (some (vR r))
  | _ => none
def oVret : Option SR := match st with
  | [] => sRet none
  | _ => none
end
def astep (pc : Nat) (e : EN) (ls st : List AV) (x : HP) : Option SR := match e with
  | (ins, len, r1, r2, r3, r4) => match ins with
    | .iconst n => sN (pc + len) ls (vI n :: st) x
    | .bipush n => sN (pc + len) ls (vI n :: st) x
    | .sipush n => sN (pc + len) ls (vI n :: st) x
    | .ldc _ => sN (pc + len) ls (vI r1 :: st) x
    | .ldc_w _ => sN (pc + len) ls (vI r1 :: st) x
    | .ldc2_w _ => sN (pc + len) ls (vL r1 :: st) x
    | .lconst n => sN (pc + len) ls (vL n.val :: st) x
    | .aconst_null => sN (pc + len) ls (vN :: st) x
    | .iload i => oLoadI pc len ls st x i
    | .iload_n i => oLoadI pc len ls st x i.val
    | .lload_n i => oLoadL pc len ls st x i.val
    | .aload i => oLoadA pc len ls st x i
    | .aload_n i => oLoadA pc len ls st x i.val
    | .istore i => oStoreI pc len ls st x i
    | .istore_n i => oStoreI pc len ls st x i.val
    | .astore i => oStoreA pc len ls st x i
    | .astore_n i => oStoreA pc len ls st x i.val
    | .iinc i n => oInc pc len ls st x i n
    | .iadd => oBin pc len ls st x (· + ·)
    | .isub => oBin pc len ls st x (· - ·)
    | .imul => oBin pc len ls st x (· * ·)
    | .iand => oBin pc len ls st x iAnd
    | .ior => oBin pc len ls st x iOr
    | .ishl => oBin pc len ls st x iShl
    | .ishr => oBin pc len ls st x iShr
    | .idiv => oDiv pc len ls st x (· / ·)
    | .irem => oDiv pc len ls st x (· % ·)
    | .ineg => oUn pc len ls st x (fun a => -a)
    | .i2c => oUn pc len ls st x iI2c
    | .i2s => oUn pc len ls st x iI2s
    | .i2b => oUn pc len ls st x iI2b
    | .i2l => oI2l pc len ls st x
    | .l2i => oL2i pc len ls st x
    | .land => oBinL pc len ls st x lAnd
    | .lor => oBinL pc len ls st x lOr
    | .lshl => oShL pc len ls st x lShl
    | .lshr => oShL pc len ls st x lShr
    | .lcmp => oLcmp pc len ls st x
    | .dup => oDup pc len ls st x
    | .pop => oPop pc len ls st x
    | .dup_x1 => oDupX1 pc len ls st x
    | .dup2 => oDup2 pc len ls st x
    | .if_icmp c _ => oIcmp pc len r1 ls st x c
    | .ifCond c _ => oIf pc len r1 ls st x c
    | .goto _ => sN r1 ls st x
    | .ifnull _ => oIfnull pc len r1 ls st x true
    | .ifnonnull _ => oIfnull pc len r1 ls st x false
    | .tableswitch d lo _ l => oTsw pc ls st x d lo l.toList
    | .lookupswitch d l => oLsw pc ls st x d l.toList
    | .getfield _ => if r3 = 5 then oGetR pc len r1 r2 ls st x else oGetI pc len r1 r2 ls st x
    | .putfield _ => if r3 = 5 then oPutR pc len r1 r2 ls st x else oPutI pc len r1 r2 r3 ls st x
    | .getstatic _ => oStatic pc len r1 ls st x
    | .new _ => oNew pc len r1 r2 ls st x
    | .newarray _ => oNewA pc len r1 ls st x
    | .anewarray _ => oNewA pc len r1 ls st x
    | .iaload => oLdI pc len ls st x 20
    | .caload => oLdI pc len ls st x 21
    | .saload => oLdI pc len ls st x 22
    | .baload => oLdB pc len ls st x
    | .laload => oLdL pc len ls st x
    | .aaload => oLdR pc len ls st x
    | .iastore => oStI pc len ls st x 20 0
    | .castore => oStI pc len ls st x 21 1
    | .sastore => oStI pc len ls st x 22 2
    | .bastore => oStB pc len ls st x
    | .lastore => oStL pc len ls st x
    | .aastore => oStR pc len ls st x
    | .arraylength => oLen pc len ls st x
    | .instanceof _ => oInst pc len r1 ls st x
    | .checkcast _ => oCast pc len r1 ls st x
    | .invokestatic _ => oCallS pc len r1 r2 r3 ls st x
    | .invokespecial _ => oCallI pc len r1 r2 r3 r4 ls st x
    | .invokevirtual _ => oCallV r1 r2 r3 r4 st x
    | .ireturn => oIret r1 st
    | .areturn => oAret st
    | .return_ => oVret st
    | _ => none
def exL (v : AV) : List AV := match v with
  | .inr (.inl z) => [vL z, vL jk]
  | w => [w]
def ent (n : Nat) (args : List AV) : List AV := args.flatMap exL ++ List.replicate (n - (args.flatMap exL).length) (vL jk)
def kdc (x : HP) (q : Nat) : Nat := match hK x q with
  | some (c, _) => c
  | none => 0
abbrev AO : Type := Option AV ⊕ Nat
def crk (r rj : Nat) : Nat := if rj = 999 then r - 1 else rj
def arun : Nat → Nat → Nat → Nat → List AV → List AV → HP → Option (AO × HP)
  | 0, _, _, _, _, _, _ => none
  | n + 1, r, mi, pc, ls, st, x => match cd mi pc with
    | none => none
    | some e => match astep pc e ls st x with
      | none => none
      | some (.inl (pc', ls', st', x')) => arun n r mi pc' ls' st' x'
      | some (.inr (.inl v)) => some (.inl v, x)
      | some (.inr (.inr (.inl (q, y)))) => match hnd mi pc (kdc y q) with
        | some h => arun n r mi h ls [vA q] y
        | none => some (.inr q, y)
      | some (.inr (.inr (.inr (mj, rj, args, rest)))) => if crk r rj < r then match arun n (crk r rj) mj 0 (ent (mxl mj) args) [] x with
          | none => none
          | some (.inl v, x') => arun n r mi (pc + 3) ls (v.toList ++ rest) x'
          | some (.inr q, x') => match hnd mi pc (kdc x' q) with
            | some h => arun n r mi h ls [vA q] x'
            | none => some (.inr q, x')
        else none
def wp (r mi pc : Nat) (ls st : List AV) (x : HP) (Q : AO → HP → Prop) : Prop := ∃ n o y, arun n r mi pc ls st x = some (o, y) ∧ Q o y
/-! what a run comes to: wp, and one rule for each kind of step -/
section
variable {n k r mi pc rj mj q : Nat} {ls st args rest : List AV} {x y : HP} {Q Q' : AO → HP → Prop} {e : EN} {v : AO × HP}
theorem arun_mono : ∀ (n : Nat) (r mi pc : Nat) (ls st : List AV) (x : HP) (v : AO × HP), arun n r mi pc ls st x = some v → arun (n + 1) r mi pc ls st x = some v := by
  intro n
  induction n with
  | zero => intro r mi pc ls st x v h; simp [arun] at h
  | succ n ih =>
    intro r mi pc ls st x v h
    unfold arun at h ⊢
    cases hc : cd mi pc with
    | none => rw [hc] at h; simp at h
    | some e =>
      rw [hc] at h
      dsimp only at h ⊢
      cases hs : astep pc e ls st x with
      | none => rw [hs] at h; simp at h
      | some w =>
        rw [hs] at h
        rcases w with ⟨pc', ls', st', x'⟩ | w | ⟨q, y'⟩ | ⟨mj, rj, args, rest⟩
        · exact ih _ _ _ _ _ _ _ h
        · exact h
        · dsimp only at h ⊢
          cases hh : hnd mi pc (kdc y' q) with
          | none => rw [hh] at h; exact h
          | some p => rw [hh] at h; exact ih _ _ _ _ _ _ _ h
        · dsimp only at h ⊢
          split at h
          · rename_i hr
            rw [if_pos hr]
            cases ha : arun n (crk r rj) mj 0 (ent (mxl mj) args) [] x with
            | none => rw [ha] at h; simp at h
            | some w =>
              rw [ha] at h
              rw [ih _ _ _ _ _ _ _ ha]
              obtain ⟨w | q, x'⟩ := w
              · exact ih _ _ _ _ _ _ _ h
              · dsimp only at h ⊢
                cases hh : hnd mi pc (kdc x' q) with
                | none => rw [hh] at h; exact h
                | some p => rw [hh] at h; exact ih _ _ _ _ _ _ _ h
          · simp at h
theorem arun_le (h : arun n r mi pc ls st x = some v) (hk : n ≤ k) : arun k r mi pc ls st x = some v := by
  obtain ⟨d, rfl⟩ := Nat.le.dest hk
  clear hk
  induction d with
  | zero => exact h
  | succ d ih => exact arun_mono _ _ _ _ _ _ _ _ ih
def wpc (rj mj : Nat) (args : List AV) (x : HP) (Q : AO → HP → Prop) : Prop := wp rj mj 0 (ent (mxl mj) args) [] x Q
def wk (r mi pc : Nat) (ls rest : List AV) (Q : AO → HP → Prop) (o : AO) (y : HP) : Prop := match o with
  | .inl v => wp r mi (pc + 3) ls (v.toList ++ rest) y Q
  | .inr q => match hnd mi pc (kdc y q) with
    | some h => wp r mi h ls [vA q] y Q
    | none => Q (.inr q) y
def wq (r mi pc : Nat) (ls : List AV) (x : HP) (Q : AO → HP → Prop) (s : Option SR) : Prop := match s with
  | none => False
  | some (.inl (pc', ls', st', x')) => wp r mi pc' ls' st' x' Q
  | some (.inr (.inl v)) => Q (.inl v) x
  | some (.inr (.inr (.inl (q, y)))) => match hnd mi pc (kdc y q) with
    | some h => wp r mi h ls [vA q] y Q
    | none => Q (.inr q) y
  | some (.inr (.inr (.inr (mj, rj, args, rest)))) => crk r rj < r ∧ wpc (crk r rj) mj args x (wk r mi pc ls rest Q)
theorem wp_u (h : cd mi pc = some e) : wp r mi pc ls st x Q ↔ wq r mi pc ls x Q (astep pc e ls st x) := by
  constructor
  · rintro ⟨n, o, y, ha, hq⟩
    cases n with
    | zero => simp [arun] at ha
    | succ n =>
      unfold arun at ha
      rw [h] at ha
      dsimp only at ha
      cases hs : astep pc e ls st x with
      | none => rw [hs] at ha; simp at ha
      | some w =>
        rw [hs] at ha
        rcases w with ⟨pc', ls', st', x'⟩ | w | ⟨q, y'⟩ | ⟨mj, rj, args, rest⟩
        · exact ⟨n, o, y, ha, hq⟩
        · cases ha; exact hq
        · dsimp only [wq] at ha ⊢
          cases hh : hnd mi pc (kdc y' q) with
          | none => rw [hh] at ha; cases ha; exact hq
          | some p => rw [hh] at ha; exact ⟨n, o, y, ha, hq⟩
        · dsimp only [wq] at ha ⊢
          split at ha
          · rename_i hr
            refine ⟨hr, ?_⟩
            cases hb : arun n (crk r rj) mj 0 (ent (mxl mj) args) [] x with
            | none => rw [hb] at ha; simp at ha
            | some w =>
              rw [hb] at ha
              obtain ⟨o1, x'⟩ := w
              refine ⟨n, o1, x', hb, ?_⟩
              cases o1 with
              | inl w => exact ⟨n, o, y, ha, hq⟩
              | inr q =>
                dsimp only [wk] at ha ⊢
                cases hh : hnd mi pc (kdc x' q) with
                | none => rw [hh] at ha; cases ha; exact hq
                | some p => rw [hh] at ha; exact ⟨n, o, y, ha, hq⟩
          · simp at ha
  · intro hw
    have key : ∃ n, arun (n + 1) r mi pc ls st x = arun (n + 1) r mi pc ls st x := ⟨0, rfl⟩
    cases hs : astep pc e ls st x with
    | none => rw [hs] at hw; exact hw.elim
    | some w =>
      rw [hs] at hw
      rcases w with ⟨pc', ls', st', x'⟩ | w | ⟨q, y'⟩ | ⟨mj, rj, args, rest⟩
      · obtain ⟨n, o, y, ha, hq⟩ := hw
        exact ⟨n + 1, o, y, by unfold arun; rw [h]; dsimp only; rw [hs]; exact ha, hq⟩
      · exact ⟨1, _, x, by unfold arun; rw [h]; dsimp only; rw [hs], hw⟩
      · dsimp only [wq] at hw
        cases hh : hnd mi pc (kdc y' q) with
        | none => rw [hh] at hw; exact ⟨1, _, y', by unfold arun; rw [h]; dsimp only; rw [hs]; dsimp only; rw [hh], hw⟩
        | some p =>
          rw [hh] at hw
          obtain ⟨n, o, y, ha, hq⟩ := hw
          exact ⟨n + 1, o, y, by unfold arun; rw [h]; dsimp only; rw [hs]; dsimp only; rw [hh]; exact ha, hq⟩
      · dsimp only [wq] at hw
        obtain ⟨hr, n1, o1, x', hb, hc⟩ := hw
        cases o1 with
        | inl w =>
          obtain ⟨n2, o, y, ha, hq⟩ := hc
          refine ⟨max n1 n2 + 1, o, y, ?_, hq⟩
          unfold arun; rw [h]; dsimp only; rw [hs]; dsimp only; rw [if_pos hr, arun_le hb (Nat.le_max_left _ _)]
          exact arun_le ha (Nat.le_max_right _ _)
        | inr q =>
          dsimp only [wk] at hc
          cases hh : hnd mi pc (kdc x' q) with
          | none =>
            rw [hh] at hc
            refine ⟨n1 + 1, _, x', ?_, hc⟩
            unfold arun; rw [h]; dsimp only; rw [hs]; dsimp only; rw [if_pos hr, hb]; dsimp only; rw [hh]
          | some p =>
            rw [hh] at hc
            obtain ⟨n2, o, y, ha, hq⟩ := hc
            refine ⟨max n1 n2 + 1, o, y, ?_, hq⟩
            unfold arun; rw [h]; dsimp only; rw [hs]; dsimp only; rw [if_pos hr, arun_le hb (Nat.le_max_left _ _)]; dsimp only; rw [hh]
            exact arun_le ha (Nat.le_max_right _ _)
theorem wp_mono (h : wp r mi pc ls st x Q) (hq : ∀ o y, Q o y → Q' o y) : wp r mi pc ls st x Q' := by
  obtain ⟨n, o, y, ha, hb⟩ := h
  exact ⟨n, o, y, ha, hq o y hb⟩
theorem wpc_mono (h : wpc rj mj args x Q) (hq : ∀ o y, Q o y → Q' o y) : wpc rj mj args x Q' := wp_mono h hq
/-- a run has one end: what is shown of one goal holds of any -/
theorem wp_det (h : wp r mi pc ls st x (fun o y => o = v.1 ∧ y = v.2)) : wp r mi pc ls st x Q ↔ Q v.1 v.2 := by
  obtain ⟨n, o, y, ha, rfl, rfl⟩ := h
  constructor
  · rintro ⟨k, o', y', hb, hq⟩
    have h1 := arun_le ha (Nat.le_max_left n k)
    have h2 := arun_le hb (Nat.le_max_right n k)
    rw [h1] at h2
    cases h2
    exact hq
  · exact fun hq => ⟨n, _, _, ha, hq⟩
end
/-! side conditions, and what discharges them -/
def ldk (k : Nat) (o : Option (Nat × Nat)) (i : Int) : Prop := match o with
  | some (c, n) => c = k ∧ 0 ≤ i ∧ i < n
  | none => False
def ldb (o : Option (Nat × Nat)) (i : Int) : Prop := match o with
  | some (c, n) => (c = 23 ∨ c = 24) ∧ 0 ≤ i ∧ i < n
  | none => False
def ldr (o : Option (Nat × Nat)) (i : Int) : Prop := match o with
  | some (c, n) => (c = 26 ∨ c = 27) ∧ 0 ≤ i ∧ i < n
  | none => False
def sbk (k : Nat) (o : Option (Nat × Nat)) : Prop := match o with
  | some (c, _) => sub c k = true
  | none => False
def isk (k : Nat) (o : Option (Nat × Nat)) : Prop := match o with
  | some (c, _) => c = k
  | none => False
def nnk (o : Option (Nat × Nat)) : Prop := match o with
  | some _ => True
  | none => False
def lnk (o : Option (Nat × Nat)) : Int := match o with
  | some (_, n) => n
  | none => 0
def ark (o : Option (Nat × Nat)) : Prop := match o with
  | some (c, _) => 20 ≤ c
  | none => False
def stb (o : Option (Nat × Nat)) (i z : Int) : Prop := match o with
  | some (c, n) => ((c = 23 ∧ rg 3 z = true) ∨ (c = 24 ∧ rg 4 z = true)) ∧ 0 ≤ i ∧ i < n
  | none => False
def str (o p : Option (Nat × Nat)) (i : Int) : Prop := match o, p with
  | some (c, n), some (cv, _) => ((c = 26 ∧ cv = 3) ∨ (c = 27 ∧ cv = 7)) ∧ 0 ≤ i ∧ i < n
  | _, _ => False
def nok (x : HP) (n : Nat) : Prop := hN x + 1 ≤ maxC ∧ hS x + n ≤ maxS
section
variable {n k : Nat} {i z : Int} {x y : HP} {a b : Nat} {j v : Int} {c : Nat} {w : Option Nat} {f : Int → Int}
theorem sml_0 : sml [] = true := rfl
theorem sml_1 {a1 : AV} : sml [a1] = true := rfl
theorem sml_2 {a1 a2 : AV} : sml [a1, a2] = true := rfl
theorem sml_3 {a1 a2 a3 : AV} : sml [a1, a2, a3] = true := rfl
theorem sml_4 {a1 a2 a3 a4 : AV} : sml [a1, a2, a3, a4] = true := rfl
theorem sml_5 {a1 a2 a3 a4 a5 : AV} : sml [a1, a2, a3, a4, a5] = true := rfl
theorem inLb_t (h : -9223372036854775808 ≤ z ∧ z < 9223372036854775808) : inLb z = true := by simp [inLb]; exact h
theorem inI_t (h : -2147483648 ≤ z ∧ z < 2147483648) : inI z = true := by simp [inI]; exact h
theorem rg_0 : rg 0 z = true := rfl
theorem rg_1 (h : 0 ≤ z ∧ z < 65536) : rg 1 z = true := by simp [rg]; exact h
theorem rg_2 (h : -32768 ≤ z ∧ z < 32768) : rg 2 z = true := by simp [rg]; exact h
theorem rg_3 (h : -128 ≤ z ∧ z < 128) : rg 3 z = true := by simp [rg]; exact h
theorem rg_4 (h : 0 ≤ z ∧ z < 2) : rg 4 z = true := by simp [rg]; exact h
theorem ldk_t (h : 0 ≤ i ∧ i < (n : Int)) : ldk k (some (k, n)) i ↔ True := ⟨fun _ => trivial, fun _ => ⟨rfl, h⟩⟩
theorem ldb_23 (h : 0 ≤ i ∧ i < (n : Int)) : ldb (some (23, n)) i ↔ True := ⟨fun _ => trivial, fun _ => ⟨Or.inl rfl, h⟩⟩
theorem ldb_24 (h : 0 ≤ i ∧ i < (n : Int)) : ldb (some (24, n)) i ↔ True := ⟨fun _ => trivial, fun _ => ⟨Or.inr rfl, h⟩⟩
theorem ldr_26 (h : 0 ≤ i ∧ i < (n : Int)) : ldr (some (26, n)) i ↔ True := ⟨fun _ => trivial, fun _ => ⟨Or.inl rfl, h⟩⟩
theorem ldr_27 (h : 0 ≤ i ∧ i < (n : Int)) : ldr (some (27, n)) i ↔ True := ⟨fun _ => trivial, fun _ => ⟨Or.inr rfl, h⟩⟩
theorem stb_23 (h : (0 ≤ i ∧ i < (n : Int)) ∧ -128 ≤ z ∧ z < 128) : stb (some (23, n)) i z ↔ True := ⟨fun _ => trivial, fun _ => ⟨Or.inl ⟨rfl, rg_3 h.2⟩, h.1⟩⟩
theorem stb_24 (h : (0 ≤ i ∧ i < (n : Int)) ∧ 0 ≤ z ∧ z < 2) : stb (some (24, n)) i z ↔ True := ⟨fun _ => trivial, fun _ => ⟨Or.inr ⟨rfl, rg_4 h.2⟩, h.1⟩⟩
theorem str_26 {m : Nat} (h : 0 ≤ i ∧ i < (n : Int)) : str (some (26, n)) (some (3, m)) i ↔ True := ⟨fun _ => trivial, fun _ => ⟨Or.inl ⟨rfl, rfl⟩, h⟩⟩
theorem str_27 {m : Nat} (h : 0 ≤ i ∧ i < (n : Int)) : str (some (27, n)) (some (7, m)) i ↔ True := ⟨fun _ => trivial, fun _ => ⟨Or.inr ⟨rfl, rfl⟩, h⟩⟩
theorem sbk_t : sbk k (some (k, n)) ↔ True := ⟨fun _ => trivial, fun _ => by simp [sbk, sub]⟩
theorem sbk_5 : sbk 4 (some (5, n)) ↔ True := ⟨fun _ => trivial, fun _ => rfl⟩
theorem sbk_6 : sbk 4 (some (6, n)) ↔ True := ⟨fun _ => trivial, fun _ => rfl⟩
theorem isk_t : isk k (some (k, n)) ↔ True := ⟨fun _ => trivial, fun _ => rfl⟩
theorem nnk_t {p : Nat × Nat} : nnk (some p) ↔ True := Iff.rfl
theorem lnk_t : lnk (some (c, n)) = (n : Int) := rfl
theorem ark_t (h : 20 ≤ c) : ark (some (c, n)) ↔ True := ⟨fun _ => trivial, fun _ => h⟩
theorem nok_t (h : hN x + 1 ≤ 600000 ∧ hS x + n ≤ 7300000) : nok x n ↔ True := ⟨fun _ => trivial, fun _ => h⟩
theorem hK_stK_s {m : Nat} : hK (stK x a c m) a = some (c, m) := if_pos rfl
theorem hK_stK_n {m : Nat} (h : ¬ b = a) : hK (stK x a c m) b = hK x b := if_neg h
theorem hI_stK {m : Nat} : hI (stK x a c m) = hI x := rfl
theorem hR_stK {m : Nat} : hR (stK x a c m) = hR x := rfl
theorem hN_stK {m : Nat} : hN (stK x a c m) = hN x := rfl
theorem hS_stK {m : Nat} : hS (stK x a c m) = hS x := rfl
theorem stK_nw {d : Nat} : stK (nwO x c n) (hN x) d n = nwO x d n := by
  refine Prod.ext rfl (Prod.ext ?_ rfl)
  funext b
  show (if b = hN x then some (d, n) else if b = hN x then some (c, n) else hK x b) = if b = hN x then some (d, n) else hK x b
  split <;> rfl
theorem hK_stI : hK (stI x a j v) = hK x := rfl
theorem hK_stR : hK (stR x a j w) = hK x := rfl
theorem hK_stF : hK (stF x a f) = hK x := rfl
theorem hN_stI : hN (stI x a j v) = hN x := rfl
theorem hN_stR : hN (stR x a j w) = hN x := rfl
theorem hN_stF : hN (stF x a f) = hN x := rfl
theorem hS_stI : hS (stI x a j v) = hS x := rfl
theorem hS_stR : hS (stR x a j w) = hS x := rfl
theorem hS_stF : hS (stF x a f) = hS x := rfl
theorem hR_stI : hR (stI x a j v) = hR x := rfl
theorem hI_stR : hI (stR x a j w) = hI x := rfl
theorem hR_stF : hR (stF x a f) = hR x := rfl
theorem hI_stI_s : hI (stI x a j v) a = up (hI x a) j v := if_pos rfl
theorem hI_stI_n (h : ¬ b = a) : hI (stI x a j v) b = hI x b := if_neg h
theorem hR_stR_s : hR (stR x a j w) a = up (hR x a) j w := if_pos rfl
theorem hR_stR_n (h : ¬ b = a) : hR (stR x a j w) b = hR x b := if_neg h
theorem hI_stF_s : hI (stF x a f) a = f := if_pos rfl
theorem hI_stF_n (h : ¬ b = a) : hI (stF x a f) b = hI x b := if_neg h
theorem hN_nw : hN (nwO x c n) = hN x + 1 := rfl
theorem hS_nw : hS (nwO x c n) = hS x + n := rfl
theorem hK_nw_s : hK (nwO x c n) (hN x) = some (c, n) := if_pos rfl
theorem hK_nw_n (h : ¬ b = hN x) : hK (nwO x c n) b = hK x b := if_neg h
theorem hI_nw_s : hI (nwO x c n) (hN x) = fun _ => 0 := if_pos rfl
theorem hI_nw_n (h : ¬ b = hN x) : hI (nwO x c n) b = hI x b := if_neg h
theorem hR_nw_s : hR (nwO x c n) (hN x) = fun _ => none := if_pos rfl
theorem hR_nw_n (h : ¬ b = hN x) : hR (nwO x c n) b = hR x b := if_neg h
end
section
variable {α : Type} {f : Int → α} {k j : Int} {v w : α}
theorem up_s : up f k v k = v := if_pos rfl
theorem up_n (h : ¬ j = k) : up f k v j = f j := if_neg h
theorem up_up : up (up f k v) k w = up f k w := by
  funext j; unfold up; split <;> rfl
end
section
variable {r mi pc rj mj q : Nat} {ls st args rest : List AV} {x y : HP} {Q : AO → HP → Prop}
theorem wk_v {v : AV} : wk r mi pc ls rest Q (.inl (some v)) y = wp r mi (pc + 3) ls (v :: rest) y Q := rfl
theorem wk_n : wk r mi pc ls rest Q (.inl none) y = wp r mi (pc + 3) ls rest y Q := rfl
theorem wk_x (h : 13 ≤ mi) : wk r mi pc ls rest Q (.inr q) y = Q (.inr q) y := by
  simp only [wk, hnd, if_neg (Nat.not_lt.mpr h)]
theorem wp_if {c : Prop} [Decidable c] {p1 p2 : Nat} : wp r mi (if c then p1 else p2) ls st x Q ↔ if c then wp r mi p1 ls st x Q else wp r mi p2 ls st x Q := by
  split <;> exact Iff.rfl
end

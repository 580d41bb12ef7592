/-! the interpreter: values are Int with a tag (0 int, 1 long, 2 float bits, 3 double bits, 4 reference (0 null), 5 a reference that is only handed on); the heap is a function of field, address, index -/
abbrev FV : Type := Nat × Int
abbrev fi_L : Type := List (Nat × FV)
abbrev fi_H : Type := Nat → Nat → Nat → Int
abbrev fi_O : Type := Option FV ⊕ Nat
def fi_i (x : Int32) : FV := (0, x.toInt)
def fi_l (x : Int64) : FV := (1, x.toInt)
def fi_f (x : UInt32) : FV := (2, (x.toNat : Int))
def fi_d (x : UInt64) : FV := (3, (x.toNat : Int))
abbrev fi_I (x : Int) : Int32 := Int32.ofInt x
abbrev fi_J6 (x : Int) : Int64 := Int64.ofInt x
abbrev fi_F (x : Int) : UInt32 := UInt32.ofNat x.toNat
abbrev fi_D (x : Int) : UInt64 := UInt64.ofNat x.toNat
/-- category 2 -/
def fi_wide (v : FV) : Bool := v.1 == 1 || v.1 == 3
def fi_upd (h : fi_H) (f a i : Nat) (v : Int) : fi_H := fun f' a' i' => if f' = f ∧ a' = a ∧ i' = i then v else h f' a' i'
/-- a new cell: class k, so many slots -/
def fi_new (h : fi_H) (k n len : Int) : fi_H := fun f a i =>
  if (a : Int) = h 2 0 0 + 1 then (if f = 0 then k else if f = 1 then len else 0)
  else if a = 0 then (if f = 2 then h 2 0 0 + 1 else if f = 3 then h 3 0 0 + n else h f a i) else h f a i
def fi_tg (t : Nat) : Nat := if t = 11 then 1 else if t = 6 then 2 else if t = 7 then 3 else if t = 12 then 4 else 0
/-- the range of what a place of a type holds -/
def fi_rg (t : Nat) (x : Int) : Bool :=
  if t = 4 then decide (x = 0 ∨ x = 1) else if t = 5 then decide (0 ≤ x ∧ x < 65536) else if t = 8 then decide (-128 ≤ x ∧ x < 128) else if t = 9 then decide (-32768 ≤ x ∧ x < 32768) else true
def fi_fk (o i : Nat) : Option Nat := (fi_fkT.getD o []).lookup i
def fi_sk (o i : Nat) : Option FV := (fi_skT.getD o []).lookup i
def fi_ck (o i : Nat) : Option Nat := (fi_ckT.getD o []).lookup i
def fi_lk (o i : Nat) : Option FV := (fi_lkT.getD o []).lookup i
def fi_ms (o i : Nat) : Option (Nat × Nat) := (fi_msT.getD o []).lookup i
def fi_mi (o i : Nat) : Option (Nat × Nat) := (fi_miT.getD o []).lookup i
def fi_mv (o i : Nat) : Option (Nat × Nat) := (fi_mvT.getD o []).lookup i
def fi_vt (d : Nat) (k : Int) : Option Nat := (fi_vtT.getD d []).lookup k.toNat
def fi_code (M : Nat) : ByteArray := match fi_mt[M]? with | some q => q.2.1 | none => ⟨#[]⟩
def fi_nl (M : Nat) : Nat := match fi_mt[M]? with | some q => q.2.2.1 | none => 0
def fi_ret (M : Nat) : Option FieldType := match fi_mt[M]? with | some q => q.2.2.2.1 | none => none
def fi_hh (M : Nat) : List (Nat × Nat × Nat × Nat) := match fi_mt[M]? with | some q => q.2.2.2.2 | none => []
def fi_ow (M : Nat) : Nat := fi_mo.getD M 0
def fi_ft (f : Nat) : Nat := fi_fy.getD (f - 100) 0
/-- the class of that number has the field -/
def fi_in (k : Int) (f : Nat) : Bool := decide (100 ≤ k) && (fi_cf.getD (k.toNat - 100) []).contains f
def fi_c0 : Instr → Nat → Option FV
  | .iconst n, 1 => some (fi_i (Int32.ofInt n))
  | .bipush n, 2 => some (fi_i (Int8.ofInt n).toInt32)
  | .sipush n, 3 => some (fi_i (Int16.ofInt n).toInt32)
  | .lconst n, 1 => some (fi_l (Int64.ofNat (n : Nat)))
  | .fconst n, 1 => if n = 0 then some (fi_f FP.fconst0) else if n = 1 then some (fi_f FP.fconst1) else none
  | .dconst n, 1 => if n = 0 then some (fi_d FP.dconst0) else some (fi_d FP.dconst1)
  | .aconst_null, 1 => some (4, 0)
  | _, _ => none
/-- which local a load reads, of what tags -/
def fi_ld : Instr → Nat → Option (Nat × Nat)
  | .iload_n n, 1 => some (n, 0) | .iload n, 2 => some (n, 0)
  | .lload_n n, 1 => some (n, 1) | .lload n, 2 => some (n, 1)
  | .fload_n n, 1 => some (n, 2) | .fload n, 2 => some (n, 2)
  | .dload_n n, 1 => some (n, 3) | .dload n, 2 => some (n, 3)
  | .aload_n n, 1 => some (n, 4) | .aload n, 2 => some (n, 4)
  | _, _ => none
def fi_st : Instr → Nat → Option (Nat × Nat)
  | .istore_n n, 1 => some (n, 0) | .istore n, 2 => some (n, 0)
  | .lstore_n n, 1 => some (n, 1) | .lstore n, 2 => some (n, 1)
  | .fstore_n n, 1 => some (n, 2) | .fstore n, 2 => some (n, 2)
  | .dstore_n n, 1 => some (n, 3) | .dstore n, 2 => some (n, 3)
  | .astore_n n, 1 => some (n, 4) | .astore n, 2 => some (n, 4)
  | _, _ => none
def fi_okt (want have_ : Nat) : Bool := want == have_ || (want == 4 && have_ == 5)
def fi_set (L : fi_L) (i : Nat) (v : FV) : fi_L :=
  if fi_wide v then (i, v) :: L.filter (fun q => !(q.1 == i) && (!(q.1 == i + 1) && !(q.1 + 1 == i && fi_wide q.2)))
  else (i, v) :: L.filter (fun q => !(q.1 == i) && !(q.1 + 1 == i && fi_wide q.2))
def fi_n64 (x : UInt64) : Option FV := if x &&& 0x7fffffffffffffff ≤ 0x7ff0000000000000 then some (fi_d x) else none
/-- what two values on the stack come to: the lower one first -/
def fi_b2 : Instr → FV → FV → Option FV
  | .iadd, (0, a), (0, b) => some (fi_i (fi_I a + fi_I b))
  | .isub, (0, a), (0, b) => some (fi_i (fi_I a - fi_I b))
  | .imul, (0, a), (0, b) => some (fi_i (fi_I a * fi_I b))
  | .idiv, (0, a), (0, b) => if b = 0 then none else some (fi_i (fi_I a / fi_I b))
  | .irem, (0, a), (0, b) => if b = 0 then none else some (fi_i (fi_I a - fi_I a / fi_I b * fi_I b))
  | .iand, (0, a), (0, b) => some (fi_i (fi_I a &&& fi_I b))
  | .ior, (0, a), (0, b) => some (fi_i (fi_I a ||| fi_I b))
  | .ixor, (0, a), (0, b) => some (fi_i (fi_I a ^^^ fi_I b))
  | .ishl, (0, a), (0, b) => some (fi_i (fi_I a <<< (fi_I b &&& 31)))
  | .ishr, (0, a), (0, b) => some (fi_i (fi_I a >>> (fi_I b &&& 31)))
  | .iushr, (0, a), (0, b) => some (fi_i ((fi_I a).toUInt32 >>> ((fi_I b).toUInt32 &&& Int32.toUInt32 31)).toInt32)
  | .ladd, (1, a), (1, b) => some (fi_l (fi_J6 a + fi_J6 b))
  | .lsub, (1, a), (1, b) => some (fi_l (fi_J6 a - fi_J6 b))
  | .lmul, (1, a), (1, b) => some (fi_l (fi_J6 a * fi_J6 b))
  | .ldiv, (1, a), (1, b) => if b = 0 then none else some (fi_l (fi_J6 a / fi_J6 b))
  | .lrem, (1, a), (1, b) => if b = 0 then none else some (fi_l (fi_J6 a - fi_J6 a / fi_J6 b * fi_J6 b))
  | .land, (1, a), (1, b) => some (fi_l (fi_J6 a &&& fi_J6 b))
  | .lor, (1, a), (1, b) => some (fi_l (fi_J6 a ||| fi_J6 b))
  | .lxor, (1, a), (1, b) => some (fi_l (fi_J6 a ^^^ fi_J6 b))
  | .lshl, (1, a), (0, b) => some (fi_l (fi_J6 a <<< ((fi_I b).toInt64 &&& 63)))
  | .lshr, (1, a), (0, b) => some (fi_l (fi_J6 a >>> ((fi_I b).toInt64 &&& 63)))
  | .lushr, (1, a), (0, b) => some (fi_l ((fi_J6 a).toUInt64 >>> ((fi_I b).toInt64.toUInt64 &&& Int64.toUInt64 63)).toInt64)
  | .lcmp, (1, a), (1, b) => some (fi_i (lg_cmp (fi_J6 a) (fi_J6 b)))
  | .dadd, (3, a), (3, b) => fi_n64 (FP.dadd (fi_D a) (fi_D b))
  | .dsub, (3, a), (3, b) => fi_n64 (FP.dsub (fi_D a) (fi_D b))
  | .dmul, (3, a), (3, b) => fi_n64 (FP.dmul (fi_D a) (fi_D b))
  | .ddiv, (3, a), (3, b) => fi_n64 (FP.ddiv (fi_D a) (fi_D b))
  | .drem, (3, a), (3, b) => fi_n64 (FP.drem (fi_D a) (fi_D b))
  | .dcmp op, (3, a), (3, b) => some (fi_i (Op.cmpValue (FP.dcmp (fi_D a) (fi_D b)) op))
  | .fcmp op, (2, a), (2, b) => some (fi_i (Op.cmpValue (FP.fcmp (fi_F a) (fi_F b)) op))
  | _, _, _ => none
def fi_u1 : Instr → FV → Option FV
  | .ineg, (0, a) => some (fi_i (-fi_I a))
  | .lneg, (1, a) => some (fi_l (-fi_J6 a))
  | .dneg, (3, a) => some (fi_d (FP.dneg (fi_D a)))
  | .i2l, (0, a) => some (fi_l (fi_I a).toInt64)
  | .l2i, (1, a) => some (fi_i (fi_J6 a).toInt32)
  | .i2b, (0, a) => some (fi_i (fi_I a).toInt8.toInt32)
  | .i2s, (0, a) => some (fi_i (fi_I a).toInt16.toInt32)
  | .i2c, (0, a) => some (fi_i ((fi_I a).toUInt32 % 65536).toInt32)
  | .i2d, (0, a) => some (fi_d (FP.i2d (fi_I a)))
  | .l2d, (1, a) => some (fi_d (FP.l2d (fi_J6 a)))
  | .d2l, (3, a) => some (fi_l (FP.d2l (fi_D a)))
  | .f2d, (2, a) => fi_n64 (FP.f2d (fi_F a))
  | _, _ => none
/-- stack shuffles -/
def fi_sh : Instr → List FV → Option (List FV)
  | .dup, a :: s => if fi_wide a then none else some (a :: a :: s)
  | .pop, a :: s => if fi_wide a then none else some s
  | .dup_x1, a :: b :: s => if fi_wide a || fi_wide b then none else some (a :: b :: a :: s)
  | .dup2, a :: b :: s => if fi_wide a then some (a :: a :: b :: s) else if fi_wide b then none else some (a :: b :: a :: b :: s)
  | .dup2, a :: [] => if fi_wide a then some (a :: a :: []) else none
  | _, _ => none
/-- element types of the array loads and stores; 0: none, 1: by the array's own class (byte or boolean) -/
def fi_al : Instr → Nat
  | .iaload => 10 | .laload => 11 | .faload => 6 | .daload => 7 | .aaload => 12 | .baload => 1 | .caload => 5 | .saload => 9 | _ => 0
def fi_as : Instr → Nat
  | .iastore => 10 | .lastore => 11 | .fastore => 6 | .dastore => 7 | .aastore => 12 | .bastore => 1 | .castore => 5 | .sastore => 9 | _ => 0
/-- the element type of an array of class k at an instruction of kind t; 0 if it can't be -/
def fi_et (t : Nat) (k : Int) : Nat := if t = 1 then (if k = 8 then 8 else if k = 4 then 4 else 0) else if t = 12 then (if 20 ≤ k ∧ k < 30 then 12 else 0) else if k = (t : Int) then t else 0
def fi_atc : ArrayType → Nat
  | .boolean => 4 | .char => 5 | .float => 6 | .double => 7 | .byte => 8 | .short => 9 | .int => 10 | .long => 11
/-- a class's own number and those above it that casts and stores ask for -/
def fi_sup : Int → List Nat
  | 103 => [103, 166] | 114 => [114, 166] | 106 => [106, 165, 166] | 123 => [123, 165, 166] | 109 => [109, 165, 166] | 112 => [112, 166] | 125 => [125, 166]
  | 102 => [102, 166] | 118 => [118, 166] | 122 => [122, 166] | 111 => [111, 166] | 108 => [108, 189] | 105 => [105, 189] | 127 => [127, 189]
  | 126 => [126] | 124 => [124] | 110 => [110] | 117 => [117] | 120 => [120] | 104 => [104] | 131 => [131] | 8 => [8] | _ => []
/-- the classes of which 'instanceof' is known both ways -/
def fi_iso (k : Int) (t : Nat) : Option Bool :=
  if (fi_sup k).contains 166 && [103, 114, 165, 112, 125, 102, 118, 122, 111].contains t then some ((fi_sup k).contains t)
  else if k = 131 ∧ t = 131 then some true else none
/-- the component's class number of an array of references -/
def fi_comp (k : Int) : Nat := if k = 20 then 189 else if k = 21 then 124 else if k = 22 then 110 else if k = 23 then 117 else if k = 24 then 120 else if k = 25 then 131 else if k = 26 then 126 else if k = 27 then 166 else if k = 29 then 104 else 0
/-- the array class over a component class -/
def fi_over (c : Nat) : Int := if c = 189 then 20 else if c = 124 then 21 else if c = 110 then 22 else if c = 117 then 23 else if c = 120 then 24 else if c = 131 then 25 else if c = 126 then 26 else if c = 166 then 27 else if c = 104 then 29 else 0
def fi_cb (c : ClassFile.Cond) (x y : Int) : Bool := match c with
  | .eq => decide (x = y) | .ne => decide (x ≠ y) | .lt => decide (x < y) | .ge => decide (y ≤ x) | .gt => decide (y < x) | .le => decide (x ≤ y)
def fi_tgt (pc : Nat) (off : Int) : Option Nat := if 0 ≤ (pc : Int) + off then some ((pc : Int) + off).toNat else none

/-- a grid of booleans: n rows of k places, the outer array first -/
def fi_grid (h : fi_H) (n k : Int) : fi_H := fun f a i =>
  if (a : Int) = h 2 0 0 + 1 then (if f = 0 then 28 else if f = 1 then n else if f = 12 ∧ (i : Int) < n then h 2 0 0 + 2 + i else 0)
  else if h 2 0 0 + 1 < a ∧ a ≤ h 2 0 0 + 1 + n then (if f = 0 then 4 else if f = 1 then k else 0)
  else if a = 0 then (if f = 2 then h 2 0 0 + 1 + n else if f = 3 then h 3 0 0 + n + n * k else h f a i) else h f a i
/-- a final field is written by the constructor of its own class alone -/
def fi_pf (M f : Nat) : Bool := match fi_fn[f - 100]?, fi_mt[M]? with
  | some q, some y => !q.2.2.2 || (decide (y.1.name = "<init>") && decide (q.1 = fi_cn.getD (fi_ow M) ""))
  | _, _ => false
/-- one plain step: the next pc, locals, stack, heap -/
def fi_stp (M : Nat) (ins : Instr) (len pc : Nat) (L : fi_L) (st : List FV) (h : fi_H) : Option (Nat × fi_L × List FV × fi_H) :=
  match fi_c0 ins len with
  | some v => some (pc + len, L, v :: st, h)
  | none =>
  match fi_ld ins len with
  | some (i, t) => match L.lookup i with
    | some v => if fi_okt t v.1 then some (pc + len, L, v :: st, h) else none
    | none => none
  | none =>
  match fi_st ins len with
  | some (i, t) => match st with
    | v :: st' => if fi_okt t v.1 && decide (i + (if fi_wide v then 1 else 0) < fi_nl M) then some (pc + len, fi_set L i v, st', h) else none
    | [] => none
  | none =>
  match ins with
  | .iinc i n => if len = 3 ∨ len = 6 then match L.lookup i with
    | some (0, x) => if i < fi_nl M then some (pc + len, fi_set L i (fi_i (fi_I x + Int32.ofInt n)), st, h) else none
    | _ => none else none
  | .goto off => if len = 3 then (fi_tgt pc off).map (fun t => (t, L, st, h)) else none
  | .ifCond c off => if len = 3 then match st, fi_tgt pc off with
    | (0, x) :: st', some t => some (if fi_cb c x 0 then t else pc + 3, L, st', h)
    | _, _ => none else none
  | .if_icmp c off => if len = 3 then match st, fi_tgt pc off with
    | (0, y) :: (0, x) :: st', some t => some (if fi_cb c x y then t else pc + 3, L, st', h)
    | _, _ => none else none
  | .if_acmp c off => if len = 3 then match st, fi_tgt pc off with
    | (4, y) :: (4, x) :: st', some t => some (if (match c with | .eq => decide (x = y) | .ne => decide (x ≠ y)) then t else pc + 3, L, st', h)
    | _, _ => none else none
  | .ifnull off => if len = 3 then match st, fi_tgt pc off with
    | (4, x) :: st', some t => some (if x = 0 then t else pc + 3, L, st', h)
    | _, _ => none else none
  | .ifnonnull off => if len = 3 then match st, fi_tgt pc off with
    | (4, x) :: st', some t => some (if x = 0 then pc + 3 else t, L, st', h)
    | _, _ => none else none
  | .tableswitch dflt lo hi offs => match st with
    | (0, x) :: st' => if x < lo ∨ hi < x then (fi_tgt pc dflt).map (fun t => (t, L, st', h)) else match offs[(x - lo).toNat]? with
      | some off => (fi_tgt pc off).map (fun t => (t, L, st', h))
      | none => none
    | _ => none
  | .lookupswitch dflt ps => match st with
    | (0, x) :: st' => if (ps.toList.zip (ps.toList.drop 1)).all (fun (a, next) => a.1 < next.1) then (fi_tgt pc (Op.lookupswitch.offset ps.toList dflt x)).map (fun t => (t, L, st', h)) else none
    | _ => none
  | .ldc i => if len = 2 then match fi_lk (fi_ow M) i with
    | some v => if fi_wide v then none else some (pc + 2, L, v :: st, h)
    | none => none else none
  | .ldc_w i => if len = 3 then match fi_lk (fi_ow M) i with
    | some v => if fi_wide v then none else some (pc + 3, L, v :: st, h)
    | none => none else none
  | .ldc2_w i => if len = 3 then match fi_lk (fi_ow M) i with
    | some v => if fi_wide v then some (pc + 3, L, v :: st, h) else none
    | none => none else none
  | .getstatic i => if len = 3 then match fi_sk (fi_ow M) i with
    | some v => some (pc + 3, L, v :: st, h)
    | none => none else none
  | .getfield i => if len = 3 then match st, fi_fk (fi_ow M) i with
    | (4, r) :: st', some f => if r = 0 then none else if fi_in (h 0 r.toNat 0) f then some (pc + 3, L, (fi_tg (fi_ft f), h f r.toNat 0) :: st', h) else none
    | _, _ => none else none
  | .putfield i => if len = 3 then match st, fi_fk (fi_ow M) i with
    | v :: (4, r) :: st', some f => if r ≤ (fi_J : Int) then none else if fi_in (h 0 r.toNat 0) f && (v.1 == fi_tg (fi_ft f)) && fi_rg (fi_ft f) v.2 && fi_pf M f && decide (h 0 r.toNat 0 < 134) then some (pc + 3, L, st', fi_upd h f r.toNat 0 v.2) else none
    | _, _ => none else none
  | .arraylength => if len = 1 then match st with
    | (4, r) :: st' => if r = 0 then none else if 4 ≤ h 0 r.toNat 0 ∧ (h 0 r.toNat 0 ≤ 11 ∨ 20 ≤ h 0 r.toNat 0) ∧ h 0 r.toNat 0 < 30 then some (pc + 1, L, (0, h 1 r.toNat 0) :: st', h) else none
    | _ => none else none
  | .new i => if len = 3 then match fi_ck (fi_ow M) i with
    | some k => if 100 ≤ k ∧ k < 134 then some (pc + 3, L, (4, h 2 0 0 + 1) :: st, fi_new h k (fi_ns.getD (k - 100) 0) 0) else none
    | none => none else none
  | .newarray t => if len = 2 then match st with
    | (0, n) :: st' => if 0 ≤ n ∧ n < 65536 then some (pc + 2, L, (4, h 2 0 0 + 1) :: st', fi_new h (fi_atc t) n n) else none
    | _ => none else none
  | .anewarray i => if len = 3 then match st, fi_ck (fi_ow M) i with
    | (0, n) :: st', some k => if 0 ≤ n ∧ n < 65536 ∧ 20 ≤ fi_over k then some (pc + 3, L, (4, h 2 0 0 + 1) :: st', fi_new h (fi_over k) n n) else none
    | _, _ => none else none
  | .multianewarray i d => if len = 4 ∧ d = 2 then match st, fi_ck (fi_ow M) i with
    | (0, k) :: (0, n) :: st', some 28 => if 0 ≤ n ∧ n < 256 ∧ 0 ≤ k ∧ k < 256 then some (pc + 4, L, (4, h 2 0 0 + 1) :: st', fi_grid h n k) else none
    | _, _ => none else none
  | .checkcast i => if len = 3 then match st, fi_ck (fi_ow M) i with
    | (4, r) :: st', some k => if r = 0 ∨ (fi_sup (h 0 r.toNat 0)).contains k = true then some (pc + 3, L, (4, r) :: st', h) else none
    | _, _ => none else none
  | .instanceof i => if len = 3 then match st, fi_ck (fi_ow M) i with
    | (4, r) :: st', some k => if r = 0 then some (pc + 3, L, (0, 0) :: st', h) else match fi_iso (h 0 r.toNat 0) k with
      | some b => some (pc + 3, L, (0, if b then 1 else 0) :: st', h)
      | none => none
    | _, _ => none else none
  | _ =>
  if len = 1 then
    if fi_al ins ≠ 0 then match st with
      | (0, i) :: (4, r) :: st' => if r = 0 then none else if fi_et (fi_al ins) (h 0 r.toNat 0) ≠ 0 ∧ 0 ≤ i ∧ i < h 1 r.toNat 0 then
          some (pc + 1, L, (fi_tg (fi_et (fi_al ins) (h 0 r.toNat 0)), h (fi_et (fi_al ins) (h 0 r.toNat 0)) r.toNat i.toNat) :: st', h) else none
      | _ => none
    else if fi_as ins ≠ 0 then match st with
      | v :: (0, i) :: (4, r) :: st' => if r ≤ (fi_J : Int) then none else
          if fi_et (fi_as ins) (h 0 r.toNat 0) ≠ 0 ∧ 0 ≤ i ∧ i < h 1 r.toNat 0 ∧ v.1 = fi_tg (fi_et (fi_as ins) (h 0 r.toNat 0)) ∧ fi_rg (fi_et (fi_as ins) (h 0 r.toNat 0)) v.2 = true ∧
            (fi_as ins = 12 → h 0 r.toNat 0 ≠ 28 ∧ (v.2 = 0 ∨ (fi_sup (h 0 v.2.toNat 0)).contains (fi_comp (h 0 r.toNat 0)) = true)) then
          some (pc + 1, L, st', fi_upd h (fi_et (fi_as ins) (h 0 r.toNat 0)) r.toNat i.toNat v.2) else none
      | _ => none
    else match fi_sh ins st with
    | some st' => some (pc + 1, L, st', h)
    | none => match st with
      | b :: a :: st' => match fi_b2 ins a b with
        | some v => some (pc + 1, L, v :: st', h)
        | none => (fi_u1 ins b).map (fun v => (pc + 1, L, v :: a :: st', h))
      | b :: st' => (fi_u1 ins b).map (fun v => (pc + 1, L, v :: st', h))
      | [] => none
  else none
/-- so many values off the stack, the lowest first -/
def fi_pop : Nat → List FV → Option (List FV × List FV)
  | 0, st => some ([], st)
  | n + 1, v :: st => match fi_pop n st with
    | some (a, r) => some (a ++ [v], r)
    | none => none
  | _ + 1, [] => none
def fi_dk (d : Nat) : Nat := match fi_dn[d]? with | some q => q.2.1 | none => 0
/-- whom an instruction calls: the method, its arguments, the stack below -/
def fi_cl (M : Nat) (ins : Instr) (len : Nat) (st : List FV) (h : fi_H) : Option (Nat × List FV × List FV) :=
  match ins with
  | .invokestatic i => if len = 3 then match fi_ms (fi_ow M) i with
    | some (n, M') => match fi_pop n st with | some (a, r) => some (M', a, r) | none => none
    | none => none else none
  | .invokespecial i => if len = 3 then match fi_mi (fi_ow M) i with
    | some (n, M') => match fi_pop n st with | some (a, (4, r) :: s) => if r = 0 ∨ ¬ (100 ≤ h 0 r.toNat 0 ∧ h 0 r.toNat 0 < 134) then none else some (M', (4, r) :: a, s) | _ => none
    | none => none else none
  | .invokevirtual i => if len = 3 then match fi_mv (fi_ow M) i with
    | some (n, d) => match fi_pop n st with
      | some (a, (4, r) :: s) => if r = 0 ∨ fi_dk d = 3 then none else match fi_vt d (h 0 r.toNat 0) with
        | some M' => some (M', (4, r) :: a, s)
        | none => none
      | _ => none
    | none => none else none
  | .invokeinterface i _ => if len = 5 then match fi_mv (fi_ow M) i with
    | some (n, d) => match fi_pop n st with
      | some (a, (4, r) :: s) => if r = 0 ∨ fi_dk d ≠ 3 then none else match fi_vt d (h 0 r.toNat 0) with
        | some M' => some (M', (4, r) :: a, s)
        | none => none
      | _ => none
    | none => none else none
  | _ => none
/-- how a method ends here: its answer -/
def fi_rt (M : Nat) (ins : Instr) (len : Nat) (st : List FV) : Option (Option FV) :=
  if len = 1 then match ins, st with
  | .return_, [] => if fi_ret M = none then some none else none
  | .ireturn, [(0, x)] => match fi_ret M with
    | some .int => some (some (0, x))
    | some .boolean => if x = 0 ∨ x = 1 then some (some (0, x)) else none
    | some .char => if 0 ≤ x ∧ x < 65536 then some (some (0, x)) else none
    | some .byte => if -128 ≤ x ∧ x < 128 then some (some (0, x)) else none
    | _ => none
  | .lreturn, [(1, x)] => if fi_ret M = some .long then some (some (1, x)) else none
  | .freturn, [(2, x)] => if fi_ret M = some .float then some (some (2, x)) else none
  | .dreturn, [(3, x)] => if fi_ret M = some .double then some (some (3, x)) else none
  | .areturn, [(4, x)] => match fi_ret M with
    | some (.object _) => some (some (4, x))
    | some (.array _) => some (some (4, x))
    | _ => none
  | _, _ => none
  else none
/-- the row of the handlers that takes what is thrown at pc -/
def fi_hat (M pc : Nat) : Option (Nat × Nat × Nat × Nat) := (fi_hh M).find? (fun q => decide (q.1 ≤ pc ∧ pc < q.2.1))
abbrev fi_C : Type := Nat → fi_H → List FV → Option (fi_O × fi_H)
/-- a method's run from a point to its end; n steps at most -/
def fi_go (call : fi_C) (M : Nat) : Nat → Nat → fi_L → List FV → fi_H → Option (fi_O × fi_H)
  | 0, _, _, _, _ => none
  | n + 1, pc, L, st, h =>
    let thr : Nat → fi_H → Option (fi_O × fi_H) := fun r h => if 100 ≤ h 0 r 0 ∧ h 0 r 0 < 134 then match fi_hat M pc with
      | none => some (.inr r, h)
      | some (_, _, hp, ct) => if ct = 0 ∨ fi_ck (fi_ow M) ct = some (h 0 r 0).toNat then fi_go call M n hp L [(4, (r : Int))] h else none
      else none
    match decode (fi_code M) pc with
    | .ok (ins, len) =>
      match fi_rt M ins len st with
      | some v => some (.inl v, h)
      | none => match fi_cl M ins len st h with
        | some (M', a, r) => if 8 < r.length ∨ (fi_law ≤ M' ∧ M' < 1000) then none else match call M' h a with
          | some (.inl v, h') => fi_go call M n (pc + len) L (v.toList ++ r) h'
          | some (.inr q, h') => thr q h'
          | none => none
        | none => match ins, st with
          | .athrow, (4, r) :: _ => if len = 1 ∧ r ≠ 0 then thr r.toNat h else none
          | _, _ => match fi_stp M ins len pc L st h with
            | some (pc', L', st', h') => fi_go call M n pc' L' st' h'
            | none => none
    | .error _ => none
def fi_args : Nat → List FV → fi_L
  | _, [] => []
  | i, v :: vs => (i, v) :: fi_args (if fi_wide v then i + 2 else i + 1) vs
/-- the methods without code of ours: arraycopy of bytes, bits of floats, an array's clone, Throwable's constructor as it is called here -/
def fi_nn (x : UInt64) : Bool := decide (x &&& 0x7fffffffffffffff ≤ 0x7ff0000000000000) && !(FP.dIsNaN x)
def fi_nat0 (M : Nat) (h : fi_H) (a : List FV) : Option (Option (fi_O × fi_H)) :=
  if M = 1001 then some (match a with | [(1, x)] => if vn_snl2d (fi_J6 x) = false then some (.inl (some (fi_d (fi_J6 x).toUInt64)), h) else none | _ => none)
  else if M = 1002 then some (match a with | [(3, x)] => some (.inl (some (fi_l (fi_D x).toInt64)), h) | _ => none)
  else if M = 1003 then some (match a with | [(0, x)] => if vn_sni2f (fi_I x) = false then some (.inl (some (fi_f (fi_I x).toUInt32)), h) else none | _ => none)
  else if M = 1000 then some (match a with
    | [(4, s), (0, sp), (4, t), (0, tp), (0, n)] => if 0 < s ∧ (fi_J : Int) < t ∧ s ≠ t ∧ h 0 s.toNat 0 = 8 ∧ h 0 t.toNat 0 = 8 ∧ 0 ≤ sp ∧ 0 ≤ tp ∧ 0 ≤ n ∧ sp + n ≤ h 1 s.toNat 0 ∧ tp + n ≤ h 1 t.toNat 0
      then some (.inl none, fun f b i => if f = 8 ∧ (b : Int) = t ∧ tp ≤ (i : Int) ∧ (i : Int) < tp + n then h 8 s.toNat (i - tp.toNat + sp.toNat) else h f b i) else none
    | _ => none)
  else if M = 1005 then some (match a with
    | [(4, r), (4, 0), (4, 0), (0, 0), (0, 0)] => if (fi_J : Int) < r ∧ (h 0 r.toNat 0 = 128 ∨ h 0 r.toNat 0 = 107 ∨ h 0 r.toNat 0 = 130) ∧ h 102 r.toNat 0 = 0 ∧ h 103 r.toNat 0 = 0 ∧ h 104 r.toNat 0 = 0 ∧ h 105 r.toNat 0 = 0 then some (.inl none, h) else none
    | _ => none)
  else if M = 1006 then some (match a with | [(3, x)] => if fi_nn (fi_D x) = true then some (.inl (some (fi_d (fi_D x &&& 0x7fffffffffffffff))), h) else none | _ => none)
  else if M = 1008 then some (match a with | [(3, x), (3, y)] => if fi_nn (fi_D x) = true ∧ fi_nn (fi_D y) = true then some (.inl (some (fi_d ((fi_D x &&& 0x7fffffffffffffff) ||| (if fi_D y >>> 63 == 1 then 0x8000000000000000 else 0)))), h) else none | _ => none)
  else if M = 1009 then some (match a with | [(4, r)] => if 0 < r then some (.inl none, h) else none | _ => none)
  else if 1000 ≤ M then some none else none
/-- calls of natives alone -/
def fi_call0 : fi_C := fun M h a => match fi_nat0 M h a with | some r => r | none => none
/-- Math.rint: its entry in the table of natives calls StrictMath.rint -/
def fi_nat (M : Nat) (h : fi_H) (a : List FV) : Option (Option (fi_O × fi_H)) :=
  if M = 1007 then some (match a with
    | [(3, x)] => match fi_go fi_call0 fi_rintM 40 0 (fi_args 0 [(3, x)]) [] h with
      | some (.inl (some (3, r)), h') => if (h' 2 0 0 = h 2 0 0 ∧ h' 3 0 0 = h 3 0 0) ∧ fi_nn (fi_D r) = true then some (.inl (some (3, r)), h') else none
      | _ => none
    | _ => none)
  else fi_nat0 M h a

noncomputable def fi_lim {α : Type} (f : Nat → Option α) : Option α := @dite _ (∃ r, ∃ n, f n = some r) (Classical.propDecidable _) (fun h => some (Classical.choose h)) (fun _ => none)
/-- how many words the arguments take -/
def fi_aw : List FV → Nat
  | [] => 0
  | v :: vs => (if fi_wide v then 2 else 1) + fi_aw vs
noncomputable def fi_run : Nat → fi_C
  | 0 => fun _ _ _ => none
  | d + 1 => fun M h a => match fi_nat M h a with
    | some r => r
    | none => if fi_aw a ≤ fi_nl M then fi_lim (fun n => fi_go (fi_run d) M n 0 (fi_args 0 a) [] h) else none

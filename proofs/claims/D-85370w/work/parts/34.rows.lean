/-! rows: a method's run from a point on, an instruction at a time, as an equation -/
/-- a point of a method's code with all that is fixed there: pc, the cut of the locals, the instruction, its length, what its index stands for -/
abbrev fk_E : Type := Nat × Option (List Nat) × Instr × Nat × Nat × Int × Nat
def fk_r32 (n : Int) : Bool := decide (-2147483648 ≤ n) && decide (n < 2147483648)
def fk_only (f : Nat) (k : Int) : Bool := fi_in k f && (List.range fi_cf.length).all (fun c => (fi_in (100 + c) f) == decide ((100 + c : Int) = k))
/-- how many answers of a virtual call there are to look at: all are of one kind -/
def fk_vk (d t : Nat) : Bool := (fi_vtT.getD d []).all (fun q => (fj_rk q.2 == t) && !(decide (fi_law ≤ q.2) && decide (q.2 < 1000)) && decide (q.1 ≠ 0))
def fk_res (M pc : Nat) (ins : Instr) (x1 : Nat) (x2 : Int) (x3 : Nat) : Bool := match ins with
  | .iconst n => fk_r32 n && decide (x2 = n)
  | .bipush n => decide (-128 ≤ n) && decide (n < 128) && decide (x2 = n)
  | .sipush n => decide (-32768 ≤ n) && decide (n < 32768) && decide (x2 = n)
  | .iinc _ n => fk_r32 n && decide (x2 = n)
  | .getfield i => (fi_fk (fi_ow M) i == some x1) && (decide (x2 = 0) || (if 0 < x2 then fi_in x2 x1 else fk_only x1 (-x2))) && decide (fi_ft x1 = x3)
  | .putfield i => (fi_fk (fi_ow M) i == some x1) && (decide (x2 = 0) || if 0 < x2 then fi_in x2 x1 && decide (x2 < 134) else fk_only x1 (-x2) && decide (-x2 < 134)) && fi_pf M x1 && decide (fi_ft x1 = x3 % 100) && (fj_fin x1 == decide (100 ≤ x3))
  | .getstatic i => fi_sk (fi_ow M) i == some (x1, x2)
  | .ldc i => (fi_lk (fi_ow M) i == some (x1, x2)) && !(fi_wide (x1, x2))
  | .ldc_w i => (fi_lk (fi_ow M) i == some (x1, x2)) && !(fi_wide (x1, x2))
  | .ldc2_w i => (fi_lk (fi_ow M) i == some (x1, x2)) && fi_wide (x1, x2)
  | .new i => (fi_ck (fi_ow M) i == some x1) && decide (100 ≤ x1) && decide (x1 < 134) && decide (x2 = (fi_ns.getD (x1 - 100) 0 : Nat))
  | .anewarray i => (fi_ck (fi_ow M) i == some x1) && decide (20 ≤ fi_over x1) && decide (x2 = fi_over x1)
  | .multianewarray i d => (fi_ck (fi_ow M) i == some 28) && decide (d = 2)
  | .checkcast i => fi_ck (fi_ow M) i == some x1
  | .instanceof i => fi_ck (fi_ow M) i == some x1
  | .invokestatic i => (fi_ms (fi_ow M) i == some (x1, x2.toNat)) && !(decide (fi_law ≤ x2.toNat) && decide (x2.toNat < 1000)) && decide (fj_rk x2.toNat = x3)
  | .invokespecial i => (fi_mi (fi_ow M) i == some (x1, x2.toNat)) && !(decide (fi_law ≤ x2.toNat) && decide (x2.toNat < 1000)) && decide (fj_rk x2.toNat = x3)
  | .invokevirtual i => (fi_mv (fi_ow M) i == some (x1, x2.toNat)) && decide (fi_dk x2.toNat ≠ 3) && fk_vk x2.toNat x3
  | .invokeinterface i _ => (fi_mv (fi_ow M) i == some (x1, x2.toNat)) && decide (fi_dk x2.toNat = 3) && fk_vk x2.toNat x3
  | .goto o => fi_tgt pc o == some x1
  | .ifCond _ o => fi_tgt pc o == some x1
  | .if_icmp _ o => fi_tgt pc o == some x1
  | .if_acmp _ o => fi_tgt pc o == some x1
  | .ifnull o => fi_tgt pc o == some x1
  | .ifnonnull o => fi_tgt pc o == some x1
  | _ => true
def fk_dec (c : ByteArray) (pc : Nat) (ins : Instr) (len : Nat) : Bool := match decode c pc with
  | .ok (i, n) => decide (i = ins) && decide (n = len)
  | .error _ => false
def fk_b (c : ByteArray) (M : Nat) : List fk_E → Bool
  | [] => true
  | (pc, cu, ins, len, x1, x2, x3) :: l => fk_dec c pc ins len && (fj_cut M pc == cu) && fk_res M pc ins x1 x2 x3 && fk_b c M l
def fk_D (M : Nat) : List fk_E → Prop
  | [] => True
  | (pc, cu, ins, len, x1, x2, x3) :: l => decode (fi_code M) pc = .ok (ins, len) ∧ fj_cut M pc = cu ∧ fk_res M pc ins x1 x2 x3 = true ∧ fk_D M l
theorem fk_of {c : ByteArray} {M : Nat} (hc : fi_code M = c) : ∀ {l : List fk_E}, fk_b c M l = true → fk_D M l
  | [], _ => trivial
  | (pc, cu, ins, len, x1, x2, x3) :: l, e => by
    unfold fk_b at e
    simp only [Bool.and_eq_true] at e
    obtain ⟨⟨⟨e1, e2⟩, e3⟩, e4⟩ := e
    refine ⟨?_, eq_of_beq e2, e3, fk_of hc e4⟩
    rw [hc]
    unfold fk_dec at e1
    split at e1
    · rename_i i n hd
      simp only [Bool.and_eq_true, decide_eq_true_eq] at e1
      rw [hd, e1.1, e1.2]
    · cases e1
def fk_am (cu : Option (List Nat)) (L : fi_L) : fi_L := match cu with | some lv => fj_norm lv L | none => L
theorem fk_at {M pc : Nat} {cu : Option (List Nat)} {L : fi_L} (h : fj_cut M pc = cu) (ha : fk_am cu L = L) : fj_at M pc L = L := by
  unfold fj_at
  rw [h]
  exact ha
/-- what a jump to a cut point keeps -/
theorem fk_jump {c : fi_C} {M pc : Nat} {lv : List Nat} {L L' : fi_L} {st : List FV} {h : fi_H} (hc : fj_cut M pc = some lv) (e : fj_norm lv L = L') (e2 : fj_norm lv L' = L') : gG c M pc L st h = gG c M pc L' st h := by
  have a1 : fj_at M pc L = L' := by unfold fj_at; rw [hc]; exact e
  have a2 : fj_at M pc L' = L' := by unfold fj_at; rw [hc]; exact e2
  have a3 : ∀ q h', gT c M pc L q h' = gT c M pc L' q h' := by intro q h'; unfold gT; rw [a1, a2]
  rw [gG_eq, gG_eq c M pc L']
  simp only [a1, a2, a3]
/-- a call's answer goes on -/
def ca_ (r : Option (fi_O × fi_H)) (t : Nat) (k : Int → fi_H → Option (fi_O × fi_H)) (x : Nat → fi_H → Option (fi_O × fi_H)) : Option (fi_O × fi_H) := match r with
  | some (.inl (some (t', v)), h') => if t' = t then k v h' else none
  | some (.inl none, _) => none
  | some (.inr q, h') => x q h'
  | none => none
def cv_ (r : Option (fi_O × fi_H)) (k : fi_H → Option (fi_O × fi_H)) (x : Nat → fi_H → Option (fi_O × fi_H)) : Option (fi_O × fi_H) := match r with
  | some (.inl none, h') => k h'
  | some (.inl (some _), _) => none
  | some (.inr q, h') => x q h'
  | none => none
def lt_ {α β : Type} (e : α) (k : α → β) : β := k e
/-- thrown, nothing takes it -/
def tx_ (q : Nat) (h : fi_H) : Option (fi_O × fi_H) := if 100 ≤ h 0 q 0 ∧ h 0 q 0 < 134 then some (.inr q, h) else none
/-- thrown, all is taken -/
def ta_ (q : Nat) (h : fi_H) (k : Option (fi_O × fi_H)) : Option (fi_O × fi_H) := if 100 ≤ h 0 q 0 ∧ h 0 q 0 < 134 then k else none
/-- thrown, one class is taken -/
def tc_ (n : Int) (q : Nat) (h : fi_H) (k : Option (fi_O × fi_H)) : Option (fi_O × fi_H) := if h 0 q 0 = n then k else none
def dv_ (o : Option Nat) (k : Nat → Option (fi_O × fi_H)) : Option (fi_O × fi_H) := match o with | some M => k M | none => none
def wI (x : Int) : Int := (Int32.ofInt x).toInt
def wJ (x : Int) : Int := (Int64.ofInt x).toInt
theorem wI_id {x : Int} (h1 : -2147483648 ≤ x) (h2 : x < 2147483648) : wI x = x := fr_tI ⟨h1, h2⟩
theorem wJ_id {x : Int} (h1 : -9223372036854775808 ≤ x) (h2 : x < 9223372036854775808) : wJ x = x := fr_tJ ⟨h1, h2⟩
theorem wI_rg (x : Int) : -2147483648 ≤ wI x ∧ wI x < 2147483648 := ⟨(Int32.ofInt x).le_toInt, (Int32.ofInt x).toInt_lt⟩
theorem wJ_rg (x : Int) : -9223372036854775808 ≤ wJ x ∧ wJ x < 9223372036854775808 := ⟨(Int64.ofInt x).le_toInt, (Int64.ofInt x).toInt_lt⟩
theorem wI_wI (x : Int) : wI (wI x) = wI x := wI_id (wI_rg x).1 (wI_rg x).2
theorem wJ_wJ (x : Int) : wJ (wJ x) = wJ x := wJ_id (wJ_rg x).1 (wJ_rg x).2
theorem wJ_wI (x : Int) : wJ (wI x) = wI x := wJ_id (by have := (wI_rg x).1; omega) (by have := (wI_rg x).2; omega)
section FK
variable {c : fi_C} {M pc : Nat} {cu : Option (List Nat)} {len : Nat} {x1 : Nat} {x2 : Int} {x3 : Nat} {l : List fk_E} {L : fi_L} {st : List FV} {h : fi_H} {b : Option (fi_O × fi_H)}
def fk_pl (ins : Instr) (len : Nat) : Bool := match ins with
  | .return_ => false | .ireturn => false | .lreturn => false | .freturn => false | .dreturn => false | .areturn => false | .athrow => false
  | .invokestatic _ => false | .invokespecial _ => false | .invokevirtual _ => false | .invokeinterface _ _ => false | .putfield _ => false | .newarray _ => false | .anewarray _ => false | _ => true
theorem fk_plain {ins : Instr} {pc' : Nat} {L' : fi_L} {st' : List FV} {h' : fi_H} (D : fk_D M ((pc, cu, ins, len, x1, x2, x3) :: l)) (ha : fk_am cu L = L) (hp : fk_pl ins len = true) (hs : fi_stp M ins len pc L st h = some (pc', L', st', h')) : gG c M pc L st h = gG c M pc' L' st' h' := by
  obtain ⟨d1, d2, -, -⟩ := D
  rw [gG_eq, d1]
  have h1 : fi_rt M ins len st = none := by
    unfold fi_rt
    split
    · split <;> first | rfl | (cases hp; done)
    · rfl
  have h2 : fi_cl M ins len st h = none := by
    unfold fi_cl
    split <;> first | rfl | (cases hp; done)
  have h3 : ¬ ∃ r0 st2, ins = .athrow ∧ st = (4, r0) :: st2 := by
    rintro ⟨r0, st2, rfl, -⟩
    cases hp
  have h4 : fj_ok M ins st h = true := by
    unfold fj_ok
    split <;> first | rfl | (cases hp; done)
  simp only [h1, h2]
  rw [fj_nat h3, if_pos h4, fk_at d2 ha, hs]
/-- pushes of constants -/
theorem j_ic {n : Int} (D : fk_D M ((pc, cu, .iconst n, 1, x1, x2, x3) :: l)) (ha : fk_am cu L = L) (k : fk_D M l → gG c M (pc + 1) L ((0, n) :: st) h = b) : gG c M pc L st h = b := by
  have hr := D.2.2.1
  simp only [fk_res, fk_r32, Bool.and_eq_true, decide_eq_true_eq] at hr
  refine (fk_plain D ha rfl ?_).trans (k D.2.2.2)
  show some (pc + 1, L, fi_i (Int32.ofInt n) :: st, h) = _
  rw [show fi_i (Int32.ofInt n) = (0, n) from congrArg (Prod.mk 0) (wI_id hr.1.1 hr.1.2)]
theorem j_bp {n : Int} (D : fk_D M ((pc, cu, .bipush n, 2, x1, x2, x3) :: l)) (ha : fk_am cu L = L) (k : fk_D M l → gG c M (pc + 2) L ((0, n) :: st) h = b) : gG c M pc L st h = b := by
  have hr := D.2.2.1
  simp only [fk_res, Bool.and_eq_true, decide_eq_true_eq] at hr
  refine (fk_plain D ha rfl ?_).trans (k D.2.2.2)
  show some (pc + 2, L, fi_i (Int8.ofInt n).toInt32 :: st, h) = _
  have e : (Int8.ofInt n).toInt32.toInt = n := by
    rw [Int8.toInt_toInt32, Int8.toInt_ofInt]
    exact Int.bmod_eq_of_le (by simpa using hr.1.1) (by simpa using hr.1.2)
  rw [show fi_i (Int8.ofInt n).toInt32 = (0, n) from congrArg (Prod.mk 0) e]
theorem j_sp {n : Int} (D : fk_D M ((pc, cu, .sipush n, 3, x1, x2, x3) :: l)) (ha : fk_am cu L = L) (k : fk_D M l → gG c M (pc + 3) L ((0, n) :: st) h = b) : gG c M pc L st h = b := by
  have hr := D.2.2.1
  simp only [fk_res, Bool.and_eq_true, decide_eq_true_eq] at hr
  refine (fk_plain D ha rfl ?_).trans (k D.2.2.2)
  show some (pc + 3, L, fi_i (Int16.ofInt n).toInt32 :: st, h) = _
  have e : (Int16.ofInt n).toInt32.toInt = n := by
    rw [Int16.toInt_toInt32, Int16.toInt_ofInt]
    exact Int.bmod_eq_of_le (by simpa using hr.1.1) (by simpa using hr.1.2)
  rw [show fi_i (Int16.ofInt n).toInt32 = (0, n) from congrArg (Prod.mk 0) e]
/-- other constants, by what they come to -/
theorem j_c0 {ins : Instr} {v : FV} (D : fk_D M ((pc, cu, ins, len, x1, x2, x3) :: l)) (ha : fk_am cu L = L) (hp : fk_pl ins len = true) (hv : fi_c0 ins len = some v) (k : fk_D M l → gG c M (pc + len) L (v :: st) h = b) : gG c M pc L st h = b := by
  refine (fk_plain D ha hp ?_).trans (k D.2.2.2)
  unfold fi_stp
  rw [hv]
theorem j_ldc {i : Nat} (D : fk_D M ((pc, cu, .ldc i, 2, x1, x2, x3) :: l)) (ha : fk_am cu L = L) (k : fk_D M l → gG c M (pc + 2) L ((x1, x2) :: st) h = b) : gG c M pc L st h = b := by
  have hr := D.2.2.1
  simp only [fk_res, Bool.and_eq_true, Bool.not_eq_true'] at hr
  refine (fk_plain D ha rfl ?_).trans (k D.2.2.2)
  show (if 2 = 2 then match fi_lk (fi_ow M) i with
    | some v => if fi_wide v then none else some (pc + 2, L, v :: st, h)
    | none => none else none) = _
  rw [if_pos rfl, eq_of_beq hr.1]
  simp [hr.2]
theorem j_ldcw {i : Nat} (D : fk_D M ((pc, cu, .ldc_w i, 3, x1, x2, x3) :: l)) (ha : fk_am cu L = L) (k : fk_D M l → gG c M (pc + 3) L ((x1, x2) :: st) h = b) : gG c M pc L st h = b := by
  have hr := D.2.2.1
  simp only [fk_res, Bool.and_eq_true, Bool.not_eq_true'] at hr
  refine (fk_plain D ha rfl ?_).trans (k D.2.2.2)
  show (if 3 = 3 then match fi_lk (fi_ow M) i with
    | some v => if fi_wide v then none else some (pc + 3, L, v :: st, h)
    | none => none else none) = _
  rw [if_pos rfl, eq_of_beq hr.1]
  simp [hr.2]
theorem j_ldc2 {i : Nat} (D : fk_D M ((pc, cu, .ldc2_w i, 3, x1, x2, x3) :: l)) (ha : fk_am cu L = L) (k : fk_D M l → gG c M (pc + 3) L ((x1, x2) :: st) h = b) : gG c M pc L st h = b := by
  have hr := D.2.2.1
  simp only [fk_res, Bool.and_eq_true] at hr
  refine (fk_plain D ha rfl ?_).trans (k D.2.2.2)
  show (if 3 = 3 then match fi_lk (fi_ow M) i with
    | some v => if fi_wide v then some (pc + 3, L, v :: st, h) else none
    | none => none else none) = _
  rw [if_pos rfl, eq_of_beq hr.1]
  simp [hr.2]
theorem j_gs {i : Nat} (D : fk_D M ((pc, cu, .getstatic i, 3, x1, x2, x3) :: l)) (ha : fk_am cu L = L) (k : fk_D M l → gG c M (pc + 3) L ((x1, x2) :: st) h = b) : gG c M pc L st h = b := by
  have hr := D.2.2.1
  simp only [fk_res] at hr
  refine (fk_plain D ha rfl ?_).trans (k D.2.2.2)
  show (if 3 = 3 then match fi_sk (fi_ow M) i with
    | some v => some (pc + 3, L, v :: st, h)
    | none => none else none) = _
  rw [if_pos rfl, eq_of_beq hr]
/-- locals -/
theorem j_ld {ins : Instr} {i t : Nat} {v : FV} (D : fk_D M ((pc, cu, ins, len, x1, x2, x3) :: l)) (ha : fk_am cu L = L) (hi : fk_pl ins len = true ∧ fi_c0 ins len = none ∧ fi_ld ins len = some (i, t)) (hl : L.lookup i = some v) (ho : fi_okt t v.1 = true) (k : fk_D M l → gG c M (pc + len) L (v :: st) h = b) : gG c M pc L st h = b := by
  refine (fk_plain D ha hi.1 ?_).trans (k D.2.2.2)
  unfold fi_stp
  rw [hi.2.1, hi.2.2]
  simp only
  rw [hl]
  simp only
  rw [if_pos ho]
theorem j_st {ins : Instr} {i t : Nat} {v : FV} {L' : fi_L} (D : fk_D M ((pc, cu, ins, len, x1, x2, x3) :: l)) (ha : fk_am cu L = L) (hi : fk_pl ins len = true ∧ fi_c0 ins len = none ∧ fi_ld ins len = none ∧ fi_st ins len = some (i, t)) {N : Nat} (hN : fi_nl M = N) (hm : (fi_okt t v.1 && decide (i + (if fi_wide v then 1 else 0) < N)) = true) (hl : fi_set L i v = L') (k : fk_D M l → gG c M (pc + len) L' st h = b) : gG c M pc L (v :: st) h = b := by
  refine (fk_plain D ha hi.1 ?_).trans (k D.2.2.2)
  unfold fi_stp
  rw [hi.2.1, hi.2.2.1, hi.2.2.2]
  simp only
  rw [hN, if_pos hm, hl]
theorem j_inc {i : Nat} {n y : Int} {L' : fi_L} (D : fk_D M ((pc, cu, .iinc i n, len, x1, x2, x3) :: l)) (ha : fk_am cu L = L) (h36 : decide (len = 3 ∨ len = 6) = true) (hv : L.lookup i = some (0, y)) (hm : i < fi_nl M) (hl : fi_set L i (0, wI (y + n)) = L') (k : fk_D M l → gG c M (pc + len) L' st h = b) : gG c M pc L st h = b := by
  refine (fk_plain D ha rfl ?_).trans (k D.2.2.2)
  have e : fi_stp M (.iinc i n) len pc L st h = (if len = 3 ∨ len = 6 then match L.lookup i with
    | some (0, x) => if i < fi_nl M then some (pc + len, fi_set L i (fi_i (fi_I x + Int32.ofInt n)), st, h) else none
    | _ => none else none) := by unfold fi_stp; rfl
  rw [e, if_pos (of_decide_eq_true h36), hv]
  simp only
  rw [if_pos hm, ← hl, show fi_i (fi_I y + Int32.ofInt n) = (0, wI (y + n)) from congrArg (Prod.mk 0) (by rw [wI, Int32.ofInt_add])]
end FK

/-! rows: one operand, bits, doubles; the heap; calls; ends -/
abbrev fk_R : Type := Option (fi_O × fi_H)
/-- a condition that is known, or asked -/
def fk_g (C : Prop) (b1 b : fk_R) : Prop := (C ∧ b = b1) ∨ ((¬ C → b = none) ∧ (C → b = b1))
theorem gy {C : Prop} {b : fk_R} (h : C) : fk_g C b b := Or.inl ⟨h, rfl⟩
theorem gn {C : Prop} [Decidable C] {b : fk_R} : fk_g C b (if C then b else none) := Or.inr ⟨fun h => if_neg h, fun h => if_pos h⟩
theorem fk_gy {C : Prop} {b1 b : fk_R} (g : fk_g C b1 b) (h : C) : b = b1 := by rcases g with g | g; exact g.2; exact g.2 h
theorem fk_gn {C : Prop} {b1 b : fk_R} (g : fk_g C b1 b) (h : ¬ C) : b = none := by rcases g with g | g; exact absurd g.1 h; exact g.1 h
def wB (x : Int) : Int := (fi_I x).toInt8.toInt32.toInt
def wS (x : Int) : Int := (fi_I x).toInt16.toInt32.toInt
def wC (x : Int) : Int := ((fi_I x).toUInt32 % 65536).toInt32.toInt
def ia_ (y z : Int) : Int := (fi_I y &&& fi_I z).toInt
def io_ (y z : Int) : Int := (fi_I y ||| fi_I z).toInt
def ix_ (y z : Int) : Int := (fi_I y ^^^ fi_I z).toInt
def sl_ (y z : Int) : Int := (fi_I y <<< (fi_I z &&& 31)).toInt
def sr_ (y z : Int) : Int := (fi_I y >>> (fi_I z &&& 31)).toInt
def su_ (y z : Int) : Int := ((fi_I y).toUInt32 >>> ((fi_I z).toUInt32 &&& Int32.toUInt32 31)).toInt32.toInt
def la_ (y z : Int) : Int := (fi_J6 y &&& fi_J6 z).toInt
def lo_ (y z : Int) : Int := (fi_J6 y ||| fi_J6 z).toInt
def lx_ (y z : Int) : Int := (fi_J6 y ^^^ fi_J6 z).toInt
def lsl_ (y z : Int) : Int := (fi_J6 y <<< ((fi_I z).toInt64 &&& 63)).toInt
def lsr_ (y z : Int) : Int := (fi_J6 y >>> ((fi_I z).toInt64 &&& 63)).toInt
def lsu_ (y z : Int) : Int := ((fi_J6 y).toUInt64 >>> ((fi_I z).toInt64.toUInt64 &&& Int64.toUInt64 63)).toInt64.toInt
def lc_ (y z : Int) : Int := (lg_cmp (fi_J6 y) (fi_J6 z)).toInt
def dl_ (y z : Int) : Int := (Op.cmpValue (FP.dcmp (fi_D y) (fi_D z)) .l).toInt
def dg_ (y z : Int) : Int := (Op.cmpValue (FP.dcmp (fi_D y) (fi_D z)) .g).toInt
def fl_ (y z : Int) : Int := (Op.cmpValue (FP.fcmp (fi_F y) (fi_F z)) .l).toInt
def fg_ (y z : Int) : Int := (Op.cmpValue (FP.fcmp (fi_F y) (fi_F z)) .g).toInt
/-- a double that may be no number -/
def dn_ (u : UInt64) (k : Int → fk_R) : fk_R := if u &&& 0x7fffffffffffffff ≤ 0x7ff0000000000000 then k (u.toNat : Int) else none
def dneg_ (y : Int) : Int := ((FP.dneg (fi_D y)).toNat : Int)
def id_ (y : Int) : Int := ((FP.i2d (fi_I y)).toNat : Int)
def ld_ (y : Int) : Int := ((FP.l2d (fi_J6 y)).toNat : Int)
def d2l_ (y : Int) : Int := (FP.d2l (fi_D y)).toInt
def nw_ (h : fi_H) (k n len : Int) (b : Int → fi_H → fk_R) : fk_R := b (h 2 0 0 + 1) (fi_new h k n len)
def ng_ (h : fi_H) (n k : Int) (b : Int → fi_H → fk_R) : fk_R := b (h 2 0 0 + 1) (fi_grid h n k)
/-- whether it is of a class -/
def ii_ (r k : Int) (t : Nat) (b : Int → fk_R) : fk_R := if r = 0 then b 0 else match fi_iso k t with | some q => b (if q then 1 else 0) | none => none
theorem wB_rg (x : Int) : -128 ≤ wB x ∧ wB x < 128 := by
  unfold wB
  rw [Int8.toInt_toInt32]
  exact ⟨by simpa using (fi_I x).toInt8.le_toInt, by simpa using (fi_I x).toInt8.toInt_lt⟩
theorem wS_rg (x : Int) : -32768 ≤ wS x ∧ wS x < 32768 := by
  unfold wS
  rw [Int16.toInt_toInt32]
  exact ⟨by simpa using (fi_I x).toInt16.le_toInt, by simpa using (fi_I x).toInt16.toInt_lt⟩
theorem fk_rgB (x : Int) : fi_rg 8 (wB x) = true := by have := wB_rg x; simp [fi_rg]; omega
theorem fk_rgS (x : Int) : fi_rg 9 (wS x) = true := by have := wS_rg x; simp [fi_rg]; omega
section FK3
variable {c : fi_C} {M pc : Nat} {cu : Option (List Nat)} {len : Nat} {x1 : Nat} {x2 : Int} {x3 : Nat} {l : List fk_E} {L : fi_L} {st : List FV} {h : fi_H} {b b1 b2 b3 b4 : fk_R}
/-- two operands, by what they come to -/
theorem j_b2 {ins : Instr} {u v w : FV} (D : fk_D M ((pc, cu, ins, 1, x1, x2, x3) :: l)) (ha : fk_am cu L = L) (hp : fk_pl ins 1 = true) (hs : fi_stp M ins 1 pc L (v :: u :: st) h = some (pc + 1, L, w :: st, h)) (k : fk_D M l → gG c M (pc + 1) L (w :: st) h = b) : gG c M pc L (v :: u :: st) h = b := (fk_plain D ha hp hs).trans (k D.2.2.2)
theorem j_u1 {ins : Instr} {v w : FV} (D : fk_D M ((pc, cu, ins, 1, x1, x2, x3) :: l)) (ha : fk_am cu L = L) (hp : fk_pl ins 1 = true) (hn : fi_c0 ins 1 = none ∧ fi_ld ins 1 = none ∧ fi_st ins 1 = none ∧ fi_al ins = 0 ∧ fi_as ins = 0 ∧ ∀ s, fi_sh ins s = none) (hb : ∀ u, fi_b2 ins u v = none) (hu : fi_u1 ins v = some w) (hi : ∀ st, fi_stp M ins 1 pc L (v :: st) h = match st with | a :: st' => (match fi_b2 ins a v with | some v => some (pc + 1, L, v :: st', h) | none => (fi_u1 ins v).map (fun v => (pc + 1, L, v :: a :: st', h))) | [] => (fi_u1 ins v).map (fun v => (pc + 1, L, [v], h))) (k : fk_D M l → gG c M (pc + 1) L (w :: st) h = b) : gG c M pc L (v :: st) h = b := by
  refine (fk_plain D ha hp ?_).trans (k D.2.2.2)
  rw [hi]
  cases st with
  | nil => simp only; rw [hu]; rfl
  | cons a st' => simp only; rw [hb, hu]; rfl
theorem j_ineg {y : Int} (D : fk_D M ((pc, cu, .ineg, 1, x1, x2, x3) :: l)) (ha : fk_am cu L = L) (k : fk_D M l → gG c M (pc + 1) L ((0, wI (-y)) :: st) h = b) : gG c M pc L ((0, y) :: st) h = b :=
  j_u1 D ha rfl ⟨rfl, rfl, rfl, rfl, rfl, fun _ => rfl⟩ (fun _ => rfl) (congrArg (fun q => some (0, q)) (by rw [wI, Int32.ofInt_neg])) (fun st => by cases st <;> rfl) k
theorem j_lneg {y : Int} (D : fk_D M ((pc, cu, .lneg, 1, x1, x2, x3) :: l)) (ha : fk_am cu L = L) (k : fk_D M l → gG c M (pc + 1) L ((1, wJ (-y)) :: st) h = b) : gG c M pc L ((1, y) :: st) h = b :=
  j_u1 D ha rfl ⟨rfl, rfl, rfl, rfl, rfl, fun _ => rfl⟩ (fun _ => rfl) (congrArg (fun q => some (1, q)) (by rw [wJ, Int64.ofInt_neg])) (fun st => by cases st <;> rfl) k
theorem j_dneg {y : Int} (D : fk_D M ((pc, cu, .dneg, 1, x1, x2, x3) :: l)) (ha : fk_am cu L = L) (k : fk_D M l → gG c M (pc + 1) L ((3, dneg_ y) :: st) h = b) : gG c M pc L ((3, y) :: st) h = b :=
  j_u1 D ha rfl ⟨rfl, rfl, rfl, rfl, rfl, fun _ => rfl⟩ (fun _ => rfl) rfl (fun st => by cases st <;> rfl) k
theorem j_i2l {y : Int} (D : fk_D M ((pc, cu, .i2l, 1, x1, x2, x3) :: l)) (ha : fk_am cu L = L) (k : fk_D M l → gG c M (pc + 1) L ((1, wI y) :: st) h = b) : gG c M pc L ((0, y) :: st) h = b :=
  j_u1 D ha rfl ⟨rfl, rfl, rfl, rfl, rfl, fun _ => rfl⟩ (fun _ => rfl) (congrArg (fun q => some (1, q)) (Int32.toInt_toInt64 _)) (fun st => by cases st <;> rfl) k
theorem j_l2i {y : Int} (D : fk_D M ((pc, cu, .l2i, 1, x1, x2, x3) :: l)) (ha : fk_am cu L = L) (k : fk_D M l → gG c M (pc + 1) L ((0, wI y) :: st) h = b) : gG c M pc L ((1, y) :: st) h = b :=
  j_u1 D ha rfl ⟨rfl, rfl, rfl, rfl, rfl, fun _ => rfl⟩ (fun _ => rfl) (congrArg (fun q => some (0, q)) (by rw [wI, Int64.toInt32_ofInt])) (fun st => by cases st <;> rfl) k
theorem j_i2b {y : Int} (D : fk_D M ((pc, cu, .i2b, 1, x1, x2, x3) :: l)) (ha : fk_am cu L = L) (k : fk_D M l → gG c M (pc + 1) L ((0, wB y) :: st) h = b) : gG c M pc L ((0, y) :: st) h = b :=
  j_u1 D ha rfl ⟨rfl, rfl, rfl, rfl, rfl, fun _ => rfl⟩ (fun _ => rfl) rfl (fun st => by cases st <;> rfl) k
theorem j_i2s {y : Int} (D : fk_D M ((pc, cu, .i2s, 1, x1, x2, x3) :: l)) (ha : fk_am cu L = L) (k : fk_D M l → gG c M (pc + 1) L ((0, wS y) :: st) h = b) : gG c M pc L ((0, y) :: st) h = b :=
  j_u1 D ha rfl ⟨rfl, rfl, rfl, rfl, rfl, fun _ => rfl⟩ (fun _ => rfl) rfl (fun st => by cases st <;> rfl) k
theorem j_i2c {y : Int} (D : fk_D M ((pc, cu, .i2c, 1, x1, x2, x3) :: l)) (ha : fk_am cu L = L) (k : fk_D M l → gG c M (pc + 1) L ((0, wC y) :: st) h = b) : gG c M pc L ((0, y) :: st) h = b :=
  j_u1 D ha rfl ⟨rfl, rfl, rfl, rfl, rfl, fun _ => rfl⟩ (fun _ => rfl) rfl (fun st => by cases st <;> rfl) k
theorem j_i2d {y : Int} (D : fk_D M ((pc, cu, .i2d, 1, x1, x2, x3) :: l)) (ha : fk_am cu L = L) (k : fk_D M l → gG c M (pc + 1) L ((3, id_ y) :: st) h = b) : gG c M pc L ((0, y) :: st) h = b :=
  j_u1 D ha rfl ⟨rfl, rfl, rfl, rfl, rfl, fun _ => rfl⟩ (fun _ => rfl) rfl (fun st => by cases st <;> rfl) k
theorem j_l2d {y : Int} (D : fk_D M ((pc, cu, .l2d, 1, x1, x2, x3) :: l)) (ha : fk_am cu L = L) (k : fk_D M l → gG c M (pc + 1) L ((3, ld_ y) :: st) h = b) : gG c M pc L ((1, y) :: st) h = b :=
  j_u1 D ha rfl ⟨rfl, rfl, rfl, rfl, rfl, fun _ => rfl⟩ (fun _ => rfl) rfl (fun st => by cases st <;> rfl) k
theorem j_d2l {y : Int} (D : fk_D M ((pc, cu, .d2l, 1, x1, x2, x3) :: l)) (ha : fk_am cu L = L) (k : fk_D M l → gG c M (pc + 1) L ((1, d2l_ y) :: st) h = b) : gG c M pc L ((3, y) :: st) h = b :=
  j_u1 D ha rfl ⟨rfl, rfl, rfl, rfl, rfl, fun _ => rfl⟩ (fun _ => rfl) rfl (fun st => by cases st <;> rfl) k
theorem j_f2d {y : Int} {kb : Int → fk_R} (D : fk_D M ((pc, cu, .f2d, 1, x1, x2, x3) :: l)) (ha : fk_am cu L = L) (k : fk_D M l → ∀ v, gG c M (pc + 1) L ((3, v) :: st) h = kb v) : gG c M pc L ((2, y) :: st) h = dn_ (FP.f2d (fi_F y)) kb := by
  unfold dn_
  by_cases q : FP.f2d (fi_F y) &&& 0x7fffffffffffffff ≤ 0x7ff0000000000000
  · rw [if_pos q, ← k D.2.2.2]
    refine j_u1 D ha rfl ⟨rfl, rfl, rfl, rfl, rfl, fun _ => rfl⟩ (fun _ => rfl) (w := (3, ((FP.f2d (fi_F y)).toNat : Int))) ?_ (fun st => by cases st <;> rfl) (fun _ => rfl)
    show fi_n64 (FP.f2d (fi_F y)) = _
    unfold fi_n64; rw [if_pos q]; rfl
  · rw [if_neg q]
    refine fk_stuck D ha rfl ?_
    have e : fi_n64 (FP.f2d (fi_F y)) = none := by unfold fi_n64; rw [if_neg q]
    cases st with
    | nil => show (fi_n64 (FP.f2d (fi_F y))).map (fun v => (pc + 1, L, [v], h)) = none; rw [e]; rfl
    | cons a st' => show (fi_n64 (FP.f2d (fi_F y))).map (fun v => (pc + 1, L, v :: a :: st', h)) = none; rw [e]; rfl
/-- two doubles -/
theorem j_dop {ins : Instr} {y z : Int} {u : UInt64} {kb : Int → fk_R} (D : fk_D M ((pc, cu, ins, 1, x1, x2, x3) :: l)) (ha : fk_am cu L = L) (hp : fk_pl ins 1 = true) (hs : fi_stp M ins 1 pc L ((3, z) :: (3, y) :: st) h = match fi_n64 u with | some v => some (pc + 1, L, v :: st, h) | none => none) (k : fk_D M l → ∀ v, gG c M (pc + 1) L ((3, v) :: st) h = kb v) : gG c M pc L ((3, z) :: (3, y) :: st) h = dn_ u kb := by
  unfold dn_
  unfold fi_n64 at hs
  by_cases q : u &&& 0x7fffffffffffffff ≤ 0x7ff0000000000000
  · rw [if_pos q] at hs ⊢
    rw [← k D.2.2.2]
    exact fk_plain D ha hp hs
  · rw [if_neg q] at hs ⊢
    exact fk_stuck D ha hp hs
/-- fields: the class is known -/
theorem fk_gf {i f t : Nat} {r : Int} (D : fk_D M ((pc, cu, .getfield i, 3, f, x2, x3) :: l)) (ha : fk_am cu L = L) (ht : fi_tg x3 = t) : gG c M pc L ((4, r) :: st) h = if r = 0 then none else if fi_in (h 0 r.toNat 0) f then gG c M (pc + 3) L ((t, h f r.toNat 0) :: st) h else none := by
  have hr := D.2.2.1
  simp only [fk_res, Bool.and_eq_true, decide_eq_true_eq] at hr
  have hf := eq_of_beq hr.1.1
  have hs : fi_stp M (.getfield i) 3 pc L ((4, r) :: st) h = if r = 0 then none else if fi_in (h 0 r.toNat 0) f then some (pc + 3, L, (t, h f r.toNat 0) :: st, h) else none := by
    show (if 3 = 3 then match (4, r) :: st, fi_fk (fi_ow M) i with
      | (4, r) :: st', some f => if r = 0 then none else if fi_in (h 0 r.toNat 0) f then some (pc + 3, L, (fi_tg (fi_ft f), h f r.toNat 0) :: st', h) else none
      | _, _ => none else none) = _
    rw [if_pos rfl, hf]
    simp only
    rw [hr.2, ht]
  by_cases q : r = 0
  · rw [if_pos q] at hs ⊢; exact fk_stuck D ha rfl hs
  · rw [if_neg q] at hs ⊢
    by_cases q2 : fi_in (h 0 r.toNat 0) f = true
    · rw [if_pos q2] at hs ⊢; exact fk_plain D ha rfl hs
    · rw [if_neg q2] at hs ⊢; exact fk_stuck D ha rfl hs
theorem j_gf {i f a t : Nat} {r k : Int} (D : fk_D M ((pc, cu, .getfield i, 3, f, k, x3) :: l)) (ha : fk_am cu L = L) (hr : r.toNat = a) (hz : r ≠ 0) (hk0 : decide (0 < k) = true) (hk : h 0 a 0 = k) (ht : fi_tg x3 = t) (k' : fk_D M l → gG c M (pc + 3) L ((t, h f a 0) :: st) h = b) : gG c M pc L ((4, r) :: st) h = b := by
  have hr' := D.2.2.1
  have hk0 := of_decide_eq_true hk0
  simp only [fk_res, Bool.and_eq_true, Bool.or_eq_true, decide_eq_true_eq] at hr'
  have hin : fi_in k f = true := by
    rcases hr'.1.2 with q | q
    · omega
    · rw [if_pos hk0] at q; exact q
  rw [fk_gf D ha ht, if_neg hz, hr, if_pos (by rw [hk]; exact hin), k' D.2.2.2]
/-- its value is known -/
theorem j_gfc {i f a t : Nat} {r k v : Int} (D : fk_D M ((pc, cu, .getfield i, 3, f, k, x3) :: l)) (ha : fk_am cu L = L) (hr : r.toNat = a) (hz : r ≠ 0) (hk0 : decide (0 < k) = true) (hk : h 0 a 0 = k) (ht : fi_tg x3 = t) (hv : h f a 0 = v) (k' : fk_D M l → gG c M (pc + 3) L ((t, v) :: st) h = b) : gG c M pc L ((4, r) :: st) h = b :=
  j_gf D ha hr hz hk0 hk ht (fun D => by rw [hv]; exact k' D)
theorem fk_only_iff {f : Nat} {k : Int} (h : fk_only f k = true) (y : Int) : fi_in y f = true ↔ y = k := by
  unfold fk_only at h
  simp only [Bool.and_eq_true] at h
  have key := List.all_eq_true.mp h.2
  constructor
  · intro e
    have e0 := e
    unfold fi_in at e
    simp only [Bool.and_eq_true, decide_eq_true_eq] at e
    by_cases hc : y.toNat - 100 < fi_cf.length
    · have := key _ (List.mem_range.mpr hc)
      have ey : (100 : Int) + ((y.toNat - 100 : Nat) : Int) = y := by omega
      rw [ey, e0] at this
      simpa using (eq_of_beq this).symm
    · rw [List.getD_eq_getElem?_getD, List.getElem?_eq_none (by omega)] at e
      simp at e
  · intro e
    rw [e]; exact h.1
/-- one class alone has the field: it is asked -/
theorem j_gfo {i f t : Nat} {r k : Int} (z : h 0 0 0 = 0) (D : fk_D M ((pc, cu, .getfield i, 3, f, k, x3) :: l)) (ha : fk_am cu L = L) (hk0 : decide (k < 0) = true) {k2 : Int} (hk2 : -k = k2) (ht : fi_tg x3 = t) (k' : h 0 r.toNat 0 = k2 → fk_D M l → gG c M (pc + 3) L ((t, h f r.toNat 0) :: st) h = b) : gG c M pc L ((4, r) :: st) h = if h 0 r.toNat 0 = k2 then b else none := by
  have hr' := D.2.2.1
  have hk0 := of_decide_eq_true hk0
  simp only [fk_res, Bool.and_eq_true, Bool.or_eq_true, decide_eq_true_eq] at hr'
  have hin : fk_only f k2 = true := by
    rcases hr'.1.2 with q | q
    · omega
    · rw [if_neg (by omega), hk2] at q; exact q
  rw [fk_gf D ha ht]
  by_cases q : h 0 r.toNat 0 = k2
  · have q3 : fi_in (h 0 r.toNat 0) f = true := (fk_only_iff hin _).mpr q
    have q2 : r ≠ 0 := by
      intro e
      rw [e] at q3
      rw [show (0 : Int).toNat = 0 from rfl, z] at q3
      simp [fi_in] at q3
    rw [if_pos q, if_neg q2, if_pos q3, k' q D.2.2.2]
  · have q3 : ¬ fi_in (h 0 r.toNat 0) f = true := fun e => q ((fk_only_iff hin _).mp e)
    rw [if_neg q, if_neg q3]
    split <;> rfl
theorem j_gfu {i f t : Nat} {r k : Int} (z : h 0 0 0 = 0) (D : fk_D M ((pc, cu, .getfield i, 3, f, k, x3) :: l)) (ha : fk_am cu L = L) (ht : fi_tg x3 = t) (k' : fi_in (h 0 r.toNat 0) f = true → fk_D M l → gG c M (pc + 3) L ((t, h f r.toNat 0) :: st) h = b) : gG c M pc L ((4, r) :: st) h = if fi_in (h 0 r.toNat 0) f = true then b else none := by
  rw [fk_gf D ha ht]
  by_cases q3 : fi_in (h 0 r.toNat 0) f = true
  · have q2 : r ≠ 0 := by
      intro e
      rw [e] at q3
      rw [show (0 : Int).toNat = 0 from rfl, z] at q3
      simp [fi_in] at q3
    rw [if_pos q3, if_neg q2, if_pos q3, k' q3 D.2.2.2]
  · rw [if_neg q3, if_neg q3]
    split <;> rfl
/-- what runs at a step that is no plain one: a field is written -/
theorem fk_pf {i f t : Nat} {r w : Int} (D : fk_D M ((pc, cu, .putfield i, 3, f, x2, x3) :: l)) (ha : fk_am cu L = L) (ht : fi_tg (x3 % 100) = t) : gG c M pc L ((t, w) :: (4, r) :: st) h = if (302 < r ∧ fi_rg (x3 % 100) w = true ∧ (fi_in (h 0 r.toNat 0) f = true ∧ h 0 r.toNat 0 < 134)) ∧ (100 ≤ x3 → h f r.toNat 0 = 0) then gG c M (pc + 3) L st (fi_upd h f r.toNat 0 w) else none := by
  have hr := D.2.2.1
  simp only [fk_res, Bool.and_eq_true, decide_eq_true_eq] at hr
  obtain ⟨⟨⟨⟨hf, -⟩, hpf⟩, hty⟩, hfin⟩ := hr
  have hf := eq_of_beq hf
  have hfin := eq_of_beq hfin
  obtain ⟨d1, d2, -, -⟩ := D
  rw [gG_eq, d1]
  simp only
  rw [show fi_rt M (.putfield i) 3 ((t, w) :: (4, r) :: st) = none from rfl]
  simp only
  rw [show fi_cl M (.putfield i) 3 ((t, w) :: (4, r) :: st) h = none from rfl]
  simp only
  rw [fk_at d2 ha]
  have hok : fj_ok M (.putfield i) ((t, w) :: (4, r) :: st) h = (!(fj_fin f) || decide (h f r.toNat 0 = 0)) := by
    show (match fi_fk (fi_ow M) i with | some f => !(fj_fin f) || decide (h f r.toNat 0 = 0) | none => true) = _
    rw [hf]
  have hs : fi_stp M (.putfield i) 3 pc L ((t, w) :: (4, r) :: st) h = if r ≤ 302 then none else if (fi_in (h 0 r.toNat 0) f && true && fi_rg (x3 % 100) w && true && decide (h 0 r.toNat 0 < 134)) = true then some (pc + 3, L, st, fi_upd h f r.toNat 0 w) else none := by
    show (if 3 = 3 then match (t, w) :: (4, r) :: st, fi_fk (fi_ow M) i with
      | v :: (4, r) :: st', some f => if r ≤ (fi_J : Int) then none else if fi_in (h 0 r.toNat 0) f && (v.1 == fi_tg (fi_ft f)) && fi_rg (fi_ft f) v.2 && fi_pf M f && decide (h 0 r.toNat 0 < 134) then some (pc + 3, L, st', fi_upd h f r.toNat 0 v.2) else none
      | _, _ => none else none) = _
    rw [if_pos rfl, hf]
    simp only
    rw [hty, ht, hpf]
    simp [fi_J]
  rw [hok, hs]
  by_cases q : (302 < r ∧ fi_rg (x3 % 100) w = true ∧ (fi_in (h 0 r.toNat 0) f = true ∧ h 0 r.toNat 0 < 134)) ∧ (100 ≤ x3 → h f r.toNat 0 = 0)
  · rw [if_pos q]
    obtain ⟨⟨q1, q2, q3⟩, q4⟩ := q
    have e1 : (!(fj_fin f) || decide (h f r.toNat 0 = 0)) = true := by
      by_cases q5 : 100 ≤ x3
      · simp [q4 q5]
      · simp [hfin, q5]
    have e2 : (fi_in (h 0 r.toNat 0) f && true && fi_rg (x3 % 100) w && true && decide (h 0 r.toNat 0 < 134)) = true := by simp [q2, q3]
    have e3 : ¬ r ≤ 302 := by omega
    rw [if_pos e1, if_neg e3, if_pos e2]
  · rw [if_neg q]
    by_cases e1 : (!(fj_fin f) || decide (h f r.toNat 0 = 0)) = true
    · rw [if_pos e1]
      by_cases e3 : r ≤ 302
      · rw [if_pos e3]
      · rw [if_neg e3]
        have e2 : ¬ (fi_in (h 0 r.toNat 0) f && true && fi_rg (x3 % 100) w && true && decide (h 0 r.toNat 0 < 134)) = true := by
          intro e
          simp only [Bool.and_true, Bool.and_eq_true, decide_eq_true_eq] at e
          refine q ⟨⟨by omega, e.1.2, e.1.1, e.2⟩, fun q5 => ?_⟩
          simpa [hfin, q5] using e1
        rw [if_neg e2]
    · rw [if_neg e1]
theorem fk_hs_pf {f a : Nat} {r w : Int} (hr : r.toNat = a) (q1 : 302 < r) (hk : h 0 a 0 ≠ 0) (hf : 100 ≤ f) (hfin : fj_fin f = true → h f a 0 = 0) : fj_hs h (fi_upd h f a 0 w) := Or.inr (Or.inl ⟨f, a, w, rfl, by show 302 < a; omega, hk, hf, hfin⟩)
theorem fk_pf_ge {i f : Nat} (D : fk_D M ((pc, cu, .putfield i, 3, f, x2, x3) :: l)) : 100 ≤ f ∧ fj_fin f = decide (100 ≤ x3) := by
  have hr := D.2.2.1
  simp only [fk_res, Bool.and_eq_true] at hr
  exact ⟨fj_fk_ge (eq_of_beq hr.1.1.1.1), eq_of_beq hr.2⟩
/-- a field that is not final; the class is known -/
theorem j_pf {i f a t : Nat} {r w k : Int} {kb : fi_H → fk_R} (D : fk_D M ((pc, cu, .putfield i, 3, f, k, x3) :: l)) (ha : fk_am cu L = L) (hr : r.toNat = a) (hk0 : decide (0 < k) = true) (hk : h 0 a 0 = k) (hx : decide (x3 < 100) = true) (ht : fi_tg x3 = t) (g1 : fk_g (302 < r) b1 b) (g2 : fk_g (fi_rg x3 w = true) (lt_ (fi_upd h f a 0 w) kb) b1)
    (k' : ∀ h1, h1 = fi_upd h f a 0 w → fj_hs h h1 → fk_D M l → gG c M (pc + 3) L st h1 = kb h1) : gG c M pc L ((t, w) :: (4, r) :: st) h = b := by
  have hx := of_decide_eq_true hx
  have hk0 := of_decide_eq_true hk0
  have hm : x3 % 100 = x3 := Nat.mod_eq_of_lt hx
  have hr' := D.2.2.1
  simp only [fk_res, Bool.and_eq_true, decide_eq_true_eq] at hr'
  have hin : fi_in k f = true ∧ k < 134 := by
    have q := hr'.1.1.1.2
    simp only [Bool.or_eq_true, decide_eq_true_eq] at q
    rcases q with q | q
    · omega
    rw [if_pos hk0] at q
    simpa using q
  rw [fk_pf D ha (by rw [hm]; exact ht), hm, hr]
  by_cases q1 : 302 < r
  · rw [fk_gy g1 q1]
    by_cases q2 : fi_rg x3 w = true
    · rw [fk_gy g2 q2, if_pos ⟨⟨q1, q2, by rw [hk]; exact hin⟩, fun e => by omega⟩]
      obtain ⟨p1, p2⟩ := fk_pf_ge D
      exact k' _ rfl (fk_hs_pf hr q1 (by rw [hk]; omega) p1 (fun e => by rw [p2] at e; have := of_decide_eq_true e; omega)) D.2.2.2
    · rw [fk_gn g2 q2, if_neg (fun e => q2 e.1.2.1)]
  · rw [fk_gn g1 q1, if_neg (fun e => q1 e.1.1)]
theorem j_pfF {i f a t ty : Nat} {r w k : Int} {kb : fi_H → fk_R} (D : fk_D M ((pc, cu, .putfield i, 3, f, k, x3) :: l)) (ha : fk_am cu L = L) (hr : r.toNat = a) (hk0 : decide (0 < k) = true) (hk : h 0 a 0 = k) (hx : 100 + ty = x3 ∧ decide (ty < 100) = true) (ht : fi_tg ty = t) (g1 : fk_g (302 < r) b1 b) (g2 : fk_g (fi_rg ty w = true) b2 b1) (g3 : fk_g (h f a 0 = 0) (lt_ (fi_upd h f a 0 w) kb) b2)
    (k' : ∀ h1, h1 = fi_upd h f a 0 w → fj_hs h h1 → fk_D M l → gG c M (pc + 3) L st h1 = kb h1) : gG c M pc L ((t, w) :: (4, r) :: st) h = b := by
  have hx1 := of_decide_eq_true hx.2
  have hk0 := of_decide_eq_true hk0
  have hm : x3 % 100 = ty := by omega
  have hr' := D.2.2.1
  simp only [fk_res, Bool.and_eq_true, decide_eq_true_eq] at hr'
  have hin : fi_in k f = true ∧ k < 134 := by
    have q := hr'.1.1.1.2
    simp only [Bool.or_eq_true, decide_eq_true_eq] at q
    rcases q with q | q
    · omega
    rw [if_pos hk0] at q
    simpa using q
  rw [fk_pf D ha (by rw [hm]; exact ht), hm, hr]
  by_cases q1 : 302 < r
  · rw [fk_gy g1 q1]
    by_cases q2 : fi_rg ty w = true
    · rw [fk_gy g2 q2]
      by_cases q3 : h f a 0 = 0
      · rw [fk_gy g3 q3, if_pos ⟨⟨q1, q2, by rw [hk]; exact hin⟩, fun _ => q3⟩]
        exact k' _ rfl (fk_hs_pf hr q1 (by rw [hk]; omega) (fk_pf_ge D).1 (fun _ => q3)) D.2.2.2
      · rw [fk_gn g3 q3, if_neg (fun e => q3 (e.2 (by omega)))]
    · rw [fk_gn g2 q2, if_neg (fun e => q2 e.1.2.1)]
  · rw [fk_gn g1 q1, if_neg (fun e => q1 e.1.1)]
/-- one class alone has the field: it is asked -/
theorem j_pfo {i f t : Nat} {r w k k2 : Int} {kb : fi_H → fk_R} (D : fk_D M ((pc, cu, .putfield i, 3, f, k, x3) :: l)) (ha : fk_am cu L = L) (hk0 : decide (k < 0) = true) (hk2 : -k = k2) (hx : decide (x3 < 100) = true) (ht : fi_tg x3 = t) (g0 : fk_g (h 0 r.toNat 0 = k2) b2 b) (g1 : fk_g (302 < r) b1 b2) (g2 : fk_g (fi_rg x3 w = true) (lt_ (fi_upd h f r.toNat 0 w) kb) b1)
    (k' : ∀ h1, h1 = fi_upd h f r.toNat 0 w → fj_hs h h1 → h 0 r.toNat 0 = k2 → fk_D M l → gG c M (pc + 3) L st h1 = kb h1) : gG c M pc L ((t, w) :: (4, r) :: st) h = b := by
  have hx := of_decide_eq_true hx
  have hk0 := of_decide_eq_true hk0
  have hm : x3 % 100 = x3 := Nat.mod_eq_of_lt hx
  have hr' := D.2.2.1
  simp only [fk_res, Bool.and_eq_true, decide_eq_true_eq] at hr'
  have hin : fk_only f k2 = true ∧ k2 < 134 := by
    have q := hr'.1.1.1.2
    simp only [Bool.or_eq_true, decide_eq_true_eq] at q
    rcases q with q | q
    · omega
    rw [if_neg (by omega), hk2] at q
    simpa using q
  rw [fk_pf D ha (by rw [hm]; exact ht), hm]
  by_cases q0 : h 0 r.toNat 0 = k2
  · rw [fk_gy g0 q0]
    by_cases q1 : 302 < r
    · rw [fk_gy g1 q1]
      by_cases q2 : fi_rg x3 w = true
      · rw [fk_gy g2 q2, if_pos ⟨⟨q1, q2, (fk_only_iff hin.1 _).mpr q0, by rw [q0]; exact hin.2⟩, fun e => by omega⟩]
        obtain ⟨p1, p2⟩ := fk_pf_ge D
        exact k' _ rfl (fk_hs_pf rfl q1 (by rw [q0]; omega) p1 (fun e => by rw [p2] at e; have := of_decide_eq_true e; omega)) q0 D.2.2.2
      · rw [fk_gn g2 q2, if_neg (fun e => q2 e.1.2.1)]
    · rw [fk_gn g1 q1, if_neg (fun e => q1 e.1.1)]
  · rw [fk_gn g0 q0, if_neg (fun e => q0 ((fk_only_iff hin.1 _).mp e.1.2.2.1))]
/-- a class that is asked whether it has the field -/
theorem j_pfu {i f t ty : Nat} {r w : Int} {kb : fi_H → fk_R} (D : fk_D M ((pc, cu, .putfield i, 3, f, x2, x3) :: l)) (ha : fk_am cu L = L) (hx : x3 % 100 = ty) (ht : fi_tg ty = t) (g0 : fk_g (302 < r ∧ fi_in (h 0 r.toNat 0) f = true ∧ h 0 r.toNat 0 < 134) b1 b) (g1 : fk_g (fi_rg ty w = true) b2 b1) (g2 : fk_g (100 ≤ x3 → h f r.toNat 0 = 0) (lt_ (fi_upd h f r.toNat 0 w) kb) b2)
    (k' : ∀ h1, h1 = fi_upd h f r.toNat 0 w → fj_hs h h1 → fk_D M l → gG c M (pc + 3) L st h1 = kb h1) : gG c M pc L ((t, w) :: (4, r) :: st) h = b := by
  rw [fk_pf D ha (by rw [hx]; exact ht), hx]
  by_cases q0 : 302 < r ∧ fi_in (h 0 r.toNat 0) f = true ∧ h 0 r.toNat 0 < 134
  · rw [fk_gy g0 q0]
    by_cases q1 : fi_rg ty w = true
    · rw [fk_gy g1 q1]
      by_cases q2 : 100 ≤ x3 → h f r.toNat 0 = 0
      · rw [fk_gy g2 q2, if_pos ⟨⟨q0.1, q1, q0.2⟩, q2⟩]
        obtain ⟨p1, p2⟩ := fk_pf_ge D
        refine k' _ rfl (fk_hs_pf rfl q0.1 ?_ p1 (fun e => q2 (by rw [p2] at e; exact of_decide_eq_true e))) D.2.2.2
        have q3 := q0.2.1
        unfold fi_in at q3
        simp only [Bool.and_eq_true, decide_eq_true_eq] at q3
        omega
      · rw [fk_gn g2 q2, if_neg (fun e => q2 e.2)]
    · rw [fk_gn g1 q1, if_neg (fun e => q1 e.1.2.1)]
  · rw [fk_gn g0 q0, if_neg (fun e => q0 ⟨e.1.1, e.1.2.2⟩)]
end FK3

/-! rows: jumps, stack, arithmetic -/
section FK2
variable {c : fi_C} {M pc : Nat} {cu : Option (List Nat)} {len : Nat} {x1 : Nat} {x2 : Int} {x3 : Nat} {l : List fk_E} {L : fi_L} {st : List FV} {h : fi_H} {b b1 b2 : Option (fi_O × fi_H)}
theorem j_goto {o : Int} (D : fk_D M ((pc, cu, .goto o, 3, x1, x2, x3) :: l)) (ha : fk_am cu L = L) (k : gG c M x1 L st h = b) : gG c M pc L st h = b := by
  have hr := eq_of_beq D.2.2.1
  refine (fk_plain D ha rfl ?_).trans k
  show (if 3 = 3 then (fi_tgt pc o).map (fun t => (t, L, st, h)) else none) = _
  rw [if_pos rfl, hr]
  rfl
theorem fk_if {cc : ClassFile.Cond} {o y : Int} (D : fk_D M ((pc, cu, .ifCond cc o, 3, x1, x2, x3) :: l)) (ha : fk_am cu L = L) : gG c M pc L ((0, y) :: st) h = gG c M (if fi_cb cc y 0 then x1 else pc + 3) L st h := by
  have hr := eq_of_beq D.2.2.1
  refine fk_plain D ha rfl ?_
  show (if 3 = 3 then match (0, y) :: st, fi_tgt pc o with
    | (0, x) :: st', some t => some (if fi_cb cc x 0 then t else pc + 3, L, st', h)
    | _, _ => none else none) = _
  rw [if_pos rfl, hr]
  rfl
theorem fk_icmp {cc : ClassFile.Cond} {o y z : Int} (D : fk_D M ((pc, cu, .if_icmp cc o, 3, x1, x2, x3) :: l)) (ha : fk_am cu L = L) : gG c M pc L ((0, z) :: (0, y) :: st) h = gG c M (if fi_cb cc y z then x1 else pc + 3) L st h := by
  have hr := eq_of_beq D.2.2.1
  refine fk_plain D ha rfl ?_
  show (if 3 = 3 then match (0, z) :: (0, y) :: st, fi_tgt pc o with
    | (0, y) :: (0, x) :: st', some t => some (if fi_cb cc x y then t else pc + 3, L, st', h)
    | _, _ => none else none) = _
  rw [if_pos rfl, hr]
  rfl
/-- branches: eq, ne -/
theorem j_ifeq {o y : Int} (D : fk_D M ((pc, cu, .ifCond .eq o, 3, x1, x2, x3) :: l)) (ha : fk_am cu L = L) (k1 : y = 0 → gG c M x1 L st h = b1) (k2 : ¬ y = 0 → fk_D M l → gG c M (pc + 3) L st h = b2) : gG c M pc L ((0, y) :: st) h = if y = 0 then b1 else b2 := by
  rw [fk_if D ha]
  by_cases q : y = 0
  · rw [if_pos q, ← k1 q, if_pos (by simp [fi_cb, q])]
  · rw [if_neg q, ← k2 q D.2.2.2, if_neg (by simp [fi_cb, q])]
theorem j_ifne {o y : Int} (D : fk_D M ((pc, cu, .ifCond .ne o, 3, x1, x2, x3) :: l)) (ha : fk_am cu L = L) (k1 : y = 0 → fk_D M l → gG c M (pc + 3) L st h = b1) (k2 : ¬ y = 0 → gG c M x1 L st h = b2) : gG c M pc L ((0, y) :: st) h = if y = 0 then b1 else b2 := by
  rw [fk_if D ha]
  by_cases q : y = 0
  · rw [if_pos q, ← k1 q D.2.2.2, if_neg (by simp [fi_cb, q])]
  · rw [if_neg q, ← k2 q, if_pos (by simp [fi_cb, q])]
theorem j_iflt {o y : Int} (D : fk_D M ((pc, cu, .ifCond .lt o, 3, x1, x2, x3) :: l)) (ha : fk_am cu L = L) (k1 : y < 0 → gG c M x1 L st h = b1) (k2 : ¬ y < 0 → fk_D M l → gG c M (pc + 3) L st h = b2) : gG c M pc L ((0, y) :: st) h = if y < 0 then b1 else b2 := by
  rw [fk_if D ha]
  by_cases q : y < 0
  · rw [if_pos q, ← k1 q, if_pos (by simp [fi_cb, q])]
  · rw [if_neg q, ← k2 q D.2.2.2, if_neg (by simp [fi_cb]; omega)]
theorem j_ifge {o y : Int} (D : fk_D M ((pc, cu, .ifCond .ge o, 3, x1, x2, x3) :: l)) (ha : fk_am cu L = L) (k1 : y < 0 → fk_D M l → gG c M (pc + 3) L st h = b1) (k2 : ¬ y < 0 → gG c M x1 L st h = b2) : gG c M pc L ((0, y) :: st) h = if y < 0 then b1 else b2 := by
  rw [fk_if D ha]
  by_cases q : y < 0
  · rw [if_pos q, ← k1 q D.2.2.2, if_neg (by simp [fi_cb]; omega)]
  · rw [if_neg q, ← k2 q, if_pos (by simp [fi_cb]; omega)]
theorem j_ifgt {o y : Int} (D : fk_D M ((pc, cu, .ifCond .gt o, 3, x1, x2, x3) :: l)) (ha : fk_am cu L = L) (k1 : 0 < y → gG c M x1 L st h = b1) (k2 : ¬ 0 < y → fk_D M l → gG c M (pc + 3) L st h = b2) : gG c M pc L ((0, y) :: st) h = if 0 < y then b1 else b2 := by
  rw [fk_if D ha]
  by_cases q : 0 < y
  · rw [if_pos q, ← k1 q, if_pos (by simp [fi_cb, q])]
  · rw [if_neg q, ← k2 q D.2.2.2, if_neg (by simp [fi_cb]; omega)]
theorem j_ifle {o y : Int} (D : fk_D M ((pc, cu, .ifCond .le o, 3, x1, x2, x3) :: l)) (ha : fk_am cu L = L) (k1 : 0 < y → fk_D M l → gG c M (pc + 3) L st h = b1) (k2 : ¬ 0 < y → gG c M x1 L st h = b2) : gG c M pc L ((0, y) :: st) h = if 0 < y then b1 else b2 := by
  rw [fk_if D ha]
  by_cases q : 0 < y
  · rw [if_pos q, ← k1 q D.2.2.2, if_neg (by simp [fi_cb]; omega)]
  · rw [if_neg q, ← k2 q, if_pos (by simp [fi_cb]; omega)]
theorem j_ieq {o y z : Int} (D : fk_D M ((pc, cu, .if_icmp .eq o, 3, x1, x2, x3) :: l)) (ha : fk_am cu L = L) (k1 : y = z → gG c M x1 L st h = b1) (k2 : ¬ y = z → fk_D M l → gG c M (pc + 3) L st h = b2) : gG c M pc L ((0, z) :: (0, y) :: st) h = if y = z then b1 else b2 := by
  rw [fk_icmp D ha]
  by_cases q : y = z
  · rw [if_pos q, ← k1 q, if_pos (by simp [fi_cb, q])]
  · rw [if_neg q, ← k2 q D.2.2.2, if_neg (by simp [fi_cb, q])]
theorem j_ine {o y z : Int} (D : fk_D M ((pc, cu, .if_icmp .ne o, 3, x1, x2, x3) :: l)) (ha : fk_am cu L = L) (k1 : y = z → fk_D M l → gG c M (pc + 3) L st h = b1) (k2 : ¬ y = z → gG c M x1 L st h = b2) : gG c M pc L ((0, z) :: (0, y) :: st) h = if y = z then b1 else b2 := by
  rw [fk_icmp D ha]
  by_cases q : y = z
  · rw [if_pos q, ← k1 q D.2.2.2, if_neg (by simp [fi_cb, q])]
  · rw [if_neg q, ← k2 q, if_pos (by simp [fi_cb, q])]
theorem j_ilt {o y z : Int} (D : fk_D M ((pc, cu, .if_icmp .lt o, 3, x1, x2, x3) :: l)) (ha : fk_am cu L = L) (k1 : y < z → gG c M x1 L st h = b1) (k2 : ¬ y < z → fk_D M l → gG c M (pc + 3) L st h = b2) : gG c M pc L ((0, z) :: (0, y) :: st) h = if y < z then b1 else b2 := by
  rw [fk_icmp D ha]
  by_cases q : y < z
  · rw [if_pos q, ← k1 q, if_pos (by simp [fi_cb, q])]
  · rw [if_neg q, ← k2 q D.2.2.2, if_neg (by simp [fi_cb]; omega)]
theorem j_ige {o y z : Int} (D : fk_D M ((pc, cu, .if_icmp .ge o, 3, x1, x2, x3) :: l)) (ha : fk_am cu L = L) (k1 : y < z → fk_D M l → gG c M (pc + 3) L st h = b1) (k2 : ¬ y < z → gG c M x1 L st h = b2) : gG c M pc L ((0, z) :: (0, y) :: st) h = if y < z then b1 else b2 := by
  rw [fk_icmp D ha]
  by_cases q : y < z
  · rw [if_pos q, ← k1 q D.2.2.2, if_neg (by simp [fi_cb]; omega)]
  · rw [if_neg q, ← k2 q, if_pos (by simp [fi_cb]; omega)]
theorem j_igt {o y z : Int} (D : fk_D M ((pc, cu, .if_icmp .gt o, 3, x1, x2, x3) :: l)) (ha : fk_am cu L = L) (k1 : z < y → gG c M x1 L st h = b1) (k2 : ¬ z < y → fk_D M l → gG c M (pc + 3) L st h = b2) : gG c M pc L ((0, z) :: (0, y) :: st) h = if z < y then b1 else b2 := by
  rw [fk_icmp D ha]
  by_cases q : z < y
  · rw [if_pos q, ← k1 q, if_pos (by simp [fi_cb, q])]
  · rw [if_neg q, ← k2 q D.2.2.2, if_neg (by simp [fi_cb]; omega)]
theorem j_ile {o y z : Int} (D : fk_D M ((pc, cu, .if_icmp .le o, 3, x1, x2, x3) :: l)) (ha : fk_am cu L = L) (k1 : z < y → fk_D M l → gG c M (pc + 3) L st h = b1) (k2 : ¬ z < y → gG c M x1 L st h = b2) : gG c M pc L ((0, z) :: (0, y) :: st) h = if z < y then b1 else b2 := by
  rw [fk_icmp D ha]
  by_cases q : z < y
  · rw [if_pos q, ← k1 q D.2.2.2, if_neg (by simp [fi_cb]; omega)]
  · rw [if_neg q, ← k2 q, if_pos (by simp [fi_cb]; omega)]
theorem j_aeq {o y z : Int} (D : fk_D M ((pc, cu, .if_acmp .eq o, 3, x1, x2, x3) :: l)) (ha : fk_am cu L = L) (k1 : y = z → gG c M x1 L st h = b1) (k2 : ¬ y = z → fk_D M l → gG c M (pc + 3) L st h = b2) : gG c M pc L ((4, z) :: (4, y) :: st) h = if y = z then b1 else b2 := by
  have hr := eq_of_beq D.2.2.1
  have e : gG c M pc L ((4, z) :: (4, y) :: st) h = gG c M (if decide (y = z) then x1 else pc + 3) L st h := by
    refine fk_plain D ha rfl ?_
    show (if 3 = 3 then match (4, z) :: (4, y) :: st, fi_tgt pc o with
      | (4, y) :: (4, x) :: st', some t => some (if (match ClassFile.ACond.eq with | .eq => decide (x = y) | .ne => decide (x ≠ y)) then t else pc + 3, L, st', h)
      | _, _ => none else none) = _
    rw [if_pos rfl, hr]
    rfl
  rw [e]
  by_cases q : y = z
  · rw [if_pos q, ← k1 q, if_pos (by simp [q])]
  · rw [if_neg q, ← k2 q D.2.2.2, if_neg (by simp [q])]
theorem j_ane {o y z : Int} (D : fk_D M ((pc, cu, .if_acmp .ne o, 3, x1, x2, x3) :: l)) (ha : fk_am cu L = L) (k1 : y = z → fk_D M l → gG c M (pc + 3) L st h = b1) (k2 : ¬ y = z → gG c M x1 L st h = b2) : gG c M pc L ((4, z) :: (4, y) :: st) h = if y = z then b1 else b2 := by
  have hr := eq_of_beq D.2.2.1
  have e : gG c M pc L ((4, z) :: (4, y) :: st) h = gG c M (if decide (y ≠ z) then x1 else pc + 3) L st h := by
    refine fk_plain D ha rfl ?_
    show (if 3 = 3 then match (4, z) :: (4, y) :: st, fi_tgt pc o with
      | (4, y) :: (4, x) :: st', some t => some (if (match ClassFile.ACond.ne with | .eq => decide (x = y) | .ne => decide (x ≠ y)) then t else pc + 3, L, st', h)
      | _, _ => none else none) = _
    rw [if_pos rfl, hr]
    rfl
  rw [e]
  by_cases q : y = z
  · rw [if_pos q, ← k1 q D.2.2.2, if_neg (by simp [q])]
  · rw [if_neg q, ← k2 q, if_pos (by simp [q])]
theorem j_null {o y : Int} (D : fk_D M ((pc, cu, .ifnull o, 3, x1, x2, x3) :: l)) (ha : fk_am cu L = L) (k1 : y = 0 → gG c M x1 L st h = b1) (k2 : ¬ y = 0 → fk_D M l → gG c M (pc + 3) L st h = b2) : gG c M pc L ((4, y) :: st) h = if y = 0 then b1 else b2 := by
  have hr := eq_of_beq D.2.2.1
  have e : gG c M pc L ((4, y) :: st) h = gG c M (if y = 0 then x1 else pc + 3) L st h := by
    refine fk_plain D ha rfl ?_
    show (if 3 = 3 then match (4, y) :: st, fi_tgt pc o with
      | (4, x) :: st', some t => some (if x = 0 then t else pc + 3, L, st', h)
      | _, _ => none else none) = _
    rw [if_pos rfl, hr]
    rfl
  rw [e]
  by_cases q : y = 0
  · rw [if_pos q, if_pos q, ← k1 q]
  · rw [if_neg q, if_neg q, ← k2 q D.2.2.2]
theorem j_nonnull {o y : Int} (D : fk_D M ((pc, cu, .ifnonnull o, 3, x1, x2, x3) :: l)) (ha : fk_am cu L = L) (k1 : y = 0 → fk_D M l → gG c M (pc + 3) L st h = b1) (k2 : ¬ y = 0 → gG c M x1 L st h = b2) : gG c M pc L ((4, y) :: st) h = if y = 0 then b1 else b2 := by
  have hr := eq_of_beq D.2.2.1
  have e : gG c M pc L ((4, y) :: st) h = gG c M (if y = 0 then pc + 3 else x1) L st h := by
    refine fk_plain D ha rfl ?_
    show (if 3 = 3 then match (4, y) :: st, fi_tgt pc o with
      | (4, x) :: st', some t => some (if x = 0 then pc + 3 else t, L, st', h)
      | _, _ => none else none) = _
    rw [if_pos rfl, hr]
    rfl
  rw [e]
  by_cases q : y = 0
  · rw [if_pos q, if_pos q, ← k1 q D.2.2.2]
  · rw [if_neg q, if_neg q, ← k2 q]
/-- a branch whose number is known -/
theorem j_known {ins : Instr} {pc' : Nat} {L' : fi_L} {st' : List FV} (D : fk_D M ((pc, cu, ins, len, x1, x2, x3) :: l)) (ha : fk_am cu L = L) (hp : fk_pl ins len = true) (hs : fi_stp M ins len pc L st h = some (pc', L', st', h)) (k : gG c M pc' L' st' h = b) : gG c M pc L st h = b := (fk_plain D ha hp hs).trans k
/-- switches: a case at a time, then what is left -/
def fk_ni (y : Int) : List Int → Prop
  | [] => True
  | n :: ns => ¬ y = n ∧ fk_ni y ns
theorem fk_ni_mem {y : Int} : ∀ {ns : List Int}, fk_ni y ns → ∀ n ∈ ns, y ≠ n
  | [], _, n, hn => by cases hn
  | m :: ns, e, n, hn => by
    rcases List.mem_cons.mp hn with rfl | hn
    · exact e.1
    · exact fk_ni_mem e.2 n hn
def fk_tt (pc : Nat) (dflt lo hi : Int) (offs : Array Int) (y : Int) : Option Nat := if y < lo ∨ hi < y then fi_tgt pc dflt else match offs[(y - lo).toNat]? with | some off => fi_tgt pc off | none => none
theorem fk_tsw {dflt lo hi y : Int} {offs : Array Int} {t : Nat} (D : fk_D M ((pc, cu, .tableswitch dflt lo hi offs, len, x1, x2, x3) :: l)) (ha : fk_am cu L = L) (ht : fk_tt pc dflt lo hi offs y = some t) : gG c M pc L ((0, y) :: st) h = gG c M t L st h := by
  refine fk_plain D ha rfl ?_
  show (if y < lo ∨ hi < y then (fi_tgt pc dflt).map (fun t => (t, L, st, h)) else match offs[(y - lo).toNat]? with
      | some off => (fi_tgt pc off).map (fun t => (t, L, st, h))
      | none => none) = _
  unfold fk_tt at ht
  split at ht
  · rename_i q; rw [if_pos q, ht]; rfl
  · rename_i q
    rw [if_neg q]
    split at ht
    · rename_i o2 ho; rw [ht]; rfl
    · cases ht
theorem j_tc {dflt lo hi y : Int} {offs : Array Int} {ns : List Int} (n : Int) {t : Nat} (D : fk_D M ((pc, cu, .tableswitch dflt lo hi offs, len, x1, x2, x3) :: l)) (N : fk_ni y ns) (ha : fk_am cu L = L) (ht : fk_tt pc dflt lo hi offs n = some t) (k1 : y = n → gG c M t L st h = b1) (k2 : fk_ni y (n :: ns) → gG c M pc L ((0, y) :: st) h = b2) : gG c M pc L ((0, y) :: st) h = if y = n then b1 else b2 := by
  by_cases q : y = n
  · rw [if_pos q, ← k1 q]; exact fk_tsw D ha (by rw [q]; exact ht)
  · rw [if_neg q, ← k2 ⟨q, N⟩]
theorem j_td {dflt lo hi y : Int} {offs : Array Int} {ns : List Int} {t : Nat} (D : fk_D M ((pc, cu, .tableswitch dflt lo hi offs, len, x1, x2, x3) :: l)) (N : fk_ni y ns) (ha : fk_am cu L = L) (ht : fi_tgt pc dflt = some t) (hc : ((List.range (hi - lo + 1).toNat).all (fun j => decide ((lo + (j : Int)) ∈ ns) || (fk_tt pc dflt lo hi offs (lo + j) == some t))) = true) (k : gG c M t L st h = b) : gG c M pc L ((0, y) :: st) h = b := by
  rw [← k]
  refine fk_tsw D ha ?_
  by_cases q : y < lo ∨ hi < y
  · unfold fk_tt; rw [if_pos q]; exact ht
  · have hj : (y - lo).toNat ∈ List.range (hi - lo + 1).toNat := by rw [List.mem_range]; omega
    have hq := List.all_eq_true.mp hc _ hj
    have e : lo + ((y - lo).toNat : Int) = y := by omega
    rw [e] at hq
    simp only [Bool.or_eq_true, decide_eq_true_eq] at hq
    rcases hq with hq | hq
    · exact absurd rfl (fk_ni_mem N y hq)
    · exact eq_of_beq hq
theorem fk_lsw {dflt y : Int} {ps : Array (Int × Int)} {t : Nat} (D : fk_D M ((pc, cu, .lookupswitch dflt ps, len, x1, x2, x3) :: l)) (ha : fk_am cu L = L) (hs : (ps.toList.zip (ps.toList.drop 1)).all (fun (a, next) => a.1 < next.1) = true) (ht : fi_tgt pc (Op.lookupswitch.offset ps.toList dflt y) = some t) : gG c M pc L ((0, y) :: st) h = gG c M t L st h := by
  refine fk_plain D ha rfl ?_
  show (if (ps.toList.zip (ps.toList.drop 1)).all (fun (a, next) => a.1 < next.1) then (fi_tgt pc (Op.lookupswitch.offset ps.toList dflt y)).map (fun t => (t, L, st, h)) else none) = _
  rw [if_pos hs, ht]
  rfl
theorem j_lc {dflt y : Int} {ps : Array (Int × Int)} {ns : List Int} (n : Int) {t : Nat} (D : fk_D M ((pc, cu, .lookupswitch dflt ps, len, x1, x2, x3) :: l)) (N : fk_ni y ns) (ha : fk_am cu L = L) (hs : (ps.toList.zip (ps.toList.drop 1)).all (fun (a, next) => a.1 < next.1) = true) (ht : fi_tgt pc (Op.lookupswitch.offset ps.toList dflt n) = some t) (k1 : y = n → gG c M t L st h = b1) (k2 : fk_ni y (n :: ns) → gG c M pc L ((0, y) :: st) h = b2) : gG c M pc L ((0, y) :: st) h = if y = n then b1 else b2 := by
  by_cases q : y = n
  · rw [if_pos q, ← k1 q]; exact fk_lsw D ha hs (by rw [q]; exact ht)
  · rw [if_neg q, ← k2 ⟨q, N⟩]
theorem fk_lof {dflt y : Int} : ∀ {ps : List (Int × Int)}, (∀ q ∈ ps, y ≠ q.1) → Op.lookupswitch.offset ps dflt y = dflt
  | [], _ => rfl
  | (a, o) :: ps, e => by
    unfold Op.lookupswitch.offset
    have h1 := e (a, o) (by simp)
    have ih := fk_lof (ps := ps) (dflt := dflt) (fun q hq => e q (by simp [hq]))
    first
      | (rw [if_neg (by simpa using fun q => h1 q.symm)]; exact ih)
      | (rw [if_neg (by simpa using h1)]; exact ih)
theorem j_ldf {dflt y : Int} {ps : Array (Int × Int)} {ns : List Int} {t : Nat} (D : fk_D M ((pc, cu, .lookupswitch dflt ps, len, x1, x2, x3) :: l)) (N : fk_ni y ns) (ha : fk_am cu L = L) (hs : (ps.toList.zip (ps.toList.drop 1)).all (fun (a, next) => a.1 < next.1) = true) (hc : ps.toList.all (fun q => decide (q.1 ∈ ns)) = true) (ht : fi_tgt pc dflt = some t) (k : gG c M t L st h = b) : gG c M pc L ((0, y) :: st) h = b := by
  rw [← k]
  refine fk_lsw D ha hs ?_
  rw [fk_lof (fun q hq => fk_ni_mem N q.1 (of_decide_eq_true (List.all_eq_true.mp hc q hq)))]
  exact ht
/-- stack -/
theorem j_sh {ins : Instr} {st' : List FV} (D : fk_D M ((pc, cu, ins, 1, x1, x2, x3) :: l)) (ha : fk_am cu L = L) (hp : fk_pl ins 1 = true) (hs : fi_stp M ins 1 pc L st h = some (pc + 1, L, st', h)) (k : fk_D M l → gG c M (pc + 1) L st' h = b) : gG c M pc L st h = b := (fk_plain D ha hp hs).trans (k D.2.2.2)
theorem fk_b2 {ins : Instr} {u v w : FV} (D : fk_D M ((pc, cu, ins, 1, x1, x2, x3) :: l)) (ha : fk_am cu L = L) (hp : fk_pl ins 1 = true) (hs : fi_stp M ins 1 pc L (v :: u :: st) h = match fi_b2 ins u v with | some v => some (pc + 1, L, v :: st, h) | none => (fi_u1 ins v).map (fun w => (pc + 1, L, w :: u :: st, h))) (he : fi_b2 ins u v = some w) (k : fk_D M l → gG c M (pc + 1) L (w :: st) h = b) : gG c M pc L (v :: u :: st) h = b := by
  rw [he] at hs
  exact (fk_plain D ha hp hs).trans (k D.2.2.2)
theorem j_iadd {y z : Int} (D : fk_D M ((pc, cu, .iadd, 1, x1, x2, x3) :: l)) (ha : fk_am cu L = L) (k : fk_D M l → gG c M (pc + 1) L ((0, wI (y + z)) :: st) h = b) : gG c M pc L ((0, z) :: (0, y) :: st) h = b :=
  fk_b2 D ha rfl rfl (congrArg (fun q => some (0, q)) (by rw [wI, Int32.ofInt_add])) k
theorem j_isub {y z : Int} (D : fk_D M ((pc, cu, .isub, 1, x1, x2, x3) :: l)) (ha : fk_am cu L = L) (k : fk_D M l → gG c M (pc + 1) L ((0, wI (y - z)) :: st) h = b) : gG c M pc L ((0, z) :: (0, y) :: st) h = b :=
  fk_b2 D ha rfl rfl (congrArg (fun q => some (0, q)) (by rw [wI, Int32.ofInt_sub])) k
theorem j_imul {y z : Int} (D : fk_D M ((pc, cu, .imul, 1, x1, x2, x3) :: l)) (ha : fk_am cu L = L) (k : fk_D M l → gG c M (pc + 1) L ((0, wI (y * z)) :: st) h = b) : gG c M pc L ((0, z) :: (0, y) :: st) h = b :=
  fk_b2 D ha rfl rfl (congrArg (fun q => some (0, q)) (by rw [wI, Int32.ofInt_mul])) k
theorem j_ladd {y z : Int} (D : fk_D M ((pc, cu, .ladd, 1, x1, x2, x3) :: l)) (ha : fk_am cu L = L) (k : fk_D M l → gG c M (pc + 1) L ((1, wJ (y + z)) :: st) h = b) : gG c M pc L ((1, z) :: (1, y) :: st) h = b :=
  fk_b2 D ha rfl rfl (congrArg (fun q => some (1, q)) (by rw [wJ, Int64.ofInt_add])) k
theorem j_lsub {y z : Int} (D : fk_D M ((pc, cu, .lsub, 1, x1, x2, x3) :: l)) (ha : fk_am cu L = L) (k : fk_D M l → gG c M (pc + 1) L ((1, wJ (y - z)) :: st) h = b) : gG c M pc L ((1, z) :: (1, y) :: st) h = b :=
  fk_b2 D ha rfl rfl (congrArg (fun q => some (1, q)) (by rw [wJ, Int64.ofInt_sub])) k
theorem j_lmul {y z : Int} (D : fk_D M ((pc, cu, .lmul, 1, x1, x2, x3) :: l)) (ha : fk_am cu L = L) (k : fk_D M l → gG c M (pc + 1) L ((1, wJ (y * z)) :: st) h = b) : gG c M pc L ((1, z) :: (1, y) :: st) h = b :=
  fk_b2 D ha rfl rfl (congrArg (fun q => some (1, q)) (by rw [wJ, Int64.ofInt_mul])) k
/-- quotients and rests -/
def iq_ (y z : Int) : Int := wI ((wI y).tdiv (wI z))
def ir_ (y z : Int) : Int := (wI y).tmod (wI z)
def lq_ (y z : Int) : Int := wJ ((wJ y).tdiv (wJ z))
def lr_ (y z : Int) : Int := (wJ y).tmod (wJ z)
theorem fk_idiv (y z : Int) : (fi_I y / fi_I z).toInt = iq_ y z := by
  unfold iq_
  rw [Int32.toInt_div]
  exact (Int32.toInt_ofInt (n := _)).symm
theorem fk_ldiv (y z : Int) : (fi_J6 y / fi_J6 z).toInt = lq_ y z := by
  unfold lq_
  rw [Int64.toInt_div]
  exact (Int64.toInt_ofInt (n := _)).symm
theorem fk_irem (y z : Int) : (fi_I y - fi_I y / fi_I z * fi_I z).toInt = ir_ y z := by
  have e : fi_I y - fi_I y / fi_I z * fi_I z = Int32.ofInt ((fi_I y).toInt - (fi_I y).toInt.tdiv (fi_I z).toInt * (fi_I z).toInt) := by
    have e1 : fi_I y / fi_I z = Int32.ofInt ((fi_I y).toInt.tdiv (fi_I z).toInt) := by
      apply Int32.toInt_inj.mp
      rw [fk_idiv]
      rfl
    rw [Int32.ofInt_sub, Int32.ofInt_mul, ← e1, Int32.ofInt_toInt, Int32.ofInt_toInt]
  rw [e]
  have e2 : (fi_I y).toInt - (fi_I y).toInt.tdiv (fi_I z).toInt * (fi_I z).toInt = (fi_I y).toInt.tmod (fi_I z).toInt := by
    have := Int.tmod_add_mul_tdiv (fi_I y).toInt (fi_I z).toInt
    rw [Int.mul_comm] at this
    omega
  rw [e2]
  have h1 := (fi_I y).le_toInt
  have h2 := (fi_I y).toInt_lt
  have h3 : ((fi_I y).toInt.tmod (fi_I z).toInt).natAbs ≤ (fi_I y).toInt.natAbs := by rw [Int.natAbs_tmod]; exact Nat.mod_le _ _
  by_cases hs : (fi_I y).toInt < 0
  · have h4 : (fi_I y).toInt.tmod (fi_I z).toInt ≤ 0 := by have q := Int.tmod_nonneg (a := -(fi_I y).toInt) (fi_I z).toInt (by omega); rw [Int.neg_tmod] at q; omega
    exact fr_tI ⟨by omega, by omega⟩
  · have h4 : 0 ≤ (fi_I y).toInt.tmod (fi_I z).toInt := Int.tmod_nonneg _ (by omega)
    exact fr_tI ⟨by omega, by omega⟩
theorem fk_lrem (y z : Int) : (fi_J6 y - fi_J6 y / fi_J6 z * fi_J6 z).toInt = lr_ y z := by
  have e : fi_J6 y - fi_J6 y / fi_J6 z * fi_J6 z = Int64.ofInt ((fi_J6 y).toInt - (fi_J6 y).toInt.tdiv (fi_J6 z).toInt * (fi_J6 z).toInt) := by
    have e1 : fi_J6 y / fi_J6 z = Int64.ofInt ((fi_J6 y).toInt.tdiv (fi_J6 z).toInt) := by
      apply Int64.toInt_inj.mp
      rw [fk_ldiv]
      rfl
    rw [Int64.ofInt_sub, Int64.ofInt_mul, ← e1, Int64.ofInt_toInt, Int64.ofInt_toInt]
  rw [e]
  have e2 : (fi_J6 y).toInt - (fi_J6 y).toInt.tdiv (fi_J6 z).toInt * (fi_J6 z).toInt = (fi_J6 y).toInt.tmod (fi_J6 z).toInt := by
    have := Int.tmod_add_mul_tdiv (fi_J6 y).toInt (fi_J6 z).toInt
    rw [Int.mul_comm] at this
    omega
  rw [e2]
  have h1 := (fi_J6 y).le_toInt
  have h2 := (fi_J6 y).toInt_lt
  have h3 : ((fi_J6 y).toInt.tmod (fi_J6 z).toInt).natAbs ≤ (fi_J6 y).toInt.natAbs := by rw [Int.natAbs_tmod]; exact Nat.mod_le _ _
  by_cases hs : (fi_J6 y).toInt < 0
  · have h4 : (fi_J6 y).toInt.tmod (fi_J6 z).toInt ≤ 0 := by have q := Int.tmod_nonneg (a := -(fi_J6 y).toInt) (fi_J6 z).toInt (by omega); rw [Int.neg_tmod] at q; omega
    exact fr_tJ ⟨by omega, by omega⟩
  · have h4 : 0 ≤ (fi_J6 y).toInt.tmod (fi_J6 z).toInt := Int.tmod_nonneg _ (by omega)
    exact fr_tJ ⟨by omega, by omega⟩
/-- the second operand is known not to be 0 -/
theorem j_idivk {y z : Int} (D : fk_D M ((pc, cu, .idiv, 1, x1, x2, x3) :: l)) (ha : fk_am cu L = L) (hz : decide (z = 0) = false) (k : fk_D M l → gG c M (pc + 1) L ((0, iq_ y z) :: st) h = b) : gG c M pc L ((0, z) :: (0, y) :: st) h = b :=
  fk_b2 D ha rfl rfl (by show (if z = 0 then none else some (fi_i (fi_I y / fi_I z))) = _; rw [if_neg (by simpa using hz)]; exact congrArg (fun q => some (0, q)) (fk_idiv y z)) k
theorem j_iremk {y z : Int} (D : fk_D M ((pc, cu, .irem, 1, x1, x2, x3) :: l)) (ha : fk_am cu L = L) (hz : decide (z = 0) = false) (k : fk_D M l → gG c M (pc + 1) L ((0, ir_ y z) :: st) h = b) : gG c M pc L ((0, z) :: (0, y) :: st) h = b :=
  fk_b2 D ha rfl rfl (by show (if z = 0 then none else some (fi_i (fi_I y - fi_I y / fi_I z * fi_I z))) = _; rw [if_neg (by simpa using hz)]; exact congrArg (fun q => some (0, q)) (fk_irem y z)) k
theorem j_ldivk {y z : Int} (D : fk_D M ((pc, cu, .ldiv, 1, x1, x2, x3) :: l)) (ha : fk_am cu L = L) (hz : decide (z = 0) = false) (k : fk_D M l → gG c M (pc + 1) L ((1, lq_ y z) :: st) h = b) : gG c M pc L ((1, z) :: (1, y) :: st) h = b :=
  fk_b2 D ha rfl rfl (by show (if z = 0 then none else some (fi_l (fi_J6 y / fi_J6 z))) = _; rw [if_neg (by simpa using hz)]; exact congrArg (fun q => some (1, q)) (fk_ldiv y z)) k
theorem j_lremk {y z : Int} (D : fk_D M ((pc, cu, .lrem, 1, x1, x2, x3) :: l)) (ha : fk_am cu L = L) (hz : decide (z = 0) = false) (k : fk_D M l → gG c M (pc + 1) L ((1, lr_ y z) :: st) h = b) : gG c M pc L ((1, z) :: (1, y) :: st) h = b :=
  fk_b2 D ha rfl rfl (by show (if z = 0 then none else some (fi_l (fi_J6 y - fi_J6 y / fi_J6 z * fi_J6 z))) = _; rw [if_neg (by simpa using hz)]; exact congrArg (fun q => some (1, q)) (fk_lrem y z)) k
theorem fk_stuck {ins : Instr} (D : fk_D M ((pc, cu, ins, len, x1, x2, x3) :: l)) (ha : fk_am cu L = L) (hp : fk_pl ins len = true) (hs : fi_stp M ins len pc L st h = none) : gG c M pc L st h = none := by
  obtain ⟨d1, d2, -, -⟩ := D
  rw [gG_eq, d1]
  have h1 : fi_rt M ins len st = none := by
    unfold fi_rt
    split
    · split <;> first | rfl | (cases hp; done)
    · rfl
  have h2 : fi_cl M ins len st h = none := by
    unfold fi_cl
    split <;> first | rfl | (cases hp; done)
  have h3 : ¬ ∃ r0 st2, ins = .athrow ∧ st = (4, r0) :: st2 := by
    rintro ⟨r0, st2, rfl, -⟩
    cases hp
  have h4 : fj_ok M ins st h = true := by
    unfold fj_ok
    split <;> first | rfl | (cases hp; done)
  simp only [h1, h2]
  rw [fj_nat h3, if_pos h4, fk_at d2 ha, hs]
theorem j_idiv {y z : Int} (D : fk_D M ((pc, cu, .idiv, 1, x1, x2, x3) :: l)) (ha : fk_am cu L = L) (k : ¬ z = 0 → fk_D M l → gG c M (pc + 1) L ((0, iq_ y z) :: st) h = b) : gG c M pc L ((0, z) :: (0, y) :: st) h = if z = 0 then none else b := by
  by_cases q : z = 0
  · rw [if_pos q]
    refine fk_stuck D ha rfl ?_
    show (match (if z = 0 then none else some (fi_i (fi_I y / fi_I z))) with | some v => some (pc + 1, L, v :: st, h) | none => (none : Option FV).map (fun v => (pc + 1, L, v :: (0, y) :: st, h))) = none
    rw [if_pos q]; rfl
  · rw [if_neg q]; exact j_idivk D ha (by simpa using q) (k q)
theorem j_irem {y z : Int} (D : fk_D M ((pc, cu, .irem, 1, x1, x2, x3) :: l)) (ha : fk_am cu L = L) (k : ¬ z = 0 → fk_D M l → gG c M (pc + 1) L ((0, ir_ y z) :: st) h = b) : gG c M pc L ((0, z) :: (0, y) :: st) h = if z = 0 then none else b := by
  by_cases q : z = 0
  · rw [if_pos q]
    refine fk_stuck D ha rfl ?_
    show (match (if z = 0 then none else some (fi_i (fi_I y - fi_I y / fi_I z * fi_I z))) with | some v => some (pc + 1, L, v :: st, h) | none => (none : Option FV).map (fun v => (pc + 1, L, v :: (0, y) :: st, h))) = none
    rw [if_pos q]; rfl
  · rw [if_neg q]; exact j_iremk D ha (by simpa using q) (k q)
theorem j_ldiv {y z : Int} (D : fk_D M ((pc, cu, .ldiv, 1, x1, x2, x3) :: l)) (ha : fk_am cu L = L) (k : ¬ z = 0 → fk_D M l → gG c M (pc + 1) L ((1, lq_ y z) :: st) h = b) : gG c M pc L ((1, z) :: (1, y) :: st) h = if z = 0 then none else b := by
  by_cases q : z = 0
  · rw [if_pos q]
    refine fk_stuck D ha rfl ?_
    show (match (if z = 0 then none else some (fi_l (fi_J6 y / fi_J6 z))) with | some v => some (pc + 1, L, v :: st, h) | none => (none : Option FV).map (fun v => (pc + 1, L, v :: (1, y) :: st, h))) = none
    rw [if_pos q]; rfl
  · rw [if_neg q]; exact j_ldivk D ha (by simpa using q) (k q)
theorem j_lrem {y z : Int} (D : fk_D M ((pc, cu, .lrem, 1, x1, x2, x3) :: l)) (ha : fk_am cu L = L) (k : ¬ z = 0 → fk_D M l → gG c M (pc + 1) L ((1, lr_ y z) :: st) h = b) : gG c M pc L ((1, z) :: (1, y) :: st) h = if z = 0 then none else b := by
  by_cases q : z = 0
  · rw [if_pos q]
    refine fk_stuck D ha rfl ?_
    show (match (if z = 0 then none else some (fi_l (fi_J6 y - fi_J6 y / fi_J6 z * fi_J6 z))) with | some v => some (pc + 1, L, v :: st, h) | none => (none : Option FV).map (fun v => (pc + 1, L, v :: (1, y) :: st, h))) = none
    rw [if_pos q]; rfl
  · rw [if_neg q]; exact j_lremk D ha (by simpa using q) (k q)
end FK2

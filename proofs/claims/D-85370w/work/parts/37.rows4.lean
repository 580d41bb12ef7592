/-! rows: arrays, new cells, casts, calls, ends -/
section FK4
variable {c : fi_C} {M pc : Nat} {cu : Option (List Nat)} {len : Nat} {x1 : Nat} {x2 : Int} {x3 : Nat} {l : List fk_E} {L : fi_L} {st : List FV} {h : fi_H} {b b1 b2 b3 b4 : fk_R}
def fk_isal (ins : Instr) : Bool := match ins with | .iaload => true | .laload => true | .faload => true | .daload => true | .aaload => true | .baload => true | .caload => true | .saload => true | _ => false
def fk_isas (ins : Instr) : Bool := match ins with | .iastore => true | .lastore => true | .fastore => true | .dastore => true | .aastore => true | .bastore => true | .castore => true | .sastore => true | _ => false
theorem fk_al {ins : Instr} {i r : Int} (D : fk_D M ((pc, cu, ins, 1, x1, x2, x3) :: l)) (ha : fk_am cu L = L) (hi : fk_isal ins = true) : gG c M pc L ((0, i) :: (4, r) :: st) h = if r = 0 then none else if fi_et (fi_al ins) (h 0 r.toNat 0) ≠ 0 ∧ 0 ≤ i ∧ i < h 1 r.toNat 0 then gG c M (pc + 1) L ((fi_tg (fi_et (fi_al ins) (h 0 r.toNat 0)), h (fi_et (fi_al ins) (h 0 r.toNat 0)) r.toNat i.toNat) :: st) h else none := by
  have hp : fk_pl ins 1 = true := by unfold fk_isal at hi; unfold fk_pl; split at hi <;> first | rfl | cases hi
  have hs : fi_stp M ins 1 pc L ((0, i) :: (4, r) :: st) h = if r = 0 then none else if fi_et (fi_al ins) (h 0 r.toNat 0) ≠ 0 ∧ 0 ≤ i ∧ i < h 1 r.toNat 0 then some (pc + 1, L, (fi_tg (fi_et (fi_al ins) (h 0 r.toNat 0)), h (fi_et (fi_al ins) (h 0 r.toNat 0)) r.toNat i.toNat) :: st, h) else none := by
    unfold fk_isal at hi
    split at hi <;> first | rfl | cases hi
  by_cases q : r = 0
  · rw [if_pos q] at hs ⊢; exact fk_stuck D ha hp hs
  · rw [if_neg q] at hs ⊢
    by_cases q2 : fi_et (fi_al ins) (h 0 r.toNat 0) ≠ 0 ∧ 0 ≤ i ∧ i < h 1 r.toNat 0
    · rw [if_pos q2] at hs ⊢; exact fk_plain D ha hp hs
    · rw [if_neg q2] at hs ⊢; exact fk_stuck D ha hp hs
/-- an array whose class and length are known -/
theorem j_al {ins : Instr} {i r k n : Int} {a e t j : Nat} (D : fk_D M ((pc, cu, ins, 1, x1, x2, x3) :: l)) (ha : fk_am cu L = L) (hi : fk_isal ins = true) (hr : r.toNat = a) (hz : r ≠ 0) (hk : h 0 a 0 = k) (hn : h 1 a 0 = n) (he : fi_et (fi_al ins) k = e ∧ decide (e ≠ 0) = true ∧ fi_tg e = t) (hj : i.toNat = j) (g : fk_g (0 ≤ i ∧ i < n) b1 b) (k' : (0 ≤ i ∧ i < n) → fk_D M l → gG c M (pc + 1) L ((t, h e a j) :: st) h = b1) : gG c M pc L ((0, i) :: (4, r) :: st) h = b := by
  rw [fk_al D ha hi, if_neg hz, hr, hk, hn, he.1, he.2.2, hj]
  have e0 := of_decide_eq_true he.2.1
  by_cases q : 0 ≤ i ∧ i < n
  · rw [fk_gy g q, if_pos ⟨e0, q⟩, k' q D.2.2.2]
  · rw [fk_gn g q, if_neg (fun e => q e.2)]
/-- an array that is asked for its class: numbers other than bytes -/
theorem j_alp {j : Nat} {ins : Instr} {i r : Int} {e t : Nat} (z : h 0 0 0 = 0) (D : fk_D M ((pc, cu, ins, 1, x1, x2, x3) :: l)) (ha : fk_am cu L = L) (hi : fk_isal ins = true) (he : fi_al ins = e ∧ decide (e ≠ 1 ∧ e ≠ 12 ∧ e ≠ 0) = true ∧ fi_tg e = t) (hj : i.toNat = j) (k' : h 0 r.toNat 0 = e → (0 ≤ i ∧ i < h 1 r.toNat 0) → fk_D M l → gG c M (pc + 1) L ((t, h e r.toNat j) :: st) h = b) : gG c M pc L ((0, i) :: (4, r) :: st) h = if h 0 r.toNat 0 = e ∧ 0 ≤ i ∧ i < h 1 r.toNat 0 then b else none := by
  subst hj
  have e0 := of_decide_eq_true he.2.1
  have het : ∀ k, fi_et e k = if k = (e : Int) then e else 0 := by intro k; unfold fi_et; rw [if_neg e0.1, if_neg e0.2.1]
  rw [fk_al D ha hi, he.1, het]
  by_cases q : h 0 r.toNat 0 = e
  · rw [if_pos q, he.2.2]
    have hz : r ≠ 0 := by intro q2; rw [q2, show (0 : Int).toNat = 0 from rfl, z] at q; omega
    rw [if_neg hz]
    by_cases q3 : 0 ≤ i ∧ i < h 1 r.toNat 0
    · rw [if_pos ⟨e0.2.2, q3⟩, if_pos ⟨q, q3⟩, k' q q3 D.2.2.2]
    · rw [if_neg (fun e => q3 e.2), if_neg (fun e => q3 e.2)]
  · rw [if_neg q, if_neg (show ¬ (h 0 r.toNat 0 = e ∧ _) from fun e => q e.1)]
    split
    · rfl
    · rw [if_neg (fun e => e.1 rfl)]
/-- of references -/
theorem j_alr {j : Nat} {i r : Int} (z : h 0 0 0 = 0) (D : fk_D M ((pc, cu, .aaload, 1, x1, x2, x3) :: l)) (ha : fk_am cu L = L) (hj : i.toNat = j) (k' : (20 ≤ h 0 r.toNat 0 ∧ h 0 r.toNat 0 < 30) → (0 ≤ i ∧ i < h 1 r.toNat 0) → fk_D M l → gG c M (pc + 1) L ((4, h 12 r.toNat j) :: st) h = b) : gG c M pc L ((0, i) :: (4, r) :: st) h = if (20 ≤ h 0 r.toNat 0 ∧ h 0 r.toNat 0 < 30) ∧ 0 ≤ i ∧ i < h 1 r.toNat 0 then b else none := by
  subst hj
  have het : ∀ k, fi_et 12 k = if 20 ≤ k ∧ k < 30 then 12 else 0 := by intro k; rfl
  rw [fk_al D ha rfl, show fi_al .aaload = 12 from rfl, het]
  by_cases q : 20 ≤ h 0 r.toNat 0 ∧ h 0 r.toNat 0 < 30
  · rw [if_pos q]
    have hz : r ≠ 0 := by intro q2; rw [q2, show (0 : Int).toNat = 0 from rfl, z] at q; omega
    rw [if_neg hz]
    by_cases q3 : 0 ≤ i ∧ i < h 1 r.toNat 0
    · rw [if_pos ⟨by omega, q3⟩, if_pos ⟨q, q3⟩]; exact k' q q3 D.2.2.2
    · rw [if_neg (fun e => q3 e.2), if_neg (fun e => q3 e.2)]
  · rw [if_neg q, if_neg (show ¬ ((20 ≤ h 0 r.toNat 0 ∧ h 0 r.toNat 0 < 30) ∧ _) from fun e => q e.1)]
    split
    · rfl
    · rw [if_neg (fun e => e.1 rfl)]
/-- of bytes or truths -/
theorem j_alb {j : Nat} {i r : Int} (z : h 0 0 0 = 0) (D : fk_D M ((pc, cu, .baload, 1, x1, x2, x3) :: l)) (ha : fk_am cu L = L) (hj : i.toNat = j) (k' : fi_et 1 (h 0 r.toNat 0) ≠ 0 → (0 ≤ i ∧ i < h 1 r.toNat 0) → fk_D M l → gG c M (pc + 1) L ((0, h (fi_et 1 (h 0 r.toNat 0)) r.toNat j) :: st) h = b) : gG c M pc L ((0, i) :: (4, r) :: st) h = if fi_et 1 (h 0 r.toNat 0) ≠ 0 ∧ 0 ≤ i ∧ i < h 1 r.toNat 0 then b else none := by
  subst hj
  rw [fk_al D ha rfl, show fi_al .baload = 1 from rfl]
  by_cases q : fi_et 1 (h 0 r.toNat 0) ≠ 0 ∧ 0 ≤ i ∧ i < h 1 r.toNat 0
  · have hz : r ≠ 0 := by
      intro q2
      rw [q2, show (0 : Int).toNat = 0 from rfl, z] at q
      exact q.1 rfl
    have ht : fi_tg (fi_et 1 (h 0 r.toNat 0)) = 0 := by
      unfold fi_et
      rw [if_pos rfl]
      split
      · rfl
      · split <;> rfl
    rw [if_neg hz, if_pos q, if_pos q, ht, k' q.1 q.2 D.2.2.2]
  · rw [if_neg q, if_neg q]
    split <;> rfl
theorem fk_as {ins : Instr} {i r : Int} {v : FV} (D : fk_D M ((pc, cu, ins, 1, x1, x2, x3) :: l)) (ha : fk_am cu L = L) (hi : fk_isas ins = true) : gG c M pc L (v :: (0, i) :: (4, r) :: st) h = if r ≤ 302 then none else
          if fi_et (fi_as ins) (h 0 r.toNat 0) ≠ 0 ∧ 0 ≤ i ∧ i < h 1 r.toNat 0 ∧ v.1 = fi_tg (fi_et (fi_as ins) (h 0 r.toNat 0)) ∧ fi_rg (fi_et (fi_as ins) (h 0 r.toNat 0)) v.2 = true ∧
            (fi_as ins = 12 → h 0 r.toNat 0 ≠ 28 ∧ (v.2 = 0 ∨ (fi_sup (h 0 v.2.toNat 0)).contains (fi_comp (h 0 r.toNat 0)) = true)) then
          gG c M (pc + 1) L st (fi_upd h (fi_et (fi_as ins) (h 0 r.toNat 0)) r.toNat i.toNat v.2) else none := by
  have hp : fk_pl ins 1 = true := by unfold fk_isas at hi; unfold fk_pl; split at hi <;> first | rfl | cases hi
  have hs : fi_stp M ins 1 pc L (v :: (0, i) :: (4, r) :: st) h = if r ≤ 302 then none else
          if fi_et (fi_as ins) (h 0 r.toNat 0) ≠ 0 ∧ 0 ≤ i ∧ i < h 1 r.toNat 0 ∧ v.1 = fi_tg (fi_et (fi_as ins) (h 0 r.toNat 0)) ∧ fi_rg (fi_et (fi_as ins) (h 0 r.toNat 0)) v.2 = true ∧
            (fi_as ins = 12 → h 0 r.toNat 0 ≠ 28 ∧ (v.2 = 0 ∨ (fi_sup (h 0 v.2.toNat 0)).contains (fi_comp (h 0 r.toNat 0)) = true)) then
          some (pc + 1, L, st, fi_upd h (fi_et (fi_as ins) (h 0 r.toNat 0)) r.toNat i.toNat v.2) else none := by
    unfold fk_isas at hi
    split at hi <;> first | rfl | cases hi
  by_cases q : r ≤ 302
  · rw [if_pos q] at hs ⊢; exact fk_stuck D ha hp hs
  · rw [if_neg q] at hs ⊢
    by_cases q2 : fi_et (fi_as ins) (h 0 r.toNat 0) ≠ 0 ∧ 0 ≤ i ∧ i < h 1 r.toNat 0 ∧ v.1 = fi_tg (fi_et (fi_as ins) (h 0 r.toNat 0)) ∧ fi_rg (fi_et (fi_as ins) (h 0 r.toNat 0)) v.2 = true ∧
            (fi_as ins = 12 → h 0 r.toNat 0 ≠ 28 ∧ (v.2 = 0 ∨ (fi_sup (h 0 v.2.toNat 0)).contains (fi_comp (h 0 r.toNat 0)) = true))
    · rw [if_pos q2] at hs ⊢; exact fk_plain D ha hp hs
    · rw [if_neg q2] at hs ⊢; exact fk_stuck D ha hp hs
theorem fk_hs_as {e a j : Nat} {r w : Int} (hr : r.toNat = a) (q1 : ¬ r ≤ 302) (hk : h 0 a 0 ≠ 0) (he : 4 ≤ e ∧ e ≤ 12) : fj_hs h (fi_upd h e a j w) := Or.inr (Or.inr (Or.inl ⟨e, a, j, w, rfl, by show 302 < a; omega, hk, he.1, he.2⟩))
theorem fk_as_rg {ins : Instr} (hi : fk_isas ins = true) {k : Int} (h : fi_et (fi_as ins) k ≠ 0) : (4 ≤ fi_et (fi_as ins) k ∧ fi_et (fi_as ins) k ≤ 12) ∧ k ≠ 0 := by
  have h0 : fi_as ins ≠ 0 := by unfold fk_isas at hi; unfold fi_as; split at hi <;> first | (cases hi; done) | (simp)
  obtain ⟨a1, a2, a3⟩ := fj_et_rg h (fj_as_rg h0)
  exact ⟨⟨a1, a2⟩, a3⟩
/-- a write to an array that is known: numbers -/
theorem j_as {ins : Instr} {i r k n w : Int} {a e t j : Nat} {kb : fi_H → fk_R} (D : fk_D M ((pc, cu, ins, 1, x1, x2, x3) :: l)) (ha : fk_am cu L = L) (hi : fk_isas ins = true ∧ decide (fi_as ins ≠ 12) = true) (hr : r.toNat = a) (hJ : ¬ r ≤ 302) (hk : h 0 a 0 = k) (hn : h 1 a 0 = n) (he : fi_et (fi_as ins) k = e ∧ decide (e ≠ 0) = true ∧ fi_tg e = t) (hj : i.toNat = j) (g1 : fk_g (0 ≤ i ∧ i < n) b1 b) (g2 : fk_g (fi_rg e w = true) (lt_ (fi_upd h e a j w) kb) b1)
    (k' : ∀ h1, h1 = fi_upd h e a j w → fj_hs h h1 → (0 ≤ i ∧ i < n) → fk_D M l → gG c M (pc + 1) L st h1 = kb h1) : gG c M pc L ((t, w) :: (0, i) :: (4, r) :: st) h = b := by
  rw [fk_as D ha hi.1, if_neg hJ, hr, hk, hn, he.1, he.2.2, hj]
  have e0 := of_decide_eq_true he.2.1
  have e12 := of_decide_eq_true hi.2
  by_cases q : 0 ≤ i ∧ i < n
  · rw [fk_gy g1 q]
    by_cases q2 : fi_rg e w = true
    · rw [fk_gy g2 q2, if_pos ⟨e0, q.1, q.2, rfl, q2, fun e => absurd e e12⟩]
      have e1 := fk_as_rg hi.1 (k := k) (by rw [he.1]; exact e0)
      rw [he.1] at e1
      exact k' _ rfl (fk_hs_as hr hJ (by rw [hk]; exact e1.2) e1.1) q D.2.2.2
    · rw [fk_gn g2 q2, if_neg (fun e => q2 e.2.2.2.2.1)]
  · rw [fk_gn g1 q, if_neg (fun e => q ⟨e.2.1, e.2.2.1⟩)]
/-- references -/
theorem j_asr {i r k n w : Int} {a j cp : Nat} {kb : fi_H → fk_R} (D : fk_D M ((pc, cu, .aastore, 1, x1, x2, x3) :: l)) (ha : fk_am cu L = L) (hr : r.toNat = a) (hJ : ¬ r ≤ 302) (hk : h 0 a 0 = k) (hn : h 1 a 0 = n) (he : fi_et 12 k = 12 ∧ decide (k ≠ 28) = true ∧ fi_comp k = cp) (hj : i.toNat = j) (g1 : fk_g (0 ≤ i ∧ i < n) b1 b) (g2 : fk_g (w = 0 ∨ (fi_sup (h 0 w.toNat 0)).contains cp = true) (lt_ (fi_upd h 12 a j w) kb) b1)
    (k' : ∀ h1, h1 = fi_upd h 12 a j w → fj_hs h h1 → (0 ≤ i ∧ i < n) → fk_D M l → gG c M (pc + 1) L st h1 = kb h1) : gG c M pc L ((4, w) :: (0, i) :: (4, r) :: st) h = b := by
  rw [fk_as D ha rfl, if_neg hJ, hr, hk, hn, show fi_as .aastore = 12 from rfl, he.1, hj, he.2.2]
  have e28 := of_decide_eq_true he.2.1
  by_cases q : 0 ≤ i ∧ i < n
  · rw [fk_gy g1 q]
    by_cases q2 : w = 0 ∨ (fi_sup (h 0 w.toNat 0)).contains cp = true
    · rw [fk_gy g2 q2, if_pos ⟨by omega, q.1, q.2, rfl, rfl, fun _ => ⟨e28, q2⟩⟩]
      have e1 := fk_as_rg (ins := .aastore) rfl (k := k) (by rw [show fi_as .aastore = 12 from rfl, he.1]; omega)
      exact k' _ rfl (fk_hs_as hr hJ (by rw [hk]; exact e1.2) (by omega)) q D.2.2.2
    · rw [fk_gn g2 q2, if_neg (fun e => q2 (e.2.2.2.2.2 rfl).2)]
  · rw [fk_gn g1 q, if_neg (fun e => q ⟨e.2.1, e.2.2.1⟩)]
/-- a write to an array that is asked -/
theorem j_asu {j : Nat} {ins : Instr} {i r w : Int} {e t : Nat} {kb : fi_H → fk_R} (D : fk_D M ((pc, cu, ins, 1, x1, x2, x3) :: l)) (ha : fk_am cu L = L) (hi : fk_isas ins = true) (he : fi_as ins = e ∧ decide (e ≠ 1 ∧ e ≠ 12 ∧ e ≠ 0) = true ∧ fi_tg e = t) (hj : i.toNat = j) (g1 : fk_g (302 < r ∧ h 0 r.toNat 0 = e) b1 b) (g2 : fk_g (0 ≤ i ∧ i < h 1 r.toNat 0) b2 b1) (g3 : fk_g (fi_rg e w = true) (lt_ (fi_upd h e r.toNat j w) kb) b2)
    (k' : ∀ h1, h1 = fi_upd h e r.toNat j w → fj_hs h h1 → (302 < r ∧ h 0 r.toNat 0 = e) → (0 ≤ i ∧ i < h 1 r.toNat 0) → fk_D M l → gG c M (pc + 1) L st h1 = kb h1) : gG c M pc L ((t, w) :: (0, i) :: (4, r) :: st) h = b := by
  subst hj
  have e0 := of_decide_eq_true he.2.1
  have het : ∀ k, fi_et e k = if k = (e : Int) then e else 0 := by intro k; unfold fi_et; rw [if_neg e0.1, if_neg e0.2.1]
  rw [fk_as D ha hi, he.1, het]
  by_cases q : 302 < r ∧ h 0 r.toNat 0 = e
  · rw [fk_gy g1 q, if_neg (show ¬ r ≤ 302 by omega), if_pos q.2, he.2.2]
    by_cases q2 : 0 ≤ i ∧ i < h 1 r.toNat 0
    · rw [fk_gy g2 q2]
      by_cases q3 : fi_rg e w = true
      · rw [fk_gy g3 q3, if_pos ⟨e0.2.2, q2.1, q2.2, rfl, q3, fun e => absurd e e0.2.1⟩]
        have e1 := fk_as_rg hi (k := (e : Int)) (by rw [he.1, het, if_pos rfl]; exact e0.2.2)
        rw [he.1, het, if_pos rfl] at e1
        exact k' _ rfl (fk_hs_as rfl (by omega) (by rw [q.2]; exact e1.2) e1.1) q q2 D.2.2.2
      · rw [fk_gn g3 q3, if_neg (fun e => q3 e.2.2.2.2.1)]
    · rw [fk_gn g2 q2, if_neg (fun e => q2 ⟨e.2.1, e.2.2.1⟩)]
  · rw [fk_gn g1 q]
    by_cases q2 : r ≤ 302
    · rw [if_pos q2]
    · rw [if_neg q2, if_neg (show ¬ h 0 r.toNat 0 = e from fun e => q ⟨by omega, e⟩), if_neg (fun e => e.1 rfl)]
theorem j_asub {j : Nat} {i r w : Int} {kb : fi_H → fk_R} (D : fk_D M ((pc, cu, .bastore, 1, x1, x2, x3) :: l)) (ha : fk_am cu L = L) (hj : i.toNat = j) (g1 : fk_g (302 < r ∧ fi_et 1 (h 0 r.toNat 0) ≠ 0) b1 b) (g2 : fk_g (0 ≤ i ∧ i < h 1 r.toNat 0) b2 b1) (g3 : fk_g (fi_rg (fi_et 1 (h 0 r.toNat 0)) w = true) (lt_ (fi_upd h (fi_et 1 (h 0 r.toNat 0)) r.toNat j w) kb) b2)
    (k' : ∀ h1, h1 = fi_upd h (fi_et 1 (h 0 r.toNat 0)) r.toNat j w → fj_hs h h1 → (302 < r ∧ fi_et 1 (h 0 r.toNat 0) ≠ 0) → (0 ≤ i ∧ i < h 1 r.toNat 0) → fk_D M l → gG c M (pc + 1) L st h1 = kb h1) : gG c M pc L ((0, w) :: (0, i) :: (4, r) :: st) h = b := by
  subst hj
  rw [fk_as D ha rfl, show fi_as .bastore = 1 from rfl]
  have ht : fi_tg (fi_et 1 (h 0 r.toNat 0)) = 0 := by
    unfold fi_et
    rw [if_pos rfl]
    split
    · rfl
    · split <;> rfl
  by_cases q : 302 < r ∧ fi_et 1 (h 0 r.toNat 0) ≠ 0
  · rw [fk_gy g1 q, if_neg (show ¬ r ≤ 302 by omega)]
    by_cases q2 : 0 ≤ i ∧ i < h 1 r.toNat 0
    · rw [fk_gy g2 q2]
      by_cases q3 : fi_rg (fi_et 1 (h 0 r.toNat 0)) w = true
      · rw [fk_gy g3 q3, if_pos ⟨q.2, q2.1, q2.2, ht.symm, q3, fun e => by omega⟩]
        have e1 := fk_as_rg (ins := .bastore) rfl (k := h 0 r.toNat 0) q.2
        exact k' _ rfl (fk_hs_as rfl (by omega) e1.2 e1.1) q q2 D.2.2.2
      · rw [fk_gn g3 q3, if_neg (fun e => q3 e.2.2.2.2.1)]
    · rw [fk_gn g2 q2, if_neg (fun e => q2 ⟨e.2.1, e.2.2.1⟩)]
  · rw [fk_gn g1 q]
    by_cases q2 : r ≤ 302
    · rw [if_pos q2]
    · rw [if_neg q2, if_neg (fun e => q ⟨by omega, e.1⟩)]
theorem j_asur {j : Nat} {i r w : Int} {kb : fi_H → fk_R} (D : fk_D M ((pc, cu, .aastore, 1, x1, x2, x3) :: l)) (ha : fk_am cu L = L) (hj : i.toNat = j) (g1 : fk_g (302 < r ∧ (20 ≤ h 0 r.toNat 0 ∧ h 0 r.toNat 0 < 30)) b1 b) (g2 : fk_g (0 ≤ i ∧ i < h 1 r.toNat 0) b2 b1) (g3 : fk_g (h 0 r.toNat 0 ≠ 28 ∧ (w = 0 ∨ (fi_sup (h 0 w.toNat 0)).contains (fi_comp (h 0 r.toNat 0)) = true)) (lt_ (fi_upd h 12 r.toNat j w) kb) b2)
    (k' : ∀ h1, h1 = fi_upd h 12 r.toNat j w → fj_hs h h1 → (302 < r ∧ (20 ≤ h 0 r.toNat 0 ∧ h 0 r.toNat 0 < 30)) → (0 ≤ i ∧ i < h 1 r.toNat 0) → fk_D M l → gG c M (pc + 1) L st h1 = kb h1) : gG c M pc L ((4, w) :: (0, i) :: (4, r) :: st) h = b := by
  subst hj
  have het : ∀ k, fi_et 12 k = if 20 ≤ k ∧ k < 30 then 12 else 0 := by intro k; rfl
  rw [fk_as D ha rfl, show fi_as .aastore = 12 from rfl, het]
  by_cases q : 302 < r ∧ (20 ≤ h 0 r.toNat 0 ∧ h 0 r.toNat 0 < 30)
  · rw [fk_gy g1 q, if_neg (show ¬ r ≤ 302 by omega), if_pos q.2]
    by_cases q2 : 0 ≤ i ∧ i < h 1 r.toNat 0
    · rw [fk_gy g2 q2]
      by_cases q3 : h 0 r.toNat 0 ≠ 28 ∧ (w = 0 ∨ (fi_sup (h 0 w.toNat 0)).contains (fi_comp (h 0 r.toNat 0)) = true)
      · rw [fk_gy g3 q3, if_pos ⟨by omega, q2.1, q2.2, rfl, rfl, fun _ => q3⟩]
        exact k' _ rfl (fk_hs_as rfl (by omega) (by omega) (by omega)) q q2 D.2.2.2
      · rw [fk_gn g3 q3, if_neg (fun e => q3 (e.2.2.2.2.2 rfl))]
    · rw [fk_gn g2 q2, if_neg (fun e => q2 ⟨e.2.1, e.2.2.1⟩)]
  · rw [fk_gn g1 q]
    by_cases q2 : r ≤ 302
    · rw [if_pos q2]
    · rw [if_neg q2, if_neg (show ¬ (20 ≤ h 0 r.toNat 0 ∧ h 0 r.toNat 0 < 30) from fun e => q ⟨by omega, e⟩), if_neg (fun e => e.1 rfl)]
/-- lengths -/
def fk_isA (k : Int) : Bool := decide (4 ≤ k ∧ (k ≤ 11 ∨ 20 ≤ k) ∧ k < 30)
theorem j_len {r k n : Int} {a : Nat} (D : fk_D M ((pc, cu, .arraylength, 1, x1, x2, x3) :: l)) (ha : fk_am cu L = L) (hr : r.toNat = a) (hz : r ≠ 0) (hk : h 0 a 0 = k) (hA : fk_isA k = true) (hn : h 1 a 0 = n) (k' : fk_D M l → gG c M (pc + 1) L ((0, n) :: st) h = b) : gG c M pc L ((4, r) :: st) h = b := by
  refine (fk_plain D ha rfl ?_).trans (k' D.2.2.2)
  show (if 1 = 1 then (if r = 0 then none else if 4 ≤ h 0 r.toNat 0 ∧ (h 0 r.toNat 0 ≤ 11 ∨ 20 ≤ h 0 r.toNat 0) ∧ h 0 r.toNat 0 < 30 then some (pc + 1, L, (0, h 1 r.toNat 0) :: st, h) else none) else none) = _
  rw [if_pos rfl, if_neg hz, hr, hk, if_pos (of_decide_eq_true hA), hn]
theorem j_lenu {r : Int} (z : h 0 0 0 = 0) (D : fk_D M ((pc, cu, .arraylength, 1, x1, x2, x3) :: l)) (ha : fk_am cu L = L) (k' : fk_isA (h 0 r.toNat 0) = true → fk_D M l → gG c M (pc + 1) L ((0, h 1 r.toNat 0) :: st) h = b) : gG c M pc L ((4, r) :: st) h = if fk_isA (h 0 r.toNat 0) = true then b else none := by
  have hs : fi_stp M .arraylength 1 pc L ((4, r) :: st) h = (if r = 0 then none else if 4 ≤ h 0 r.toNat 0 ∧ (h 0 r.toNat 0 ≤ 11 ∨ 20 ≤ h 0 r.toNat 0) ∧ h 0 r.toNat 0 < 30 then some (pc + 1, L, (0, h 1 r.toNat 0) :: st, h) else none) := rfl
  by_cases q : fk_isA (h 0 r.toNat 0) = true
  · have hz : r ≠ 0 := by intro q2; rw [q2, show (0 : Int).toNat = 0 from rfl, z] at q; cases q
    rw [if_pos q, ← k' q D.2.2.2]
    rw [if_neg hz, if_pos (of_decide_eq_true q)] at hs
    exact fk_plain D ha rfl hs
  · rw [if_neg q]
    refine fk_stuck D ha rfl (hs.trans ?_)
    split
    · rfl
    · rw [if_neg (fun e => q (decide_eq_true e))]
/-- new cells -/
theorem j_new {i k : Nat} {n : Int} {kb : Int → fi_H → fk_R} (D : fk_D M ((pc, cu, .new i, 3, k, n, x3) :: l)) (ha : fk_am cu L = L) (k' : ∀ r h1, r = h 2 0 0 + 1 → h1 = fi_new h k n 0 → fj_hs h h1 → fk_D M l → gG c M (pc + 3) L ((4, r) :: st) h1 = kb r h1) : gG c M pc L st h = nw_ h k n 0 kb := by
  have hr := D.2.2.1
  simp only [fk_res, Bool.and_eq_true, decide_eq_true_eq] at hr
  unfold nw_
  rw [← k' _ _ rfl rfl (Or.inr (Or.inr (Or.inr (Or.inl ⟨_, _, _, rfl⟩)))) D.2.2.2]
  refine fk_plain D ha rfl ?_
  show (if 3 = 3 then match fi_ck (fi_ow M) i with
    | some k => if 100 ≤ k ∧ k < 134 then some (pc + 3, L, (4, h 2 0 0 + 1) :: st, fi_new h k (fi_ns.getD (k - 100) 0) 0) else none
    | none => none else none) = _
  rw [if_pos rfl, eq_of_beq hr.1.1.1]
  simp only
  rw [if_pos ⟨hr.1.1.2, hr.1.2⟩, hr.2]
theorem j_na {t : ArrayType} {n k N : Int} {kb : Int → fi_H → fk_R} (D : fk_D M ((pc, cu, .newarray t, 2, x1, x2, x3) :: l)) (ha : fk_am cu L = L) (hk : (fi_atc t : Int) = k) (hN : fj_al M = N) (g : fk_g (0 ≤ n ∧ n < N) (nw_ h k n n kb) b) (k' : ∀ r h1, r = h 2 0 0 + 1 → h1 = fi_new h k n n → fj_hs h h1 → (0 ≤ n ∧ n < N) → fk_D M l → gG c M (pc + 2) L ((4, r) :: st) h1 = kb r h1) : gG c M pc L ((0, n) :: st) h = b := by
  have hs : fi_stp M (.newarray t) 2 pc L ((0, n) :: st) h = if 0 ≤ n ∧ n < 65536 then some (pc + 2, L, (4, h 2 0 0 + 1) :: st, fi_new h (fi_atc t) n n) else none := rfl
  rw [hk] at hs
  have hle := fj_al_le M
  obtain ⟨d1, d2, d3, d4⟩ := D
  rw [gG_eq, d1]
  simp only
  rw [show fi_rt M (.newarray t) 2 ((0, n) :: st) = none from rfl]
  simp only
  rw [show fi_cl M (.newarray t) 2 ((0, n) :: st) h = none from rfl]
  simp only
  rw [fk_at d2 ha, show fj_ok M (.newarray t) ((0, n) :: st) h = decide (n < fj_al M) from rfl, hN]
  by_cases q : 0 ≤ n ∧ n < N
  · rw [fk_gy g q]
    unfold nw_
    rw [← k' _ _ rfl rfl (Or.inr (Or.inr (Or.inr (Or.inl ⟨_, _, _, rfl⟩)))) q d4]
    rw [if_pos ⟨q.1, by omega⟩] at hs
    rw [if_pos (by simpa using q.2), hs]
  · rw [fk_gn g q]
    by_cases q2 : n < N
    · rw [if_pos (by simpa using q2), hs, if_neg (fun e => q ⟨e.1, q2⟩)]
    · rw [if_neg (by simpa using q2)]
theorem j_ana {i k : Nat} {n ov N : Int} {kb : Int → fi_H → fk_R} (D : fk_D M ((pc, cu, .anewarray i, 3, k, ov, x3) :: l)) (ha : fk_am cu L = L) (hN : fj_al M = N) (g : fk_g (0 ≤ n ∧ n < N) (nw_ h ov n n kb) b) (k' : ∀ r h1, r = h 2 0 0 + 1 → h1 = fi_new h ov n n → fj_hs h h1 → (0 ≤ n ∧ n < N) → fk_D M l → gG c M (pc + 3) L ((4, r) :: st) h1 = kb r h1) : gG c M pc L ((0, n) :: st) h = b := by
  have hr := D.2.2.1
  simp only [fk_res, Bool.and_eq_true, decide_eq_true_eq] at hr
  have hs : fi_stp M (.anewarray i) 3 pc L ((0, n) :: st) h = if 0 ≤ n ∧ n < 65536 ∧ 20 ≤ fi_over k then some (pc + 3, L, (4, h 2 0 0 + 1) :: st, fi_new h (fi_over k) n n) else none := by
    show (if 3 = 3 then match (0, n) :: st, fi_ck (fi_ow M) i with
      | (0, n) :: st', some k => if 0 ≤ n ∧ n < 65536 ∧ 20 ≤ fi_over k then some (pc + 3, L, (4, h 2 0 0 + 1) :: st', fi_new h (fi_over k) n n) else none
      | _, _ => none else none) = _
    rw [if_pos rfl, eq_of_beq hr.1.1]
    rfl
  rw [← hr.2] at hs
  have h20 : 20 ≤ ov := by rw [hr.2]; exact hr.1.2
  have hle := fj_al_le M
  obtain ⟨d1, d2, d3, d4⟩ := D
  rw [gG_eq, d1]
  simp only
  rw [show fi_rt M (.anewarray i) 3 ((0, n) :: st) = none from rfl]
  simp only
  rw [show fi_cl M (.anewarray i) 3 ((0, n) :: st) h = none from rfl]
  simp only
  rw [fk_at d2 ha, show fj_ok M (.anewarray i) ((0, n) :: st) h = decide (n < fj_al M) from rfl, hN]
  by_cases q : 0 ≤ n ∧ n < N
  · rw [fk_gy g q]
    unfold nw_
    rw [← k' _ _ rfl rfl (Or.inr (Or.inr (Or.inr (Or.inl ⟨_, _, _, rfl⟩)))) q d4]
    rw [if_pos ⟨q.1, by omega, h20⟩] at hs
    rw [if_pos (by simpa using q.2), hs]
  · rw [fk_gn g q]
    by_cases q2 : n < N
    · rw [if_pos (by simpa using q2), hs, if_neg (fun e => q ⟨e.1, q2⟩)]
    · rw [if_neg (by simpa using q2)]
theorem j_mna {i : Nat} {n k : Int} {kb : Int → fi_H → fk_R} (D : fk_D M ((pc, cu, .multianewarray i 2, 4, x1, x2, x3) :: l)) (ha : fk_am cu L = L) (q : decide (0 ≤ n ∧ n < 256 ∧ 0 ≤ k ∧ k < 256) = true) (k' : ∀ r h1, r = h 2 0 0 + 1 → h1 = fi_grid h n k → fj_hs h h1 → fk_D M l → gG c M (pc + 4) L ((4, r) :: st) h1 = kb r h1) : gG c M pc L ((0, k) :: (0, n) :: st) h = ng_ h n k kb := by
  have hr := D.2.2.1
  simp only [fk_res, Bool.and_eq_true, decide_eq_true_eq] at hr
  unfold ng_
  rw [← k' _ _ rfl rfl (Or.inr (Or.inr (Or.inr (Or.inr ⟨_, _, rfl, (of_decide_eq_true q).1⟩)))) D.2.2.2]
  refine fk_plain D ha rfl ?_
  show (if 4 = 4 ∧ 2 = 2 then match (0, k) :: (0, n) :: st, fi_ck (fi_ow M) i with
    | (0, k) :: (0, n) :: st', some 28 => if 0 ≤ n ∧ n < 256 ∧ 0 ≤ k ∧ k < 256 then some (pc + 4, L, (4, h 2 0 0 + 1) :: st', fi_grid h n k) else none
    | _, _ => none else none) = _
  rw [if_pos ⟨rfl, rfl⟩, eq_of_beq hr.1]
  simp only
  rw [if_pos (of_decide_eq_true q)]
/-- casts -/
theorem j_cast {i t : Nat} {r : Int} (D : fk_D M ((pc, cu, .checkcast i, 3, t, x2, x3) :: l)) (ha : fk_am cu L = L) (g : fk_g (r = 0 ∨ (fi_sup (h 0 r.toNat 0)).contains t = true) b1 b) (k' : fk_D M l → gG c M (pc + 3) L ((4, r) :: st) h = b1) : gG c M pc L ((4, r) :: st) h = b := by
  have hr := eq_of_beq D.2.2.1
  have hs : fi_stp M (.checkcast i) 3 pc L ((4, r) :: st) h = if r = 0 ∨ (fi_sup (h 0 r.toNat 0)).contains t = true then some (pc + 3, L, (4, r) :: st, h) else none := by
    show (if 3 = 3 then match (4, r) :: st, fi_ck (fi_ow M) i with
      | (4, r) :: st', some k => if r = 0 ∨ (fi_sup (h 0 r.toNat 0)).contains k = true then some (pc + 3, L, (4, r) :: st', h) else none
      | _, _ => none else none) = _
    rw [if_pos rfl, hr]
    rfl
  by_cases q : r = 0 ∨ (fi_sup (h 0 r.toNat 0)).contains t = true
  · rw [fk_gy g q, ← k' D.2.2.2]
    rw [if_pos q] at hs
    exact fk_plain D ha rfl hs
  · rw [fk_gn g q]
    rw [if_neg q] at hs
    exact fk_stuck D ha rfl hs
theorem j_inst {i t : Nat} {r : Int} {kb : Int → fk_R} (D : fk_D M ((pc, cu, .instanceof i, 3, t, x2, x3) :: l)) (ha : fk_am cu L = L) (k' : ∀ v, fk_D M l → gG c M (pc + 3) L ((0, v) :: st) h = kb v) : gG c M pc L ((4, r) :: st) h = ii_ r (h 0 r.toNat 0) t kb := by
  have hr := eq_of_beq D.2.2.1
  have hs : fi_stp M (.instanceof i) 3 pc L ((4, r) :: st) h = if r = 0 then some (pc + 3, L, (0, 0) :: st, h) else match fi_iso (h 0 r.toNat 0) t with
      | some b => some (pc + 3, L, (0, if b then 1 else 0) :: st, h)
      | none => none := by
    show (if 3 = 3 then match (4, r) :: st, fi_ck (fi_ow M) i with
      | (4, r) :: st', some k => if r = 0 then some (pc + 3, L, (0, 0) :: st', h) else match fi_iso (h 0 r.toNat 0) k with
        | some b => some (pc + 3, L, (0, if b then 1 else 0) :: st', h)
        | none => none
      | _, _ => none else none) = _
    rw [if_pos rfl, hr]
    rfl
  unfold ii_
  by_cases q : r = 0
  · rw [if_pos q, ← k' _ D.2.2.2]
    rw [if_pos q] at hs
    exact fk_plain D ha rfl hs
  · rw [if_neg q]
    rw [if_neg q] at hs
    cases hb : fi_iso (h 0 r.toNat 0) t with
    | none => rw [hb] at hs; exact fk_stuck D ha rfl hs
    | some v => rw [hb] at hs; simp only; rw [← k' _ D.2.2.2]; exact fk_plain D ha rfl hs
theorem j_ildn {n : Fin 4} {v : FV} (D : fk_D M ((pc, cu, .iload_n n, 1, x1, x2, x3) :: l)) (ha : fk_am cu L = L) (hl : L.lookup (n : Nat) = some v) (ho : fi_okt 0 v.1 = true) (k : fk_D M l → gG c M (pc + 1) L (v :: st) h = b) : gG c M pc L st h = b := j_ld D ha ⟨rfl, rfl, rfl⟩ hl ho k
theorem j_ild {n : Nat} {v : FV} (D : fk_D M ((pc, cu, .iload n, 2, x1, x2, x3) :: l)) (ha : fk_am cu L = L) (hl : L.lookup (n : Nat) = some v) (ho : fi_okt 0 v.1 = true) (k : fk_D M l → gG c M (pc + 2) L (v :: st) h = b) : gG c M pc L st h = b := j_ld D ha ⟨rfl, rfl, rfl⟩ hl ho k
theorem j_istn {n : Fin 4} {v : FV} {L' : fi_L} (D : fk_D M ((pc, cu, .istore_n n, 1, x1, x2, x3) :: l)) (ha : fk_am cu L = L) {N : Nat} (hN : fi_nl M = N) (hm : (fi_okt 0 v.1 && decide ((n : Nat) + (if fi_wide v then 1 else 0) < N)) = true) (hl : fi_set L (n : Nat) v = L') (k : fk_D M l → gG c M (pc + 1) L' st h = b) : gG c M pc L (v :: st) h = b := j_st D ha ⟨rfl, rfl, rfl, rfl⟩ hN hm hl k
theorem j_ist {n : Nat} {v : FV} {L' : fi_L} (D : fk_D M ((pc, cu, .istore n, 2, x1, x2, x3) :: l)) (ha : fk_am cu L = L) {N : Nat} (hN : fi_nl M = N) (hm : (fi_okt 0 v.1 && decide (n + (if fi_wide v then 1 else 0) < N)) = true) (hl : fi_set L (n : Nat) v = L') (k : fk_D M l → gG c M (pc + 2) L' st h = b) : gG c M pc L (v :: st) h = b := j_st D ha ⟨rfl, rfl, rfl, rfl⟩ hN hm hl k
theorem j_lldn {n : Fin 4} {v : FV} (D : fk_D M ((pc, cu, .lload_n n, 1, x1, x2, x3) :: l)) (ha : fk_am cu L = L) (hl : L.lookup (n : Nat) = some v) (ho : fi_okt 1 v.1 = true) (k : fk_D M l → gG c M (pc + 1) L (v :: st) h = b) : gG c M pc L st h = b := j_ld D ha ⟨rfl, rfl, rfl⟩ hl ho k
theorem j_lld {n : Nat} {v : FV} (D : fk_D M ((pc, cu, .lload n, 2, x1, x2, x3) :: l)) (ha : fk_am cu L = L) (hl : L.lookup (n : Nat) = some v) (ho : fi_okt 1 v.1 = true) (k : fk_D M l → gG c M (pc + 2) L (v :: st) h = b) : gG c M pc L st h = b := j_ld D ha ⟨rfl, rfl, rfl⟩ hl ho k
theorem j_lstn {n : Fin 4} {v : FV} {L' : fi_L} (D : fk_D M ((pc, cu, .lstore_n n, 1, x1, x2, x3) :: l)) (ha : fk_am cu L = L) {N : Nat} (hN : fi_nl M = N) (hm : (fi_okt 1 v.1 && decide ((n : Nat) + (if fi_wide v then 1 else 0) < N)) = true) (hl : fi_set L (n : Nat) v = L') (k : fk_D M l → gG c M (pc + 1) L' st h = b) : gG c M pc L (v :: st) h = b := j_st D ha ⟨rfl, rfl, rfl, rfl⟩ hN hm hl k
theorem j_lst {n : Nat} {v : FV} {L' : fi_L} (D : fk_D M ((pc, cu, .lstore n, 2, x1, x2, x3) :: l)) (ha : fk_am cu L = L) {N : Nat} (hN : fi_nl M = N) (hm : (fi_okt 1 v.1 && decide (n + (if fi_wide v then 1 else 0) < N)) = true) (hl : fi_set L (n : Nat) v = L') (k : fk_D M l → gG c M (pc + 2) L' st h = b) : gG c M pc L (v :: st) h = b := j_st D ha ⟨rfl, rfl, rfl, rfl⟩ hN hm hl k
theorem j_fldn {n : Fin 4} {v : FV} (D : fk_D M ((pc, cu, .fload_n n, 1, x1, x2, x3) :: l)) (ha : fk_am cu L = L) (hl : L.lookup (n : Nat) = some v) (ho : fi_okt 2 v.1 = true) (k : fk_D M l → gG c M (pc + 1) L (v :: st) h = b) : gG c M pc L st h = b := j_ld D ha ⟨rfl, rfl, rfl⟩ hl ho k
theorem j_fld {n : Nat} {v : FV} (D : fk_D M ((pc, cu, .fload n, 2, x1, x2, x3) :: l)) (ha : fk_am cu L = L) (hl : L.lookup (n : Nat) = some v) (ho : fi_okt 2 v.1 = true) (k : fk_D M l → gG c M (pc + 2) L (v :: st) h = b) : gG c M pc L st h = b := j_ld D ha ⟨rfl, rfl, rfl⟩ hl ho k
theorem j_fstn {n : Fin 4} {v : FV} {L' : fi_L} (D : fk_D M ((pc, cu, .fstore_n n, 1, x1, x2, x3) :: l)) (ha : fk_am cu L = L) {N : Nat} (hN : fi_nl M = N) (hm : (fi_okt 2 v.1 && decide ((n : Nat) + (if fi_wide v then 1 else 0) < N)) = true) (hl : fi_set L (n : Nat) v = L') (k : fk_D M l → gG c M (pc + 1) L' st h = b) : gG c M pc L (v :: st) h = b := j_st D ha ⟨rfl, rfl, rfl, rfl⟩ hN hm hl k
theorem j_fst {n : Nat} {v : FV} {L' : fi_L} (D : fk_D M ((pc, cu, .fstore n, 2, x1, x2, x3) :: l)) (ha : fk_am cu L = L) {N : Nat} (hN : fi_nl M = N) (hm : (fi_okt 2 v.1 && decide (n + (if fi_wide v then 1 else 0) < N)) = true) (hl : fi_set L (n : Nat) v = L') (k : fk_D M l → gG c M (pc + 2) L' st h = b) : gG c M pc L (v :: st) h = b := j_st D ha ⟨rfl, rfl, rfl, rfl⟩ hN hm hl k
theorem j_dldn {n : Fin 4} {v : FV} (D : fk_D M ((pc, cu, .dload_n n, 1, x1, x2, x3) :: l)) (ha : fk_am cu L = L) (hl : L.lookup (n : Nat) = some v) (ho : fi_okt 3 v.1 = true) (k : fk_D M l → gG c M (pc + 1) L (v :: st) h = b) : gG c M pc L st h = b := j_ld D ha ⟨rfl, rfl, rfl⟩ hl ho k
theorem j_dld {n : Nat} {v : FV} (D : fk_D M ((pc, cu, .dload n, 2, x1, x2, x3) :: l)) (ha : fk_am cu L = L) (hl : L.lookup (n : Nat) = some v) (ho : fi_okt 3 v.1 = true) (k : fk_D M l → gG c M (pc + 2) L (v :: st) h = b) : gG c M pc L st h = b := j_ld D ha ⟨rfl, rfl, rfl⟩ hl ho k
theorem j_dstn {n : Fin 4} {v : FV} {L' : fi_L} (D : fk_D M ((pc, cu, .dstore_n n, 1, x1, x2, x3) :: l)) (ha : fk_am cu L = L) {N : Nat} (hN : fi_nl M = N) (hm : (fi_okt 3 v.1 && decide ((n : Nat) + (if fi_wide v then 1 else 0) < N)) = true) (hl : fi_set L (n : Nat) v = L') (k : fk_D M l → gG c M (pc + 1) L' st h = b) : gG c M pc L (v :: st) h = b := j_st D ha ⟨rfl, rfl, rfl, rfl⟩ hN hm hl k
theorem j_dst {n : Nat} {v : FV} {L' : fi_L} (D : fk_D M ((pc, cu, .dstore n, 2, x1, x2, x3) :: l)) (ha : fk_am cu L = L) {N : Nat} (hN : fi_nl M = N) (hm : (fi_okt 3 v.1 && decide (n + (if fi_wide v then 1 else 0) < N)) = true) (hl : fi_set L (n : Nat) v = L') (k : fk_D M l → gG c M (pc + 2) L' st h = b) : gG c M pc L (v :: st) h = b := j_st D ha ⟨rfl, rfl, rfl, rfl⟩ hN hm hl k
theorem j_aldn {n : Fin 4} {v : FV} (D : fk_D M ((pc, cu, .aload_n n, 1, x1, x2, x3) :: l)) (ha : fk_am cu L = L) (hl : L.lookup (n : Nat) = some v) (ho : fi_okt 4 v.1 = true) (k : fk_D M l → gG c M (pc + 1) L (v :: st) h = b) : gG c M pc L st h = b := j_ld D ha ⟨rfl, rfl, rfl⟩ hl ho k
theorem j_ald {n : Nat} {v : FV} (D : fk_D M ((pc, cu, .aload n, 2, x1, x2, x3) :: l)) (ha : fk_am cu L = L) (hl : L.lookup (n : Nat) = some v) (ho : fi_okt 4 v.1 = true) (k : fk_D M l → gG c M (pc + 2) L (v :: st) h = b) : gG c M pc L st h = b := j_ld D ha ⟨rfl, rfl, rfl⟩ hl ho k
theorem j_astn {n : Fin 4} {v : FV} {L' : fi_L} (D : fk_D M ((pc, cu, .astore_n n, 1, x1, x2, x3) :: l)) (ha : fk_am cu L = L) {N : Nat} (hN : fi_nl M = N) (hm : (fi_okt 4 v.1 && decide ((n : Nat) + (if fi_wide v then 1 else 0) < N)) = true) (hl : fi_set L (n : Nat) v = L') (k : fk_D M l → gG c M (pc + 1) L' st h = b) : gG c M pc L (v :: st) h = b := j_st D ha ⟨rfl, rfl, rfl, rfl⟩ hN hm hl k
theorem j_ast {n : Nat} {v : FV} {L' : fi_L} (D : fk_D M ((pc, cu, .astore n, 2, x1, x2, x3) :: l)) (ha : fk_am cu L = L) {N : Nat} (hN : fi_nl M = N) (hm : (fi_okt 4 v.1 && decide (n + (if fi_wide v then 1 else 0) < N)) = true) (hl : fi_set L (n : Nat) v = L') (k : fk_D M l → gG c M (pc + 2) L' st h = b) : gG c M pc L (v :: st) h = b := j_st D ha ⟨rfl, rfl, rfl, rfl⟩ hN hm hl k
/-- a local gets a name -/
theorem j_stl {ins : Instr} {i t : Nat} {e : Int} {L' : Int → fi_L} {kb : Int → fk_R} (D : fk_D M ((pc, cu, ins, len, x1, x2, x3) :: l)) (ha : fk_am cu L = L) (hi : fk_pl ins len = true ∧ fi_c0 ins len = none ∧ fi_ld ins len = none ∧ fi_st ins len = some (i, t)) {N : Nat} (hN : fi_nl M = N) (hm : (fi_okt t t && decide (i + (if fi_wide (t, 0) then 1 else 0) < N)) = true) (hl : ∀ y, fi_set L i (t, y) = L' y) (k : ∀ y, y = e → fk_D M l → gG c M (pc + len) (L' y) st h = kb y) : gG c M pc L ((t, e) :: st) h = lt_ e kb := by
  unfold lt_
  exact j_st D ha hi hN hm (hl e) (fun D => k e rfl D)
theorem j_incl {i : Nat} {n y : Int} {L' : Int → fi_L} {kb : Int → fk_R} (D : fk_D M ((pc, cu, .iinc i n, len, x1, x2, x3) :: l)) (ha : fk_am cu L = L) (h36 : decide (len = 3 ∨ len = 6) = true) (hv : L.lookup i = some (0, y)) (hm : i < fi_nl M) (hl : ∀ w, fi_set L i (0, w) = L' w) (k : ∀ w, w = wI (y + n) → fk_D M l → gG c M (pc + len) (L' w) st h = kb w) : gG c M pc L st h = lt_ (wI (y + n)) kb := by
  unfold lt_
  exact j_inc D ha h36 hv hm (hl _) (fun D => k _ rfl D)
theorem j_dupl {t : Nat} {e : Int} {kb : Int → fk_R} (D : fk_D M ((pc, cu, .dup, 1, x1, x2, x3) :: l)) (ha : fk_am cu L = L) (ht : fi_wide (t, 0) = false) (k : ∀ y, y = e → fk_D M l → gG c M (pc + 1) L ((t, y) :: (t, y) :: st) h = kb y) : gG c M pc L ((t, e) :: st) h = lt_ e kb := by
  unfold lt_
  rw [← k e rfl D.2.2.2]
  refine fk_plain D ha rfl ?_
  show (match (if fi_wide (t, e) then none else some ((t, e) :: (t, e) :: st)) with
    | some st' => some (pc + 1, L, st', h)
    | none => _) = _
  rw [show fi_wide (t, e) = false from ht]
  rfl
/-- a call that is linked to nothing: it never comes to it -/
theorem fk_dS {i : Nat} (e : fi_ms (fi_ow M) i = none) : fi_cl M (.invokestatic i) 3 st h = none := by
  show (if 3 = 3 then match fi_ms (fi_ow M) i with
      | some (n, M') => match fi_pop n st with | some (a, r) => some (M', a, r) | none => none
      | none => none else none) = _
  rw [e]; rfl
theorem fk_dP {i : Nat} (e : fi_mi (fi_ow M) i = none) : fi_cl M (.invokespecial i) 3 st h = none := by
  show (if 3 = 3 then match fi_mi (fi_ow M) i with
      | some (n, M') => match fi_pop n st with | some (a, (4, r) :: s) => if r = 0 ∨ ¬ (100 ≤ h 0 r.toNat 0 ∧ h 0 r.toNat 0 < 134) then none else some (M', (4, r) :: a, s) | _ => none
      | none => none else none) = _
  rw [e]; rfl
theorem fk_dV {i : Nat} (e : fi_mv (fi_ow M) i = none) : fi_cl M (.invokevirtual i) 3 st h = none := by
  show (if 3 = 3 then match fi_mv (fi_ow M) i with
    | some (n, d) => match fi_pop n st with
      | some (a, (4, r) :: s) => if r = 0 ∨ fi_dk d = 3 then none else match fi_vt d (h 0 r.toNat 0) with
        | some M' => some (M', (4, r) :: a, s)
        | none => none
      | _ => none
    | none => none else none) = _
  rw [e]; rfl
theorem fk_dI {i j : Nat} (e : fi_mv (fi_ow M) i = none) : fi_cl M (.invokeinterface i j) 5 st h = none := by
  show (if 5 = 5 then match fi_mv (fi_ow M) i with
    | some (n, d) => match fi_pop n st with
      | some (a, (4, r) :: s) => if r = 0 ∨ fi_dk d ≠ 3 then none else match fi_vt d (h 0 r.toNat 0) with
        | some M' => some (M', (4, r) :: a, s)
        | none => none
      | _ => none
    | none => none else none) = _
  rw [e]; rfl
theorem j_dead {ins : Instr} {cc : ByteArray} (hd : fk_dec cc pc ins len = true) (hc : fi_code M = cc) (h1 : fi_rt M ins len st = none) (h2 : fi_cl M ins len st h = none) (h3 : ∀ L, fi_stp M ins len pc L st h = none ∧ (ins = .athrow → False)) : gG c M pc L st h = none := by
  have e : decode (fi_code M) pc = .ok (ins, len) := by
    rw [hc]
    unfold fk_dec at hd
    split at hd
    · rename_i i n he
      simp only [Bool.and_eq_true, decide_eq_true_eq] at hd
      rw [he, hd.1, hd.2]
    · cases hd
  rw [gG_eq, e]
  simp only [h1, h2]
  rw [fj_nat (fun q => (h3 []).2 q.choose_spec.choose_spec.1), (h3 _).1]
  split <;> rfl
/-- calls -/
theorem fk_call {ins : Instr} {M' : Nat} {a rest : List FV} (D : fk_D M ((pc, cu, ins, len, x1, x2, x3) :: l)) (ha : fk_am cu L = L) (hrt : fi_rt M ins len st = none) (hcl : fi_cl M ins len st h = some (M', a, rest)) (h8 : ¬ (8 < rest.length ∨ (fi_law ≤ M' ∧ M' < 1000))) : gG c M pc L st h = match c M' h a with
          | some (.inl v, h') => if fj_tg v = fj_rk M' then gG c M (pc + len) L (v.toList ++ rest) h' else none
          | some (.inr q, h') => gT c M pc L q h'
          | none => none := by
  obtain ⟨d1, d2, -, -⟩ := D
  rw [gG_eq, d1]
  simp only [hrt, hcl]
  rw [if_neg h8, fk_at d2 ha]
  rfl
theorem fk_ca {t M' : Nat} {a rest : List FV} {kb : Int → fi_H → fk_R} {xb : Nat → fi_H → fk_R} (e : gG c M pc L st h = match c M' h a with
          | some (.inl v, h') => if fj_tg v = fj_rk M' then gG c M (pc + len) L (v.toList ++ rest) h' else none
          | some (.inr q, h') => gT c M pc L q h'
          | none => none) (ht : fj_rk M' = t + 1) (k1 : ∀ v h1, c M' h a = some (.inl (some (t, v)), h1) → gG c M (pc + len) L ((t, v) :: rest) h1 = kb v h1) (k2 : ∀ q h1, c M' h a = some (.inr q, h1) → gT c M pc L q h1 = xb q h1) : gG c M pc L st h = ca_ (c M' h a) t kb xb := by
  rw [e, ht]
  unfold ca_
  cases hc : c M' h a with
  | none => rfl
  | some y =>
    obtain ⟨o, h1⟩ := y
    cases o with
    | inl v =>
      cases v with
      | none => simp only; rw [if_neg (show ¬ fj_tg none = t + 1 from fun q => by cases q)]
      | some w =>
        obtain ⟨tw, w⟩ := w
        simp only
        by_cases q : tw = t
        · rw [if_pos (show fj_tg (some (tw, w)) = t + 1 from congrArg (· + 1) q), if_pos q]
          subst q
          exact k1 w h1 hc
        · rw [if_neg (show ¬ fj_tg (some (tw, w)) = t + 1 from fun e => q (Nat.succ.inj e)), if_neg q]
    | inr q => exact k2 q h1 hc
theorem fk_cv {M' : Nat} {a rest : List FV} {kb : fi_H → fk_R} {xb : Nat → fi_H → fk_R} (e : gG c M pc L st h = match c M' h a with
          | some (.inl v, h') => if fj_tg v = fj_rk M' then gG c M (pc + len) L (v.toList ++ rest) h' else none
          | some (.inr q, h') => gT c M pc L q h'
          | none => none) (ht : fj_rk M' = 0) (k1 : ∀ h1, c M' h a = some (.inl none, h1) → gG c M (pc + len) L rest h1 = kb h1) (k2 : ∀ q h1, c M' h a = some (.inr q, h1) → gT c M pc L q h1 = xb q h1) : gG c M pc L st h = cv_ (c M' h a) kb xb := by
  rw [e, ht]
  unfold cv_
  cases hc : c M' h a with
  | none => rfl
  | some y =>
    obtain ⟨o, h1⟩ := y
    cases o with
    | inl v =>
      cases v with
      | none => simp only; rw [if_pos (show fj_tg none = 0 from rfl)]; exact k1 h1 hc
      | some w =>
        simp only
        rw [if_neg (show ¬ fj_tg (some w) = 0 from fun q => by cases q)]
    | inr q => exact k2 q h1 hc
/-- a static method -/
theorem j_is {i n t : Nat} {M' : Int} {m : Nat} {a rest : List FV} {kb : Int → fi_H → fk_R} {xb : Nat → fi_H → fk_R} (D : fk_D M ((pc, cu, .invokestatic i, 3, n, M', t + 1) :: l)) (ha : fk_am cu L = L) (hm : M'.toNat = m) (hp : fi_pop n st = some (a, rest)) (h8 : decide (8 < rest.length) = false)
    (k1 : ∀ v h1, c m h a = some (.inl (some (t, v)), h1) → fk_D M l → gG c M (pc + 3) L ((t, v) :: rest) h1 = kb v h1) (k2 : ∀ q h1, c m h a = some (.inr q, h1) → gT c M pc L q h1 = xb q h1) : gG c M pc L st h = ca_ (c m h a) t kb xb := by
  have hr := D.2.2.1
  simp only [fk_res, Bool.and_eq_true, decide_eq_true_eq, hm] at hr
  obtain ⟨⟨r1, r2⟩, r3⟩ := hr
  refine fk_ca (len := 3) (rest := rest) (fk_call D ha rfl ?_ ?_) r3 (fun v h1 e => k1 v h1 e D.2.2.2) k2
  · show (if 3 = 3 then match fi_ms (fi_ow M) i with
      | some (n, M') => match fi_pop n st with | some (a, r) => some (M', a, r) | none => none
      | none => none else none) = _
    rw [if_pos rfl, eq_of_beq r1]
    simp only
    rw [hp]
  · rintro (q | q)
    · exact absurd q (of_decide_eq_false h8)
    · simp only [Bool.not_eq_true', Bool.and_eq_false_iff, decide_eq_false_iff_not] at r2
      rcases r2 with r2 | r2
      · exact r2 q.1
      · exact r2 q.2
theorem j_isv {i n : Nat} {M' : Int} {m : Nat} {a rest : List FV} {kb : fi_H → fk_R} {xb : Nat → fi_H → fk_R} (D : fk_D M ((pc, cu, .invokestatic i, 3, n, M', 0) :: l)) (ha : fk_am cu L = L) (hm : M'.toNat = m) (hp : fi_pop n st = some (a, rest)) (h8 : decide (8 < rest.length) = false)
    (k1 : ∀ h1, c m h a = some (.inl none, h1) → fk_D M l → gG c M (pc + 3) L rest h1 = kb h1) (k2 : ∀ q h1, c m h a = some (.inr q, h1) → gT c M pc L q h1 = xb q h1) : gG c M pc L st h = cv_ (c m h a) kb xb := by
  have hr := D.2.2.1
  simp only [fk_res, Bool.and_eq_true, decide_eq_true_eq, hm] at hr
  obtain ⟨⟨r1, r2⟩, r3⟩ := hr
  refine fk_cv (len := 3) (rest := rest) (fk_call D ha rfl ?_ ?_) r3 (fun h1 e => k1 h1 e D.2.2.2) k2
  · show (if 3 = 3 then match fi_ms (fi_ow M) i with
      | some (n, M') => match fi_pop n st with | some (a, r) => some (M', a, r) | none => none
      | none => none else none) = _
    rw [if_pos rfl, eq_of_beq r1]
    simp only
    rw [hp]
  · rintro (q | q)
    · exact absurd q (of_decide_eq_false h8)
    · simp only [Bool.not_eq_true', Bool.and_eq_false_iff, decide_eq_false_iff_not] at r2
      rcases r2 with r2 | r2
      · exact r2 q.1
      · exact r2 q.2
/-- a constructor, or a method above -/
theorem fk_sp {i n : Nat} {M' : Int} {m : Nat} {a rest : List FV} {r : Int} (D : fk_D M ((pc, cu, .invokespecial i, 3, n, M', x3) :: l)) (ha : fk_am cu L = L) (hm : M'.toNat = m) (hp : fi_pop n st = some (a, (4, r) :: rest)) (h8 : decide (8 < rest.length) = false) (hc : 100 ≤ h 0 r.toNat 0 ∧ h 0 r.toNat 0 < 134) (hz : r ≠ 0) : fj_rk m = x3 ∧ gG c M pc L st h = match c m h ((4, r) :: a) with
          | some (.inl v, h') => if fj_tg v = fj_rk m then gG c M (pc + 3) L (v.toList ++ rest) h' else none
          | some (.inr q, h') => gT c M pc L q h'
          | none => none := by
  have hr := D.2.2.1
  simp only [fk_res, Bool.and_eq_true, decide_eq_true_eq, hm] at hr
  obtain ⟨⟨r1, r2⟩, r3⟩ := hr
  refine ⟨r3, fk_call D ha rfl ?_ ?_⟩
  · show (if 3 = 3 then match fi_mi (fi_ow M) i with
      | some (n, M') => match fi_pop n st with | some (a, (4, r) :: s) => if r = 0 ∨ ¬ (100 ≤ h 0 r.toNat 0 ∧ h 0 r.toNat 0 < 134) then none else some (M', (4, r) :: a, s) | _ => none
      | none => none else none) = _
    rw [if_pos rfl, eq_of_beq r1]
    simp only
    rw [hp]
    simp only
    rw [if_neg (fun e => e.elim hz (fun e => e hc))]
  · rintro (q | q)
    · exact absurd q (of_decide_eq_false h8)
    · simp only [Bool.not_eq_true', Bool.and_eq_false_iff, decide_eq_false_iff_not] at r2
      rcases r2 with r2 | r2
      · exact r2 q.1
      · exact r2 q.2
theorem j_sp_ {i n t : Nat} {M' : Int} {m : Nat} {a rest : List FV} {r : Int} {kb : Int → fi_H → fk_R} {xb : Nat → fi_H → fk_R} (D : fk_D M ((pc, cu, .invokespecial i, 3, n, M', t + 1) :: l)) (ha : fk_am cu L = L) (hm : M'.toNat = m) (hp : fi_pop n st = some (a, (4, r) :: rest)) (h8 : decide (8 < rest.length) = false) (hc : 100 ≤ h 0 r.toNat 0 ∧ h 0 r.toNat 0 < 134) (hz : r ≠ 0)
    (k1 : ∀ v h1, c m h ((4, r) :: a) = some (.inl (some (t, v)), h1) → fk_D M l → gG c M (pc + 3) L ((t, v) :: rest) h1 = kb v h1) (k2 : ∀ q h1, c m h ((4, r) :: a) = some (.inr q, h1) → gT c M pc L q h1 = xb q h1) : gG c M pc L st h = ca_ (c m h ((4, r) :: a)) t kb xb := by
  obtain ⟨e1, e2⟩ := fk_sp D ha hm hp h8 hc hz
  exact fk_ca (len := 3) (rest := rest) e2 e1 (fun v h1 e => k1 v h1 e D.2.2.2) k2
theorem j_spv {i n : Nat} {M' : Int} {m : Nat} {a rest : List FV} {r : Int} {kb : fi_H → fk_R} {xb : Nat → fi_H → fk_R} (D : fk_D M ((pc, cu, .invokespecial i, 3, n, M', 0) :: l)) (ha : fk_am cu L = L) (hm : M'.toNat = m) (hp : fi_pop n st = some (a, (4, r) :: rest)) (h8 : decide (8 < rest.length) = false) (hc : 100 ≤ h 0 r.toNat 0 ∧ h 0 r.toNat 0 < 134) (hz : r ≠ 0)
    (k1 : ∀ h1, c m h ((4, r) :: a) = some (.inl none, h1) → fk_D M l → gG c M (pc + 3) L rest h1 = kb h1) (k2 : ∀ q h1, c m h ((4, r) :: a) = some (.inr q, h1) → gT c M pc L q h1 = xb q h1) : gG c M pc L st h = cv_ (c m h ((4, r) :: a)) kb xb := by
  obtain ⟨e1, e2⟩ := fk_sp D ha hm hp h8 hc hz
  exact fk_cv (len := 3) (rest := rest) e2 e1 (fun h1 e => k1 h1 e D.2.2.2) k2
/-- a receiver that is asked -/
theorem fk_spn {i n : Nat} {M' : Int} {a rest : List FV} {r : Int} (D : fk_D M ((pc, cu, .invokespecial i, 3, n, M', x3) :: l)) (hp : fi_pop n st = some (a, (4, r) :: rest)) (hc : ¬ (100 ≤ h 0 r.toNat 0 ∧ h 0 r.toNat 0 < 134)) : gG c M pc L st h = none := by
  have hr := D.2.2.1
  simp only [fk_res, Bool.and_eq_true] at hr
  have e1 : fi_cl M (.invokespecial i) 3 st h = none := by
    show (if 3 = 3 then match fi_mi (fi_ow M) i with
      | some (n, M') => match fi_pop n st with | some (a, (4, r) :: s) => if r = 0 ∨ ¬ (100 ≤ h 0 r.toNat 0 ∧ h 0 r.toNat 0 < 134) then none else some (M', (4, r) :: a, s) | _ => none
      | none => none else none) = _
    rw [if_pos rfl, eq_of_beq hr.1.1]
    simp only
    rw [hp]
    simp only
    rw [if_pos (Or.inr hc)]
  rw [gG_eq, D.1]
  simp only
  rw [show fi_rt M (.invokespecial i) 3 st = none from rfl]
  simp only
  rw [e1]
  simp only
  rw [show fi_stp M (.invokespecial i) 3 pc (fj_at M pc L) st h = none from rfl]
  split <;> rfl
theorem j_spu {i n t : Nat} {M' : Int} {m : Nat} {a rest : List FV} {r : Int} {kb : Int → fi_H → fk_R} {xb : Nat → fi_H → fk_R} (z : h 0 0 0 = 0) (D : fk_D M ((pc, cu, .invokespecial i, 3, n, M', t + 1) :: l)) (ha : fk_am cu L = L) (hm : M'.toNat = m) (hp : fi_pop n st = some (a, (4, r) :: rest)) (h8 : decide (8 < rest.length) = false)
    (k1 : ∀ v h1, c m h ((4, r) :: a) = some (.inl (some (t, v)), h1) → fk_D M l → gG c M (pc + 3) L ((t, v) :: rest) h1 = kb v h1) (k2 : ∀ q h1, c m h ((4, r) :: a) = some (.inr q, h1) → gT c M pc L q h1 = xb q h1) : gG c M pc L st h = if 100 ≤ h 0 r.toNat 0 ∧ h 0 r.toNat 0 < 134 then ca_ (c m h ((4, r) :: a)) t kb xb else none := by
  by_cases q : 100 ≤ h 0 r.toNat 0 ∧ h 0 r.toNat 0 < 134
  · rw [if_pos q]
    exact j_sp_ D ha hm hp h8 q (fun e => by rw [e, show (0 : Int).toNat = 0 from rfl, z] at q; omega) k1 k2
  · rw [if_neg q]; exact fk_spn D hp q
theorem j_spuv {i n : Nat} {M' : Int} {m : Nat} {a rest : List FV} {r : Int} {kb : fi_H → fk_R} {xb : Nat → fi_H → fk_R} (z : h 0 0 0 = 0) (D : fk_D M ((pc, cu, .invokespecial i, 3, n, M', 0) :: l)) (ha : fk_am cu L = L) (hm : M'.toNat = m) (hp : fi_pop n st = some (a, (4, r) :: rest)) (h8 : decide (8 < rest.length) = false)
    (k1 : ∀ h1, c m h ((4, r) :: a) = some (.inl none, h1) → fk_D M l → gG c M (pc + 3) L rest h1 = kb h1) (k2 : ∀ q h1, c m h ((4, r) :: a) = some (.inr q, h1) → gT c M pc L q h1 = xb q h1) : gG c M pc L st h = if 100 ≤ h 0 r.toNat 0 ∧ h 0 r.toNat 0 < 134 then cv_ (c m h ((4, r) :: a)) kb xb else none := by
  by_cases q : 100 ≤ h 0 r.toNat 0 ∧ h 0 r.toNat 0 < 134
  · rw [if_pos q]
    exact j_spv D ha hm hp h8 q (fun e => by rw [e, show (0 : Int).toNat = 0 from rfl, z] at q; omega) k1 k2
  · rw [if_neg q]; exact fk_spn D hp q
theorem fk_dN {i : Nat} (e : ((fi_ck (fi_ow M) i).all (fun k => !(decide (100 ≤ k) && decide (k < 134)))) = true) (L : fi_L) : fi_stp M (.new i) 3 pc L st h = none := by
  show (if 3 = 3 then match fi_ck (fi_ow M) i with
    | some k => if 100 ≤ k ∧ k < 134 then some (pc + 3, L, (4, h 2 0 0 + 1) :: st, fi_new h k (fi_ns.getD (k - 100) 0) 0) else none
    | none => none else none) = _
  rw [if_pos rfl]
  cases q : fi_ck (fi_ow M) i with
  | none => rfl
  | some k =>
    rw [q] at e
    simp only
    rw [if_neg]
    rintro ⟨a1, a2⟩
    simp [a1, a2] at e
theorem fk_dG {i : Nat} (e : fi_sk (fi_ow M) i = none) (L : fi_L) : fi_stp M (.getstatic i) 3 pc L st h = none := by
  show (if 3 = 3 then match fi_sk (fi_ow M) i with
    | some v => some (pc + 3, L, v :: st, h)
    | none => none else none) = _
  rw [e]; rfl
/-- a virtual method or an interface's -/
def fk_iv (ins : Instr) (len : Nat) : Bool := match ins with | .invokevirtual _ => decide (len = 3) | .invokeinterface _ _ => decide (len = 5) | _ => false
theorem fk_vk_of {d t m : Nat} {k : Int} (h : fk_vk d t = true) (hv : fi_vt d k = some m) : fj_rk m = t ∧ ¬ (fi_law ≤ m ∧ m < 1000) ∧ k.toNat ≠ 0 := by
  unfold fi_vt at hv
  have hm : (k.toNat, m) ∈ fi_vtT.getD d [] := by
    revert hv
    generalize fi_vtT.getD d [] = l
    induction l with
    | nil => intro h; cases h
    | cons q l ih =>
      obtain ⟨j, w⟩ := q
      intro h
      rw [List.lookup_cons] at h
      cases e : (k.toNat == j) with
      | true => rw [e] at h; have := eq_of_beq e; subst this; cases h; simp
      | false => rw [e] at h; exact List.mem_cons_of_mem _ (ih h)
  have q := List.all_eq_true.mp h _ hm
  simp only [Bool.and_eq_true, Bool.not_eq_true', Bool.and_eq_false_iff, decide_eq_false_iff_not, decide_eq_true_eq] at q
  refine ⟨eq_of_beq q.1.1, ?_, q.2⟩
  rintro ⟨a1, a2⟩
  rcases q.1.2 with r | r
  · exact r a1
  · exact r a2
theorem fk_vi {ins : Instr} {n : Nat} {d : Int} {dd m : Nat} {a rest : List FV} {r : Int} (D : fk_D M ((pc, cu, ins, len, n, d, x3) :: l)) (ha : fk_am cu L = L) (hi : fk_iv ins len = true) (hd : d.toNat = dd) (hp : fi_pop n st = some (a, (4, r) :: rest)) (h8 : decide (8 < rest.length) = false) (hz : r ≠ 0) (hv : fi_vt dd (h 0 r.toNat 0) = some m) : fj_rk m = x3 ∧ gG c M pc L st h = match c m h ((4, r) :: a) with
          | some (.inl v, h') => if fj_tg v = fj_rk m then gG c M (pc + len) L (v.toList ++ rest) h' else none
          | some (.inr q, h') => gT c M pc L q h'
          | none => none := by
  have hr := D.2.2.1
  unfold fk_iv at hi
  split at hi
  · have hlen := of_decide_eq_true hi
    subst hlen
    simp only [fk_res, Bool.and_eq_true, decide_eq_true_eq, hd] at hr
    obtain ⟨⟨r1, r2⟩, r3⟩ := hr
    obtain ⟨v1, v2, -⟩ := fk_vk_of r3 hv
    refine ⟨v1, fk_call D ha rfl ?_ (fun q => q.elim (of_decide_eq_false h8) v2)⟩
    rename_i i
    show (if 3 = 3 then match fi_mv (fi_ow M) i with
      | some (n, d) => match fi_pop n st with
        | some (a, (4, r) :: s) => if r = 0 ∨ fi_dk d = 3 then none else match fi_vt d (h 0 r.toNat 0) with
          | some M' => some (M', (4, r) :: a, s)
          | none => none
        | _ => none
      | none => none else none) = _
    rw [if_pos rfl, eq_of_beq r1]
    simp only
    rw [hp]
    simp only
    rw [if_neg (fun e => e.elim hz r2), hv]
  · have hlen := of_decide_eq_true hi
    subst hlen
    simp only [fk_res, Bool.and_eq_true, decide_eq_true_eq, hd] at hr
    obtain ⟨⟨r1, r2⟩, r3⟩ := hr
    obtain ⟨v1, v2, -⟩ := fk_vk_of r3 hv
    refine ⟨v1, fk_call D ha rfl ?_ (fun q => q.elim (of_decide_eq_false h8) v2)⟩
    rename_i i j
    show (if 5 = 5 then match fi_mv (fi_ow M) i with
      | some (n, d) => match fi_pop n st with
        | some (a, (4, r) :: s) => if r = 0 ∨ fi_dk d ≠ 3 then none else match fi_vt d (h 0 r.toNat 0) with
          | some M' => some (M', (4, r) :: a, s)
          | none => none
        | _ => none
      | none => none else none) = _
    rw [if_pos rfl, eq_of_beq r1]
    simp only
    rw [hp]
    simp only
    rw [if_neg (fun e => e.elim hz (fun e => e r2)), hv]
  · cases hi
theorem fk_vn {ins : Instr} {n : Nat} {d : Int} {dd : Nat} {a rest : List FV} {r : Int} (D : fk_D M ((pc, cu, ins, len, n, d, x3) :: l)) (hi : fk_iv ins len = true) (hd : d.toNat = dd) (hp : fi_pop n st = some (a, (4, r) :: rest)) (hv : r = 0 ∨ fi_vt dd (h 0 r.toNat 0) = none) (ha : fk_am cu L = L) : gG c M pc L st h = none := by
  have hr := D.2.2.1
  unfold fk_iv at hi
  obtain ⟨d1, d2, -, -⟩ := D
  rw [gG_eq, d1]
  split at hi
  · have hlen := of_decide_eq_true hi
    subst hlen
    simp only [fk_res, Bool.and_eq_true, decide_eq_true_eq, hd] at hr
    obtain ⟨⟨r1, r2⟩, r3⟩ := hr
    rename_i i
    have e1 : fi_cl M (.invokevirtual i) 3 st h = none := by
      show (if 3 = 3 then match fi_mv (fi_ow M) i with
      | some (n, d) => match fi_pop n st with
        | some (a, (4, r) :: s) => if r = 0 ∨ fi_dk d = 3 then none else match fi_vt d (h 0 r.toNat 0) with
          | some M' => some (M', (4, r) :: a, s)
          | none => none
        | _ => none
      | none => none else none) = _
      rw [if_pos rfl, eq_of_beq r1]
      simp only
      rw [hp]
      simp only
      rcases hv with hv | hv
      · rw [if_pos (Or.inl hv)]
      · rw [hv]; split <;> rfl
    have e2 : fi_stp M (.invokevirtual i) 3 pc (fj_at M pc L) st h = none := rfl
    simp only
    rw [show fi_rt M (.invokevirtual i) 3 st = none from rfl]
    simp only
    rw [e1]
    simp only
    rw [e2]
    split <;> rfl
  · have hlen := of_decide_eq_true hi
    subst hlen
    simp only [fk_res, Bool.and_eq_true, decide_eq_true_eq, hd] at hr
    obtain ⟨⟨r1, r2⟩, r3⟩ := hr
    rename_i i j
    have e1 : fi_cl M (.invokeinterface i j) 5 st h = none := by
      show (if 5 = 5 then match fi_mv (fi_ow M) i with
      | some (n, d) => match fi_pop n st with
        | some (a, (4, r) :: s) => if r = 0 ∨ fi_dk d ≠ 3 then none else match fi_vt d (h 0 r.toNat 0) with
          | some M' => some (M', (4, r) :: a, s)
          | none => none
        | _ => none
      | none => none else none) = _
      rw [if_pos rfl, eq_of_beq r1]
      simp only
      rw [hp]
      simp only
      rcases hv with hv | hv
      · rw [if_pos (Or.inl hv)]
      · rw [hv]; split <;> rfl
    have e2 : fi_stp M (.invokeinterface i j) 5 pc (fj_at M pc L) st h = none := rfl
    simp only
    rw [show fi_rt M (.invokeinterface i j) 5 st = none from rfl]
    simp only
    rw [e1]
    simp only
    rw [e2]
    split <;> rfl
  · cases hi
/-- the receiver's class is known -/
theorem j_iv {ins : Instr} {n t : Nat} {d k : Int} {dd m : Nat} {a rest : List FV} {r : Int} {kb : Int → fi_H → fk_R} {xb : Nat → fi_H → fk_R} (D : fk_D M ((pc, cu, ins, len, n, d, t + 1) :: l)) (ha : fk_am cu L = L) (hi : fk_iv ins len = true) (hd : d.toNat = dd) (hp : fi_pop n st = some (a, (4, r) :: rest)) (h8 : decide (8 < rest.length) = false) (hz : r ≠ 0) (hk : h 0 r.toNat 0 = k) (hv : fi_vt dd k = some m)
    (k1 : ∀ v h1, c m h ((4, r) :: a) = some (.inl (some (t, v)), h1) → fk_D M l → gG c M (pc + len) L ((t, v) :: rest) h1 = kb v h1) (k2 : ∀ q h1, c m h ((4, r) :: a) = some (.inr q, h1) → gT c M pc L q h1 = xb q h1) : gG c M pc L st h = ca_ (c m h ((4, r) :: a)) t kb xb := by
  obtain ⟨e1, e2⟩ := fk_vi (c := c) (h := h) (m := m) D ha hi hd hp h8 hz (by rw [hk]; exact hv)
  exact fk_ca (len := len) (rest := rest) e2 e1 (fun v h1 e => k1 v h1 e D.2.2.2) k2
theorem j_ivv {ins : Instr} {n : Nat} {d k : Int} {dd m : Nat} {a rest : List FV} {r : Int} {kb : fi_H → fk_R} {xb : Nat → fi_H → fk_R} (D : fk_D M ((pc, cu, ins, len, n, d, 0) :: l)) (ha : fk_am cu L = L) (hi : fk_iv ins len = true) (hd : d.toNat = dd) (hp : fi_pop n st = some (a, (4, r) :: rest)) (h8 : decide (8 < rest.length) = false) (hz : r ≠ 0) (hk : h 0 r.toNat 0 = k) (hv : fi_vt dd k = some m)
    (k1 : ∀ h1, c m h ((4, r) :: a) = some (.inl none, h1) → fk_D M l → gG c M (pc + len) L rest h1 = kb h1) (k2 : ∀ q h1, c m h ((4, r) :: a) = some (.inr q, h1) → gT c M pc L q h1 = xb q h1) : gG c M pc L st h = cv_ (c m h ((4, r) :: a)) kb xb := by
  obtain ⟨e1, e2⟩ := fk_vi (c := c) (h := h) (m := m) D ha hi hd hp h8 hz (by rw [hk]; exact hv)
  exact fk_cv (len := len) (rest := rest) e2 e1 (fun h1 e => k1 h1 e D.2.2.2) k2
/-- it is asked -/
theorem j_ivu {ins : Instr} {n t : Nat} {d : Int} {dd : Nat} {a rest : List FV} {r : Int} {kb : Int → fi_H → fk_R} {xb : Nat → fi_H → fk_R} (z : h 0 0 0 = 0) (D : fk_D M ((pc, cu, ins, len, n, d, t + 1) :: l)) (ha : fk_am cu L = L) (hi : fk_iv ins len = true) (hd : d.toNat = dd) (hp : fi_pop n st = some (a, (4, r) :: rest)) (h8 : decide (8 < rest.length) = false)
    (k1 : ∀ m v h1, c m h ((4, r) :: a) = some (.inl (some (t, v)), h1) → fk_D M l → gG c M (pc + len) L ((t, v) :: rest) h1 = kb v h1) (k2 : ∀ m q h1, c m h ((4, r) :: a) = some (.inr q, h1) → gT c M pc L q h1 = xb q h1) : gG c M pc L st h = dv_ (fi_vt dd (h 0 r.toNat 0)) (fun m => ca_ (c m h ((4, r) :: a)) t kb xb) := by
  cases hv : fi_vt dd (h 0 r.toNat 0) with
  | none => exact fk_vn D hi hd hp (Or.inr hv) ha
  | some m =>
    have hz : r ≠ 0 := by
      intro e
      have hr := D.2.2.1
      have q : fk_vk dd (t + 1) = true := by
        unfold fk_iv at hi
        split at hi
        · simp only [fk_res, Bool.and_eq_true, hd] at hr; exact hr.2
        · simp only [fk_res, Bool.and_eq_true, hd] at hr; exact hr.2
        · cases hi
      have := (fk_vk_of q hv).2.2
      rw [e, show (0 : Int).toNat = 0 from rfl, z] at this
      exact this rfl
    obtain ⟨e1, e2⟩ := fk_vi D ha hi hd hp h8 hz hv
    exact fk_ca (len := len) (rest := rest) e2 e1 (fun v h1 e => k1 m v h1 e D.2.2.2) (k2 m)
theorem j_ivuv {ins : Instr} {n : Nat} {d : Int} {dd : Nat} {a rest : List FV} {r : Int} {kb : fi_H → fk_R} {xb : Nat → fi_H → fk_R} (z : h 0 0 0 = 0) (D : fk_D M ((pc, cu, ins, len, n, d, 0) :: l)) (ha : fk_am cu L = L) (hi : fk_iv ins len = true) (hd : d.toNat = dd) (hp : fi_pop n st = some (a, (4, r) :: rest)) (h8 : decide (8 < rest.length) = false)
    (k1 : ∀ m h1, c m h ((4, r) :: a) = some (.inl none, h1) → fk_D M l → gG c M (pc + len) L rest h1 = kb h1) (k2 : ∀ m q h1, c m h ((4, r) :: a) = some (.inr q, h1) → gT c M pc L q h1 = xb q h1) : gG c M pc L st h = dv_ (fi_vt dd (h 0 r.toNat 0)) (fun m => cv_ (c m h ((4, r) :: a)) kb xb) := by
  cases hv : fi_vt dd (h 0 r.toNat 0) with
  | none => exact fk_vn D hi hd hp (Or.inr hv) ha
  | some m =>
    have hz : r ≠ 0 := by
      intro e
      have hr := D.2.2.1
      have q : fk_vk dd 0 = true := by
        unfold fk_iv at hi
        split at hi
        · simp only [fk_res, Bool.and_eq_true, hd] at hr; exact hr.2
        · simp only [fk_res, Bool.and_eq_true, hd] at hr; exact hr.2
        · cases hi
      have := (fk_vk_of q hv).2.2
      rw [e, show (0 : Int).toNat = 0 from rfl, z] at this
      exact this rfl
    obtain ⟨e1, e2⟩ := fk_vi D ha hi hd hp h8 hz hv
    exact fk_cv (len := len) (rest := rest) e2 e1 (fun h1 e => k1 m h1 e D.2.2.2) (k2 m)
/-- what is thrown -/
theorem j_tx {q : Nat} (hh : fi_hat M pc = none) : gT c M pc L q h = tx_ q h := by
  unfold gT tx_
  rw [hh]
theorem j_ta {q s e hp : Nat} (hc : fj_at M pc L = L) (hh : fi_hat M pc = some (s, e, hp, 0)) (k : gG c M hp L [(4, (q : Int))] h = b) : gT c M pc L q h = ta_ q h b := by
  unfold gT ta_
  rw [hh]
  simp only
  rw [if_pos (Or.inl trivial), ← k, hc]
theorem j_tc_ {q s e hp ct n : Nat} (hc : fj_at M pc L = L) (hh : fi_hat M pc = some (s, e, hp, ct)) (h0 : decide (ct ≠ 0 ∧ 100 ≤ n ∧ n < 134) = true) (hk : fi_ck (fi_ow M) ct = some n) (k : gG c M hp L [(4, (q : Int))] h = b) : gT c M pc L q h = tc_ n q h b := by
  have h0 := of_decide_eq_true h0
  unfold gT tc_
  rw [hh]
  simp only
  rw [hk]
  by_cases e1 : h 0 q 0 = (n : Int)
  · rw [if_pos e1, if_pos (by omega), if_pos (Or.inr (by rw [e1]; rfl)), ← k, hc]
  · rw [if_neg e1]
    split
    · rename_i e2
      rw [if_neg]
      rintro (e3 | e3)
      · exact h0.1 e3
      · exact e1 (by have := Option.some.inj e3; omega)
    · rfl
theorem j_at {r : Int} (D : fk_D M ((pc, cu, .athrow, 1, x1, x2, x3) :: l)) (g : fk_g (r ≠ 0) b1 b) (k : gT c M pc L r.toNat h = b1) : gG c M pc L ((4, r) :: st) h = b := by
  have d1 := D.1
  rw [gG_eq, d1]
  simp only
  rw [show fi_rt M .athrow 1 ((4, r) :: st) = none from rfl]
  simp only
  rw [show fi_cl M .athrow 1 ((4, r) :: st) h = none from rfl]
  simp only
  by_cases q : r ≠ 0
  · rw [fk_gy g q, if_pos ⟨trivial, q⟩, k]
  · rw [fk_gn g q, if_neg (fun e => q e.2)]
/-- ends -/
theorem fk_ret {ins : Instr} {v : Option FV} (D : fk_D M ((pc, cu, ins, 1, x1, x2, x3) :: l)) (h1 : fi_rt M ins 1 st = some v) : gG c M pc L st h = some (.inl v, h) := by
  rw [gG_eq, D.1]
  simp only [h1]
theorem j_vret (D : fk_D M ((pc, cu, .return_, 1, x1, x2, x3) :: l)) (hr : fi_ret M = none) : gG c M pc L [] h = some (.inl none, h) := fk_ret D (by show (if fi_ret M = none then some none else none) = _; rw [if_pos hr])
theorem j_iret {y : Int} (D : fk_D M ((pc, cu, .ireturn, 1, x1, x2, x3) :: l)) (hr : fi_ret M = some .int) : gG c M pc L [(0, y)] h = some (.inl (some (0, y)), h) := fk_ret D (by show (match fi_ret M with | some .int => some (some (0, y)) | some .boolean => if y = 0 ∨ y = 1 then some (some (0, y)) else none | some .char => if 0 ≤ y ∧ y < 65536 then some (some (0, y)) else none | some .byte => if -128 ≤ y ∧ y < 128 then some (some (0, y)) else none | _ => none) = _; rw [hr])
theorem fk_noret {ins : Instr} (D : fk_D M ((pc, cu, ins, 1, x1, x2, x3) :: l)) (hi : ins = .ireturn) {y : Int} (h1 : fi_rt M ins 1 [(0, y)] = none) : gG c M pc L [(0, y)] h = none := by
  subst hi
  rw [gG_eq, D.1]
  simp only [h1]
  rfl
theorem j_zret {y : Int} (D : fk_D M ((pc, cu, .ireturn, 1, x1, x2, x3) :: l)) (hr : fi_ret M = some .boolean) (g : fk_g (y = 0 ∨ y = 1) (some (.inl (some (0, y)), h)) b) : gG c M pc L [(0, y)] h = b := by
  have e : fi_rt M .ireturn 1 [(0, y)] = if y = 0 ∨ y = 1 then some (some (0, y)) else none := by show (match fi_ret M with | some .int => some (some (0, y)) | some .boolean => if y = 0 ∨ y = 1 then some (some (0, y)) else none | some .char => if 0 ≤ y ∧ y < 65536 then some (some (0, y)) else none | some .byte => if -128 ≤ y ∧ y < 128 then some (some (0, y)) else none | _ => none) = _; rw [hr]
  by_cases q : y = 0 ∨ y = 1
  · rw [if_pos q] at e; rw [fk_gy g q]; exact fk_ret D e
  · rw [if_neg q] at e; rw [fk_gn g q]; exact fk_noret D rfl e
theorem j_cret {y : Int} (D : fk_D M ((pc, cu, .ireturn, 1, x1, x2, x3) :: l)) (hr : fi_ret M = some .char) (g : fk_g (0 ≤ y ∧ y < 65536) (some (.inl (some (0, y)), h)) b) : gG c M pc L [(0, y)] h = b := by
  have e : fi_rt M .ireturn 1 [(0, y)] = if 0 ≤ y ∧ y < 65536 then some (some (0, y)) else none := by show (match fi_ret M with | some .int => some (some (0, y)) | some .boolean => if y = 0 ∨ y = 1 then some (some (0, y)) else none | some .char => if 0 ≤ y ∧ y < 65536 then some (some (0, y)) else none | some .byte => if -128 ≤ y ∧ y < 128 then some (some (0, y)) else none | _ => none) = _; rw [hr]
  by_cases q : 0 ≤ y ∧ y < 65536
  · rw [if_pos q] at e; rw [fk_gy g q]; exact fk_ret D e
  · rw [if_neg q] at e; rw [fk_gn g q]; exact fk_noret D rfl e
theorem j_bret {y : Int} (D : fk_D M ((pc, cu, .ireturn, 1, x1, x2, x3) :: l)) (hr : fi_ret M = some .byte) (g : fk_g (-128 ≤ y ∧ y < 128) (some (.inl (some (0, y)), h)) b) : gG c M pc L [(0, y)] h = b := by
  have e : fi_rt M .ireturn 1 [(0, y)] = if -128 ≤ y ∧ y < 128 then some (some (0, y)) else none := by show (match fi_ret M with | some .int => some (some (0, y)) | some .boolean => if y = 0 ∨ y = 1 then some (some (0, y)) else none | some .char => if 0 ≤ y ∧ y < 65536 then some (some (0, y)) else none | some .byte => if -128 ≤ y ∧ y < 128 then some (some (0, y)) else none | _ => none) = _; rw [hr]
  by_cases q : -128 ≤ y ∧ y < 128
  · rw [if_pos q] at e; rw [fk_gy g q]; exact fk_ret D e
  · rw [if_neg q] at e; rw [fk_gn g q]; exact fk_noret D rfl e
theorem j_lret {y : Int} (D : fk_D M ((pc, cu, .lreturn, 1, x1, x2, x3) :: l)) (hr : fi_ret M = some .long) : gG c M pc L [(1, y)] h = some (.inl (some (1, y)), h) := fk_ret D (by show (if fi_ret M = some .long then some (some (1, y)) else none) = _; rw [if_pos hr])
theorem j_dret {y : Int} (D : fk_D M ((pc, cu, .dreturn, 1, x1, x2, x3) :: l)) (hr : fi_ret M = some .double) : gG c M pc L [(3, y)] h = some (.inl (some (3, y)), h) := fk_ret D (by show (if fi_ret M = some .double then some (some (3, y)) else none) = _; rw [if_pos hr])
theorem j_aret {y : Int} (D : fk_D M ((pc, cu, .areturn, 1, x1, x2, x3) :: l)) (hr : fj_ft (fi_ret M) = 5) : gG c M pc L [(4, y)] h = some (.inl (some (4, y)), h) := fk_ret D (by
  show (match fi_ret M with | some (.object _) => some (some (4, y)) | some (.array _) => some (some (4, y)) | _ => none) = _
  cases e : fi_ret M with
  | none => rw [e] at hr; cases hr
  | some q => cases q <;> first | rfl | (rw [e] at hr; cases hr))
end FK4

/-! what the forms' words come to: calls that answer, comparisons, quotients -/
theorem ca_ret {t : Nat} {v : Int} {h : fi_H} {k : Int → fi_H → fk_R} {x : Nat → fi_H → fk_R} : ca_ (some (.inl (some (t, v)), h)) t k x = k v h := by unfold ca_; simp
theorem ca_thr {t q : Nat} {h : fi_H} {k : Int → fi_H → fk_R} {x : Nat → fi_H → fk_R} : ca_ (some (.inr q, h)) t k x = x q h := rfl
theorem cv_ret {h : fi_H} {k : fi_H → fk_R} {x : Nat → fi_H → fk_R} : cv_ (some (.inl none, h)) k x = k h := rfl
theorem cv_thr {q : Nat} {h : fi_H} {k : fi_H → fk_R} {x : Nat → fi_H → fk_R} : cv_ (some (.inr q, h)) k x = x q h := rfl
theorem lc_val (x y : Int) : lc_ x y = if wJ x < wJ y then -1 else if wJ x = wJ y then 0 else 1 := by
  unfold lc_ lg_cmp
  have e2 : (fi_J6 x = fi_J6 y) ↔ wJ x = wJ y := Int64.toInt_inj.symm
  have e3 : (fi_J6 x > fi_J6 y) ↔ wJ y < wJ x := Int64.lt_iff_toInt_lt
  by_cases h1 : wJ x < wJ y
  · rw [if_pos h1, if_neg (fun q => by have := e3.mp q; omega), if_neg (fun q => by have := e2.mp q; omega)]; rfl
  · rw [if_neg h1]
    by_cases h2 : wJ x = wJ y
    · rw [if_pos h2, if_neg (fun q => by have := e3.mp q; omega), if_pos (e2.mpr h2)]; rfl
    · rw [if_neg h2, if_pos (e3.mpr (by omega))]; rfl
theorem lc_lt {x y : Int} : lc_ x y < 0 ↔ wJ x < wJ y := by rw [lc_val]; split <;> (try split) <;> omega
theorem lc_gt {x y : Int} : 0 < lc_ x y ↔ wJ y < wJ x := by rw [lc_val]; split <;> (try split) <;> omega
theorem lc_eq {x y : Int} : lc_ x y = 0 ↔ wJ x = wJ y := by rw [lc_val]; split <;> (try split) <;> omega
theorem iq_nn {y z : Int} (h1 : 0 ≤ y) (h2 : y < 2147483648) (h3 : 0 < z) (h4 : z < 2147483648) : iq_ y z = y / z := by
  unfold iq_
  rw [wI_id (x := y) (by omega) h2, wI_id (x := z) (by omega) h4, Int.tdiv_eq_ediv_of_nonneg h1]
  have := Int.ediv_le_self z h1
  have := Int.ediv_nonneg h1 (Int.le_of_lt h3)
  exact wI_id (by omega) (by omega)
theorem ir_nn {y z : Int} (h1 : 0 ≤ y) (h2 : y < 2147483648) (h3 : 0 < z) (h4 : z < 2147483648) : ir_ y z = y % z := by
  unfold ir_
  rw [wI_id (x := y) (by omega) h2, wI_id (x := z) (by omega) h4, Int.tmod_eq_emod_of_nonneg h1]
theorem lq_nn {y z : Int} (h1 : 0 ≤ y) (h2 : y < 9223372036854775808) (h3 : 0 < z) (h4 : z < 9223372036854775808) : lq_ y z = y / z := by
  unfold lq_
  rw [wJ_id (x := y) (by omega) h2, wJ_id (x := z) (by omega) h4, Int.tdiv_eq_ediv_of_nonneg h1]
  have := Int.ediv_le_self z h1
  have := Int.ediv_nonneg h1 (Int.le_of_lt h3)
  exact wJ_id (by omega) (by omega)
theorem lr_nn {y z : Int} (h1 : 0 ≤ y) (h2 : y < 9223372036854775808) (h3 : 0 < z) (h4 : z < 9223372036854775808) : lr_ y z = y % z := by
  unfold lr_
  rw [wJ_id (x := y) (by omega) h2, wJ_id (x := z) (by omega) h4, Int.tmod_eq_emod_of_nonneg h1]
/-- both sides end alike: with answers, or thrown -/
def Both (rA rB : fk_R) (P : Option FV → fi_H → Option FV → fi_H → Prop) (E : Nat → fi_H → Nat → fi_H → Prop) : Prop :=
  ∃ oA hA oB hB, rA = some (oA, hA) ∧ rB = some (oB, hB) ∧ (match oA, oB with
    | .inl a, .inl b => P a hA b hB
    | .inr p, .inr q => E p hA q hB
    | _, _ => False)
theorem Both.ret {a b : Option FV} {hA hB : fi_H} {P : Option FV → fi_H → Option FV → fi_H → Prop} {E : Nat → fi_H → Nat → fi_H → Prop} (h : P a hA b hB) : Both (some (.inl a, hA)) (some (.inl b, hB)) P E := ⟨_, _, _, _, rfl, rfl, h⟩
theorem Both.thr {p q : Nat} {hA hB : fi_H} {P : Option FV → fi_H → Option FV → fi_H → Prop} {E : Nat → fi_H → Nat → fi_H → Prop} (h : E p hA q hB) : Both (some (.inr p, hA)) (some (.inr q, hB)) P E := ⟨_, _, _, _, rfl, rfl, h⟩
theorem Both.ca {rA rB : fk_R} {P P1 : Option FV → fi_H → Option FV → fi_H → Prop} {E E1 : Nat → fi_H → Nat → fi_H → Prop} {tA tB : Nat} {kA kB : Int → fi_H → fk_R} {xA xB : Nat → fi_H → fk_R} (h : Both rA rB P1 E1)
    (k : ∀ a hA b hB, P1 a hA b hB → ∃ va vb, a = some (tA, va) ∧ b = some (tB, vb) ∧ Both (kA va hA) (kB vb hB) P E) (x : ∀ p hA q hB, E1 p hA q hB → Both (xA p hA) (xB q hB) P E) : Both (ca_ rA tA kA xA) (ca_ rB tB kB xB) P E := by
  obtain ⟨oA, hA, oB, hB, rfl, rfl, h⟩ := h
  cases oA with
  | inl a => cases oB with
    | inl b =>
      obtain ⟨va, vb, rfl, rfl, h2⟩ := k _ _ _ _ h
      rw [ca_ret, ca_ret]; exact h2
    | inr q => exact h.elim
  | inr p => cases oB with
    | inl b => exact h.elim
    | inr q => exact x _ _ _ _ h
theorem Both.cv {rA rB : fk_R} {P P1 : Option FV → fi_H → Option FV → fi_H → Prop} {E E1 : Nat → fi_H → Nat → fi_H → Prop} {kA kB : fi_H → fk_R} {xA xB : Nat → fi_H → fk_R} (h : Both rA rB P1 E1)
    (k : ∀ a hA b hB, P1 a hA b hB → a = none ∧ b = none ∧ Both (kA hA) (kB hB) P E) (x : ∀ p hA q hB, E1 p hA q hB → Both (xA p hA) (xB q hB) P E) : Both (cv_ rA kA xA) (cv_ rB kB xB) P E := by
  obtain ⟨oA, hA, oB, hB, rfl, rfl, h⟩ := h
  cases oA with
  | inl a => cases oB with
    | inl b =>
      obtain ⟨rfl, rfl, h2⟩ := k _ _ _ _ h
      exact h2
    | inr q => exact h.elim
  | inr p => cases oB with
    | inl b => exact h.elim
    | inr q => exact x _ _ _ _ h

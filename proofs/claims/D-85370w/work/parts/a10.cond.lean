section
/-! reading expressions: a comparison -/
set_option maxRecDepth 100000
section COND
variable {u : Nat → Int} {n M i m p : Nat} {a b a0 b0 : fi_H} {dA dB d : Nat}
/-- the operator of a comparison's sign -/
def cmO (x : Int) : Int := if x = 61 then 4 else if x = 35 then 5 else if x = 60 then 6 else if x = 108 then 7 else if x = 62 then 8 else if x = 103 then 9 else 0
theorem cmO_rg (x : Int) : cmO x = 0 ∨ (4 ≤ cmO x ∧ cmO x ≤ 9) := by
  unfold cmO; (repeat' split) <;> omega
theorem t_cmpA (q : PS u n M i a b) (hA : 1 ≤ dA) : fj_run dA 298 a [(4, 377)] = some (.inl (some (4, if tk u n i = 6 ∧ cmO (tok u n (pl u n i)).2.2 ≠ 0 then 15 + sgn (cmO (tok u n (pl u n i)).2.2) else 0)), a) := by
  obtain ⟨d, rfl⟩ : ∃ e, dA = e + 1 := ⟨dA - 1, by omega⟩
  have hi := q.2.2.2.2.1
  rw [m_298 d q.ha.1, q.at, if_pos (by omega), Int.toNat_natCast, q.sort]
  by_cases z : tk u n i = 6
  · rw [if_pos (by omega), q.row.1.2.2.2.2.1 z]
    generalize (tok u n (pl u n i)).2.2 = x
    unfold cmO
    by_cases h1 : x = 35
    · subst h1; simp [z]; decide
    by_cases h2 : x = 60
    · subst h2; simp [z]; decide
    by_cases h3 : x = 61
    · subst h3; simp [z]; decide
    by_cases h4 : x = 62
    · subst h4; simp [z]; decide
    by_cases h5 : x = 103
    · subst h5; simp [z]; decide
    by_cases h6 : x = 108
    · subst h6; simp [z]; decide
    simp [h1, h2, h3, h4, h5, h6]
  · rw [if_neg (by omega), if_neg (fun w => z w.1)]
theorem t_cmpB (q : PS u n M i a b) (hB : 1 ≤ dB) : fj_run dB 564 b [(4, 602)] = some (.inl (some (0, if tk u n i = 6 ∧ cmO (tok u n (pl u n i)).2.2 ≠ 0 then cmO (tok u n (pl u n i)).2.2 else -1)), b) := by
  obtain ⟨d, rfl⟩ : ∃ e, dB = e + 1 := ⟨dB - 1, by omega⟩
  have sB := t_sortB q
  rw [m_564 d q.hb.1]
  by_cases z : tk u n i = 6
  · obtain ⟨s1, s2⟩ := t_sgn q z
    have hs := tok_sg i z
    rw [if_pos s1, s2]
    generalize (tok u n (pl u n i)).2.2 = x at hs
    unfold cmO bsg
    by_cases h1 : x = 35
    · subst h1; simp [z]
    by_cases h2 : x = 60
    · subst h2; simp [z]
    by_cases h3 : x = 61
    · subst h3; simp [z]
    by_cases h4 : x = 62
    · subst h4; simp [z]
    by_cases h5 : x = 103
    · subst h5; simp [z]
    by_cases h6 : x = 108
    · subst h6; simp [z]
    have h7 : x ≠ 256 := by omega
    have h8 : x ≠ 257 := by omega
    simp [h1, h2, h3, h4, h5, h6, h7, h8]
  · have n6 : ¬ b 394 602 0 = 6 := by
      rw [sB]; (repeat' split) <;> omega
    rw [if_neg n6, if_neg (fun w => z w.1)]
theorem rf_cond {i c : Nat} (S : RF 235 539 c u n M i) (R : ∀ i', i < i' → RF 235 539 c u n M i') (hc : 20 ≤ c ∧ c ≤ 29) : RF 234 538 (c + 2) u n M i := by
  intro m p a b dA dB X hA hB
  obtain ⟨d, rfl⟩ : ∃ e, dA = e + 2 := ⟨dA - 2, by omega⟩
  obtain ⟨e, rfl⟩ : ∃ e', dB = e' + 1 := ⟨dB - 1, by omega⟩
  rw [m_234 (d + 1) X.1.ha.1, m_538 e X.1.hb.1]
  refine Bo.caca (S m p a b (d + 1) e X (by omega) (by omega)) (by decide) (by decide) (fun x a1 y b1 HA1 HB1 z => ?_) (fun a1 b1 HA1 HB1 z => Bo.tx HA1 HB1 z)
  obtain ⟨j, p', r, hj, hr1, hr2, rfl, X1, V1, c427, c1⟩ := z
  have hj1 := X1.1.2.2.2.2.1
  rw [t_cmpA X1.1 (by omega), ca_ret, t_cmpB X1.1 (by omega), ca_ret]
  have rg := cmO_rg (tok u n (pl u n j)).2.2
  by_cases z : tk u n j = 6 ∧ cmO (tok u n (pl u n j)).2.2 ≠ 0
  · have sg : 2 ≤ sgn (cmO (tok u n (pl u n j)).2.2) ∧ sgn (cmO (tok u n (pl u n j)).2.2) ≤ 7 := by
      revert z rg; generalize cmO (tok u n (pl u n j)).2.2 = o; intro rg z; unfold sgn; (repeat' split) <;> omega
    rw [if_pos z, if_pos z, if_neg (by omega), if_neg (by omega)]
    refine t_join (i0 := i) (p0 := p) ⟨by omega, hr1, hr2, X1, V1, c427, c1⟩ ⟨by omega, by omega⟩ (by omega) (Or.inr (Or.inr (Or.inr (Or.inr ⟨sg.1, sg.2, rfl⟩)))) (R (j + 1) (by omega)) (by omega) (by omega) (by omega) (fun _ _ w => w) (fun x' a' b' r' k p'' hk q' => ?_)
    exact q'.ret (by omega)
  · rw [if_neg z, if_neg z, if_pos rfl, if_pos rfl]
    exact Bo.ret (by decide) (by decide) HA1 HB1 ⟨j, p', r, hj, hr1, hr2, rfl, X1, V1, c427, c1⟩
end COND
end

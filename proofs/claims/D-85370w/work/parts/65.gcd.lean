section
/-! the greatest common part -/
section GCD
variable (d : Nat) {h : fi_H}
theorem kA_gcdl (H : Hp h) : ∀ (k m : Nat), m < 9223372036854775808 → k < 9223372036854775808 → c_194_6 d (m : Int) (k : Int) h = some (.inl (some (1, ((Nat.gcd m k : Nat) : Int))), h) := by
  intro k
  induction k using Nat.strongRecOn with
  | ind k ih =>
    intro m hm hk
    have l : lc_ (k : Int) 0 = 0 ↔ k = 0 := by rw [lc_eq, wJ_id (by omega) (by omega), wJ_id (by omega) (by omega)]; omega
    rw [e_194_6 d _ _ H.1]
    by_cases q : k = 0
    · subst q
      rw [if_pos (l.mpr rfl), Nat.gcd_zero_right]
    · have e : lr_ (m : Int) (k : Int) = ((m % k : Nat) : Int) := by rw [lr_nn (by omega) (by omega) (by omega) (by omega)]; omega
      have hlt : m % k < k := Nat.mod_lt _ (by omega)
      rw [if_neg (fun z => q (l.mp z)), if_neg (by omega), e, ih (m % k) hlt k (by omega) (by omega), Nat.gcd_comm m k, Nat.gcd_rec k m, Nat.gcd_comm (m % k) k]
theorem kB_gcdl (H : Hp h) : ∀ (k m : Nat), m < 9223372036854775808 → k < 9223372036854775808 → c_514_17 d (m : Int) (k : Int) h = some (.inl (some (1, ((Nat.gcd m k : Nat) : Int))), h) := by
  intro k
  induction k using Nat.strongRecOn with
  | ind k ih =>
    intro m hm hk
    have l : lc_ (k : Int) 0 = 0 ↔ k = 0 := by rw [lc_eq, wJ_id (by omega) (by omega), wJ_id (by omega) (by omega)]; omega
    rw [e_514_17 d _ _ H.1]
    by_cases q : k = 0
    · subst q
      rw [if_pos (l.mpr rfl), Nat.gcd_zero_right]
    · have e : lr_ (m : Int) (k : Int) = ((m % k : Nat) : Int) := by rw [lr_nn (by omega) (by omega) (by omega) (by omega)]; omega
      have hlt : m % k < k := Nat.mod_lt _ (by omega)
      rw [if_neg (fun z => q (l.mp z)), if_neg (by omega), e, ih (m % k) hlt k (by omega) (by omega), Nat.gcd_comm m k, Nat.gcd_rec k m, Nat.gcd_comm (m % k) k]
theorem kA_gcd (H : Hp h) {x y : Int} (hx : 0 ≤ x ∧ x < 9223372036854775808) (hy : 0 ≤ y ∧ y < 9223372036854775808) : fj_run (d + 1) 194 h [(1, x), (1, y)] = some (.inl (some (1, (Int.gcd x y : Int))), h) := by
  obtain ⟨m, rfl⟩ : ∃ m : Nat, x = (m : Int) := ⟨x.toNat, by omega⟩
  obtain ⟨k, rfl⟩ : ∃ m : Nat, y = (m : Int) := ⟨y.toNat, by omega⟩
  rw [m_194 d _ _ H.1, kA_gcdl d H k m (by omega) (by omega)]
  rfl
theorem kB_gcd (H : Hp h) {x y : Int} (hx : -9223372036854775808 < x ∧ x < 9223372036854775808) (hy : 0 ≤ y ∧ y < 9223372036854775808) : fj_run (d + 1) 514 h [(1, x), (1, y)] = some (.inl (some (1, (Int.gcd x y : Int))), h) := by
  obtain ⟨k, rfl⟩ : ∃ m : Nat, y = (m : Int) := ⟨y.toNat, by omega⟩
  have l : lc_ x 0 < 0 ↔ x < 0 := by rw [lc_lt, wJ_id (by omega) (by omega), wJ_id (by omega) (by omega)]
  rw [m_514 d _ _ H.1]
  by_cases q : x < 0
  · rw [if_pos (l.mpr q), wJ_id (by omega) (by omega), e_514_12 d _ _ H.1]
    obtain ⟨m, hm⟩ : ∃ m : Nat, -x = (m : Int) := ⟨(-x).toNat, by omega⟩
    rw [hm, kB_gcdl d H k m (by omega) (by omega)]
    refine congrArg (fun z => (some (.inl (some (1, z)), h) : fk_R)) ?_
    have : Int.gcd x (k : Int) = Int.gcd (-x) (k : Int) := (Int.neg_gcd).symm
    rw [this, hm]
    rfl
  · obtain ⟨m, rfl⟩ : ∃ m : Nat, x = (m : Int) := ⟨x.toNat, by omega⟩
    rw [if_neg (fun z => q (l.mp z)), e_514_12 d _ _ H.1, kB_gcdl d H k m (by omega) (by omega)]
    rfl
end GCD
end

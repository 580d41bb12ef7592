/-! of calls and natives (moved out of s25.go) -/
theorem fi_pop_eq : ∀ (n : Nat) (st a r : List FV), fi_pop n st = some (a, r) → st = a.reverse ++ r ∧ a.length = n := by
  intro n
  induction n with
  | zero => intro st a r e; rw [fi_pop] at e; cases e; exact ⟨rfl, rfl⟩
  | succ n ih =>
    intro st a r e
    cases st with
    | nil => rw [fi_pop] at e; cases e
    | cons v st =>
      rw [fi_pop] at e
      split at e
      · rename_i a' r' he
        cases e
        obtain ⟨h1, h2⟩ := ih _ _ _ he
        exact ⟨by rw [h1]; simp, by simp [h2]⟩
      · cases e
theorem fi_cl_rest {M : Nat} {ins : Instr} {len : Nat} {st : List FV} {h : fi_H} {M' : Nat} {a r : List FV} (e : fi_cl M ins len st h = some (M', a, r)) : ∀ w ∈ r, w ∈ st := by
  unfold fi_cl at e
  repeat' (split at e)
  all_goals first
    | (cases e; done)
    | (rename_i hpop; cases e; obtain ⟨e1, -⟩ := fi_pop_eq _ _ _ _ hpop; intro w hw; rw [e1]; simp [hw])
    | (rename_i hpop _; cases e; obtain ⟨e1, -⟩ := fi_pop_eq _ _ _ _ hpop; intro w hw; rw [e1]; simp [hw])
    | (rename_i hpop _ _ _ _; cases e; obtain ⟨e1, -⟩ := fi_pop_eq _ _ _ _ hpop; intro w hw; rw [e1]; simp [hw])
theorem fi_nat_none {M : Nat} (hM : M < 1000) (h : fi_H) (a : List FV) : fi_nat M h a = none := by
  unfold fi_nat fi_nat0
  rw [if_neg (by omega), if_neg (by omega), if_neg (by omega), if_neg (by omega), if_neg (by omega), if_neg (by omega), if_neg (by omega), if_neg (by omega), if_neg (by omega), if_neg (by omega)]
theorem fi_nat_some {M : Nat} (hM : 1000 ≤ M) (h : fi_H) (a : List FV) : ∃ q, fi_nat M h a = some q := by
  unfold fi_nat fi_nat0
  by_cases q : M = 1007
  · rw [if_pos q]; exact ⟨_, rfl⟩
  rw [if_neg q]
  clear q
  by_cases q : M = 1001
  · rw [if_pos q]; exact ⟨_, rfl⟩
  rw [if_neg q]
  clear q
  by_cases q : M = 1002
  · rw [if_pos q]; exact ⟨_, rfl⟩
  rw [if_neg q]
  clear q
  by_cases q : M = 1003
  · rw [if_pos q]; exact ⟨_, rfl⟩
  rw [if_neg q]
  clear q
  by_cases q : M = 1000
  · rw [if_pos q]; exact ⟨_, rfl⟩
  rw [if_neg q]
  clear q
  by_cases q : M = 1005
  · rw [if_pos q]; exact ⟨_, rfl⟩
  rw [if_neg q]
  clear q
  by_cases q : M = 1006
  · rw [if_pos q]; exact ⟨_, rfl⟩
  rw [if_neg q]
  clear q
  by_cases q : M = 1008
  · rw [if_pos q]; exact ⟨_, rfl⟩
  rw [if_neg q]
  clear q
  by_cases q : M = 1009
  · rw [if_pos q]; exact ⟨_, rfl⟩
  rw [if_neg q]
  clear q
  rw [if_pos hM]
  exact ⟨_, rfl⟩

/-- what is thrown at pc: a handler goes on, or it leaves -/
def fi_thr (call : fi_C) (M n pc : Nat) (L : fi_L) (r : Nat) (h : fi_H) : Option (fi_O × fi_H) := if 100 ≤ h 0 r 0 ∧ h 0 r 0 < 134 then match fi_hat M pc with
  | none => some (.inr r, h)
  | some (_, _, hp, ct) => if ct = 0 ∨ fi_ck (fi_ow M) ct = some (h 0 r 0).toNat then fi_go call M n hp L [(4, (r : Int))] h else none
  else none
theorem fi_go_eq (call : fi_C) (M n pc : Nat) (L : fi_L) (st : List FV) (h : fi_H) : fi_go call M (n + 1) pc L st h =
    match decode (fi_code M) pc with
    | .ok (ins, len) =>
      match fi_rt M ins len st with
      | some v => some (.inl v, h)
      | none => match fi_cl M ins len st h with
        | some (M', a, r) => if 8 < r.length ∨ (fi_law ≤ M' ∧ M' < 1000) then none else match call M' h a with
          | some (.inl v, h') => fi_go call M n (pc + len) L (v.toList ++ r) h'
          | some (.inr q, h') => fi_thr call M n pc L q h'
          | none => none
        | none => match ins, st with
          | .athrow, (4, r) :: _ => if len = 1 ∧ r ≠ 0 then fi_thr call M n pc L r.toNat h else none
          | _, _ => match fi_stp M ins len pc L st h with
            | some (pc', L', st', h') => fi_go call M n pc' L' st' h'
            | none => none
    | .error _ => none := by
  rw [fi_go]
  rfl
theorem fi_go_mono {call call' : fi_C} (hc : ∀ M h a r, call M h a = some r → call' M h a = some r) (M : Nat) : ∀ (n m pc : Nat) (L : fi_L) (st : List FV) (h : fi_H) (r : fi_O × fi_H), n ≤ m → fi_go call M n pc L st h = some r → fi_go call' M m pc L st h = some r := by
  intro n
  induction n with
  | zero => intro m pc L st h r _ hr; rw [fi_go] at hr; cases hr
  | succ n ih =>
    intro m pc L st h r hm hr
    obtain ⟨m', rfl⟩ : ∃ m', m = m' + 1 := ⟨m - 1, by omega⟩
    have hm' : n ≤ m' := by omega
    have ht : ∀ q h', fi_thr call M n pc L q h' = some r → fi_thr call' M m' pc L q h' = some r := by
      intro q h' e
      unfold fi_thr at e ⊢
      split at e
      · rename_i hk
        rw [if_pos hk]
        split at e
        · exact e
        · split at e
          · rename_i hq; rw [if_pos hq]; exact ih _ _ _ _ _ _ hm' e
          · cases e
      · cases e
    rw [fi_go_eq] at hr ⊢
    split at hr
    · split at hr
      · exact hr
      · split at hr
        · rename_i M' a rr _
          split at hr
          · cases hr
          rename_i h8
          rw [if_neg h8]
          cases hcall : call M' h a with
          | none => rw [hcall] at hr; cases hr
          | some q =>
            obtain ⟨o, h'⟩ := q
            rw [hc _ _ _ _ hcall]
            rw [hcall] at hr
            cases o with
            | inl v => exact ih _ _ _ _ _ _ hm' hr
            | inr q => exact ht _ _ hr
        · split at hr
          · split at hr
            · rename_i hq; rw [if_pos hq]; exact ht _ _ hr
            · cases hr
          · split at hr
            · exact ih _ _ _ _ _ _ hm' hr
            · cases hr
    · cases hr
theorem fi_lim_iff {α : Type} {f : Nat → Option α} (hm : ∀ n m r, n ≤ m → f n = some r → f m = some r) (r : α) : fi_lim f = some r ↔ ∃ n, f n = some r := by
  have key : ∀ r, (∃ n, f n = some r) → fi_lim f = some r := by
    rintro r ⟨n, hn⟩
    have he : ∃ r, ∃ n, f n = some r := ⟨r, n, hn⟩
    unfold fi_lim
    rw [dif_pos he]
    obtain ⟨m, h2⟩ := Classical.choose_spec he
    have e1 := hm n (max n m) r (by omega) hn
    have e2 := hm m (max n m) _ (by omega) h2
    rw [e1] at e2
    exact congrArg _ (Option.some.inj e2).symm
  constructor
  · intro h
    by_cases he : ∃ r, ∃ n, f n = some r
    · obtain ⟨r', hr'⟩ := he
      have := key r' hr'
      rw [this] at h
      cases h
      exact hr'
    · unfold fi_lim at h
      rw [dif_neg he] at h
      cases h
  · exact key r
theorem fi_run_iff (d M : Nat) (h : fi_H) (a : List FV) (hn : fi_nat M h a = none) (r : fi_O × fi_H) : fi_run (d + 1) M h a = some r ↔ fi_aw a ≤ fi_nl M ∧ ∃ n, fi_go (fi_run d) M n 0 (fi_args 0 a) [] h = some r := by
  rw [fi_run]
  simp only [hn]
  by_cases hw : fi_aw a ≤ fi_nl M
  · rw [if_pos hw, fi_lim_iff (fun n m r hnm e => fi_go_mono (fun _ _ _ _ q => q) M n m _ _ _ _ _ hnm e) r]
    exact ⟨fun h => ⟨hw, h⟩, fun h => h.2⟩
  · rw [if_neg hw]
    exact ⟨fun h => (by cases h), fun h => absurd h.1 hw⟩
theorem fi_run_mono : ∀ (d M : Nat) (h : fi_H) (a : List FV) (r : fi_O × fi_H), fi_run d M h a = some r → fi_run (d + 1) M h a = some r := by
  intro d
  induction d with
  | zero => intro M h a r e; rw [fi_run] at e; cases e
  | succ d ih =>
    intro M h a r e
    cases hn : fi_nat M h a with
    | some q => rw [fi_run] at e ⊢; simp only [hn] at e ⊢; exact e
    | none =>
      rw [fi_run_iff _ _ _ _ hn] at e ⊢
      obtain ⟨hw, n, e⟩ := e
      exact ⟨hw, n, fi_go_mono ih M n n _ _ _ _ _ (Nat.le_refl _) e⟩
theorem fi_run_le {d d' : Nat} (hd : d ≤ d') {M : Nat} {h : fi_H} {a : List FV} {r : fi_O × fi_H} (e : fi_run d M h a = some r) : fi_run d' M h a = some r := by
  induction hd with
  | refl => exact e
  | step _ ih => exact fi_run_mono _ _ _ _ _ ih

/-! cells and slots only grow -/
theorem ft_upd {h : fi_H} {f a i : Nat} {v : Int} (ha : a ≠ 0) (g : Nat) : fi_upd h f a i v g 0 0 = h g 0 0 := fi_upd_ne h f a i v (fun q => ha q.2.1.symm)
theorem ft_grid (h : fi_H) (n k : Int) (h0 : 0 ≤ h 2 0 0) : fi_grid h n k 2 0 0 = h 2 0 0 + 1 + n ∧ fi_grid h n k 3 0 0 = h 3 0 0 + n + n * k := by
  constructor
  · unfold fi_grid
    rw [if_neg (by omega), if_neg (by omega)]
    rfl
  · unfold fi_grid
    rw [if_neg (by omega), if_neg (by omega)]
    rfl
def ft_le (h h' : fi_H) : Prop := h 2 0 0 ≤ h' 2 0 0 ∧ h 3 0 0 ≤ h' 3 0 0
theorem ft_rf (h : fi_H) : ft_le h h := ⟨Int.le_refl _, Int.le_refl _⟩
theorem ft_tr {a b c : fi_H} (h1 : ft_le a b) (h2 : ft_le b c) : ft_le a c := ⟨Int.le_trans h1.1 h2.1, Int.le_trans h1.2 h2.2⟩
theorem ft_map {α : Type} {x : Option α} {β : Type} {g : α → β} {b : β} (h : x.map g = some b) : ∃ a, x = some a ∧ b = g a := by
  cases x with
  | none => cases h
  | some a => exact ⟨a, rfl, (Option.some.inj h).symm⟩
set_option maxHeartbeats 4000000 in
theorem ft_stp {M : Nat} {ins : Instr} {len pc : Nat} {L : fi_L} {st : List FV} {h : fi_H} {pc' : Nat} {L' : fi_L} {st' : List FV} {h' : fi_H} (h0 : 0 ≤ h 2 0 0) (e : fi_stp M ins len pc L st h = some (pc', L', st', h')) : ft_le h h' := by
  have hJ : (0 : Int) ≤ (fi_J : Int) := by omega
  unfold fi_stp at e
  repeat' (split at e)
  all_goals first
    | (cases e; exact ft_rf h)
    | (cases e; done)
    | (obtain ⟨a, -, e2⟩ := ft_map e; cases e2; exact ft_rf h)
    | (cases e; exact ⟨Int.le_of_eq (ft_upd (by omega) 2).symm, Int.le_of_eq (ft_upd (by omega) 3).symm⟩)
    | (cases e; rw [ft_le, fi_new_top _ _ _ _ h0, fi_new_slots _ _ _ _ h0]; constructor <;> omega)
    | (cases e; rw [ft_le, (ft_grid _ _ _ h0).1, (ft_grid _ _ _ h0).2]; rename_i q; refine ⟨by omega, ?_⟩; have := Int.mul_nonneg q.1 q.2.2.1; omega)
theorem ft_nat0 {M : Nat} {h : fi_H} {a : List FV} {o : fi_O} {h' : fi_H} (e : fi_nat0 M h a = some (some (o, h'))) : ft_le h h' := by
  unfold fi_nat0 at e
  repeat' (split at e)
  all_goals first
    | (cases e; exact ft_rf h)
    | (cases e; done)
    | (cases e; exact ⟨by simp, by simp⟩)
theorem ft_nat {M : Nat} {h : fi_H} {a : List FV} {o : fi_O} {h' : fi_H} (e : fi_nat M h a = some (some (o, h'))) : ft_le h h' := by
  unfold fi_nat at e
  split at e
  · have e := Option.some.inj e
    split at e
    · split at e
      · split at e
        · rename_i hq
          cases e
          unfold ft_le
          omega
        · cases e
      · cases e
    · cases e
  · exact ft_nat0 e
theorem ft_go {call : fi_C} (hc : ∀ M h a o h', 0 ≤ h 2 0 0 → call M h a = some (o, h') → ft_le h h') (M : Nat) : ∀ (n pc : Nat) (L : fi_L) (st : List FV) (h : fi_H) (o : fi_O) (h' : fi_H), 0 ≤ h 2 0 0 → fi_go call M n pc L st h = some (o, h') → ft_le h h' := by
  intro n
  induction n with
  | zero => intro pc L st h o h' _ e; rw [fi_go] at e; cases e
  | succ n ih =>
    intro pc L st h o h' h0 e
    have ht : ∀ q h1, 0 ≤ h1 2 0 0 → fi_thr call M n pc L q h1 = some (o, h') → ft_le h1 h' := by
      intro q h1 h10 e
      unfold fi_thr at e
      split at e
      · split at e
        · cases e; exact ft_rf _
        · split at e
          · exact ih _ _ _ _ _ _ h10 e
          · cases e
      · cases e
    rw [fi_go_eq] at e
    split at e
    · split at e
      · cases e; exact ft_rf _
      · split at e
        · rename_i M' a rr _
          split at e
          · cases e
          cases hcall : call M' h a with
          | none => rw [hcall] at e; cases e
          | some q =>
            obtain ⟨o1, h1⟩ := q
            rw [hcall] at e
            have hle := hc _ _ _ _ _ h0 hcall
            have h10 : 0 ≤ h1 2 0 0 := Int.le_trans h0 hle.1
            cases o1 with
            | inl v => exact ft_tr hle (ih _ _ _ _ _ _ h10 e)
            | inr q => exact ft_tr hle (ht _ _ h10 e)
        · split at e
          · split at e
            · exact ht _ _ h0 e
            · cases e
          · split at e
            · rename_i hst
              have hle := ft_stp h0 hst
              exact ft_tr hle (ih _ _ _ _ _ _ (Int.le_trans h0 hle.1) e)
            · cases e
    · cases e
theorem ft_run : ∀ (d M : Nat) (h : fi_H) (a : List FV) (o : fi_O) (h' : fi_H), 0 ≤ h 2 0 0 → fi_run d M h a = some (o, h') → ft_le h h' := by
  intro d
  induction d with
  | zero => intro M h a o h' _ e; rw [fi_run] at e; cases e
  | succ d ih =>
    intro M h a o h' h0 e
    cases hn : fi_nat M h a with
    | some q => rw [fi_run] at e; simp only [hn] at e; rw [e] at hn; exact ft_nat hn
    | none =>
      rw [fi_run_iff _ _ _ _ hn] at e
      obtain ⟨-, n, e⟩ := e
      exact ft_go ih M n _ _ _ _ _ _ h0 e

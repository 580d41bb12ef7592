section
/-! both sides begin to read a tape -/
set_option maxRecDepth 100000
/-- both tapes hold the same n bytes -/
def Tape (a b : fi_H) (n : Nat) : Prop := a 266 303 0 = (n : Int) ∧ b 392 602 0 = (n : Int) ∧ n ≤ 4000 ∧ ∀ k : Nat, k < n → b 10 607 k = a 8 376 k % 256
/-- what the model resets -/
def rsm (b : fi_H) : fi_H := fi_upd (fi_upd (fi_upd (fi_upd (fi_upd (fi_upd (fi_upd b 393 602 0 (b 392 602 0)) 392 602 0 0) 397 602 0 0) 398 602 0 0) 427 602 0 0) 402 602 0 0) 403 602 0 (-1)
abbrev wrsm (f x _i : Nat) : Prop := x = 602 ∧ ((392 ≤ f ∧ f ≤ 403) ∨ f = 427)
section BEGM
variable {a b : fi_H} {n : Nat} {dA dB : Nat}
theorem rsm_hp (H : Hp b) : Hp (rsm b) := by
  have hr := rI H (f := 392) rfl 602 0
  exact Hp.uI (Hp.uI (Hp.uI (Hp.uI (Hp.uI (Hp.uI (Hp.uI H 0 (by decide) (by decide) hr) 0 (by decide) (by decide) (by omega)) 0 (by decide) (by decide) (by omega)) 0 (by decide) (by decide) (by omega)) 0 (by decide) (by decide) (by omega)) 0 (by decide) (by decide) (by omega)) 0 (by decide) (by decide) (by omega)
theorem rsm_fr : Fr wrsm b (rsm b) :=
  Fr.u 0 _ (Fr.u 0 _ (Fr.u 0 _ (Fr.u 0 _ (Fr.u 0 _ (Fr.u 0 _ (Fr.u 0 _ (Fr.rf _ _) (by decide) (by decide)) (by decide) (by decide)) (by decide) (by decide)) (by decide) (by decide)) (by decide) (by decide)) (by decide) (by decide)) (by decide) (by decide)
theorem rsm_v : rsm b 393 602 0 = b 392 602 0 ∧ rsm b 392 602 0 = 0 ∧ rsm b 397 602 0 = 0 ∧ rsm b 398 602 0 = 0 ∧ rsm b 427 602 0 = 0 ∧ rsm b 402 602 0 = 0 ∧ rsm b 403 602 0 = -1 := by simp [rsm, fi_upd]
/-- both begin: at the first token -/
theorem t_begin (HA : Hp a) (HB : Hp b) (T : Tape a b n) {kb : Nat} {cb : Nat → Int} (B : Bd a kb cb) (hA : 11 ≤ dA) (hB : 12 ≤ dB) :
    ∃ a' b' M, fj_run dA 111 a [(4, 377)] = some (.inl none, a') ∧ fj_run dB 486 b [(4, 602)] = some (.inl none, b') ∧ PS (tap a n) n M 0 a' b' ∧ FrL (fun f x i => wrst f x i ∨ wbeg f x i) a a' ∧ Fr wrsm b b' ∧ a' 266 303 0 = 0 ∧ a' 160 377 0 = 0 ∧ b' 392 602 0 = 0 ∧ b' 427 602 0 = 0 ∧ b' 402 602 0 = 0 ∧ b' 403 602 0 = -1 ∧ (a' 161 377 0 = 0 ∧ a' 162 377 0 = 0 ∧ a' 163 377 0 = 0 ∧ a' 164 377 0 = 0) := by
  obtain ⟨d, rfl⟩ : ∃ e, dA = e + 11 := ⟨dA - 11, by omega⟩
  obtain ⟨e, rfl⟩ : ∃ e, dB = e + 12 := ⟨dB - 12, by omega⟩
  obtain ⟨t1, t2, t3, t4⟩ := T
  obtain ⟨a', M, e1, HA', FA, ⟨z1, z2, z3, z4, z5⟩, hM, LX⟩ := kA_beginLx d HA B t1 t3
  obtain ⟨v1, v2, v3, v4, v5, v6, v7⟩ := rsm_v (b := b)
  have H1 := rsm_hp HB
  have F1 := rsm_fr (b := b)
  have tb := HB.1.2.2.1
  have L1 : LexB (tap a n) n (rsm b) := by
    refine ⟨H1, by rw [v1]; exact t2, t3, fun k hk => ?_, fun k hk => by unfold tap; rw [if_neg (by omega)], fun k => ?_⟩
    · rw [F1.2 10 607 k (by decide) (by omega) (by omega), t4 k hk]; unfold tap; rw [if_pos hk]
    · unfold tap
      split
      · exact rB HA (f := 8) rfl 376 k
      · omega
  obtain ⟨b', c1, c2, c3, c4, c5⟩ := kB_cut e L1 (e := 0) (by rw [v3]; rfl) (by omega) (t := 0) v4 (by omega)
  have t1' := H1.1.2.2.1
  have o : ∀ f, (f < 394 ∨ 401 < f) → b' f 602 0 = rsm b f 602 0 := fun f hf => c3.2 f 602 0 (by decide) (by omega) (by omega)
  refine ⟨a', b', M, e1, ?_, ⟨HA', L1.st c2 c3 wcut_U, LX, by rw [z2]; rfl, ⟨hM, by omega⟩, c4, ?_, ?_, ?_, ?_⟩, FA, F1.tr (c3.mono (fun f x i q => ⟨q.1, Or.inl (by omega)⟩)), z1, z4, by rw [o 392 (by omega)]; exact v2, by rw [o 427 (by omega)]; exact v5, by rw [o 402 (by omega)]; exact v6, by rw [o 403 (by omega)]; exact v7, z5⟩
  · rw [m_486 (e + 11) HB.1]
    repeat rewrite [lt_eq]
    show cv_ (fj_run (e + 11) 487 (rsm b) [(4, 602)]) _ _ = _
    rw [c1, cv_ret]
  · rw [c5]
    show (if (tok (tap a n) n (bk (tap a n) n false 0)).1 = 0 then (0 : Int) else 0 + 1) = if (tok (tap a n) n (bk (tap a n) n false 0)).1 = 0 then ((0 : Nat) : Int) else ((0 : Nat) : Int) + 1
    rfl
  · rw [z3, o 427 (by omega), v5]
  · rw [o 427 (by omega), v5]; omega
  · exact ⟨by rw [o 427 (by omega), v5]; omega, by rw [o 402 (by omega)]; exact v6, by rw [o 403 (by omega)]; exact v7⟩
end BEGM
end

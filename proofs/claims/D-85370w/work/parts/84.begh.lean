section
/-! behind the cut: the class's tokens in order, hashes and all -/
set_option maxRecDepth 100000
section BEGH
variable (d : Nat) {n : Nat} {h : fi_H}
theorem kA_beginZ (H : Hp h) {kb : Nat} {cb : Nat → Int} (B : Bd h kb cb) (hn : h 266 303 0 = (n : Int)) (hn2 : n ≤ 4000) {h' : fi_H} {M : Nat} (e : fj_run (d + 11) 111 h [(4, 377)] = some (.inl none, h')) (hM : h' 157 377 0 = (M : Int)) :
    ∀ j : Nat, j < M → (tok (tap h n) n (pl (tap h n) n j)).1 = 2 → RowZ h' j := by
  obtain ⟨v1, v2, v3, v4, v5, v6, v7, v8, v9, v10⟩ := rst_v (h := h)
  have H1 := rst_hp H
  have F1 := rst_fr (h := h)
  have ht := H.1.2.2.1
  have L1 : LexU (tap h n) n (rst h) := ⟨H1, by rw [v1]; exact hn, hn2, fun k hk => by rw [F1.2 8 376 k (by decide) (by omega) (by omega)]; unfold tap; rw [if_pos hk], fun k hk => by unfold tap; rw [if_neg (by omega)]⟩
  have B1 := B.st H F1 (fun f i _ _ => ⟨fun q => by omega, fun q => by omega⟩) (fun f x i hx _ _ q => by omega)
  have e1 : fj_run (d + 11) 111 h [(4, 377)] = c_111_63 (d + 10) 0 1 (rst h) := by
    rw [m_111 (d + 10) H.1]
    show c_111_59 (d + 10) (rst h) = _
    rw [e_111_59 (d + 10) H1.1]
  rw [e1] at e
  exact kA_begz d 1201 0 0 (rst h) (by omega) L1 ⟨_, _, B1⟩ v3 (by omega) rfl (fun j hj => by omega) (fun j hj => by omega) h' M e hM
/-- the tokens stand -/
theorem kA_beginLx (H : Hp h) {kb : Nat} {cb : Nat → Int} (B : Bd h kb cb) (hn : h 266 303 0 = (n : Int)) (hn2 : n ≤ 4000) :
    ∃ h' M, fj_run (d + 11) 111 h [(4, 377)] = some (.inl none, h') ∧ Hp h' ∧ FrL (fun f a i => wrst f a i ∨ wbeg f a i) h h' ∧ (h' 266 303 0 = 0 ∧ h' 158 377 0 = 0 ∧ h' 159 377 0 = 0 ∧ h' 160 377 0 = 0 ∧ h' 161 377 0 = 0 ∧ h' 162 377 0 = 0 ∧ h' 163 377 0 = 0 ∧ h' 164 377 0 = 0) ∧ 0 < M ∧ Lx (tap h n) n M h' := by
  obtain ⟨h', M, e, H', F, Z0, hM, hM2, R, K, E, B'⟩ := kA_begin d H B hn hn2
  have Z := kA_beginZ d H B hn hn2 e hM
  exact ⟨h', M, e, H', F, Z0, hM2.1, R, fun j hj hs => ⟨Or.inl (Z j hj hs).1, Or.inl (Z j hj hs).2⟩, hM2.2, K, E, B'⟩
end BEGH
end

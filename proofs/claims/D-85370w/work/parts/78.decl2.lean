section
/-! reading: a declared name's thing is made -/
set_option maxRecDepth 100000
abbrev wrn (r : Int) (f x _i : Nat) : Prop := (x : Int) = r ∧ 321 ≤ f ∧ f ≤ 330
section INIT
variable {a : fi_H} {r : Int}
theorem kA_init (H : Hp a) {d : Nat} (hr : 714 < r ∧ r ≤ a 2 0 0) (hc : a 0 r.toNat 0 = 124) (z1 : a 321 r.toNat 0 = 0) (z2 : a 322 r.toNat 0 = 0) (z3 : a 323 r.toNat 0 = 0) (z4 : a 324 r.toNat 0 = 0) {w x1 x2 v : Int} (hw : 0 ≤ w ∧ w ≤ a 2 0 0) (h1 : x1 = 0 ∨ x1 = 1) (h2 : x2 = 0 ∨ x2 = 1) (hv : 0 ≤ v ∧ v ≤ 9) :
    ∃ a', fj_run (d + 2) 185 a [(4, r), (4, w), (0, x1), (0, x2), (4, v)] = some (.inl none, a') ∧ Hp a' ∧ Fr (wrn r) a a' ∧ a' 321 r.toNat 0 = w ∧ a' 322 r.toNat 0 = x1 ∧ a' 323 r.toNat 0 = x2 ∧ a' 324 r.toNat 0 = v ∧ a' 325 r.toNat 0 = 10 ∧ (∀ f, f = 0 ∨ 327 ≤ f → a' f r.toNat 0 = a f r.toNat 0) := by
  have hr2 : 302 < r := by omega
  have hn : 302 < r.toNat := by omega
  have ht := H.1.2.2.1
  have g1 : fi_rg 4 x1 = true := by rcases h1 with rfl | rfl <;> rfl
  have g2 : fi_rg 4 x2 = true := by rcases h2 with rfl | rfl <;> rfl
  have fr : ∀ (h : fi_H) (f : Nat) (x : Int), 321 ≤ f → f ≤ 330 → Fr (wrn r) a h → Fr (wrn r) a (fi_upd h f r.toNat 0 x) := fun h f x f1 f2 F => Fr.u 0 _ F (by omega) ⟨by omega, f1, f2⟩
  have H1 : Hp (fi_upd a 325 r.toNat 0 10) := H.dr hr.1 hc (by decide) (show (0 : Int) ≤ 10 ∧ (10 : Int) ≤ _ by omega)
  have F1 := fr _ 325 10 (by decide) (by decide) (Fr.rf _ _)
  have y1 : ∀ f, f ≠ 325 → fi_upd a 325 r.toNat 0 10 f r.toNat 0 = a f r.toNat 0 := fun f hf => fi_upd_ne _ _ _ _ _ (by omega)
  have y1' : fi_upd a 325 r.toNat 0 10 325 r.toNat 0 = 10 := fi_upd_same _ _ _ _ _
  have y10 : fi_upd a 325 r.toNat 0 10 2 0 0 = a 2 0 0 := fi_upd_ne _ _ _ _ _ (by omega)
  rw [m_185 (d + 1) r w x1 x2 v H.1 hc, run_1009 d (by omega), cv_ret, if_pos hr2, lt_eq]
  generalize fi_upd a 325 r.toNat 0 10 = a1 at *
  have H2 : Hp (fi_upd a1 326 r.toNat 0 1) := H1.dr hr.1 (by rw [y1 0 (by decide)]; exact hc) (by decide) (show -9223372036854775808 ≤ (1 : Int) ∧ (1 : Int) < 9223372036854775808 by omega)
  have F2 := fr _ 326 1 (by decide) (by decide) F1
  have y2 : ∀ f, f ≠ 326 → fi_upd a1 326 r.toNat 0 1 f r.toNat 0 = a1 f r.toNat 0 := fun f hf => fi_upd_ne _ _ _ _ _ (by omega)
  have y20 : fi_upd a1 326 r.toNat 0 1 2 0 0 = a 2 0 0 := by rw [fi_upd_ne _ _ _ _ _ (by omega)]; exact y10
  rw [if_pos hr2, lt_eq, if_pos hr2]
  generalize fi_upd a1 326 r.toNat 0 1 = a2 at *
  have q321 : a2 321 r.toNat 0 = 0 := by rw [y2 321 (by decide), y1 321 (by decide)]; exact z1
  have q0 : a2 0 r.toNat 0 = 124 := by rw [y2 0 (by decide), y1 0 (by decide)]; exact hc
  have H3 : Hp (fi_upd a2 321 r.toNat 0 w) := H2.uf hn (by rw [q0]; decide) (by decide) q321 (show 0 ≤ w ∧ w ≤ _ by rw [y20]; exact hw)
  have F3 := fr _ 321 w (by decide) (by decide) F2
  have y3 : ∀ f, f ≠ 321 → fi_upd a2 321 r.toNat 0 w f r.toNat 0 = a2 f r.toNat 0 := fun f hf => fi_upd_ne _ _ _ _ _ (by omega)
  have y3' : fi_upd a2 321 r.toNat 0 w 321 r.toNat 0 = w := fi_upd_same _ _ _ _ _
  have y30 : fi_upd a2 321 r.toNat 0 w 2 0 0 = a 2 0 0 := by rw [fi_upd_ne _ _ _ _ _ (by omega)]; exact y20
  rw [if_pos q321, lt_eq, if_pos hr2, if_pos g1]
  generalize fi_upd a2 321 r.toNat 0 w = a3 at *
  have q322 : a3 322 r.toNat 0 = 0 := by rw [y3 322 (by decide), y2 322 (by decide), y1 322 (by decide)]; exact z2
  have q30 : a3 0 r.toNat 0 = 124 := by rw [y3 0 (by decide)]; exact q0
  have H4 : Hp (fi_upd a3 322 r.toNat 0 x1) := H3.uf hn (by rw [q30]; decide) (by decide) q322 h1
  have F4 := fr _ 322 x1 (by decide) (by decide) F3
  have y4 : ∀ f, f ≠ 322 → fi_upd a3 322 r.toNat 0 x1 f r.toNat 0 = a3 f r.toNat 0 := fun f hf => fi_upd_ne _ _ _ _ _ (by omega)
  have y4' : fi_upd a3 322 r.toNat 0 x1 322 r.toNat 0 = x1 := fi_upd_same _ _ _ _ _
  have y40 : fi_upd a3 322 r.toNat 0 x1 2 0 0 = a 2 0 0 := by rw [fi_upd_ne _ _ _ _ _ (by omega)]; exact y30
  rw [if_pos q322, lt_eq, if_pos hr2, if_pos g2]
  generalize fi_upd a3 322 r.toNat 0 x1 = a4 at *
  have q323 : a4 323 r.toNat 0 = 0 := by rw [y4 323 (by decide), y3 323 (by decide), y2 323 (by decide), y1 323 (by decide)]; exact z3
  have q40 : a4 0 r.toNat 0 = 124 := by rw [y4 0 (by decide)]; exact q30
  have H5 : Hp (fi_upd a4 323 r.toNat 0 x2) := H4.uf hn (by rw [q40]; decide) (by decide) q323 h2
  have F5 := fr _ 323 x2 (by decide) (by decide) F4
  have y5 : ∀ f, f ≠ 323 → fi_upd a4 323 r.toNat 0 x2 f r.toNat 0 = a4 f r.toNat 0 := fun f hf => fi_upd_ne _ _ _ _ _ (by omega)
  have y5' : fi_upd a4 323 r.toNat 0 x2 323 r.toNat 0 = x2 := fi_upd_same _ _ _ _ _
  have y50 : fi_upd a4 323 r.toNat 0 x2 2 0 0 = a 2 0 0 := by rw [fi_upd_ne _ _ _ _ _ (by omega)]; exact y40
  rw [if_pos q323, lt_eq, if_pos hr2]
  generalize fi_upd a4 323 r.toNat 0 x2 = a5 at *
  have q324 : a5 324 r.toNat 0 = 0 := by rw [y5 324 (by decide), y4 324 (by decide), y3 324 (by decide), y2 324 (by decide), y1 324 (by decide)]; exact z4
  have q50 : a5 0 r.toNat 0 = 124 := by rw [y5 0 (by decide)]; exact q40
  have H6 : Hp (fi_upd a5 324 r.toNat 0 v) := H5.uf hn (by rw [q50]; decide) (by decide) q324 (show 0 ≤ v ∧ v ≤ _ by rw [y50]; omega)
  have F6 := fr _ 324 v (by decide) (by decide) F5
  have y6 : ∀ f, f ≠ 324 → fi_upd a5 324 r.toNat 0 v f r.toNat 0 = a5 f r.toNat 0 := fun f hf => fi_upd_ne _ _ _ _ _ (by omega)
  rw [if_pos q324, lt_eq]
  refine ⟨_, rfl, H6, F6, ?_, ?_, ?_, fi_upd_same _ _ _ _ _, ?_, fun f hf => ?_⟩
  · rw [y6 321 (by decide), y5 321 (by decide), y4 321 (by decide)]; exact y3'
  · rw [y6 322 (by decide), y5 322 (by decide)]; exact y4'
  · rw [y6 323 (by decide)]; exact y5'
  · rw [y6 325 (by decide), y5 325 (by decide), y4 325 (by decide), y3 325 (by decide), y2 325 (by decide)]; exact y1'
  · rw [y6 f (by omega), y5 f (by omega), y4 f (by omega), y3 f (by omega), y2 f (by omega), y1 f (by omega)]
end INIT
end

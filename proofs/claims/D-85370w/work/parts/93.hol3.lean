section
/-! reading: holidays, their objects, the loop -/
set_option maxRecDepth 100000
abbrev wro (r : Int) (f x _i : Nat) : Prop := (x : Int) = r ∧ 331 ≤ f ∧ f ≤ 336
def HE (w : Nat) (a b a' b' : fi_H) : Prop := Fr (wHA w) a a' ∧ Fr wHB b b'
section HOL3
variable {u : Nat → Int} {n M i : Nat} {a b a0 b0 h : fi_H} {dA dB d : Nat} {r : Int}
theorem kA_fix (H : Hp h) (hr : 714 < r ∧ r ≤ h 2 0 0) (hc : h 0 r.toNat 0 = 108) (z1 : h 331 r.toNat 0 = 0) (z2 : h 332 r.toNat 0 = 0) {x y : Int} (hx : -2147483648 ≤ x ∧ x < 2147483648) (hy : -2147483648 ≤ y ∧ y < 2147483648) :
    ∃ h', fj_run (d + 2) 200 h [(4, r), (0, x), (0, y)] = some (.inl none, h') ∧ Hp h' ∧ Fr (wro r) h h' ∧ h' 331 r.toNat 0 = x ∧ h' 332 r.toNat 0 = y := by
  have hr2 : 302 < r := by omega
  have H1 : Hp (fi_upd h 331 r.toNat 0 x) := H.uf (by omega) (by rw [hc]; decide) (by decide) z1 hx
  have q2 : fi_upd h 331 r.toNat 0 x 332 r.toNat 0 = 0 := by rw [fi_upd_ne _ _ _ _ _ (by omega)]; exact z2
  have c2 : fi_upd h 331 r.toNat 0 x 0 r.toNat 0 = 108 := by rw [fi_upd_ne _ _ _ _ _ (by omega)]; exact hc
  have H2 : Hp (fi_upd (fi_upd h 331 r.toNat 0 x) 332 r.toNat 0 y) := H1.uf (by omega) (by rw [c2]; decide) (by decide) q2 hy
  refine ⟨_, ?_, H2, Fr.u 0 _ (Fr.u 0 _ (Fr.rf _ _) (by omega) ⟨by omega, by decide, by decide⟩) (by omega) ⟨by omega, by decide, by decide⟩, ?_, fi_upd_same _ _ _ _ _⟩
  · rw [m_200 (d + 1) r x y H.1 hc, run_1009 d (by omega), cv_ret, if_pos hr2, if_pos z1, lt_eq, if_pos hr2, if_pos q2, lt_eq]
  · rw [fi_upd_ne _ _ _ _ _ (by omega), fi_upd_same]
theorem kA_eas (H : Hp h) (hr : 714 < r ∧ r ≤ h 2 0 0) (hc : h 0 r.toNat 0 = 105) (z1 : h 333 r.toNat 0 = 0) {x : Int} (hx : -2147483648 ≤ x ∧ x < 2147483648) :
    ∃ h', fj_run (d + 2) 202 h [(4, r), (0, x)] = some (.inl none, h') ∧ Hp h' ∧ Fr (wro r) h h' ∧ h' 333 r.toNat 0 = x := by
  have hr2 : 302 < r := by omega
  have H1 : Hp (fi_upd h 333 r.toNat 0 x) := H.uf (by omega) (by rw [hc]; decide) (by decide) z1 hx
  refine ⟨_, ?_, H1, Fr.u 0 _ (Fr.rf _ _) (by omega) ⟨by omega, by decide, by decide⟩, fi_upd_same _ _ _ _ _⟩
  rw [m_202 (d + 1) r x H.1 hc, run_1009 d (by omega), cv_ret, if_pos hr2, if_pos z1, lt_eq]
theorem kA_wkd (H : Hp h) (hr : 714 < r ∧ r ≤ h 2 0 0) (hc : h 0 r.toNat 0 = 127) (z1 : h 334 r.toNat 0 = 0) (z2 : h 335 r.toNat 0 = 0) (z3 : h 336 r.toNat 0 = 0) {x y z : Int} (hx : x = 0 ∨ x = 1) (hy : -2147483648 ≤ y ∧ y < 2147483648) (hz : -2147483648 ≤ z ∧ z < 2147483648) :
    ∃ h', fj_run (d + 2) 206 h [(4, r), (0, x), (0, y), (0, z)] = some (.inl none, h') ∧ Hp h' ∧ Fr (wro r) h h' ∧ h' 334 r.toNat 0 = x ∧ h' 335 r.toNat 0 = y ∧ h' 336 r.toNat 0 = z := by
  have hr2 : 302 < r := by omega
  have hrg : fi_rg 4 x = true := by rcases hx with rfl | rfl <;> rfl
  have H1 : Hp (fi_upd h 334 r.toNat 0 x) := H.uf (by omega) (by rw [hc]; decide) (by decide) z1 hx
  have q2 : fi_upd h 334 r.toNat 0 x 335 r.toNat 0 = 0 := by rw [fi_upd_ne _ _ _ _ _ (by omega)]; exact z2
  have q3 : fi_upd h 334 r.toNat 0 x 336 r.toNat 0 = 0 := by rw [fi_upd_ne _ _ _ _ _ (by omega)]; exact z3
  have c2 : fi_upd h 334 r.toNat 0 x 0 r.toNat 0 = 127 := by rw [fi_upd_ne _ _ _ _ _ (by omega)]; exact hc
  have F1 : Fr (wro r) h (fi_upd h 334 r.toNat 0 x) := Fr.u 0 _ (Fr.rf _ _) (by omega) ⟨by omega, by decide, by decide⟩
  have v1 : fi_upd h 334 r.toNat 0 x 334 r.toNat 0 = x := fi_upd_same _ _ _ _ _
  have t1 : fi_upd h 334 r.toNat 0 x 2 0 0 = h 2 0 0 := fi_upd_ne _ _ _ _ _ (by omega)
  have e1 : fj_run (d + 2) 206 h [(4, r), (0, x), (0, y), (0, z)] = lt_ (fi_upd (fi_upd h 334 r.toNat 0 x) 335 r.toNat 0 y) fun h5 => if 302 < r then if h5 336 r.toNat 0 = 0 then lt_ (fi_upd h5 336 r.toNat 0 z) fun h6 => some (.inl none, h6) else none else none := by
    rw [m_206 (d + 1) r x y z H.1 hc, run_1009 d (by omega), cv_ret, if_pos hr2, if_pos hrg, if_pos z1, lt_eq, if_pos hr2, if_pos q2]
  rw [e1]
  generalize fi_upd h 334 r.toNat 0 x = h1 at *
  have H2 : Hp (fi_upd h1 335 r.toNat 0 y) := H1.uf (by omega) (by rw [c2]; decide) (by decide) q2 hy
  have q4 : fi_upd h1 335 r.toNat 0 y 336 r.toNat 0 = 0 := by rw [fi_upd_ne _ _ _ _ _ (by omega)]; exact q3
  have c3 : fi_upd h1 335 r.toNat 0 y 0 r.toNat 0 = 127 := by rw [fi_upd_ne _ _ _ _ _ (by omega)]; exact c2
  have H3 : Hp (fi_upd (fi_upd h1 335 r.toNat 0 y) 336 r.toNat 0 z) := H2.uf (by omega) (by rw [c3]; decide) (by decide) q4 hz
  refine ⟨_, by rw [lt_eq, if_pos hr2, if_pos q4, lt_eq], H3, Fr.u 0 _ (Fr.u 0 _ F1 (by omega) ⟨by omega, by decide, by decide⟩) (by omega) ⟨by omega, by decide, by decide⟩, ?_, ?_, fi_upd_same _ _ _ _ _⟩
  · rw [fi_upd_ne _ _ _ _ _ (by omega), fi_upd_ne _ _ _ _ _ (by omega)]; exact v1
  · rw [fi_upd_ne _ _ _ _ _ (by omega), fi_upd_same]
theorem PS.ro (q : PS u n M i a b) {a' : fi_H} {c : Int} (hr : 714 < r) (hc : a 0 r.toNat 0 = c) (h1 : c ≠ 131) (h2 : c ≠ 8) (HA : Hp a') (F : Fr (wro r) a a') : PS u n M i a' b := by
  have key : ∀ x : Nat, (x : Int) = r → a 0 x 0 = c := fun x hx => by rw [← hc, ← hx, Int.toNat_natCast]
  exact q.f HA q.hb F (Fr.rf (fun _ _ _ => False) _) (fun f x i x1 x2 _ _ z => by omega) (fun f x i x1 x2 _ _ z => by have := key x z.1; rcases x2 with w | w <;> omega) (fun x i x1 x2 => ⟨fun z => by omega, fun z => by omega⟩) ⟨by omega, by omega⟩ (fun _ _ _ => id) ⟨id, fun _ => id⟩
theorem HE.tr {w : Nat} {a1 b1 a2 b2 : fi_H} (p : HE w a b a1 b1) (q : HE w a1 b1 a2 b2) : HE w a b a2 b2 := ⟨p.1.tr q.1, p.2.tr q.2⟩
theorem HE.t {w : Nat} {a' b' : fi_H} (p : TkE a b a' b') : HE w a b a' b' := ⟨p.1.mono (fun _ _ _ q => Or.inl q), p.2.mono (fun _ _ _ q => Or.inl q)⟩
/-- the rows told so far -/
def HRw (w k : Nat) (a b : fi_H) : Prop := ∀ j : Nat, j < k → HolO a (a 12 w j) (b 10 604 (21 + j)) (b 10 605 (21 + j)) (b 10 606 (21 + j))
theorem HRw.f {w k : Nat} (R : HRw w k a b) (hw : w = 307 ∨ w = 308) (HA : Hp a) (HB : Hp b) {a' b' : fi_H} {W V : Nat → Nat → Nat → Prop} (F : Fr W a a') (G : Fr V b b') (h1 : ∀ f x i : Nat, 714 < x → (x : Int) ≤ a 2 0 0 → (f = 0 ∨ (331 ≤ f ∧ f ≤ 336)) → ¬ W f x i) (h2 : ∀ j, j < k → ¬ W 12 w j) (g : ∀ x j : Nat, 604 ≤ x → x ≤ 606 → j < k → ¬ V 10 x (21 + j)) : HRw w k a' b' := by
  have ta := HA.1.2.2.1
  have tb := HB.1.2.2.1
  intro j hj
  have q := R j hj
  rw [F.2 12 w j (by omega) (by omega) (h2 j hj), G.2 10 604 _ (by decide) (by omega) (g 604 j (by decide) (by decide) hj), G.2 10 605 _ (by decide) (by omega) (g 605 j (by decide) (by decide) hj), G.2 10 606 _ (by decide) (by omega) (g 606 j (by decide) (by decide) hj)]
  obtain ⟨q1, q2⟩ := q
  have e : ∀ f, (f = 0 ∨ (331 ≤ f ∧ f ≤ 336)) → a' f (a 12 w j).toNat 0 = a f (a 12 w j).toNat 0 := fun f hf => F.2 f _ 0 (by omega) (by omega) (h1 f _ _ (by omega) (by omega) hf)
  refine ⟨⟨q1.1, by have := F.1; omega⟩, ?_⟩
  rw [e 0 (by omega), e 331 (by omega), e 332 (by omega), e 333 (by omega), e 334 (by omega), e 335 (by omega), e 336 (by omega)]
  exact q2
end HOL3
end

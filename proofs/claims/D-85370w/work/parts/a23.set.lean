section
/-! reading expressions: sets, tables: the constructors -/
set_option maxRecDepth 100000
section SETC
variable {a b h h1 : fi_H} {dA dB d : Nat} {r : Int}
theorem kA_Set (q : NW h r 118 8 (fun _ => 0) h1) {f κ x k g v : Int} (hf : 0 ≤ f ∧ f ≤ 302) (hκ : 0 ≤ κ ∧ κ ≤ 7) (hv : i32 v) (p1 : Prt h x k g) :
    ∃ h2 L, fj_run (d + 4) 256 h1 [(4, r), (4, 303), (4, f), (4, 2 + κ), (4, x), (0, v)] = some (.inl none, h2) ∧ NW h r 118 8 L h2 ∧ L 340 = 2 + κ ∧ L 341 = g + 1 ∧ L 353 = f ∧ L 354 = x ∧ L 355 = v := by
  have hr := q.rg
  have t1 := q.2.2.1
  have ht := q.2.1
  have n1 := q.set (by decide) (f := 356) (v := 303) (by decide) rfl (show (0 : Int) ≤ 303 ∧ (303 : Int) ≤ h1 2 0 0 by omega)
  have z0 : h1 356 r.toNat 0 = 0 := q.g (f := 356) (by decide)
  rw [m_256 (d + 3) r 303 f (2 + κ) x v q.hp.1 q.cl, if_pos hr.1, if_pos z0, lt_eq]
  generalize fi_upd h1 356 r.toNat 0 303 = h3 at *
  have P1 := p1.nw n1
  have a1 := P1.2.2.2.2.2
  rw [if_pos P1.2.2.1, P1.2.2.2.2.1, wI_id (by omega) (by omega)]
  obtain ⟨h4, e4, n4⟩ := kA_Part n1 (d := d + 1) (by decide) ⟨rfl, rfl, rfl⟩ ⟨rfl, rfl, rfl⟩ (κ := 2 + κ) (g := g + 1) (by omega) (by omega)
  have t4 := n4.2.2.1
  have b1 := p1.1
  have n5 := n4.set (by decide) (f := 353) (v := f) (by decide) rfl (show (0 : Int) ≤ f ∧ f ≤ _ by omega)
  have t5 := n5.2.2.1
  have n6 := n5.set (by decide) (f := 354) (v := x) (by decide) rfl (show (0 : Int) ≤ x ∧ x ≤ _ by omega)
  have n7 := n6.set (by decide) (f := 355) (v := v) (by decide) rfl (show i32 v from hv)
  have z4 : h4 353 r.toNat 0 = 0 := n4.g (f := 353) (by decide)
  have z5 : fi_upd h4 353 r.toNat 0 f 354 r.toNat 0 = 0 := n5.g (f := 354) (by decide)
  have z6 : fi_upd (fi_upd h4 353 r.toNat 0 f) 354 r.toNat 0 x 355 r.toNat 0 = 0 := n6.g (f := 355) (by decide)
  rw [e4, cv_ret, if_pos hr.1, if_pos z4, lt_eq, if_pos hr.1, if_pos z5, lt_eq, if_pos hr.1, if_pos z6, lt_eq]
  exact ⟨_, _, rfl, n7, rfl, rfl, rfl, rfl, rfl⟩
theorem kA_Tab (q : NW h r 122 8 (fun _ => 0) h1) {s κ x k g v : Int} (hs : 0 ≤ s ∧ s ≤ h 2 0 0) (hκ : 0 ≤ κ ∧ κ ≤ 7) (hv : i32 v) (p1 : Prt h x k g) :
    ∃ h2 L, fj_run (d + 4) 258 h1 [(4, r), (4, 303), (4, s), (4, 2 + κ), (0, v), (4, x)] = some (.inl none, h2) ∧ NW h r 122 8 L h2 ∧ L 340 = 2 + κ ∧ L 341 = g + 1 ∧ L 357 = s ∧ L 358 = v ∧ L 359 = x := by
  have hr := q.rg
  have t1 := q.2.2.1
  have ht := q.2.1
  have n1 := q.set (by decide) (f := 360) (v := 303) (by decide) rfl (show (0 : Int) ≤ 303 ∧ (303 : Int) ≤ h1 2 0 0 by omega)
  have z0 : h1 360 r.toNat 0 = 0 := q.g (f := 360) (by decide)
  rw [m_258 (d + 3) r 303 s (2 + κ) v x q.hp.1 q.cl, if_pos hr.1, if_pos z0, lt_eq]
  generalize fi_upd h1 360 r.toNat 0 303 = h3 at *
  have P1 := p1.nw n1
  have a1 := P1.2.2.2.2.2
  rw [if_pos P1.2.2.1, P1.2.2.2.2.1, wI_id (by omega) (by omega)]
  obtain ⟨h4, e4, n4⟩ := kA_Part n1 (d := d + 1) (by decide) ⟨rfl, rfl, rfl⟩ ⟨rfl, rfl, rfl⟩ (κ := 2 + κ) (g := g + 1) (by omega) (by omega)
  have t4 := n4.2.2.1
  have b1 := p1.1
  have n5 := n4.set (by decide) (f := 357) (v := s) (by decide) rfl (show (0 : Int) ≤ s ∧ s ≤ _ by omega)
  have t5 := n5.2.2.1
  have n6 := n5.set (by decide) (f := 358) (v := v) (by decide) rfl (show i32 v from hv)
  have t6 := n6.2.2.1
  have n7 := n6.set (by decide) (f := 359) (v := x) (by decide) rfl (show (0 : Int) ≤ x ∧ x ≤ _ by omega)
  have z4 : h4 357 r.toNat 0 = 0 := n4.g (f := 357) (by decide)
  have z5 : fi_upd h4 357 r.toNat 0 s 358 r.toNat 0 = 0 := n5.g (f := 358) (by decide)
  have z6 : fi_upd (fi_upd h4 357 r.toNat 0 s) 358 r.toNat 0 v 359 r.toNat 0 = 0 := n6.g (f := 359) (by decide)
  rw [e4, cv_ret, if_pos hr.1, if_pos z4, lt_eq, if_pos hr.1, if_pos z5, lt_eq, if_pos hr.1, if_pos z6, lt_eq]
  exact ⟨_, _, rfl, n7, rfl, rfl, rfl, rfl, rfl⟩
end SETC
end

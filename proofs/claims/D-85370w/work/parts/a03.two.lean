section
/-! reading expressions: two parts under a sign -/
set_option maxRecDepth 100000
section TWO
variable {u : Nat → Int} {n M i m p : Nat} {a b h h1 : fi_H} {dA dB d : Nat} {r : Int}
/-- as many levels as its height are enough -/
theorem PR.hi : ∀ (k lo : Nat) (x : Int) (r : Nat), PR k a b m lo x r → PR (b 10 622 r).toNat a b m lo x r := by
  intro k
  induction k with
  | zero => intro lo x r q; exact q.elim
  | succ k ih =>
    intro lo x r q
    have hh := q.pc.2.2.1
    obtain ⟨g, hg⟩ : ∃ g, (b 10 622 r).toNat = g + 1 := ⟨(b 10 622 r).toNat - 1, by omega⟩
    have sub : ∀ {lo' : Nat} {x' : Int} {s : Nat}, PR k a b m lo' x' s → b 10 622 s + 1 ≤ b 10 622 r → PR g a b m lo' x' s := fun z hz => (ih _ _ _ z).le (by omega)
    rw [hg]
    obtain ⟨q1, q2, q⟩ := q
    refine ⟨q1, q2, ?_⟩
    rcases q with q | ⟨o, q, r1, r2, r3, r4, r5, r6, r7, r8, r9, r10, r11, r12, r13⟩ | ⟨o, s1, s2, r1, r2, r3, r4, r5, r6, r7, r8, r9, r10, r11, r12, r13⟩ | ⟨o, s1, r1, r2, r3, r4, r7, r8, r9, r10, r11⟩ | ⟨o, q, r1, r2, r3, r4, r5, r6, r7, r8, r9, r10, r11, r12, r13⟩ | ⟨w, q, k, r1, r2, r3, r5, r6, r7, r8, r9, r10, r11, r12, r13, r14, r15, r16, r17, r18, r19⟩ | ⟨s1, s2, s3, r1, r2, r3, r4, r5, r6, r7, r8, r9, r10, r11, r12, r13, r14, r15⟩
    · exact Or.inl q
    · exact Or.inr (Or.inl ⟨o, q, r1, r2, sub r3 (by omega), r4, r5, r6, r7, r8, r9, r10, r11, r12, r13⟩)
    · exact Or.inr (Or.inr (Or.inl ⟨o, s1, s2, r1, r2, r3, sub r4 (by omega), sub r5 (by omega), r6, r7, r8, r9, r10, r11, r12, r13⟩))
    · refine Or.inr (Or.inr (Or.inr (Or.inl ⟨o, s1, r1, r2, r3, r4, ?_, r8, r9, r10, ?_⟩)))
      · rcases r11 with ⟨z1, z2, z3, z4, z5, z6⟩ | ⟨z0, q2', z1, z2, z3, z4, z5, z6⟩ | ⟨z0, q2', q3', z1, z2, z3, z4, z5, z6, z7⟩ <;> exact sub r7 (by omega)
      · rcases r11 with z | ⟨z0, q2', z1, z2, z3, z4, z5, z6⟩ | ⟨z0, q2', q3', z1, z2, z3, z4, z5, z6, z7⟩
        · exact Or.inl z
        · exact Or.inr (Or.inl ⟨z0, q2', sub z1 (by omega), z2, z3, z4, z5, z6⟩)
        · exact Or.inr (Or.inr ⟨z0, q2', q3', sub z1 (by omega), sub z2 (by omega), z3, z4, z5, z6, z7⟩)
    · exact Or.inr (Or.inr (Or.inr (Or.inr (Or.inl ⟨o, q, r1, r2, r3, sub r4 (by omega), r5, r6, r7, r8, r9, r10, r11, r12, r13⟩))))
    · exact Or.inr (Or.inr (Or.inr (Or.inr (Or.inr (Or.inl ⟨w, q, k, r1, r2, r3, r5, r6, r7, r8, r9, sub r10 (by omega), r11, r12, r13, r14, r15, r16, r17, r18, r19⟩)))))
    · exact Or.inr (Or.inr (Or.inr (Or.inr (Or.inr (Or.inr ⟨s1, s2, s3, r1, sub r2 (by omega), sub r3 (by omega), sub r4 (by omega), r5, r6, r7, r8, r9, r10, r11, r12, r13, r14, r15⟩)))))
/-- what the class's code asks of a part -/
def Prt (h : fi_H) (x κ g : Int) : Prop := (714 < x ∧ x ≤ h 2 0 0) ∧ fi_in (h 0 x.toNat 0) 340 = true ∧ fi_in (h 0 x.toNat 0) 341 = true ∧ h 340 x.toNat 0 = 2 + κ ∧ h 341 x.toNat 0 = g ∧ (0 ≤ κ ∧ κ ≤ 7) ∧ (1 ≤ g ∧ g ≤ 16) ∧ (fi_sup (h 0 x.toNat 0)).contains 166 = true
theorem PR.prt {k lo : Nat} {x : Int} {s : Nat} (q : PR k a b m lo x s) : Prt a x (b 10 618 s) (b 10 622 s) := by
  obtain ⟨q1, q2, q3, q4⟩ := q.pc
  refine ⟨q1, ?_, ?_, q2.2.2, q3.1, ⟨q2.1, q2.2.1⟩, ⟨q3.2.1, q3.2.2⟩, ?_⟩ <;> rcases q4 with z | z | z | z | z | z | z | z | z | z | z <;> rw [z] <;> rfl
theorem Prt.o {x κ g : Int} (q : Prt h x κ g) (ht : h 2 0 0 ≤ h1 2 0 0) (e : ∀ f : Nat, f = 0 ∨ f = 340 ∨ f = 341 → h1 f x.toNat 0 = h f x.toNat 0) : Prt h1 x κ g := by
  obtain ⟨q1, q2, q3, q4, q5, q6⟩ := q
  unfold Prt
  rw [e 0 (by omega), e 340 (by omega), e 341 (by omega)]
  exact ⟨⟨q1.1, by omega⟩, q2, q3, q4, q5, q6⟩
theorem Prt.nw {x κ g c w : Int} {L : Nat → Int} (q : Prt h x κ g) (N : NW h r c w L h1) : Prt h1 x κ g :=
  q.o (by have := N.2.1; have := N.2.2.1; omega) (fun f _ => N.o f 0 (by have := q.1; omega))
theorem max6 (H : Shp h) {x y : Int} : fj_run (d + 1) 6 h [(0, x), (0, y)] = some (.inl (some (0, max x y)), h) := by
  rw [m_6 d x y H]
  by_cases q : x < y
  · rw [if_pos q, Int.max_eq_right (by omega)]
  · rw [if_neg q, Int.max_eq_left (by omega)]
theorem kA_Two (q : NW h r 125 8 (fun _ => 0) h1) {o x1 x2 k1 k2 g1 g2 : Int} (ho : 1 ≤ o ∧ o ≤ 17 ∧ o ≠ 3 ∧ o ≠ 15) (p1 : Prt h x1 k1 g1) (p2 : Prt h x2 k2 g2) (hk : kTwo o k1 k2 ≠ -1) (hk2 : 0 ≤ kTwo o k1 k2 ∧ kTwo o k1 k2 ≤ 7) :
    ∃ h2, fj_run (d + 5) 294 h1 [(4, r), (4, 303), (4, 15 + sgn o), (4, x1), (4, x2)] = some (.inl none, h2) ∧ NW h r 125 8 (up (up (up (up (up (up (up (fun _ => 0) 369 303) 343 303) 340 (2 + kTwo o k1 k2)) 341 (max g1 g2 + 1)) 366 (15 + sgn o)) 367 x1) 368 x2) h2 := by
  have hr := q.rg
  have hs : 0 ≤ sgn o ∧ sgn o ≤ 14 := by unfold sgn; (repeat' split) <;> omega
  have t1 := q.2.2.1
  have ht := q.2.1
  have n1 := q.set (by decide) (f := 369) (v := 303) (by decide) rfl (show (0 : Int) ≤ 303 ∧ (303 : Int) ≤ h1 2 0 0 by omega)
  have z0 : h1 369 r.toNat 0 = 0 := q.g (f := 369) (by decide)
  rw [m_294 (d + 4) r 303 _ x1 x2 q.hp.1 q.cl, if_pos hr.1, if_pos z0, lt_eq]
  generalize fi_upd h1 369 r.toNat 0 303 = h3 at *
  have P1 := p1.nw n1
  have P2 := p2.nw n1
  obtain ⟨c1, c2⟩ := sg_cl n1.hp.1 hs
  rw [if_pos P1.2.1, if_pos P2.2.1, c1, show fi_vt 233 167 = some 291 from rfl, dv_s, P1.2.2.2.1, P2.2.2.2.1, kA_gives (d := d + 1) n1.hp.1 ho P1.2.2.2.2.2.1 P2.2.2.2.2.2.1, ca_ret, if_neg hk, if_pos P1.2.2.1, if_pos P2.2.2.1, P1.2.2.2.2.1, P2.2.2.2.2.1, max6 n1.hp.1, ca_ret, wI_id (by have := P1.2.2.2.2.2.2; have := P2.2.2.2.2.2.2; omega) (by have := P1.2.2.2.2.2.2; have := P2.2.2.2.2.2.2; omega)]
  obtain ⟨h4, e4, n4⟩ := kA_Part n1 (d := d + 2) (by decide) ⟨rfl, rfl, rfl⟩ ⟨rfl, rfl, rfl⟩ (κ := 2 + kTwo o k1 k2) (g := max g1 g2 + 1) (by omega) (by have := P1.2.2.2.2.2.2; have := P2.2.2.2.2.2.2; omega)
  have t4 := n4.2.2.1
  have b1 := p1.1
  have b2 := p2.1
  have n5 := n4.set (by decide) (f := 366) (v := 15 + sgn o) (by decide) rfl (show (0 : Int) ≤ 15 + sgn o ∧ 15 + sgn o ≤ _ by omega)
  have t5 := n5.2.2.1
  have n6 := n5.set (by decide) (f := 367) (v := x1) (by decide) rfl (show (0 : Int) ≤ x1 ∧ x1 ≤ _ by omega)
  have t6 := n6.2.2.1
  have n7 := n6.set (by decide) (f := 368) (v := x2) (by decide) rfl (show (0 : Int) ≤ x2 ∧ x2 ≤ _ by omega)
  have z4 : h4 366 r.toNat 0 = 0 := n4.g (f := 366) (by decide)
  have z5 : fi_upd h4 366 r.toNat 0 (15 + sgn o) 367 r.toNat 0 = 0 := n5.g (f := 367) (by decide)
  have z6 : fi_upd (fi_upd h4 366 r.toNat 0 (15 + sgn o)) 367 r.toNat 0 x1 368 r.toNat 0 = 0 := n6.g (f := 368) (by decide)
  refine ⟨_, ?_, n7⟩
  rw [e4, cv_ret, if_pos hr.1, if_pos z4, lt_eq, if_pos hr.1, if_pos z5, lt_eq, if_pos hr.1, if_pos z6, lt_eq]
end TWO
end

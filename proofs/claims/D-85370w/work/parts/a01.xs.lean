section
/-! reading expressions: what holds at a token, what is written -/
set_option maxRecDepth 100000
abbrev wXA (f x i : Nat) : Prop := wVA f x i ∨ (f = 162 ∧ x = 377)
abbrev wXB (p0 : Nat) (f x i : Nat) : Prop := wVB f x i ∨ (f = 426 ∧ x = 602) ∨ (617 ≤ x ∧ x ≤ 624 ∧ p0 ≤ i)
def XE (p0 : Nat) (a b a' b' : fi_H) : Prop := Fr wXA a a' ∧ Fr (wXB p0) b b'
def WrX (p0 : Nat) (a b a' b' : fi_H) : Prop := Wr a' b' ∧ XE p0 a b a' b'
/-- at token i, m names, p parts -/
def XS (u : Nat → Int) (n M i m p : Nat) (a b : fi_H) : Prop := PS u n M i a b ∧ NmR a b m ∧ a 215 303 0 + a 160 377 0 = (m : Int) ∧ b 413 602 0 = (m : Int) ∧ (a 231 303 0 + a 162 377 0 = (p : Int) ∧ b 426 602 0 = (p : Int) ∧ p ≤ 8000 ∧ 0 ≤ a 231 303 0)
section XSS
variable {u : Nat → Int} {n M i j m p p0 p1 : Nat} {a b a' b' a0 b0 : fi_H}
theorem XS.ps (q : XS u n M i m p a b) : PS u n M i a b := q.1
theorem XE.rf : XE p0 a b a b := ⟨Fr.rf _ _, Fr.rf _ _⟩
theorem XE.tr {a1 b1 a2 b2 : fi_H} (q : XE p0 a b a1 b1) (r : XE p0 a1 b1 a2 b2) : XE p0 a b a2 b2 := ⟨q.1.tr r.1, q.2.tr r.2⟩
theorem XE.mono (q : XE p1 a b a' b') (h : p0 ≤ p1) : XE p0 a b a' b' := ⟨q.1, q.2.mono (fun f x i z => z.elim Or.inl (fun z => Or.inr (z.elim Or.inl (fun z => Or.inr ⟨z.1, z.2.1, by omega⟩))))⟩
theorem VE.x (q : VE a b a' b') : XE p0 a b a' b' := ⟨q.1.mono (fun _ _ _ z => Or.inl z), q.2.mono (fun _ _ _ z => Or.inl z)⟩
theorem WrX.ofE (V : XE p0 a0 b0 a b) (q : WrE a b a' b') : WrX p0 a0 b0 a' b' := ⟨q.1, V.tr q.2.v.x⟩
theorem WrX.ofV (V : XE p0 a0 b0 a b) (q : WrV a b a' b') : WrX p0 a0 b0 a' b' := ⟨q.1, V.tr q.2.x⟩
theorem WrX.tr (V : XE p0 a0 b0 a b) (q : WrX p1 a b a' b') (h : p0 ≤ p1) : WrX p0 a0 b0 a' b' := ⟨q.1, V.tr (q.2.mono h)⟩
theorem x_wr {TA TB : Nat} {P : Int → fi_H → Int → fi_H → Prop} (HA : Hp a) (HB : Hp b) (V : XE p0 a0 b0 a b) {k p : Int} (hk : 0 ≤ k ∧ k < 100) (hp : 0 ≤ p ∧ p ≤ 4000) : Bo 304 TA TB (some (.inr 304, wra a k p)) (some (.inr 603, wrb b k p)) P (WrX p0 a0 b0) :=
  (v_wr HA HB (VE.rf _ _) hk hp).imp (fun _ _ _ _ _ _ w => w) (fun _ _ _ _ w => WrX.ofV V w)
/-- what values and tokens leave alone, at a later token -/
theorem XS.v (q : XS u n M i m p a b) (P' : PS u n M j a' b') (V : VE a b a' b') : XS u n M j m p a' b' := by
  obtain ⟨q1, q2, q3, q4, q5, q6, q7⟩ := q
  have ta := q1.ha.1.2.2.1
  have tb := q1.hb.1.2.2.1
  have e : ∀ f x : Nat, 0 < x → x ≤ 714 → ¬ wVA f x 0 → a' f x 0 = a f x 0 := fun f x h1 h2 h3 => V.1.2 f x 0 h1 (by omega) h3
  have eb : ∀ f x : Nat, 0 < x → x ≤ 714 → ¬ wVB f x 0 → b' f x 0 = b f x 0 := fun f x h1 h2 h3 => V.2.2 f x 0 h1 (by omega) h3
  refine ⟨P', V.names q1.ha q1.hb q2, ?_, ?_, ?_, ?_, q7.1, by rw [e 231 303 (by decide) (by decide) (by simp only [wVA, wTA, wvA]; omega)]; exact q7.2⟩
  · rw [e 215 303 (by decide) (by decide) (by simp only [wVA, wTA, wvA]; omega), e 160 377 (by decide) (by decide) (by simp only [wVA, wTA, wvA]; omega)]; exact q3
  · rw [eb 413 602 (by decide) (by decide) (by simp only [wVB, wTB, wvB]; omega)]; exact q4
  · rw [e 231 303 (by decide) (by decide) (by simp only [wVA, wTA, wvA]; omega), e 162 377 (by decide) (by decide) (by simp only [wVA, wTA, wvA]; omega)]; exact q5
  · rw [eb 426 602 (by decide) (by decide) (by simp only [wVB, wTB, wvB]; omega)]; exact q6
/-- strings stay as expressions are read -/
theorem XE.str (V : XE p0 a b a' b') (H : Hp a) {s : Int} {k : Nat} {c : Nat → Int} (q : StrN a s k c) : StrN a' s k c :=
  q.f V.1 (V.1.2 145 384 0 (by decide) (by have := H.1.2.2.1; omega) (by simp only [wXA, wVA, wTA, wvA]; omega)) (fun f x i h1 _ f1 f2 => by simp only [wXA, wVA, wTA, wvA]; omega)
theorem XE.sa (V : XE p0 a b a' b') (H : Hp a) : SA a a' := ⟨V.1.1, fun s l c q => V.str H q, fun f x i h1 h2 hf => V.1.2 f x i (by omega) h2 (by simp only [wXA, wVA, wTA, wvA]; omega)⟩
theorem XE.sb (V : XE p0 a b a' b') (H : Hp b) (m : Nat) : SB p0 m b b' := by
  have tb := H.1.2.2.1
  exact ⟨fun f x i h1 h2 hi => V.2.2 f x i (by omega) (by omega) (by simp only [wXB, wVB, wTB, wvB]; omega), fun k _ => ⟨V.2.2 10 610 k (by decide) (by omega) (by simp only [wXB, wVB, wTB, wvB]; omega), V.2.2 10 611 k (by decide) (by omega) (by simp only [wXB, wVB, wTB, wvB]; omega)⟩⟩
/-- parts read before stay -/
theorem XE.pr (V : XE p0 a b a' b') (HA : Hp a) (HB : Hp b) {k lo : Nat} {x : Int} {r : Nat} (q : PR k a b m lo x r) (h : r < p0) : PR k a' b' m lo x r := PR.f (V.sa HA) (V.sb HB m) k lo x r q h
theorem XE.row (V : XE p0 a b a' b') (HB : Hp b) {f x r : Nat} (h : r < p0) (hx : 617 ≤ x ∧ x ≤ 624) : b' f x r = b f x r := (V.sb HB 0).1 f x r hx.1 hx.2 h
theorem PR.mono1 : ∀ (k lo : Nat) (x : Int) (r : Nat), PR k a b m lo x r → PR (k + 1) a b m lo x r := by
  intro k
  induction k with
  | zero => intro lo x r q; exact q.elim
  | succ k ih =>
    intro lo x r q
    obtain ⟨q1, q2, q⟩ := q
    refine ⟨q1, q2, ?_⟩
    rcases q with q | ⟨o, q, r1, r2, r3, r4⟩ | ⟨o, s1, s2, r1, r2, r3, r4, r5, r6⟩ | ⟨o, s1, r1, r2, r3, r4, r7, r8, r9, r10, r11⟩ | ⟨o, q, r1, r2, r3, r4, r5⟩ | ⟨w, q, k, r1, r2, r3, r5, r6, r7, r8, r9, r10, r11⟩ | ⟨s1, s2, s3, r1, r2, r3, r4, r5⟩
    · exact Or.inl q
    · exact Or.inr (Or.inl ⟨o, q, r1, r2, ih _ _ _ r3, r4⟩)
    · exact Or.inr (Or.inr (Or.inl ⟨o, s1, s2, r1, r2, r3, ih _ _ _ r4, ih _ _ _ r5, r6⟩))
    · refine Or.inr (Or.inr (Or.inr (Or.inl ⟨o, s1, r1, r2, r3, r4, ih _ _ _ r7, r8, r9, r10, ?_⟩)))
      rcases r11 with z | ⟨z0, q2', z1, z2⟩ | ⟨z0, q2', q3', z1, z2, z3⟩
      · exact Or.inl z
      · exact Or.inr (Or.inl ⟨z0, q2', ih _ _ _ z1, z2⟩)
      · exact Or.inr (Or.inr ⟨z0, q2', q3', ih _ _ _ z1, ih _ _ _ z2, z3⟩)
    · exact Or.inr (Or.inr (Or.inr (Or.inr (Or.inl ⟨o, q, r1, r2, r3, ih _ _ _ r4, r5⟩))))
    · exact Or.inr (Or.inr (Or.inr (Or.inr (Or.inr (Or.inl ⟨w, q, k, r1, r2, r3, r5, r6, r7, r8, r9, ih _ _ _ r10, r11⟩)))))
    · exact Or.inr (Or.inr (Or.inr (Or.inr (Or.inr (Or.inr ⟨s1, s2, s3, r1, ih _ _ _ r2, ih _ _ _ r3, ih _ _ _ r4, r5⟩)))))
theorem PR.le {k k' : Nat} (h : k ≤ k') {lo : Nat} {x : Int} {r : Nat} (q : PR k a b m lo x r) : PR k' a b m lo x r := by
  induction h with
  | refl => exact q
  | step _ ih => exact ih.mono1
/-- what all parts tell, out of one -/
theorem PR.pc {k lo : Nat} {x : Int} {r : Nat} (q : PR k a b m lo x r) : (714 < x ∧ x ≤ a 2 0 0) ∧ (0 ≤ b 10 618 r ∧ b 10 618 r ≤ 7 ∧ a 340 x.toNat 0 = 2 + b 10 618 r) ∧ (a 341 x.toNat 0 = b 10 622 r ∧ 1 ≤ b 10 622 r ∧ b 10 622 r ≤ 16) ∧ (a 0 x.toNat 0 = 103 ∨ a 0 x.toNat 0 = 114 ∨ a 0 x.toNat 0 = 123 ∨ a 0 x.toNat 0 = 106 ∨ a 0 x.toNat 0 = 109 ∨ a 0 x.toNat 0 = 112 ∨ a 0 x.toNat 0 = 125 ∨ a 0 x.toNat 0 = 102 ∨ a 0 x.toNat 0 = 118 ∨ a 0 x.toNat 0 = 122 ∨ a 0 x.toNat 0 = 111) := by
  cases k with
  | zero => exact q.elim
  | succ k =>
    have go : ∀ {c o : Int}, PC a b x r c o → (c = 103 ∨ c = 114 ∨ c = 123 ∨ c = 106 ∨ c = 109 ∨ c = 112 ∨ c = 125 ∨ c = 102 ∨ c = 118 ∨ c = 122 ∨ c = 111) → (714 < x ∧ x ≤ a 2 0 0) ∧ (0 ≤ b 10 618 r ∧ b 10 618 r ≤ 7 ∧ a 340 x.toNat 0 = 2 + b 10 618 r) ∧ (a 341 x.toNat 0 = b 10 622 r ∧ 1 ≤ b 10 622 r ∧ b 10 622 r ≤ 16) ∧ (a 0 x.toNat 0 = 103 ∨ a 0 x.toNat 0 = 114 ∨ a 0 x.toNat 0 = 123 ∨ a 0 x.toNat 0 = 106 ∨ a 0 x.toNat 0 = 109 ∨ a 0 x.toNat 0 = 112 ∨ a 0 x.toNat 0 = 125 ∨ a 0 x.toNat 0 = 102 ∨ a 0 x.toNat 0 = 118 ∨ a 0 x.toNat 0 = 122 ∨ a 0 x.toNat 0 = 111) := fun z hc => ⟨z.1, z.2.2.2.1, z.2.2.2.2, by rw [z.2.1]; exact hc⟩
    obtain ⟨q1, q2, q⟩ := q
    rcases q with ⟨q, -⟩ | ⟨o, q, r1, r2, r3, r4⟩ | ⟨o, s1, s2, r1, r2, r3, r4, r5, r6⟩ | ⟨o, s1, r1, r2, r3, r4, r7, r8, r9, r10, r11⟩ | ⟨o, q, r1, r2, r3, r4, r5⟩ | ⟨w, q, k, r1, r2, r3, r5, r6, r7, r8, r9, r10, r11⟩ | ⟨s1, s2, s3, r1, r2, r3, r4, r5⟩
    · rcases q with ⟨q1, -⟩ | ⟨⟨w, w1, w2, q1, -⟩, -⟩ | ⟨k, k1, k2, k3, k4, k5, ⟨q1, -⟩ | ⟨q1, -⟩⟩ | ⟨k, k1, k2, k3, k4, k5, q1, -⟩
      · exact go q1 (by omega)
      · exact go q1 (by omega)
      · exact go q1 (by omega)
      · exact go q1 (by omega)
      · exact go q1 (by omega)
    · exact go r1 (by omega)
    · exact go r1 (by omega)
    · exact go r1 (by omega)
    · exact go r1 (by omega)
    · exact go r1 (by omega)
    · exact go r1 (by omega)
end XSS
end

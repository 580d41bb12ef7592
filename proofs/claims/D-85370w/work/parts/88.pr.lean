section
/-! parts: the class's trees of objects, the model's rows -/
set_option maxRecDepth 100000
abbrev isMx (k l : Int) : Prop := (k = 1 ∨ k = 3) ∧ (l = 1 ∨ l = 3)
abbrev isSz (k : Int) : Prop := k = 1 ∨ k = 2 ∨ k = 3 ∨ k = 6 ∨ k = 4
abbrev isSm (k : Int) : Prop := k = 1 ∨ k = 2 ∨ k = 3 ∨ k = 6
/-- the kind of what a sign gives; -1 if it can't be -/
def kTwo (o k l : Int) : Int :=
  if o = 1 ∨ o = 2 then (if k = 0 ∧ l = 0 then 0 else -1)
  else if o = 4 ∨ o = 5 then (if k = l ∨ isMx k l then 0 else -1)
  else if 6 ≤ o ∧ o ≤ 9 then (if (isSz k ∧ k = l) ∨ isMx k l then 0 else -1)
  else if o = 10 ∨ o = 11 then (if k = 4 then (if l = 5 then 4 else if l = 4 ∧ o = 11 then 5 else -1) else if isMx k l then (if k = 1 ∧ l = 1 then 1 else 3) else if k = l ∧ (k = 2 ∨ k = 6 ∨ k = 5) then k else -1)
  else if o = 12 then (if isMx k l then (if k = 1 ∧ l = 1 then 1 else 3) else if k = 6 ∧ l = 6 then 6 else if (k = 2 ∧ (l = 1 ∨ l = 3)) ∨ (l = 2 ∧ (k = 1 ∨ k = 3)) then 2 else if (k = 5 ∧ l = 1) ∨ (k = 1 ∧ l = 5) then 5 else -1)
  else if o = 13 then (if isMx k l then 3 else if k = 2 then (if l = 1 ∨ l = 3 then 2 else if l = 2 then 3 else -1) else if k = 6 ∧ l = 6 then 6 else -1)
  else if o = 14 then (if k = l ∧ (k = 1 ∨ k = 2 ∨ k = 6) then k else -1)
  else if o = 16 then (if l = 7 then k else -1)
  else if o = 17 then (if l = 4 then k else -1) else -1
/-- the kind of what a function gives -/
def kFun (f k l m : Int) : Int :=
  if f = 30 then (if k = 0 ∧ l = m then l else -1)
  else if f = 31 ∨ f = 32 ∨ f = 33 then (if k = 4 ∧ l = 4 then 1 else -1)
  else if f = 34 ∨ f = 35 then (if isSz k ∧ k = l then k else -1)
  else if 48 ≤ f ∧ f ≤ 51 then (if k = 2 ∧ l = 2 then 2 else -1)
  else if f = 52 then (if k = 1 ∧ l = 1 ∧ m = 1 then 4 else -1)
  else if f = 36 ∨ f = 37 ∨ f = 43 then (if k = 4 then 4 else -1)
  else if f = 38 ∨ f = 39 ∨ f = 40 ∨ f = 41 then (if k = 4 then 1 else -1)
  else if f = 42 then (if k = 4 then 0 else -1)
  else if f = 44 then (if isSm k then k else -1)
  else if f = 53 then (if k = 1 ∨ k = 2 ∨ k = 3 then 6 else -1)
  else if f = 45 then (if k = 6 then 6 else -1)
  else if f = 46 then (if k = 6 then 2 else -1)
  else (if k = 3 ∨ k = 6 then 1 else -1)
def kSet (o k : Int) : Int := if o = 60 then (if isSm k then k else -1) else if o = 61 then (if k = 0 then 1 else -1) else if o ≤ 63 then (if k = 0 then 0 else -1) else (if isSz k then k else -1)
/-- how many parts a function has -/
def wan (o : Int) : Int := if o = 30 ∨ o = 52 then 3 else if (31 ≤ o ∧ o ≤ 35) ∨ (48 ≤ o ∧ o ≤ 51) then 2 else 1
/-- the class's number of a function, of a sign -/
def fO (o : Int) : Int := if o ≤ 35 then o - 30 else if o ≤ 44 then o - 25 else if o ≤ 47 then o - 24 else if o ≤ 51 then o - 42 else if o = 52 then 10 else 20
def sgn (o : Int) : Int := if o ≤ 2 then o - 1 else if o ≤ 14 then o - 2 else o - 3
/-- what all parts tell -/
def PC (a b : fi_H) (x : Int) (p : Nat) (c o : Int) : Prop := (714 < x ∧ x ≤ a 2 0 0) ∧ a 0 x.toNat 0 = c ∧ b 10 617 p = o ∧ (0 ≤ b 10 618 p ∧ b 10 618 p ≤ 7 ∧ a 340 x.toNat 0 = 2 + b 10 618 p) ∧ (a 341 x.toNat 0 = b 10 622 p ∧ 1 ≤ b 10 622 p ∧ b 10 622 p ≤ 16)
/-- leaves -/
def PLf (a b : fi_H) (m : Nat) (x : Int) (p : Nat) : Prop :=
  (PC a b x p 103 18 ∧ a 337 x.toNat 0 = b 11 623 p ∧ a 338 x.toNat 0 = b 11 624 p ∧ b 10 618 p ≤ 5 ∧ Vok (b 10 618 p) (b 11 623 p) (b 11 624 p) ∧ 0 ≤ b 11 623 p ∧ b 11 623 p ≤ 99999999999 ∧ 0 ≤ b 11 624 p ∧ (b 10 618 p = 3 → ∃ v : Int, b 10 619 p = -2 - v ∧ 0 ≤ v ∧ v ≤ 10000 ∧ 100 * b 11 623 p = v * b 11 624 p)) ∨
  ((∃ w : Nat, 31 ≤ w ∧ w ≤ 33 ∧ PC a b x p 114 ((w : Int) - 12) ∧ b 10 618 p = (if w = 31 then 4 else 7) ∧ ∃ l c, StrN a (a 344 x.toNat 0) l c ∧ eqL l c (WL.getD w []) = true) ∧ b 11 623 p = 0 ∧ b 11 624 p = 0) ∨
  (∃ k : Nat, k < m ∧ b 11 623 p = (k : Int) ∧ b 11 624 p = 0 ∧ a 347 x.toNat 0 = (k : Int) ∧ b 10 618 p = b 10 611 k ∧ ((PC a b x p 123 22 ∧ b 10 610 k = 1) ∨ (PC a b x p 106 22 ∧ (b 10 610 k = 0 ∨ b 10 610 k = 3)))) ∨
  (∃ k : Nat, k < m ∧ b 11 623 p = (k : Int) ∧ b 11 624 p = 0 ∧ a 347 x.toNat 0 = (k : Int) ∧ b 10 618 p = 0 ∧ PC a b x p 109 23 ∧ (b 10 610 k = 0 ∨ b 10 610 k = 3))
/-- a part and all below it, within n levels, its rows from lo on -/
def PR : Nat → fi_H → fi_H → Nat → Nat → Int → Nat → Prop
  | 0, _, _, _, _, _, _ => False
  | n + 1, a, b, m, lo, x, p => lo ≤ p ∧ p < 8000 ∧ (
    (PLf a b m x p ∧ b 10 622 p = 1 ∧ b 10 620 p = -1 ∧ b 10 621 p = -1 ∧ (b 10 617 p ≠ 18 ∨ b 10 618 p ≠ 3 → b 10 619 p = -1)) ∨
    (∃ (o : Int) (q : Nat), PC a b x p 112 o ∧ (o = 3 ∨ o = 15) ∧ PR n a b m lo (a 370 x.toNat 0) q ∧ q < p ∧ b 10 619 p = (q : Int) ∧ b 10 620 p = -1 ∧ b 10 621 p = -1 ∧ b 11 623 p = 0 ∧ b 11 624 p = 0 ∧ b 10 618 p = b 10 618 q ∧ (o = 3 → b 10 618 p = 0) ∧ (o = 15 → isSm (b 10 618 p) ∨ b 10 618 p = 5) ∧ b 10 622 p = b 10 622 q + 1) ∨
    (∃ (o : Int) (q1 q2 : Nat), PC a b x p 125 o ∧ (1 ≤ o ∧ o ≤ 17 ∧ o ≠ 3 ∧ o ≠ 15) ∧ a 366 x.toNat 0 = 15 + sgn o ∧ PR n a b m lo (a 367 x.toNat 0) q1 ∧ PR n a b m (q1 + 1) (a 368 x.toNat 0) q2 ∧ q2 < p ∧ b 10 619 p = (q1 : Int) ∧ b 10 620 p = (q2 : Int) ∧ b 10 621 p = -1 ∧ b 11 623 p = 0 ∧ b 11 624 p = 0 ∧ b 10 618 p = kTwo o (b 10 618 q1) (b 10 618 q2) ∧ b 10 622 p = max (b 10 622 q1) (b 10 622 q2) + 1) ∨
    (∃ (o : Int) (q1 : Nat), PC a b x p 102 o ∧ (30 ≤ o ∧ o ≤ 53) ∧ a 361 x.toNat 0 = 30 + fO o ∧ ((714 < a 362 x.toNat 0 ∧ a 362 x.toNat 0 ≤ a 2 0 0) ∧ a 0 (a 362 x.toNat 0).toNat 0 = 27 ∧ a 1 (a 362 x.toNat 0).toNat 0 = wan o) ∧ PR n a b m lo (a 12 (a 362 x.toNat 0).toNat 0) q1 ∧ b 10 619 p = (q1 : Int) ∧ b 11 623 p = 0 ∧ b 11 624 p = 0 ∧
      ((wan o = 1 ∧ q1 < p ∧ b 10 620 p = -1 ∧ b 10 621 p = -1 ∧ b 10 618 p = kFun o (b 10 618 q1) (-1) (-1) ∧ b 10 622 p = b 10 622 q1 + 1) ∨
       (wan o = 2 ∧ ∃ q2 : Nat, PR n a b m (q1 + 1) (a 12 (a 362 x.toNat 0).toNat 1) q2 ∧ q2 < p ∧ b 10 620 p = (q2 : Int) ∧ b 10 621 p = -1 ∧ b 10 618 p = kFun o (b 10 618 q1) (b 10 618 q2) (-1) ∧ b 10 622 p = max (b 10 622 q1) (b 10 622 q2) + 1) ∨
       (wan o = 3 ∧ ∃ q2 q3 : Nat, PR n a b m (q1 + 1) (a 12 (a 362 x.toNat 0).toNat 1) q2 ∧ PR n a b m (q2 + 1) (a 12 (a 362 x.toNat 0).toNat 2) q3 ∧ q3 < p ∧ b 10 620 p = (q2 : Int) ∧ b 10 621 p = (q3 : Int) ∧ b 10 618 p = kFun o (b 10 618 q1) (b 10 618 q2) (b 10 618 q3) ∧ b 10 622 p = max (max (b 10 622 q1) (b 10 622 q2)) (b 10 622 q3) + 1))) ∨
    (∃ (o : Int) (q : Nat), PC a b x p 118 o ∧ (60 ≤ o ∧ o ≤ 65) ∧ a 353 x.toNat 0 = o - 6 ∧ PR n a b m lo (a 354 x.toNat 0) q ∧ q < p ∧ b 10 619 p = (q : Int) ∧ b 10 620 p = -1 ∧ b 10 621 p = -1 ∧ a 355 x.toNat 0 = b 11 623 p ∧ (b 11 623 p = -1 ∨ ∃ k : Nat, k < m ∧ b 11 623 p = (k : Int) ∧ (b 10 610 k = 0 ∨ b 10 610 k = 3) ∧ b 10 611 k = 7) ∧ b 11 624 p = 0 ∧ b 10 618 p = kSet o (b 10 618 q) ∧ b 10 622 p = b 10 622 q + 1) ∨
    (∃ (w q k : Nat), PC a b x p 122 ((w : Int) - 52) ∧ (77 ≤ w ∧ w ≤ 79) ∧ (∃ l c, StrN a (a 357 x.toNat 0) l c ∧ eqL l c (WL.getD w []) = true) ∧ k < m ∧ b 11 623 p = (k : Int) ∧ b 11 624 p = 0 ∧ a 358 x.toNat 0 = (k : Int) ∧ b 10 610 k = 2 ∧ PR n a b m lo (a 359 x.toNat 0) q ∧ q < p ∧ b 10 619 p = (q : Int) ∧ b 10 620 p = -1 ∧ b 10 621 p = -1 ∧ b 10 618 q = 2 ∧ b 10 618 p = (if w = 77 then b 10 611 k else 2) ∧ (w = 78 → b 10 611 k = 3) ∧ (w = 79 → b 10 611 k = 2) ∧ b 10 622 p = b 10 622 q + 1) ∨
    (∃ q1 q2 q3 : Nat, PC a b x p 111 24 ∧ PR n a b m lo (a 349 x.toNat 0) q1 ∧ PR n a b m (q1 + 1) (a 350 x.toNat 0) q2 ∧ PR n a b m (q2 + 1) (a 351 x.toNat 0) q3 ∧ q3 < p ∧ b 10 619 p = (q1 : Int) ∧ b 10 620 p = (q2 : Int) ∧ b 10 621 p = (q3 : Int) ∧ b 11 623 p = 0 ∧ b 11 624 p = 0 ∧ b 10 618 p = b 10 618 q1 ∧ isSm (b 10 618 q1) ∧ b 10 618 q2 = 4 ∧ b 10 618 q3 = 4 ∧ b 10 622 p = max (b 10 622 q1) (max (b 10 622 q2) (b 10 622 q3)) + 1))
/-- what parts rest on stays -/
def SA (a a' : fi_H) : Prop := a 2 0 0 ≤ a' 2 0 0 ∧ (∀ s l c, StrN a s l c → StrN a' s l c) ∧ ∀ f x i : Nat, 714 < x → (x : Int) ≤ a 2 0 0 → (f = 0 ∨ f = 1 ∨ f = 12 ∨ (337 ≤ f ∧ f ≤ 370 ∧ f ≠ 342)) → a' f x i = a f x i
def SB (P m : Nat) (b b' : fi_H) : Prop := (∀ f x i : Nat, 617 ≤ x → x ≤ 624 → i < P → b' f x i = b f x i) ∧ ∀ k : Nat, k < m → b' 10 610 k = b 10 610 k ∧ b' 10 611 k = b 10 611 k
section PRF
variable {a a' b b' : fi_H} {m P : Nat}
theorem PC.f {x : Int} {p : Nat} {c o : Int} (q : PC a b x p c o) (hA : SA a a') (hB : SB P m b b') (hp : p < P) : PC a' b' x p c o := by
  obtain ⟨q1, q2, q3, q4, q5⟩ := q
  have e : ∀ f, f = 0 ∨ f = 340 ∨ f = 341 → a' f x.toNat 0 = a f x.toNat 0 := fun f hf => hA.2.2 f _ 0 (by omega) (by omega) (by omega)
  have eb : ∀ f x, 617 ≤ x → x ≤ 624 → b' f x p = b f x p := fun f x h1 h2 => hB.1 f x p h1 h2 hp
  have := hA.1
  unfold PC
  rw [e 0 (by omega), e 340 (by omega), e 341 (by omega), eb 10 617 (by omega) (by omega), eb 10 618 (by omega) (by omega), eb 10 622 (by omega) (by omega)]
  exact ⟨⟨q1.1, by omega⟩, q2, q3, q4, q5⟩
theorem PLf.f {x : Int} {p : Nat} (q : PLf a b m x p) (hA : SA a a') (hB : SB P m b b') (hp : p < P) : PLf a' b' m x p := by
  have eb : ∀ f x, 617 ≤ x → x ≤ 624 → b' f x p = b f x p := fun f x h1 h2 => hB.1 f x p h1 h2 hp
  have e : ∀ {c o : Int}, PC a b x p c o → ∀ f, 337 ≤ f → f ≤ 370 → f ≠ 342 → a' f x.toNat 0 = a f x.toNat 0 := fun z f h1 h2 h3 => hA.2.2 f _ 0 (by have := z.1; omega) (by have := z.1; omega) (by omega)
  unfold PLf
  rw [eb 10 618 (by omega) (by omega), eb 11 623 (by omega) (by omega), eb 11 624 (by omega) (by omega), eb 10 619 (by omega) (by omega)]
  rcases q with ⟨q1, q2, q3, q4⟩ | ⟨⟨w, w1, w2, q1, q2, l, c, q3, q4⟩, q5⟩ | ⟨k, k1, k2, k3, k4, k5, k6⟩ | ⟨k, k1, k2, k3, k4, k5, k6, k7⟩
  · refine Or.inl ⟨q1.f hA hB hp, ?_, ?_, q4⟩
    · rw [e q1 337 (by decide) (by decide) (by decide)]; exact q2
    · rw [e q1 338 (by decide) (by decide) (by decide)]; exact q3
  · refine Or.inr (Or.inl ⟨⟨w, w1, w2, q1.f hA hB hp, q2, l, c, ?_, q4⟩, q5⟩)
    rw [e q1 344 (by decide) (by decide) (by decide)]; exact hA.2.1 _ _ _ q3
  · obtain ⟨n1, n2⟩ := hB.2 k k1
    refine Or.inr (Or.inr (Or.inl ⟨k, k1, k2, k3, ?_, by rw [n2]; exact k5, ?_⟩))
    · rcases k6 with ⟨z, -⟩ | ⟨z, -⟩ <;> (rw [e z 347 (by decide) (by decide) (by decide)]; exact k4)
    · rw [n1]
      rcases k6 with ⟨z, z2⟩ | ⟨z, z2⟩
      · exact Or.inl ⟨z.f hA hB hp, z2⟩
      · exact Or.inr ⟨z.f hA hB hp, z2⟩
  · obtain ⟨n1, n2⟩ := hB.2 k k1
    refine Or.inr (Or.inr (Or.inr ⟨k, k1, k2, k3, ?_, k5, k6.f hA hB hp, by rw [n1]; exact k7⟩))
    rw [e k6 347 (by decide) (by decide) (by decide)]; exact k4
theorem PR.lo {n lo : Nat} {x : Int} {p : Nat} (q : PR n a b m lo x p) : lo ≤ p ∧ p < 8000 := by
  cases n with
  | zero => exact q.elim
  | succ n => exact ⟨q.1, q.2.1⟩
theorem PR.f (hA : SA a a') (hB : SB P m b b') : ∀ (n lo : Nat) (x : Int) (p : Nat), PR n a b m lo x p → p < P → PR n a' b' m lo x p := by
  intro n
  induction n with
  | zero => intro lo x p q _; exact q.elim
  | succ n ih =>
    intro lo x p q hp
    have eb : ∀ f x, 617 ≤ x → x ≤ 624 → b' f x p = b f x p := fun f x h1 h2 => hB.1 f x p h1 h2 hp
    have ek : ∀ (q : Nat), q < p → b' 10 618 q = b 10 618 q ∧ b' 10 622 q = b 10 622 q := fun q hq => ⟨hB.1 10 618 q (by omega) (by omega) (by omega), hB.1 10 622 q (by omega) (by omega) (by omega)⟩
    have e : ∀ {c o : Int}, PC a b x p c o → ∀ f, 337 ≤ f → f ≤ 370 → f ≠ 342 → a' f x.toNat 0 = a f x.toNat 0 := fun z f h1 h2 h3 => hA.2.2 f _ 0 (by have := z.1; omega) (by have := z.1; omega) (by omega)
    obtain ⟨q1, q2, q⟩ := q
    refine ⟨q1, q2, ?_⟩
    rw [eb 10 617 (by omega) (by omega), eb 10 618 (by omega) (by omega), eb 10 619 (by omega) (by omega), eb 10 620 (by omega) (by omega), eb 10 621 (by omega) (by omega), eb 10 622 (by omega) (by omega), eb 11 623 (by omega) (by omega), eb 11 624 (by omega) (by omega)]
    rcases q with ⟨r1, r2⟩ | ⟨o, q, r1, r2, r3, r4, r5, r6, r7, r8, r9, r10, r11, r12, r13⟩ | ⟨o, s1, s2, r1, r2, r3, r4, r5, r6, r7, r8, r9, r10, r11, r12, r13⟩ | ⟨o, s1, r1, r2, r3, ⟨r4, r5, r6⟩, r7, r8, r9, r10, r11⟩ | ⟨o, q, r1, r2, r3, r4, r5, r6, r7, r8, r9, r10, r11, r12, r13⟩ | ⟨w, q, k, r1, r2, ⟨l, c, r3, r4⟩, r5, r6, r7, r8, r9, r10, r11, r12, r13, r14, r15, r16, r17, r18, r19⟩ | ⟨s1, s2, s3, r1, r2, r3, r4, r5, r6, r7, r8, r9, r10, r11, r12, r13, r14, r15⟩
    · exact Or.inl ⟨r1.f hA hB hp, r2⟩
    · obtain ⟨k1, k2⟩ := ek q r4
      refine Or.inr (Or.inl ⟨o, q, r1.f hA hB hp, r2, ?_, r4, r5, r6, r7, r8, r9, by rw [k1]; exact r10, r11, r12, by rw [k2]; exact r13⟩)
      rw [e r1 370 (by decide) (by decide) (by decide)]; exact ih _ _ _ r3 (by omega)
    · have l1 := r4.lo
      have l2 := r5.lo
      obtain ⟨k1, k2⟩ := ek s1 (by omega)
      obtain ⟨k3, k4⟩ := ek s2 r6
      refine Or.inr (Or.inr (Or.inl ⟨o, s1, s2, r1.f hA hB hp, r2, ?_, ?_, ?_, r6, r7, r8, r9, r10, r11, by rw [k1, k3]; exact r12, by rw [k2, k4]; exact r13⟩))
      · rw [e r1 366 (by decide) (by decide) (by decide)]; exact r3
      · rw [e r1 367 (by decide) (by decide) (by decide)]; exact ih _ _ _ r4 (by omega)
      · rw [e r1 368 (by decide) (by decide) (by decide)]; exact ih _ _ _ r5 (by omega)
    · have hx := r1.1
      have e2 : a' 362 x.toNat 0 = a 362 x.toNat 0 := e r1 362 (by decide) (by decide) (by decide)
      have e3 : ∀ f i, f = 0 ∨ f = 1 ∨ f = 12 → a' f (a 362 x.toNat 0).toNat i = a f (a 362 x.toNat 0).toNat i := fun f i hf => hA.2.2 f _ i (by omega) (by omega) (by omega)
      have ht := hA.1
      refine Or.inr (Or.inr (Or.inr (Or.inl ⟨o, s1, r1.f hA hB hp, r2, ?_, ?_, ?_, r8, r9, r10, ?_⟩)))
      · rw [e r1 361 (by decide) (by decide) (by decide)]; exact r3
      · rw [e2, e3 0 0 (by omega), e3 1 0 (by omega)]; exact ⟨⟨r4.1, by omega⟩, r5, r6⟩
      · rw [e2, e3 12 0 (by omega)]
        refine ih _ _ _ r7 ?_
        rcases r11 with z | ⟨-, q2', z, z2, -⟩ | ⟨-, q2', q3', z, z2, z3, -⟩
        · omega
        · have := z.lo; omega
        · have := z.lo; have := z2.lo; omega
      · rw [e2, e3 12 1 (by omega), e3 12 2 (by omega)]
        rcases r11 with ⟨z1, z2, z3, z4, z5, z6⟩ | ⟨z0, q2', z1, z2, z3, z4, z5, z6⟩ | ⟨z0, q2', q3', z1, z2, z3, z4, z5, z6, z7⟩
        · obtain ⟨k1, k2⟩ := ek s1 z2
          exact Or.inl ⟨z1, z2, z3, z4, by rw [k1]; exact z5, by rw [k2]; exact z6⟩
        · have l1 := z1.lo
          obtain ⟨k1, k2⟩ := ek s1 (by omega)
          obtain ⟨k3, k4⟩ := ek q2' z2
          exact Or.inr (Or.inl ⟨z0, q2', ih _ _ _ z1 (by omega), z2, z3, z4, by rw [k1, k3]; exact z5, by rw [k2, k4]; exact z6⟩)
        · have l1 := z1.lo
          have l2 := z2.lo
          obtain ⟨k1, k2⟩ := ek s1 (by omega)
          obtain ⟨k3, k4⟩ := ek q2' (by omega)
          obtain ⟨k5, k6⟩ := ek q3' z3
          exact Or.inr (Or.inr ⟨z0, q2', q3', ih _ _ _ z1 (by omega), ih _ _ _ z2 (by omega), z3, z4, z5, by rw [k1, k3, k5]; exact z6, by rw [k2, k4, k6]; exact z7⟩)
    · obtain ⟨k1, k2⟩ := ek q r5
      refine Or.inr (Or.inr (Or.inr (Or.inr (Or.inl ⟨o, q, r1.f hA hB hp, r2, ?_, ?_, r5, r6, r7, r8, ?_, ?_, r11, by rw [k1]; exact r12, by rw [k2]; exact r13⟩))))
      · rw [e r1 353 (by decide) (by decide) (by decide)]; exact r3
      · rw [e r1 354 (by decide) (by decide) (by decide)]; exact ih _ _ _ r4 (by omega)
      · rw [e r1 355 (by decide) (by decide) (by decide)]; exact r9
      · rcases r10 with z | ⟨k, z1, z2, z3, z4⟩
        · exact Or.inl z
        · obtain ⟨n1, n2⟩ := hB.2 k z1
          exact Or.inr ⟨k, z1, z2, by rw [n1]; exact z3, by rw [n2]; exact z4⟩
    · obtain ⟨k1, k2⟩ := ek q r11
      obtain ⟨n1, n2⟩ := hB.2 k r5
      refine Or.inr (Or.inr (Or.inr (Or.inr (Or.inr (Or.inl ⟨w, q, k, r1.f hA hB hp, r2, ⟨l, c, ?_, r4⟩, r5, r6, r7, ?_, by rw [n1]; exact r9, ?_, r11, r12, r13, r14, by rw [k1]; exact r15, by rw [n2]; exact r16, by rw [n2]; exact r17, by rw [n2]; exact r18, by rw [k2]; exact r19⟩)))))
      · rw [e r1 357 (by decide) (by decide) (by decide)]; exact hA.2.1 _ _ _ r3
      · rw [e r1 358 (by decide) (by decide) (by decide)]; exact r8
      · rw [e r1 359 (by decide) (by decide) (by decide)]; exact ih _ _ _ r10 (by omega)
    · have l1 := r2.lo
      have l2 := r3.lo
      have l3 := r4.lo
      obtain ⟨k1, k2⟩ := ek s1 (by omega)
      obtain ⟨k3, k4⟩ := ek s2 (by omega)
      obtain ⟨k5, k6⟩ := ek s3 r5
      refine Or.inr (Or.inr (Or.inr (Or.inr (Or.inr (Or.inr ⟨s1, s2, s3, r1.f hA hB hp, ?_, ?_, ?_, r5, r6, r7, r8, r9, r10, by rw [k1]; exact r11, by rw [k1]; exact r12, by rw [k3]; exact r13, by rw [k5]; exact r14, by rw [k2, k4, k6]; exact r15⟩)))))
      · rw [e r1 349 (by decide) (by decide) (by decide)]; exact ih _ _ _ r2 (by omega)
      · rw [e r1 350 (by decide) (by decide) (by decide)]; exact ih _ _ _ r3 (by omega)
      · rw [e r1 351 (by decide) (by decide) (by decide)]; exact ih _ _ _ r4 (by omega)
end PRF
end

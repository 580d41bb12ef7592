section
/-! what stays as objects that are no strings are written -/
set_option maxRecDepth 100000
/-- strings and bytes are left alone (their hashes may be kept) -/
abbrev NoS (W : Nat → Nat → Nat → Prop) (h : fi_H) : Prop := ∀ f x i : Nat, 714 < x → (h 0 x 0 = 131 ∨ h 0 x 0 = 8) → f ≠ 319 → f ≠ 320 → ¬ W f x i
theorem StrN.f {h h' : fi_H} {W : Nat → Nat → Nat → Prop} {s : Int} {k : Nat} {c : Nat → Int} (q : StrN h s k c) (F : Fr W h h') (hv : h' 145 384 0 = h 145 384 0) (hW : NoS W h) : StrN h' s k c := by
  obtain ⟨⟨q1, q2, q3, q4, q5, q6, q7⟩, q8, q9, q10⟩ := q
  have e0 : ∀ f i : Nat, f < 319 → h' f s.toNat i = h f s.toNat i := fun f i hf => F.2 f _ i (by omega) (by omega) (hW f _ i (by omega) (Or.inl q2) (by omega) (by omega))
  have ev : ∀ f i : Nat, f < 319 → h' f (h 317 s.toNat 0).toNat i = h f (h 317 s.toNat 0).toNat i := fun f i hf => F.2 f _ i (by omega) (by omega) (hW f _ i (by omega) (Or.inr q5) (by omega) (by omega))
  have ht := F.1
  unfold StrN StrC
  rw [e0 0 0 (by decide), e0 318 0 (by decide), e0 317 0 (by decide), ev 0 0 (by decide), ev 1 0 (by decide), hv]
  exact ⟨⟨⟨q1.1, by omega⟩, q2, q3, ⟨q4.1, by omega⟩, q5, q6, fun i hi => by rw [ev 8 i (by decide)]; exact q7 i hi⟩, q8, q9, q10⟩
theorem Bd.f {h h' : fi_H} {W : Nat → Nat → Nat → Prop} (H : Hp h) {k : Nat} {c : Nat → Int} (B : Bd h k c) (F : Fr W h h') (hR : ∀ f x i : Nat, 384 ≤ x → x ≤ 385 → f ≠ 319 → f ≠ 320 → ¬ W f x i) (hW : NoS W h) : Bd h' k c := by
  have ht := H.1.2.2.1
  obtain ⟨b1, b2, b3, b4, b5, b6, b7, b8⟩ := B
  have e : ∀ f, f < 319 → h' f 384 0 = h f 384 0 := fun f q => F.2 f 384 0 (by decide) (by omega) (hR f 384 0 (by decide) (by decide) (by omega) (by omega))
  have e2 : ∀ f i, f < 319 → h' f (h 145 384 0).toNat i = h f (h 145 384 0).toNat i := fun f i q => F.2 f _ i (by omega) (by omega) (by
    rcases b2 with z | z
    · rw [z]; exact hR f 385 i (by decide) (by decide) (by omega) (by omega)
    · exact hW f _ i (by omega) (Or.inr b3) (by omega) (by omega))
  unfold Bd
  rw [e 145 (by decide), e 146 (by decide), e 148 (by decide), e2 0 _ (by decide), e2 1 _ (by decide)]
  exact ⟨⟨b1.1, Int.le_trans b1.2 F.1⟩, b2, b3, b4, b5, b6, b7, fun i hi => by rw [e2 8 i (by decide)]; exact b8 i hi⟩
section STAB
variable {u : Nat → Int} {n M i : Nat} {a b a' b' : fi_H} {W V : Nat → Nat → Nat → Prop}
theorem Lx.f (H : Hp a) (q : Lx u n M a) (F : Fr W a a') (h1 : ∀ f x i : Nat, 378 ≤ x → x ≤ 385 → f ≠ 319 → f ≠ 320 → ¬ W f x i) (h2 : NoS W a) (h3 : ∀ x i : Nat, 714 < x → a 0 x 0 = 131 → ¬ W 319 x i ∧ ¬ W 320 x i) : Lx u n M a' := by
  obtain ⟨q1, q2, q3, q4, q5, k, c, q6⟩ := q
  have ht := H.1.2.2.1
  have hv : a' 145 384 0 = a 145 384 0 := F.2 145 384 0 (by decide) (by omega) (h1 145 384 0 (by decide) (by decide) (by decide) (by decide))
  refine ⟨fun j hj => ?_, fun j hj h2' => ?_, q3, q4, q5, k, c, q6.f H F (fun f x i x1 x2 f1 f2 => h1 f x i (by omega) x2 f1 f2) h2⟩
  · obtain ⟨r1, r2⟩ := q1 j hj
    have e : ∀ f x, 378 ≤ x → x ≤ 383 → f ≠ 319 → f ≠ 320 → a' f x j = a f x j := fun f x x1 x2 f1 f2 => F.2 f x j (by omega) (by omega) (h1 f x j x1 (by omega) f1 f2)
    refine ⟨?_, by rw [e 9 379 (by decide) (by decide) (by decide) (by decide)]; exact r2⟩
    obtain ⟨s1, s2, s3, s4, s5, s6⟩ := r1
    unfold RowT
    rw [e 8 378 (by decide) (by decide) (by decide) (by decide), e 10 380 (by decide) (by decide) (by decide) (by decide), e 11 381 (by decide) (by decide) (by decide) (by decide), e 5 382 (by decide) (by decide) (by decide) (by decide), e 12 383 (by decide) (by decide) (by decide) (by decide)]
    exact ⟨s1, s2, s3, s4, s5, fun z => (s6 z).f F hv h2⟩
  · obtain ⟨r1, r2⟩ := q1 j hj
    have S := r1.2.2.2.2.2 h2'
    have w := h3 (a 12 383 j).toNat 0 (by have := S.2.1; omega) S.1.2.1
    have sh := q2 j hj h2'
    rw [F.2 12 383 j (by decide) (by omega) (h1 12 383 j (by decide) (by decide) (by decide) (by decide))]
    unfold StrH at sh ⊢
    have s1 := S.1.1
    rw [F.2 319 _ 0 (by omega) (by omega) w.1, F.2 320 _ 0 (by omega) (by omega) w.2]
    exact sh
theorem PS.f (q : PS u n M i a b) (HA : Hp a') (HB : Hp b') (F : Fr W a a') (G : Fr V b b') (h1 : ∀ f x i : Nat, 378 ≤ x → x ≤ 385 → f ≠ 319 → f ≠ 320 → ¬ W f x i) (h2 : NoS W a) (h2' : ∀ x i : Nat, 714 < x → a 0 x 0 = 131 → ¬ W 319 x i ∧ ¬ W 320 x i) (h3 : ¬ W 158 377 0 ∧ ¬ W 159 377 0) (g1 : ∀ f, 393 ≤ f → f ≤ 403 → ¬ V f 602 0) (g2 : ¬ V 427 602 0 ∧ ∀ k, ¬ V 10 607 k) : PS u n M i a' b' := by
  obtain ⟨q1, q2, q3, q4, q5, q6, q7, q8⟩ := q
  have ta := q1.1.2.2.1
  have tb := q2.1.1.2.2.1
  have e : ∀ f, 393 ≤ f → f ≤ 403 → b' f 602 0 = b f 602 0 := fun f f1 f2 => G.2 f 602 0 (by decide) (by omega) (g1 f f1 f2)
  refine ⟨HA, q2.st HB G ⟨g1 393 (by decide) (by decide), g2.2⟩, q3.f q1 F h1 h2 h2', by rw [F.2 158 377 0 (by decide) (by omega) h3.1]; exact q4, q5, ?_, by rw [e 398 (by decide) (by decide)]; exact q7, ?_⟩
  · unfold TokB at q6 ⊢
    rw [e 396 (by decide) (by decide), e 397 (by decide) (by decide), e 394 (by decide) (by decide), e 395 (by decide) (by decide), e 399 (by decide) (by decide), e 400 (by decide) (by decide), e 401 (by decide) (by decide)]
    exact q6
  · rw [F.2 159 377 0 (by decide) (by omega) h3.2, G.2 427 602 0 (by decide) (by omega) g2.1, e 402 (by decide) (by decide), e 403 (by decide) (by decide)]
    exact q8
/-- a frame goes on: what is new may be written -/
theorem Fr.on {h0 h1 h2 : fi_H} {W1 W2 : Nat → Nat → Nat → Prop} (F : Fr W1 h0 h1) (G : Fr W2 h1 h2) (hW : ∀ f x i : Nat, 0 < x → (x : Int) ≤ h0 2 0 0 → W2 f x i → W1 f x i) : Fr W1 h0 h2 :=
  ⟨Int.le_trans F.1 G.1, fun f x i h0' hx hw => (G.2 f x i h0' (Int.le_trans hx F.1) (fun q => hw (hW f x i h0' hx q))).trans (F.2 f x i h0' hx hw)⟩
/-! a name's thing t, row k -/
def NmT (a b : fi_H) (r : Int) (k : Nat) : Prop :=
  (714 < r ∧ r ≤ a 2 0 0) ∧ a 0 r.toNat 0 = 124 ∧
  (∃ l c, StrN a (a 321 r.toNat 0) l c ∧ Nml l c ∧ b 11 608 k = pk c (if l < 6 then l else 6) ∧ b 11 609 k = pk (fun j => c (6 + j)) (l - 6)) ∧
  (0 ≤ b 10 611 k ∧ b 10 611 k ≤ 7 ∧ a 324 r.toNat 0 = 2 + b 10 611 k) ∧
  (0 ≤ b 10 610 k ∧ b 10 610 k ≤ 3 ∧ a 322 r.toNat 0 = (if b 10 610 k = 1 then 1 else 0) ∧ a 323 r.toNat 0 = (if b 10 610 k = 2 then 1 else 0) ∧ a 330 r.toNat 0 = (if b 10 610 k = 3 then 1 else 0)) ∧
  (b 10 610 k = 2 → b 10 611 k = 2 ∨ b 10 611 k = 3) ∧ (b 10 610 k = 3 → b 10 611 k = 7) ∧
  (0 ≤ b 10 612 k ∧ b 10 612 k ≤ 4 ∧ a 325 r.toNat 0 = 10 + b 10 612 k ∧ (b 10 612 k ≠ 0 → b 10 610 k = 1 ∧ b 10 611 k = 2 ∧ a 326 r.toNat 0 = b 10 613 k ∧ 1 ≤ b 10 613 k ∧ b 10 613 k ≤ 999999999)) ∧
  (a 329 r.toNat 0 = b 4 614 k ∧ (b 4 614 k = 1 → a 327 r.toNat 0 = b 11 615 k ∧ a 328 r.toNat 0 = b 11 616 k ∧ Vok (b 10 611 k) (b 11 615 k) (b 11 616 k)))
theorem NmK_iff {k : Nat} : NmK a b k ↔ NmT a b (a 12 320 k) k := Iff.rfl
/-- a name stays -/
theorem NmT.f {r : Int} {k : Nat} (N : NmT a b r k) (HB : Hp b) (F : Fr W a a') (G : Fr V b b') (hv : a' 145 384 0 = a 145 384 0) (hW : NoS W a) (h1 : ∀ f, (f = 0 ∨ 321 ≤ f) → ¬ W f r.toNat 0) (g : ∀ f x : Nat, 608 ≤ x → x ≤ 616 → ¬ V f x k) : NmT a' b' r k := by
  obtain ⟨n1, n2, ⟨l, c, n3, n4, n5⟩, n6, n7, n8, n9, n10, n11⟩ := N
  have tb := HB.1.2.2.1
  have e : ∀ f, (f = 0 ∨ 321 ≤ f) → a' f r.toNat 0 = a f r.toNat 0 := fun f hf => F.2 f _ 0 (by omega) (by omega) (h1 f hf)
  have eb : ∀ f x, 608 ≤ x → x ≤ 616 → b' f x k = b f x k := fun f x x1 x2 => G.2 f x k (by omega) (by omega) (g f x x1 x2)
  have ht := F.1
  unfold NmT
  rw [e 0 (by omega), e 321 (by omega), e 322 (by omega), e 323 (by omega), e 324 (by omega), e 325 (by omega), e 326 (by omega), e 327 (by omega), e 328 (by omega), e 329 (by omega), e 330 (by omega), eb 11 608 (by omega) (by omega), eb 11 609 (by omega) (by omega), eb 10 610 (by omega) (by omega), eb 10 611 (by omega) (by omega), eb 10 612 (by omega) (by omega), eb 10 613 (by omega) (by omega), eb 4 614 (by omega) (by omega), eb 11 615 (by omega) (by omega), eb 11 616 (by omega) (by omega)]
  exact ⟨⟨n1.1, by omega⟩, n2, ⟨l, c, n3.f F hv hW, n4, n5⟩, n6, n7, n8, n9, n10, n11⟩
theorem NmR.f {m : Nat} (N : NmR a b m) (HA : Hp a) (HB : Hp b) (F : Fr W a a') (G : Fr V b b') (h0 : ∀ k : Nat, k < m → ¬ W 12 320 k) (hv : ¬ W 145 384 0) (hW : NoS W a) (h1 : ∀ f x i : Nat, (f = 0 ∨ 321 ≤ f) → 714 < x → a 0 x 0 = 124 → ¬ W f x i) (g : ∀ f x k : Nat, 608 ≤ x → x ≤ 616 → k < m → ¬ V f x k) : NmR a' b' m := by
  have ta := HA.1.2.2.1
  refine ⟨N.1, fun k hk => ?_⟩
  have n := NmK_iff.mp (N.2 k hk)
  refine NmK_iff.mpr ?_
  rw [F.2 12 320 k (by decide) (by omega) (h0 k hk)]
  exact n.f HB F G (F.2 145 384 0 (by decide) (by omega) hv) hW (fun f hf => h1 f _ 0 hf (by have := n.1; omega) n.2.1) (fun f x x1 x2 => g f x k x1 x2 hk)
end STAB
end

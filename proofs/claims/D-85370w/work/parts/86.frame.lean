section
/-! frames of whole calls: what a call leaves alone; names stay -/
set_option maxRecDepth 100000
/-- objects made while the house runs count as one -/
def cx (x : Nat) : Nat := if x ≤ 714 then x else 715
/-- the class's cells stay but for the places of W (and the letters that are being gathered) -/
def FA (W : Nat → Nat → Bool) (h h' : fi_H) : Prop := h 2 0 0 ≤ h' 2 0 0 ∧ (h' 145 384 0 = h 145 384 0 ∨ h 2 0 0 < h' 145 384 0) ∧
  ∀ f x i : Nat, 0 < x → (x : Int) ≤ h 2 0 0 → (x < 602 ∨ 714 < x) → W f (cx x) = false → (f = 8 → 714 < x → (x : Int) ≠ h 145 384 0) → h' f x i = h f x i
/-- the model's cells stay but for the places of W -/
def FB (W : Nat → Nat → Bool) (h h' : fi_H) : Prop := ∀ f x i : Nat, 602 ≤ x → x ≤ 714 → W f x = false → h' f x i = h f x i
section FAB
variable {W V : Nat → Nat → Bool} {a a' a1 b b' b1 : fi_H}
theorem FA.rf (W : Nat → Nat → Bool) (a : fi_H) : FA W a a := ⟨Int.le_refl _, Or.inl rfl, fun _ _ _ _ _ _ _ _ => rfl⟩
theorem FB.rf (W : Nat → Nat → Bool) (a : fi_H) : FB W a a := fun _ _ _ _ _ _ => rfl
theorem FA.tr (p : FA W a a1) (q : FA W a1 a') : FA W a a' := by
  refine ⟨Int.le_trans p.1 q.1, ?_, fun f x i h0 hx hr hw hn => ?_⟩
  · rcases q.2.1 with e | e
    · rw [e]; exact p.2.1
    · have := p.1; omega
  · refine (q.2.2 f x i h0 (Int.le_trans hx p.1) hr hw (fun e1 e2 => ?_)).trans (p.2.2 f x i h0 hx hr hw hn)
    have := hn e1 e2
    rcases p.2.1 with e | e <;> omega
theorem FB.tr (p : FB W a a1) (q : FB W a1 a') : FB W a a' := fun f x i h1 h2 hw => (q f x i h1 h2 hw).trans (p f x i h1 h2 hw)
theorem FA.mono (p : FA W a a') (k : ∀ f x, W f x = true → V f x = true) : FA V a a' := by
  refine ⟨p.1, p.2.1, fun f x i h0 hx hr hw hn => p.2.2 f x i h0 hx hr ?_ hn⟩
  cases e : W f (cx x) with
  | false => rfl
  | true => rw [k _ _ e] at hw; cases hw
theorem FB.mono (p : FB W a a') (k : ∀ f x, W f x = true → V f x = true) : FB V a a' := by
  refine fun f x i h1 h2 hw => p f x i h1 h2 ?_
  cases e : W f x with
  | false => rfl
  | true => rw [k _ _ e] at hw; cases hw
theorem FA.of {P : Nat → Nat → Nat → Prop} (F : Fr P a a') (hb : a' 145 384 0 = a 145 384 0 ∨ a 2 0 0 < a' 145 384 0) (hP : ∀ f x i : Nat, P f x i → (x < 602 ∨ 714 < x) → W f (cx x) = true ∨ (f = 8 ∧ 714 < x ∧ (x : Int) = a 145 384 0)) : FA W a a' := by
  refine ⟨F.1, hb, fun f x i h0 hx hr hw hn => F.2 f x i h0 hx (fun q => ?_)⟩
  rcases hP f x i q hr with e | ⟨e1, e2, e3⟩
  · rw [e] at hw; cases hw
  · exact hn e1 e2 e3
theorem FA.ofF {P : Nat → Nat → Nat → Prop} (H : Hp a) (F : Fr P a a') (hb : ¬ P 145 384 0) (hP : ∀ f x i : Nat, P f x i → (x < 602 ∨ 714 < x) → W f (cx x) = true) : FA W a a' :=
  FA.of F (Or.inl (F.2 145 384 0 (by decide) (by have := H.1.2.2.1; omega) hb)) (fun f x i q r => Or.inl (hP f x i q r))
theorem FA.ofL {P : Nat → Nat → Nat → Prop} (F : FrL P a a') (hW : ∀ f, W f 384 = true) (hP : ∀ f x i : Nat, P f x i → (x < 602 ∨ 714 < x) → W f (cx x) = true) (hv : 714 < a 145 384 0 ∨ (a 145 384 0 = 385 ∧ W 8 385 = true)) : FA W a a' := by
  refine FA.of F.1 F.2 (fun f x i q r => ?_)
  rcases q with q | q | ⟨q1, q2⟩
  · exact Or.inl (hP f x i q r)
  · subst q; exact Or.inl (hW f)
  · rcases hv with z | ⟨z1, z2⟩
    · exact Or.inr ⟨q1, by omega, q2⟩
    · left
      have : x = 385 := by omega
      subst this; subst q1; exact z2
theorem FB.of {P : Nat → Nat → Nat → Prop} (H : Hp b) (F : Fr P b b') (hP : ∀ f x i : Nat, P f x i → 602 ≤ x → x ≤ 714 → W f x = true) : FB W b b' := by
  have := H.1.2.2.1
  refine fun f x i h1 h2 hw => F.2 f x i (by omega) (by omega) (fun q => ?_)
  rw [hP f x i q h1 h2] at hw; cases hw
/-- a place of the fixed cells; a place of a later cell -/
theorem FA.g (F : FA W a a') (H : Hp a) {f x : Nat} (i : Nat) (hx : 0 < x ∧ x < 602) (hw : W f x = false) : a' f x i = a f x i := by
  have := H.1.2.2.1
  have e : cx x = x := by unfold cx; rw [if_pos (by omega)]
  exact F.2.2 f x i hx.1 (by omega) (Or.inl hx.2) (by rw [e]; exact hw) (fun _ _ => by omega)
theorem FA.d (F : FA W a a') {f x : Nat} (i : Nat) (hx : 714 < x ∧ (x : Int) ≤ a 2 0 0) (hw : W f 715 = false) (hf : f ≠ 8 ∨ (x : Int) ≠ a 145 384 0) : a' f x i = a f x i := by
  have e : cx x = 715 := by unfold cx; rw [if_neg (by omega)]
  exact F.2.2 f x i (by omega) hx.2 (Or.inr hx.1) (by rw [e]; exact hw) (fun z _ => by rcases hf with w | w; exact absurd z w; exact w)
/-- the places that a relation reads are none of W -/
abbrev dj (K : List (Nat × Nat)) (W : Nat → Nat → Bool) : Prop := K.all (fun q => !W q.1 q.2) = true
theorem dj.m {K : List (Nat × Nat)} (h : dj K W) {f x : Nat} (q : K.contains (f, x) = true) : W f x = false := by
  have := List.all_eq_true.mp h (f, x) (List.contains_iff_mem.mp q)
  simpa using this
/-- strings stay -/
theorem StrN.fa {s : Int} {k : Nat} {c : Nat → Int} (q : StrN a s k c) (H : Hp a) (F : FA W a a') (h0 : W 0 715 = false ∧ W 1 715 = false ∧ W 8 715 = false ∧ W 317 715 = false ∧ W 318 715 = false) : StrN a' s k c := by
  obtain ⟨⟨q1, q2, q3, q4, q5, q6, q7⟩, q8, q9, q10⟩ := q
  have e0 : ∀ f, W f 715 = false → f ≠ 8 → a' f s.toNat 0 = a f s.toNat 0 := fun f hf h8 => F.d 0 (by omega) hf (Or.inl h8)
  have ev : ∀ f i, W f 715 = false → a' f (a 317 s.toNat 0).toNat i = a f (a 317 s.toNat 0).toNat i := fun f i hf => F.d i (by omega) hf (Or.inr (by omega))
  have ht := F.1
  have hv := F.2.1
  unfold StrN StrC
  rw [e0 0 h0.1 (by decide), e0 318 h0.2.2.2.2 (by decide), e0 317 h0.2.2.2.1 (by decide), ev 0 0 h0.1, ev 1 0 h0.2.1]
  exact ⟨⟨⟨q1.1, by omega⟩, q2, q3, ⟨q4.1, by omega⟩, q5, q6, fun i hi => by rw [ev 8 i h0.2.2.1]; exact q7 i hi⟩, q8, q9, by omega⟩
/-! names -/
def KNa : List (Nat × Nat) := [(12, 320), (0, 715), (1, 715), (8, 715), (317, 715), (318, 715), (321, 715), (322, 715), (323, 715), (324, 715), (325, 715), (326, 715), (327, 715), (328, 715), (329, 715), (330, 715)]
def KNb : List (Nat × Nat) := [(11, 608), (11, 609), (10, 610), (10, 611), (10, 612), (10, 613), (4, 614), (11, 615), (11, 616)]
theorem NmR.fa {m : Nat} (N : NmR a b m) (H : Hp a) (F : FA W a a') (G : FB V b b') (hW : dj KNa W) (hV : dj KNb V) : NmR a' b' m := by
  refine ⟨N.1, fun k hk => ?_⟩
  have n := NmK_iff.mp (N.2 k hk)
  refine NmK_iff.mpr ?_
  rw [F.g H k (by decide) (hW.m (f := 12) (x := 320) rfl)]
  obtain ⟨n1, n2, ⟨l, c, n3, n4, n5⟩, n6, n7, n8, n9, n10, n11⟩ := n
  have e : ∀ f, KNa.contains (f, 715) = true → f ≠ 8 → a' f (a 12 320 k).toNat 0 = a f (a 12 320 k).toNat 0 := fun f hf h8 => F.d 0 (by omega) (hW.m hf) (Or.inl h8)
  have eb : ∀ f x, KNb.contains (f, x) = true → 602 ≤ x → x ≤ 714 → b' f x k = b f x k := fun f x hf x1 x2 => G f x k x1 x2 (hV.m hf)
  have ht := F.1
  unfold NmT
  rw [e 0 rfl (by decide), e 321 rfl (by decide), e 322 rfl (by decide), e 323 rfl (by decide), e 324 rfl (by decide), e 325 rfl (by decide), e 326 rfl (by decide), e 327 rfl (by decide), e 328 rfl (by decide), e 329 rfl (by decide), e 330 rfl (by decide), eb 11 608 rfl (by decide) (by decide), eb 11 609 rfl (by decide) (by decide), eb 10 610 rfl (by decide) (by decide), eb 10 611 rfl (by decide) (by decide), eb 10 612 rfl (by decide) (by decide), eb 10 613 rfl (by decide) (by decide), eb 4 614 rfl (by decide) (by decide), eb 11 615 rfl (by decide) (by decide), eb 11 616 rfl (by decide) (by decide)]
  exact ⟨⟨n1.1, by omega⟩, n2, ⟨l, c, n3.fa H F ⟨hW.m (f := 0) (x := 715) rfl, hW.m (f := 1) (x := 715) rfl, hW.m (f := 8) (x := 715) rfl, hW.m (f := 317) (x := 715) rfl, hW.m (f := 318) (x := 715) rfl⟩, n4, n5⟩, n6, n7, n8, n9, n10, n11⟩
end FAB
end

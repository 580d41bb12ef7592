section
/-! reading: holidays -/
set_option maxRecDepth 100000
abbrev wHA (w : Nat) (f x i : Nat) : Prop := wTA f x i ∨ (f = 12 ∧ x = w)
abbrev wHB (f x i : Nat) : Prop := wTB f x i ∨ (604 ≤ x ∧ x ≤ 606 ∧ 21 ≤ i)
abbrev wHBe (f x i : Nat) : Prop := wTB f x i ∨ (604 ≤ x ∧ x ≤ 606) ∨ (x = 602 ∧ f = 390)
theorem sw204 : (List.range 82).all (fun j => decide (sidw tb_204 j = if 62 ≤ j ∧ j ≤ 68 then (j : Int) - 62 else -1)) = true := by decide +kernel
section HOL2
variable {u : Nat → Int} {n M i : Nat} {a b a0 b0 : fi_H} {dA dB : Nat}
theorem HolO.f {h h' : fi_H} {W : Nat → Nat → Nat → Prop} (F : Fr W h h') (hW : ∀ f x i, 714 < x → (f = 0 ∨ (331 ≤ f ∧ f ≤ 336)) → ¬ W f x i) {o s a b : Int} (q : HolO h o s a b) : HolO h' o s a b := by
  obtain ⟨q1, q2⟩ := q
  have e : ∀ f, (f = 0 ∨ (331 ≤ f ∧ f ≤ 336)) → h' f o.toNat 0 = h f o.toNat 0 := fun f hf => F.2 f _ 0 (by omega) (by omega) (hW f _ _ (by omega) hf)
  refine ⟨⟨q1.1, by have := F.1; omega⟩, ?_⟩
  rw [e 0 (by omega), e 331 (by omega), e 332 (by omega), e 333 (by omega), e 334 (by omega), e 335 (by omega), e 336 (by omega)]
  exact q2
theorem PS.an (q : PS u n M i a b) {a' : fi_H} (HA : Hp a') (F : Fr (fun _ _ _ => False) a a') : PS u n M i a' b :=
  q.st HA q.hb F (Fr.rf (fun _ _ _ => False) _) (fun _ _ _ _ _ _ _ => id) (fun _ _ _ _ => id) ⟨id, id⟩ (fun _ _ _ => id) ⟨id, fun _ => id⟩
theorem PS.bw (q : PS u n M i a b) {b' : fi_H} {V : Nat → Nat → Nat → Prop} (HB : Hp b') (G : Fr V b b') (h : ∀ f x i : Nat, V f x i → x ≠ 607 ∧ (x = 602 → f < 393 ∨ (403 < f ∧ f ≠ 427))) : PS u n M i a b' :=
  q.st q.ha HB (Fr.rf (fun _ _ _ => False) _) G (fun _ _ _ _ _ _ _ => id) (fun _ _ _ _ => id) ⟨id, id⟩ (fun f f1 f2 z => by have := (h _ _ _ z).2 rfl; omega) ⟨fun z => by have := (h _ _ _ z).2 rfl; omega, fun k z => (h _ _ _ z).1 rfl⟩
theorem PS.aw (q : PS u n M i a b) {a' : fi_H} {x : Nat} (HA : Hp a') (F : Fr (fun f y _ => f = 12 ∧ y = x) a a') (hx : x < 377 ∧ x ≠ 304) : PS u n M i a' b :=
  q.st HA q.hb F (Fr.rf (fun _ _ _ => False) _) (fun f y i h1 h2 _ _ z => by omega) (fun f y i h1 z => by omega) ⟨by omega, by omega⟩ (fun _ _ _ => id) ⟨id, fun _ => id⟩
theorem kA_week (q : PS u n M i a b) (hA : 8 ≤ dA) : ∃ a', PS u n M i a' b ∧ Fr wTA a a' ∧ fj_run dA 204 a [(4, 377)] = if tk u n i = 2 ∧ 62 ≤ kw u n i ∧ kw u n i ≤ 68 then some (.inl (some (0, kw u n i - 62)), a') else some (.inr 304, wra a' 1 (pl u n i)) := by
  obtain ⟨d, rfl⟩ : ∃ e, dA = e + 8 := ⟨dA - 8, by omega⟩
  have hi := q.2.2.2.2.1
  rw [m_204 (d + 7) q.ha.1, q.at, if_pos (by omega), Int.toNat_natCast, q.sort]
  by_cases z : tk u n i = 2
  · have S := q.row.1.2.2.2.2.2 z
    have Q := q.2.2.1.2.1 i hi.1 z
    have hc := cw_rg (u := u) (n := n) (i := i) q.2.1.2.2.2.2.1 z
    obtain ⟨a1, e1, H1, F1, Q1⟩ := kS_hash (d + 2) q.ha S.1 Q (by have := S.2.1; omega) (fun j hj => ⟨by have := (hc j hj).1; show 0 ≤ u (pl u n i + j); omega, (hc j hj).2.1⟩)
    obtain ⟨P1, T1⟩ := q.hash hi.1 z H1 F1 Q1
    have S1 := S.1.hs F1
    refine ⟨a1, P1, T1, ?_⟩
    rw [if_pos (by omega), S.1.2.1, show fi_vt 215 131 = some 169 from rfl, dv_s, e1, ca_ret, sw_204 (d + 4) H1 S1]
    have sk := sidx_kw (t := tb_204) (by decide +kernel) (by decide +kernel) (k := lw u n i) (c := cw u n i)
    have sk : sidx tb_204 ((tok u n (pl u n i)).2.1 - pl u n i) (fun j => u (pl u n i + j)) = if kw u n i = -1 then -1 else sidw tb_204 (kw u n i).toNat := sk
    rw [sk]
    have r := kw_rg (u := u) (n := n) i
    have e308 : c_204_196 (d + 7) (-1) a1 = some (.inr 304, wra a1 1 (pl u n i)) := by
      rw [e_204_196 (d + 7) _ H1.1, if_neg (by decide), if_neg (by decide), if_neg (by decide), if_neg (by decide), if_neg (by decide), if_neg (by decide), if_neg (by decide)]
      exact kA_thr P1 (by omega) (by omega)
    by_cases w : kw u n i = -1
    · rw [if_pos w, e308, if_neg (by omega)]
    · have := of_decide_eq_true (List.all_eq_true.mp sw204 (kw u n i).toNat (List.mem_range.mpr (by omega)))
      rw [if_neg w, this]
      by_cases y : 62 ≤ kw u n i ∧ kw u n i ≤ 68
      · rw [if_pos (by omega : 62 ≤ (kw u n i).toNat ∧ (kw u n i).toNat ≤ 68), if_pos ⟨z, y⟩, show ((kw u n i).toNat : Int) - 62 = kw u n i - 62 by omega, e_204_196 (d + 7) _ H1.1]
        have hk : kw u n i = 62 ∨ kw u n i = 63 ∨ kw u n i = 64 ∨ kw u n i = 65 ∨ kw u n i = 66 ∨ kw u n i = 67 ∨ kw u n i = 68 := by omega
        rcases hk with h | h | h | h | h | h | h <;> rw [h] <;> rfl
      · rw [if_neg (by omega : ¬ (62 ≤ (kw u n i).toNat ∧ (kw u n i).toNat ≤ 68)), e308, if_neg (fun w => y w.2)]
  · refine ⟨a, q, Fr.rf _ _, ?_⟩
    rw [if_neg (by omega), if_neg (fun w => z w.1)]
    exact kA_thr q (by omega) (by omega)
/-- the rows that were told come to be those that hold -/
theorem kB_copy {d k : Nat} (hk : k ≤ 20) : ∀ (l x : Nat) (h : fi_H), Hp h → x + l = k → ∃ h', c_522_435 d (k : Int) (x : Int) h = some (.inl none, h') ∧ Hp h' ∧ Fr (fun _ y i => 604 ≤ y ∧ y ≤ 606 ∧ x ≤ i ∧ i < 20) h h' ∧ ∀ j y : Nat, x ≤ j → j < k → 604 ≤ y → y ≤ 606 → h' 10 y j = h 10 y (21 + j) := by
  intro l
  induction l with
  | zero =>
    intro x h H hx
    refine ⟨h, ?_, H, Fr.rf _ _, fun j y h1 h2 => by omega⟩
    rw [e_522_435 d _ _ H.1, if_neg (by omega), e_522_491 d H.1]
  | succ l ih =>
    intro x h H hx
    have w : wI (21 + (x : Int)) = ((21 + x : Nat) : Int) := by rw [wI_id (by omega) (by omega)]; omega
    have w2 : wI ((x : Int) + 1) = ((x + 1 : Nat) : Int) := by rw [wI_id (by omega) (by omega)]; omega
    have up1 : ∀ (g : fi_H) (y : Nat) (v : Int), Hp g → 604 ≤ y → y ≤ 606 → (-2147483648 ≤ v ∧ v < 2147483648) → Hp (fi_upd g 10 y x v) := fun g y v Hg h1 h2 hv => Hp.uI Hg x (by omega) (by decide) hv
    have H1 := up1 h 604 _ H (by omega) (by omega) (rI H (f := 10) rfl 604 (21 + x))
    have H2 := up1 _ 605 _ H1 (by omega) (by omega) (rI H1 (f := 10) rfl 605 (21 + x))
    have H3 := up1 _ 606 _ H2 (by omega) (by omega) (rI H2 (f := 10) rfl 606 (21 + x))
    obtain ⟨h', e1, e2, e3, e4⟩ := ih (x + 1) _ H3 (by omega)
    refine ⟨h', ?_, e2, ?_, fun j y h1 h2 h3 h4 => ?_⟩
    · rw [e_522_435 d _ _ H.1, if_pos (by omega), w, if_pos (by omega), if_pos (by omega), Int.toNat_natCast, Int.toNat_natCast, lt_eq, lt_eq, lt_eq, w2]
      exact e1
    · have F1 : Fr (fun _ y i => 604 ≤ y ∧ y ≤ 606 ∧ x ≤ i ∧ i < 20) h (fi_upd h 10 604 x (h 10 604 (21 + x))) := Fr.u x _ (Fr.rf _ _) (by decide) ⟨by omega, by omega, by omega, by omega⟩
      generalize fi_upd h 10 604 x (h 10 604 (21 + x)) = g1 at *
      have F2 : Fr (fun _ y i => 604 ≤ y ∧ y ≤ 606 ∧ x ≤ i ∧ i < 20) h (fi_upd g1 10 605 x (g1 10 605 (21 + x))) := Fr.u x _ F1 (by decide) ⟨by omega, by omega, by omega, by omega⟩
      generalize fi_upd g1 10 605 x (g1 10 605 (21 + x)) = g2 at *
      have F : Fr (fun _ y i => 604 ≤ y ∧ y ≤ 606 ∧ x ≤ i ∧ i < 20) h (fi_upd g2 10 606 x (g2 10 606 (21 + x))) := Fr.u x _ F2 (by decide) ⟨by omega, by omega, by omega, by omega⟩
      exact F.tr (e3.mono (fun f y i q => ⟨q.1, q.2.1, by omega, q.2.2.2⟩))
    · by_cases z : j = x
      · subst z
        rw [e3.2 10 y j (by omega) (by have := H3.1.2.2.1; omega) (by omega)]
        have : y = 604 ∨ y = 605 ∨ y = 606 := by omega
        rcases this with rfl | rfl | rfl <;> simp [fi_upd]
      · rw [e4 j y (by omega) h2 h3 h4]
        rw [fi_upd_ne _ _ _ _ _ (by omega), fi_upd_ne _ _ _ _ _ (by omega), fi_upd_ne _ _ _ _ _ (by omega)]
end HOL2
end

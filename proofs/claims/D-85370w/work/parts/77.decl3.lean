section
/-! reading: the end of a declaration -/
set_option maxRecDepth 100000
section FINW
variable {h : fi_H}
/-- a final field's one write -/
theorem Hp.uf (H : Hp h) {f a : Nat} {v : Int} (ha : 302 < a) (hc : h 0 a 0 ≠ 0) (hf : 100 ≤ f) (hz : h f a 0 = 0) (hv : nt_ (h 2 0 0) (fr_ty f) v) : Hp (fi_upd h f a 0 v) := by
  have T := fj_hs_ok H.1.1 (Or.inr (Or.inl ⟨f, a, v, rfl, ha, hc, hf, fun _ => hz⟩))
  have e2 : fi_upd h f a 0 v 2 0 0 = h 2 0 0 := fi_upd_ne h f a 0 v (fun q => by omega)
  refine ⟨shp_st H.1 T, by rw [e2]; exact H.2.1, fun g b j => ?_, fun _ _ _ _ _ _ => trivial, fun b => ?_⟩
  · rw [e2]
    by_cases q : g = f ∧ b = a ∧ j = 0
    · obtain ⟨rfl, rfl, rfl⟩ := q; rw [fi_upd_same]; exact nt_ok hv
    · rw [fi_upd_ne h f a 0 v q]; exact H.2.2.1 g b j
  · rw [fi_upd_ne h f a 0 v (fun q => by omega)]; exact H.2.2.2.2 b
end FINW
section DECL3
variable {u : Nat → Int} {n M i m m0 : Nat} {a b a0 b0 : fi_H} {r : Int} {dA dB : Nat}
theorem NmT.v {a' b' : fi_H} {k : Nat} (T : NmT a b r k) (p : VE a b a' b') (HA : Hp a) (HB : Hp b) : NmT a' b' r k :=
  T.f HB p.1 p.2 (p.cellA HA 145 384 0 (by decide) (by decide) (by decide) (by decide) (by decide) (by decide)) (fun f x i h1 _ f1 f2 => by simp only [wVA, wTA, wvA]; omega) (fun f hf => by have := T.1; simp only [wVA, wTA, wvA]; omega) (fun f x h1 h2 => by simp only [wVB, wTB, wvB]; omega)
theorem t_decl3 (q : PS u n M i a b) (V : NE m0 a0 b0 a b) (hm0 : m0 ≤ m) (N : NmR a b m) (T : NmT a b r m) (h1 : 0 ≤ a 160 377 0 ∧ a 215 303 0 + a 160 377 0 = (m : Int)) (hm : m < 40) (h413 : b 413 602 0 = (m : Int) + 1) (h0 : 0 ≤ a 215 303 0) (hA : 5 ≤ dA) (hB : 14 ≤ dB) {P : Int → fi_H → Int → fi_H → Prop} {KA : fi_H → fk_R}
    (k : ∀ (a' b' : fi_H) (j : Nat), i < j → PS u n M j a' b' → NE m0 a0 b0 a' b' → NmR a' b' (m + 1) → (0 ≤ a' 160 377 0 ∧ a' 215 303 0 + a' 160 377 0 = ((m + 1 : Nat) : Int)) → b' 413 602 0 = ((m + 1 : Nat) : Int) → b' 427 602 0 = b 427 602 0 → a' 215 303 0 = a 215 303 0 → Bo 304 9 9 (KA a') (c_498_0 dB b') P (WrN m0 a0 b0)) :
    Bo 304 9 9 (cv_ (c_161_173 dA r a) KA (fun q h => tx_ q h)) (c_498_153 dB b) P (WrN m0 a0 b0) := by
  rw [e_161_173 dA r q.ha.1, e_498_153 dB q.hb.1, cv_cv]
  refine Bo.cvcv (t_need q (by omega) (by omega) (by decide)) (fun _ a1 _ b1 HA1 HB1 w => ?_) (fun a' b' HA HB w => Bo.tx HA HB (WrN.ofE V w))
  obtain ⟨P1, W1, c1, -⟩ := w
  have T1 := T.v W1.v q.ha q.hb
  have N1 := W1.v.names q.ha q.hb N
  have d215 : a1 215 303 0 = a 215 303 0 := W1.v.cellA q.ha 215 303 0 (by decide) (by decide) (by decide) (by decide) (by decide) (by decide)
  have d160 : a1 160 377 0 = a 160 377 0 := W1.v.cellA q.ha 160 377 0 (by decide) (by decide) (by decide) (by decide) (by decide) (by decide)
  have d413 : b1 413 602 0 = (m : Int) + 1 := (W1.v.b413 q.hb).trans h413
  have hsum : wI (a1 215 303 0 + a1 160 377 0) = (m : Int) := by rw [d215, d160, h1.2, wI_id (by omega) (by omega)]
  have hsup : (fi_sup 124).contains 124 = true := by decide
  have t1 := T1.1
  have t2 := T1.2.1
  rw [hsum, if_pos (by omega : (0 : Int) ≤ (m : Int) ∧ (m : Int) < 40), t2, if_pos (Or.inr hsup), lt_eq, lt_eq, Int.toNat_natCast, cv_ret]
  have HA2 : Hp (fi_upd a1 12 320 m r) := Hp.uR HA1 m (by decide) (by decide) (by omega)
  have o160 : fi_upd a1 12 320 m r 160 377 0 = a1 160 377 0 := fi_upd_ne _ _ _ _ _ (by omega)
  rw [o160, d160, wI_id (by omega) (by omega)]
  have HA3 : Hp (fi_upd (fi_upd a1 12 320 m r) 160 377 0 (a 160 377 0 + 1)) := Hp.uI HA2 0 (by decide) (by decide) (by omega)
  have F3 : Fr (fun f x i => (f = 12 ∧ x = 320 ∧ i = m) ∨ (f = 160 ∧ x = 377)) a1 (fi_upd (fi_upd a1 12 320 m r) 160 377 0 (a 160 377 0 + 1)) := Fr.u 0 _ (Fr.u m _ (Fr.rf _ _) (by decide) (Or.inl ⟨rfl, rfl, rfl⟩)) (by decide) (Or.inr ⟨rfl, rfl⟩)
  have x1 : fi_upd (fi_upd a1 12 320 m r) 160 377 0 (a 160 377 0 + 1) 12 320 m = r := by rw [fi_upd_ne _ _ _ _ _ (by omega), fi_upd_same]
  have x2 : fi_upd (fi_upd a1 12 320 m r) 160 377 0 (a 160 377 0 + 1) 160 377 0 = a 160 377 0 + 1 := fi_upd_same _ _ _ _ _
  have x3 : fi_upd (fi_upd a1 12 320 m r) 160 377 0 (a 160 377 0 + 1) 215 303 0 = a 215 303 0 := by rw [fi_upd_ne _ _ _ _ _ (by omega), fi_upd_ne _ _ _ _ _ (by omega)]; exact d215
  have x4 : fi_upd (fi_upd a1 12 320 m r) 160 377 0 (a 160 377 0 + 1) 145 384 0 = a1 145 384 0 := by rw [fi_upd_ne _ _ _ _ _ (by omega), fi_upd_ne _ _ _ _ _ (by omega)]
  generalize fi_upd (fi_upd a1 12 320 m r) 160 377 0 (a 160 377 0 + 1) = a3 at *
  have P3 : PS u n M (i + 1) a3 b1 := P1.f HA3 HB1 F3 (Fr.rf (fun _ _ _ => False) _) (fun f x i _ _ _ _ z => by omega) (fun f x i _ _ _ _ z => by omega) (fun x i _ _ => ⟨fun z => by omega, fun z => by omega⟩) ⟨by omega, by omega⟩ (fun f _ _ z => z) ⟨id, fun k z => z⟩
  have N3 : NmR a3 b1 m := N1.f HA1 HB1 F3 (Fr.rf (fun _ _ _ => False) _) (fun k hk z => by omega) (by omega) (fun f x i _ _ _ _ z => by omega) (fun f x i _ _ _ z => by omega) (fun f x k _ _ _ z => z)
  have T3 : NmT a3 b1 r m := T1.f HB1 F3 (Fr.rf (fun _ _ _ => False) _) x4 (fun f x i _ _ _ _ z => by omega) (fun f hf z => by omega) (fun f x _ _ z => z)
  have N4 : NmR a3 b1 (m + 1) := by
    refine ⟨by omega, fun k hk => ?_⟩
    by_cases e : k = m
    · subst e
      refine NmK_iff.mpr ?_
      rw [x1]; exact T3
    · exact N3.2 k (by omega)
  have V3 : NE m0 a0 b0 a3 b1 := (V.tr W1.v.ne).tr ⟨F3.mono (fun f x i z => Or.inr (z.elim (fun z => Or.inl ⟨z.1, z.2.1, by omega⟩) Or.inr)), Fr.rf _ _⟩
  exact k a3 b1 (i + 1) (by omega) P3 V3 N4 ⟨by rw [x2]; omega, by rw [x2, x3]; omega⟩ (by rw [d413]; omega) c1 x3
end DECL3
end

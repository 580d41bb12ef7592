section
/-! reading: holidays from Easter, by weekdays -/
set_option maxRecDepth 100000
section HOL6
variable {u : Nat → Int} {n M : Nat} {a0 b0 : fi_H} {dA dB w : Nat}
theorem hE_ : ∀ a' b', Wr a' b' → HE w a0 b0 a' b' → HolE w a0 b0 a' b' := fun _ _ h1 h2 => ⟨h1, h2⟩
/-- rows of the model are written, an object of the class -/
theorem HRw.b {k : Nat} {a b b' : fi_H} (R : HRw w k a b) (hw : w = 307 ∨ w = 308) (HA : Hp a) (HB : Hp b) (G : Fr (fun _ x i => 604 ≤ x ∧ x ≤ 606 ∧ i = 21 + k) b b') : HRw w k a b' :=
  R.f hw HA HB (Fr.rf (fun _ _ _ => False) _) G (fun _ _ _ _ _ _ => id) (fun _ _ => id) (fun x j _ _ hj => by omega)
theorem HE.b {k : Nat} {a b b' : fi_H} (V : HE w a0 b0 a b) (G : Fr (fun _ x i => 604 ≤ x ∧ x ≤ 606 ∧ i = 21 + k) b b') : HE w a0 b0 a b' := V.tr ⟨Fr.rf _ _, G.mono (fun f x i z => Or.inr ⟨z.1, z.2.1, by omega⟩)⟩
theorem HRw.t {k : Nat} {a b a' b' : fi_H} (R : HRw w k a b) (hw : w = 307 ∨ w = 308) (HA : Hp a) (HB : Hp b) (T : TkE a b a' b') : HRw w k a' b' :=
  R.f hw HA HB T.1 T.2 (fun f x i h1 _ hf => by simp only [wTA]; omega) (fun j _ => by simp only [wTA]; omega) (fun x j h1 h2 _ => by simp only [wTB]; omega)
theorem HRw.nw {k : Nat} {a b a' : fi_H} (R : HRw w k a b) (hw : w = 307 ∨ w = 308) (HA : Hp a) (HB : Hp b) (F : Fr (fun _ _ _ => False) a a') : HRw w k a' b :=
  R.f hw HA HB F (Fr.rf (fun _ _ _ => False) _) (fun _ _ _ _ _ _ => id) (fun _ _ => id) (fun _ _ _ _ _ => id)
theorem HRw.r {k : Nat} {a b a' : fi_H} {r : Int} (R : HRw w k a b) (hw : w = 307 ∨ w = 308) (HA : Hp a) (hr : 714 < r) (hne : ∀ j, j < k → a 12 w j ≠ r) (F : Fr (wro r) a a') : HRw w k a' b := by
  have ta := HA.1.2.2.1
  intro j hj
  have q6 := R j hj
  have := hne j hj
  rw [F.2 12 w j (by omega) (by omega) (by omega)]
  have O := q6.1
  refine ⟨⟨O.1, by have := F.1; omega⟩, ?_⟩
  have e : ∀ f, a' f (a 12 w j).toNat 0 = a f (a 12 w j).toNat 0 := fun f => F.2 f _ 0 (by omega) (by omega) (by omega)
  rw [e 0, e 331, e 332, e 333, e 334, e 335, e 336]
  exact q6.2
/-- rows below a new object are others -/
theorem HRw.lt {k : Nat} {a b : fi_H} (R : HRw w k a b) : ∀ j, j < k → a 12 w j ≤ a 2 0 0 := fun j hj => (R j hj).1.2
theorem c59 {d k r v : Int} {dd : Nat} {a : fi_H} (H : Hp a) (hr : 714 < r ∧ r ≤ a 2 0 0) (hc : a 0 r.toNat 0 = 105) (z1 : a 333 r.toNat 0 = 0) (hv : -2147483648 ≤ v ∧ v < 2147483648) : ∃ a', c_201_59 (dd + 2) r r v a = some (.inl (some (4, r)), a') ∧ Hp a' ∧ Fr (wro r) a a' ∧ a' 333 r.toNat 0 = v := by
  obtain ⟨a', e, H', F, x⟩ := kA_eas (d := dd) H hr hc z1 hv
  exact ⟨a', by rw [e_201_59 _ _ _ _ H.1, hc, if_pos (by decide), e, cv_ret], H', F, x⟩
/-- from Easter on -/
theorem t_holea {i k : Nat} {a b : fi_H} (hw : w = 307 ∨ w = 308) (hA : 12 ≤ dA) (hB : 18 ≤ dB) (q : PS u n M i a b) (z2 : tk u n i = 2 ∧ kw u n i = 59) (hk : k < 20) (R : HRw w k a b) (V : HE w a0 b0 a b) (h211 : a 211 303 0 = (w : Int))
    (ih : ∀ (j : Nat) a' b', i < j → PS u n M j a' b' → a' 211 303 0 = (w : Int) → HRw w (k + 1) a' b' → HE w a0 b0 a' b' → Bo 304 0 9 (c_198_2 dA ((k + 1 : Nat) : Int) a') (c_522_2 dB ((k + 1 : Nat) : Int) b') (HolP w a0 b0) (HolE w a0 b0)) :
    Bo 304 0 9 (ca_ (fj_run dA 201 a [(4, 377)]) 4 (fun v h => c_198_151 dA (k : Int) (w : Int) (k : Int) v h) (fun q h => tx_ q h)) (c_522_102 dB (k : Int) 602 1 b) (HolP w a0 b0) (HolE w a0 b0) := by
  obtain ⟨d, rfl⟩ : ∃ e, dA = e + 4 := ⟨dA - 4, by omega⟩
  obtain ⟨e, rfl⟩ : ∃ e', dB = e' + 4 := ⟨dB - 4, by omega⟩
  have sB := t_sortB q
  rw [if_neg (by omega), if_neg (by omega), if_pos z2.1, if_neg (by omega)] at sB
  have w21 : wI (21 + (k : Int)) = ((21 + k : Nat) : Int) := by rw [wI_id (by omega) (by omega)]; omega
  have i1 : (0 : Int) ≤ ((21 + k : Nat) : Int) ∧ ((21 + k : Nat) : Int) < 42 := by omega
  rw [e_522_102 _ _ _ _ q.hb.1, nb1 q (by omega), sB, if_neg (by decide), show ((59 : Int)) = ((59 : Nat) : Int) from rfl, t_takes1 q (by omega) z2, m_201 (d + 3) q.ha.1, ca_cv]
  refine Bo.cvcv (t_take q (by omega) (by omega) ⟨by omega, by omega⟩) (fun _ a1 _ b1 HA1 HB1 z => ?_) (fun a1 b1 HA1 HB1 z => Bo.tx HA1 HB1 (hE_ _ _ z.1 (V.tr (HE.t z.2))))
  obtain ⟨P1, T1, -⟩ := z
  have V1 := V.tr (HE.t (w := w) T1)
  have R1 := R.t hw q.ha q.hb T1
  have h211a : a1 211 303 0 = (w : Int) := by rw [T1.1.2 211 303 0 (by decide) (by have := q.ha.1.2.2.1; omega) (by simp only [wTA]; omega)]; exact h211
  -- the model's two rows
  have H2 : Hp (fi_upd b1 10 604 (21 + k) 1) := Hp.uI P1.hb _ (by decide) (by decide) (by omega)
  have F2 : Fr (fun _ x i => 604 ≤ x ∧ x ≤ 606 ∧ i = 21 + k) b1 (fi_upd b1 10 604 (21 + k) 1) := Fr.u _ _ (Fr.rf _ _) (by decide) ⟨by decide, by decide, rfl⟩
  have H3 : Hp (fi_upd (fi_upd b1 10 604 (21 + k) 1) 10 605 (21 + k) 0) := Hp.uI H2 _ (by decide) (by decide) (by omega)
  have F3 : Fr (fun _ x i => 604 ≤ x ∧ x ≤ 606 ∧ i = 21 + k) b1 (fi_upd (fi_upd b1 10 604 (21 + k) 1) 10 605 (21 + k) 0) := Fr.u _ _ F2 (by decide) ⟨by decide, by decide, rfl⟩
  have v1 : fi_upd (fi_upd b1 10 604 (21 + k) 1) 10 605 (21 + k) 0 10 604 (21 + k) = 1 := by rw [fi_upd_ne _ _ _ _ _ (by omega), fi_upd_same]
  have v2 : fi_upd (fi_upd b1 10 604 (21 + k) 1) 10 605 (21 + k) 0 10 605 (21 + k) = 0 := fi_upd_same _ _ _ _ _
  have P3 := P1.bw H3 F3 (fun f x i z => by omega)
  have V3 := V1.b F3
  have R3 := R1.b hw P1.ha P1.hb F3
  rw [if_neg (by decide), w21, if_pos i1, lt_eq, lt_eq, Int.toNat_natCast]
  generalize fi_upd (fi_upd b1 10 604 (21 + k) 1) 10 605 (21 + k) 0 = b3 at *
  rw [t_isA P3 (by omega) (w := 61) (by decide) (li_w61 P3.ha), ca_ret, t_isWordB P3 (by omega) (by decide), ca_ret, t_isA P3 (by omega) (w := 60) (by decide) (li_w60 P3.ha), ca_ret, t_isWordB P3 (by omega) (by decide), ca_ret]
  have ta3 := P3.ha.1.2.2.1
  -- the tail behind a new object
  have fin : ∀ (j : Nat) (v : Int) (a4 b4 : fi_H), i < j → PS u n M j a4 b4 → HE w a0 b0 a4 b4 → HRw w k a4 b4 → a4 211 303 0 = (w : Int) → b4 10 604 (21 + k) = 1 → b4 10 605 (21 + k) = v → (-100 ≤ v ∧ v ≤ 100) → ∀ K : fk_R, (∀ a5 r, r = a4 2 0 0 + 1 → a5 = fi_new a4 105 1 0 → K = ca_ (c_201_59 (d + 3) r r v a5) 4 (fun v h => c_198_151 (d + 4) (k : Int) (w : Int) (k : Int) v h) (fun q h => tx_ q h)) → Bo 304 0 9 K (c_522_416 (e + 4) (k : Int) b4) (HolP w a0 b0) (HolE w a0 b0) := by
    intro j v a4 b4 hj P4 V4 R4 g211 u1 u2 hv K hK
    have N := NW.new P4.ha 105 1 (by decide)
    have hcls := N.cl
    have hz := N.g (f := 333) (by decide)
    have hr := N.rg
    have ht := N.2.2.1
    have P5 := P4.an N.hp (N.fr _)
    have V5 : HE w a0 b0 (fi_new a4 105 1 0) b4 := V4.tr ⟨N.fr _, Fr.rf _ _⟩
    have R5 := R4.nw hw P4.ha P4.hb (N.fr (fun _ _ _ => False))
    have R4l := R4.lt
    have g5 : fi_new a4 105 1 0 211 303 0 = (w : Int) := by rw [N.o 211 0 (by have := P4.ha.1.2.2.1; omega)]; exact g211
    have l5 : ∀ j, fi_new a4 105 1 0 12 w j = a4 12 w j := fun j => N.o 12 j (by have := P4.ha.1.2.2.1; omega)
    rw [hK _ _ rfl rfl]
    generalize fi_new a4 105 1 0 = a5 at *
    generalize hrr : a4 2 0 0 + 1 = r at *
    obtain ⟨a6, e6, H6, F6, x6⟩ := c59 (d := 0) (k := 0) (dd := d + 1) P5.ha (r := r) (v := v) (by omega) hcls hz (by omega)
    have P6 := P5.ro (r := r) (c := 105) (by omega) hcls (by decide) (by decide) H6 F6
    have V6 : HE w a0 b0 a6 b4 := ⟨V5.1.on F6 (fun f x i h1 h2 z => by have := V4.1.1; omega), V5.2⟩
    have R6 := R5.r hw P5.ha (by omega) (fun j hj => by rw [l5]; have := R4l j hj; omega) F6
    rw [e6, ca_ret]
    refine t_holt (s := 1) (x := v) (y := b4 10 606 (21 + k)) hw hk (by omega) (by omega) P6 ⟨⟨by omega, by have := F6.1; omega⟩, Or.inr (Or.inl ⟨rfl, by rw [F6.2 0 r.toNat 0 (by omega) (by omega) (by omega)]; exact hcls, x6, hv.1, hv.2⟩)⟩ u1 u2 rfl R6 V6 ?_ hE_ (fun a' b' p1 p2 p3 p4 => ih _ a' b' (by omega) p1 p2 p3 p4)
    rw [F6.2 211 303 0 (by decide) (by have := P5.ha.1.2.2.1; omega) (by omega)]; exact g5
  -- plus, minus
  have sgd : ∀ x1 : Int, (x1 = 0 ∨ x1 = 1) → tk u n (i + 1) = 2 → Bo 304 0 9 (ca_ (c_201_33 (d + 3) x1 a1) 4 (fun v h => c_198_151 (d + 4) (k : Int) (w : Int) (k : Int) v h) (fun q h => tx_ q h)) (c_522_278 (e + 4) (k : Int) ((21 + k : Nat) : Int) x1 b3) (HolP w a0 b0) (HolE w a0 b0) := by
    intro x1 hx1 hk2
    rw [e_201_33 _ _ P3.ha.1, ca_cv, e_522_278 _ _ _ _ P3.hb.1]
    refine Bo.cvcv (t_take P3 (by omega) (by omega) ⟨by omega, by omega⟩) (fun _ a4 _ b4 HA4 HB4 z => ?_) (fun a4 b4 HA4 HB4 z => Bo.tx HA4 HB4 (hE_ _ _ z.1 (V3.tr (HE.t z.2))))
    obtain ⟨P4, T4, -⟩ := z
    have V4 := V3.tr (HE.t (w := w) T4)
    have R4 := R3.t hw P3.ha P3.hb T4
    rw [ca_ca]
    refine Bo.caca (t_number P4 (by omega) (by omega) (by omega) (by omega)) (by decide) (by decide) (fun x a5 y b5 HA5 HB5 z => ?_) (fun a5 b5 HA5 HB5 z => Bo.tx HA5 HB5 (hE_ _ _ z.1 (V4.tr (HE.t z.2))))
    obtain ⟨rfl, hx, P5, T5, -, -⟩ := z
    have V5 := V4.tr (HE.t (w := w) T5)
    have R5 := R4.t hw P4.ha P4.hb T5
    have tb3 := P3.hb.1.2.2.1
    have ta4 := P4.ha.1.2.2.1
    have tb4 := P4.hb.1.2.2.1
    have g5 : a5 211 303 0 = (w : Int) := by
      rw [T5.1.2 211 303 0 (by decide) (by omega) (by simp only [wTA]; omega), T4.1.2 211 303 0 (by decide) (by omega) (by simp only [wTA]; omega)]; exact h211a
    have u5 : b5 10 604 (21 + k) = 1 := by
      rw [T5.2.2 10 604 _ (by decide) (by omega) (by simp only [wTB]; omega), T4.2.2 10 604 _ (by decide) (by omega) (by simp only [wTB]; omega)]; exact v1
    have c605 : b5 0 605 0 = 10 := s0_605 P5.hb.1
    have l605 : b5 1 605 0 = 42 := s1_605 P5.hb.1
    have go : ∀ v : Int, (-100 ≤ v ∧ v ≤ 100) → ∀ KA : fk_R, (∀ a6 r, r = a5 2 0 0 + 1 → a6 = fi_new a5 105 1 0 → KA = ca_ (c_201_59 (d + 3) r r v a6) 4 (fun v h => c_198_151 (d + 4) (k : Int) (w : Int) (k : Int) v h) (fun q h => tx_ q h)) → Bo 304 0 9 KA (c_522_311 (e + 4) (k : Int) 605 ((21 + k : Nat) : Int) v b5) (HolP w a0 b0) (HolE w a0 b0) := by
      intro v hv KA hKA
      have H6 : Hp (fi_upd b5 10 605 (21 + k) v) := Hp.uI P5.hb _ (by decide) (by decide) (by omega)
      have F6 : Fr (fun _ x i => 604 ≤ x ∧ x ≤ 606 ∧ i = 21 + k) b5 (fi_upd b5 10 605 (21 + k) v) := Fr.u _ _ (Fr.rf _ _) (by decide) ⟨by decide, by decide, rfl⟩
      have y1 : fi_upd b5 10 605 (21 + k) v 10 604 (21 + k) = 1 := by rw [fi_upd_ne _ _ _ _ _ (by omega)]; exact u5
      rw [e_522_311 _ _ _ _ _ P5.hb.1, show ((605 : Int)).toNat = 605 from rfl, if_pos ⟨by decide, c605⟩, l605, if_pos i1, lt_eq, Int.toNat_natCast, e_522_312 _ _ H6.1]
      exact fin (i + 1 + 1 + 1) v a5 _ (by omega) (P5.bw H6 F6 (fun f x i z => by omega)) (V5.b F6) (R5.b hw P5.ha P5.hb F6) g5 y1 (fi_upd_same _ _ _ _ _) hv KA hKA
    rcases hx1 with rfl | rfl
    · rw [if_pos rfl, wI_id (x := x) (by omega) (by omega)]
      refine go x (by omega) _ (fun a6 r e1 e2 => ?_)
      subst e1; subst e2
      rw [nw_eq, if_pos rfl]
    · rw [if_neg (by decide), wI_id (x := x) (by omega) (by omega), wI_id (x := -x) (by omega) (by omega)]
      refine go (-x) (by omega) _ (fun a6 r e1 e2 => ?_)
      subst e1; subst e2
      rw [nw_eq, if_neg (by decide)]
  by_cases c61 : tk u n (i + 1) = 2 ∧ kw u n (i + 1) = 61
  · have c61' : tk u n (i + 1) = 2 ∧ kw u n (i + 1) = ((61 : Nat) : Int) := c61
    rw [if_pos c61', if_pos c61, if_neg (by decide), if_neg (by decide)]
    exact sgd 1 (Or.inr rfl) c61.1
  · have c61' : ¬ (tk u n (i + 1) = 2 ∧ kw u n (i + 1) = ((61 : Nat) : Int)) := c61
    rw [if_neg c61', if_neg c61, if_pos rfl, if_pos rfl]
    by_cases c60 : tk u n (i + 1) = 2 ∧ kw u n (i + 1) = 60
    · have c60' : tk u n (i + 1) = 2 ∧ kw u n (i + 1) = ((60 : Nat) : Int) := c60
      rw [if_pos c60', if_pos c60, if_neg (by decide), if_neg (by decide)]
      exact sgd 0 (Or.inl rfl) c60.1
    · have c60' : ¬ (tk u n (i + 1) = 2 ∧ kw u n (i + 1) = ((60 : Nat) : Int)) := c60
      rw [if_neg c60', if_neg c60, if_pos rfl, if_pos rfl, e_522_312 _ _ P3.hb.1]
      refine fin (i + 1) 0 a1 b3 (by omega) P3 V3 R3 h211a v1 v2 (by omega) _ (fun a6 r e1 e2 => ?_)
      subst e1; subst e2
      have N := NW.new P3.ha 105 1 (by decide)
      rw [nw_eq, e_201_59 _ _ _ _ N.hp.1, N.cl, if_pos (by decide)]
end HOL6
end

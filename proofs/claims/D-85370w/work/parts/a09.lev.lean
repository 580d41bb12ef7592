section
/-! reading expressions: the levels -/
set_option maxRecDepth 100000
section LEV
variable {u : Nat → Int} {n M i m p : Nat} {a b a0 b0 : fi_H} {dA dB d : Nat}
theorem t_sgB (q : PS u n M i a b) (hB : 1 ≤ dB) {c : Int} (hc : c ≠ 108 ∧ c ≠ 103 ∧ c < 128) : fj_run dB 506 b [(4, 602), (0, c)] = some (.inl (some (0, if tk u n i = 6 ∧ (tok u n (pl u n i)).2.2 = c then 1 else 0)), b) := by
  rw [t_isSignB q hB c]
  by_cases z : tk u n i = 6 ∧ (tok u n (pl u n i)).2.2 = c
  · have hs := tok_sg i z.1
    rw [if_pos z, if_pos ⟨z.1, (bsg_iff hc.1 hc.2.1 (by omega) (by omega)).mpr z.2⟩]
  · rw [if_neg z, if_neg (fun w => z ⟨w.1, (bsg_iff hc.1 hc.2.1 (by omega) (by have := tok_sg (u := u) (n := n) i w.1; omega)).mp w.2⟩)]
theorem t_sgn (q : PS u n M i a b) (z : tk u n i = 6) : b 394 602 0 = 6 ∧ b 395 602 0 = bsg (tok u n (pl u n i)).2.2 := q.tb.2.2.2.2.2.2.2.2 z
theorem XL.ret {i0 p0 r : Nat} {x : Int} (q : XL u n M i0 i m p0 p a0 b0 a b x r) (h : i0 < i) : Bo 304 4 0 (some (.inl (some (4, x)), a)) (some (.inl (some (0, (r : Int))), b)) (XPo u n M i0 m p0 a0 b0) (WrX p0 a0 b0) :=
  Bo.ret (by decide) (by decide) q.2.2.2.1.1.ha q.2.2.2.1.1.hb ⟨i, p, r, h, q.2.1, q.2.2.1, rfl, q.2.2.2.1, q.2.2.2.2.1, q.2.2.2.2.2.1, q.2.2.2.2.2.2⟩
theorem rf_unary {i c : Nat} (S : RF 238 542 c u n M i) (R : ∀ i', i < i' → RF 237 541 (c + 1) u n M i') (hc : 20 ≤ c ∧ c ≤ 26) : RF 237 541 (c + 1) u n M i := by
  intro m p a b dA dB X hA hB
  obtain ⟨d, rfl⟩ : ∃ e, dA = e + 1 := ⟨dA - 1, by omega⟩
  obtain ⟨e, rfl⟩ : ∃ e', dB = e' + 1 := ⟨dB - 1, by omega⟩
  have hi := X.1.2.2.2.2.1
  rw [m_237 d X.1.ha.1, t_isSignA X.1 (by omega) 45, ca_ret, ite0, m_541 e X.1.hb.1, t_sgB X.1 (by omega) (by decide), ca_ret, ite0]
  by_cases z : tk u n i = 6 ∧ (tok u n (pl u n i)).2.2 = 45
  · rw [if_pos z, if_pos z, X.1.at, if_pos (by omega), Int.toNat_natCast, X.1.row.2]
    refine t_turn X ⟨by omega, by omega⟩ (s := 0) (o := 15) (Or.inr ⟨rfl, rfl⟩) (R (i + 1) (by omega)) (by omega) (by omega) (by omega) rfl (fun r h H hr => ?_)
    have e85 : ∀ k : Int, c_541_85 e (r : Int) 602 15 (b 396 602 0) k h = ca_ (fj_run e 546 h [(4, 602), (0, 15), (0, (pl u n i : Int)), (0, k), (0, (r : Int)), (0, -1), (0, -1)]) 0 (fun v2 h1 => some (.inl (some (0, v2)), h1)) (fun q h => tx_ q h) := fun k => by
      rw [e_541_85 _ _ _ _ _ _ H.1, vt368 H.1, dv_s, X.1.tb.1]
    rw [if_pos (by omega), Int.toNat_natCast, e_541_80 _ _ _ _ _ _ H.1, e85, e85]
    by_cases w : isSm (h 10 618 r) ∨ h 10 618 r = 5
    · rw [if_pos (by omega : ((15 : Int) = 3 ∧ h 10 618 r = 0) ∨ ((15 : Int) = 15 ∧ (isSm (h 10 618 r) ∨ h 10 618 r = 5)))]
      (repeat' split) <;> first | rfl | (exfalso; omega)
    · rw [if_neg (by omega : ¬ (((15 : Int) = 3 ∧ h 10 618 r = 0) ∨ ((15 : Int) = 15 ∧ (isSm (h 10 618 r) ∨ h 10 618 r = 5))))]
      (repeat' split) <;> first | rfl | (exfalso; omega)
  · rw [if_neg z, if_neg z]
    refine Bo.caca (S m p a b d e X (by omega) (by omega)) (by decide) (by decide) (fun x a1 y b1 HA1 HB1 w => ?_) (fun a1 b1 HA1 HB1 w => Bo.tx HA1 HB1 w)
    exact Bo.ret (by decide) (by decide) HA1 HB1 w
theorem rf_bare {i c : Nat} (S : RF 234 538 c u n M i) (R : ∀ i', i < i' → RF 233 537 (c + 1) u n M i') (hc : 20 ≤ c ∧ c ≤ 29) : RF 233 537 (c + 1) u n M i := by
  intro m p a b dA dB X hA hB
  obtain ⟨d, rfl⟩ : ∃ e, dA = e + 1 := ⟨dA - 1, by omega⟩
  obtain ⟨e, rfl⟩ : ∃ e', dB = e' + 1 := ⟨dB - 1, by omega⟩
  have hi := X.1.2.2.2.2.1
  rw [m_233 d X.1.ha.1, t_isK X.1 (by omega) 27 (w := 27) rfl (by decide) (li_w27 X.1.ha), ca_ret, ite0, m_537 e X.1.hb.1, t_isWordB X.1 (by omega) (by decide), ca_ret, ite0]
  by_cases z : tk u n i = 2 ∧ kw u n i = 27
  · rw [if_pos z, if_pos z, X.1.at, if_pos (by omega), Int.toNat_natCast, X.1.row.2]
    refine t_turn X ⟨by omega, by omega⟩ (s := 1) (o := 3) (Or.inl ⟨rfl, rfl⟩) (R (i + 1) (by omega)) (by omega) (by omega) (by omega) rfl (fun r h H hr => ?_)
    have e60 : ∀ k : Int, c_537_60 e (r : Int) 602 3 (b 396 602 0) k h = ca_ (fj_run e 546 h [(4, 602), (0, 3), (0, (pl u n i : Int)), (0, k), (0, (r : Int)), (0, -1), (0, -1)]) 0 (fun v2 h1 => some (.inl (some (0, v2)), h1)) (fun q h => tx_ q h) := fun k => by
      rw [e_537_60 _ _ _ _ _ _ H.1, vt368 H.1, dv_s, X.1.tb.1]
    rw [if_pos (by omega), Int.toNat_natCast, e60, e60]
    by_cases w : h 10 618 r = 0
    · rw [if_pos w, if_pos (Or.inl ⟨rfl, w⟩), w]
    · rw [if_neg w, if_neg (by omega : ¬ (((3 : Int) = 3 ∧ h 10 618 r = 0) ∨ ((3 : Int) = 15 ∧ (isSm (h 10 618 r) ∨ h 10 618 r = 5))))]
  · rw [if_neg z, if_neg z]
    refine Bo.caca (S m p a b d e X (by omega) (by omega)) (by decide) (by decide) (fun x a1 y b1 HA1 HB1 w => ?_) (fun a1 b1 HA1 HB1 w => Bo.tx HA1 HB1 w)
    exact Bo.ret (by decide) (by decide) HA1 HB1 w
/-- or, and -/
theorem t_orl {i0 p0 c : Nat} (R : ∀ i', i0 < i' → RF 232 536 c u n M i') (hc : 12 ≤ c) (hA : 20 * (40 - (b0 427 602 0).toNat) + c ≤ dA) (hB : 20 * (40 - (b0 427 602 0).toNat) + c ≤ dB) : ∀ (left i p : Nat) (a b : fi_H) (x : Int) (r : Nat), i + left = 1201 → i0 < i → XL u n M i0 i m p0 p a0 b0 a b x r → Bo 304 4 0 (c_231_5 (dA + 1) x a) (c_535_5 dB (r : Int) b) (XPo u n M i0 m p0 a0 b0) (WrX p0 a0 b0) := by
  intro left
  induction left using Nat.strongRecOn with
  | ind left IH =>
    intro i p a b x r hl hlt q
    have X := q.2.2.2.1
    rw [e_231_5 _ _ X.1.ha.1, t_isK X.1 (by omega) 25 (w := 25) rfl (by decide) (li_w25 X.1.ha), ca_ret, ite0, e_535_5 _ _ X.1.hb.1, t_isWordB X.1 (by omega) (by decide), ca_ret, ite0]
    by_cases z : tk u n i = 2 ∧ kw u n i = 25
    · rw [if_pos z, if_pos z]
      refine t_join q ⟨by omega, by omega⟩ (o := 1) (by decide) (Or.inl ⟨rfl, rfl⟩) (R (i + 1) (by omega)) hc hA hB (fun _ _ w => w) (fun x' a' b' r' j p' hj q' => ?_)
      have := q'.2.2.2.1.1.2.2.2.2.1
      exact IH (1201 - j) (by omega) j p' a' b' x' r' (by omega) (by omega) q'
    · rw [if_neg z, if_neg z]; exact q.ret hlt
theorem rf_ex {i c : Nat} (S : RF 232 536 c u n M i) (R : ∀ i', i < i' → RF 232 536 c u n M i') (hc : 20 ≤ c ∧ c ≤ 40) : RF 231 535 (c + 2) u n M i := by
  intro m p a b dA dB X hA hB
  obtain ⟨d, rfl⟩ : ∃ e, dA = e + 2 := ⟨dA - 2, by omega⟩
  obtain ⟨e, rfl⟩ : ∃ e', dB = e' + 1 := ⟨dB - 1, by omega⟩
  rw [m_231 (d + 1) X.1.ha.1, m_535 e X.1.hb.1]
  refine Bo.caca (S m p a b (d + 1) e X (by omega) (by omega)) (by decide) (by decide) (fun x a1 y b1 HA1 HB1 z => ?_) (fun a1 b1 HA1 HB1 z => Bo.tx HA1 HB1 z)
  obtain ⟨j, p', r, hj, hr1, hr2, rfl, X1, V1, c427, c1⟩ := z
  have := X1.1.2.2.2.2.1
  exact t_orl R (by omega) (by omega) (by omega) (1201 - j) j p' a1 b1 x r (by omega) hj ⟨by omega, hr1, hr2, X1, V1, c427, c1⟩
theorem t_andl {i0 p0 c : Nat} (R : ∀ i', i0 < i' → RF 233 537 c u n M i') (hc : 12 ≤ c) (hA : 20 * (40 - (b0 427 602 0).toNat) + c ≤ dA) (hB : 20 * (40 - (b0 427 602 0).toNat) + c ≤ dB) : ∀ (left i p : Nat) (a b : fi_H) (x : Int) (r : Nat), i + left = 1201 → i0 < i → XL u n M i0 i m p0 p a0 b0 a b x r → Bo 304 4 0 (c_232_5 (dA + 1) x a) (c_536_5 dB (r : Int) b) (XPo u n M i0 m p0 a0 b0) (WrX p0 a0 b0) := by
  intro left
  induction left using Nat.strongRecOn with
  | ind left IH =>
    intro i p a b x r hl hlt q
    have X := q.2.2.2.1
    rw [e_232_5 _ _ X.1.ha.1, t_isK X.1 (by omega) 26 (w := 26) rfl (by decide) (li_w26 X.1.ha), ca_ret, ite0, e_536_5 _ _ X.1.hb.1, t_isWordB X.1 (by omega) (by decide), ca_ret, ite0]
    by_cases z : tk u n i = 2 ∧ kw u n i = 26
    · rw [if_pos z, if_pos z]
      refine t_join q ⟨by omega, by omega⟩ (o := 2) (by decide) (Or.inr (Or.inl ⟨rfl, rfl⟩)) (R (i + 1) (by omega)) hc hA hB (fun _ _ w => w) (fun x' a' b' r' j p' hj q' => ?_)
      have := q'.2.2.2.1.1.2.2.2.2.1
      exact IH (1201 - j) (by omega) j p' a' b' x' r' (by omega) (by omega) q'
    · rw [if_neg z, if_neg z]; exact q.ret hlt
theorem rf_both {i c : Nat} (S : RF 233 537 c u n M i) (R : ∀ i', i < i' → RF 233 537 c u n M i') (hc : 20 ≤ c ∧ c ≤ 40) : RF 232 536 (c + 2) u n M i := by
  intro m p a b dA dB X hA hB
  obtain ⟨d, rfl⟩ : ∃ e, dA = e + 2 := ⟨dA - 2, by omega⟩
  obtain ⟨e, rfl⟩ : ∃ e', dB = e' + 1 := ⟨dB - 1, by omega⟩
  rw [m_232 (d + 1) X.1.ha.1, m_536 e X.1.hb.1]
  refine Bo.caca (S m p a b (d + 1) e X (by omega) (by omega)) (by decide) (by decide) (fun x a1 y b1 HA1 HB1 z => ?_) (fun a1 b1 HA1 HB1 z => Bo.tx HA1 HB1 z)
  obtain ⟨j, p', r, hj, hr1, hr2, rfl, X1, V1, c427, c1⟩ := z
  have := X1.1.2.2.2.2.1
  exact t_andl R (by omega) (by omega) (by omega) (1201 - j) j p' a1 b1 x r (by omega) hj ⟨by omega, hr1, hr2, X1, V1, c427, c1⟩
theorem vt304 (H : Shp a) : fi_vt 304 (a 0 ((377 : Int)).toNat 0) = some 297 := by
  rw [show ((377 : Int)).toNat = 377 from rfl, s0_377 H]; rfl
/-- *, /, rem -/
theorem t_prol {i0 p0 c : Nat} (R : ∀ i', i0 < i' → RF 237 541 c u n M i') (hc : 12 ≤ c) (hA : 20 * (40 - (b0 427 602 0).toNat) + c ≤ dA) (hB : 20 * (40 - (b0 427 602 0).toNat) + c ≤ dB) : ∀ (left i p : Nat) (a b : fi_H) (x : Int) (r : Nat), i + left = 1201 → i0 < i → XL u n M i0 i m p0 p a0 b0 a b x r → Bo 304 4 0 (c_236_5 (dA + 1) x a) (c_540_5 dB (r : Int) b) (XPo u n M i0 m p0 a0 b0) (WrX p0 a0 b0) := by
  intro left
  induction left using Nat.strongRecOn with
  | ind left IH =>
    intro i p a b x r hl hlt q
    have X := q.2.2.2.1
    have go : ∀ (o : Int), (o = 12 ∨ o = 13 ∨ o = 14) → tk u n i ≠ 0 ∧ tk u n i ≠ 1 → Bo 304 4 0 (c_236_67 (dA + 1) x 377 (15 + sgn o) a) (c_540_66 dB (r : Int) (b 396 602 0) o b) (XPo u n M i0 m p0 a0 b0) (WrX p0 a0 b0) := by
      intro o ho hk
      rw [e_236_67 _ _ _ _ X.1.ha.1, vt304 X.1.ha.1, dv_s, e_540_66 _ _ _ _ X.1.hb.1]
      refine t_join q hk (o := o) (by omega) (by rcases ho with rfl | rfl | rfl <;> decide) (R (i + 1) (by omega)) hc hA hB (fun _ _ w => w) (fun x' a' b' r' j p' hj q' => ?_)
      have := q'.2.2.2.1.1.2.2.2.2.1
      exact IH (1201 - j) (by omega) j p' a' b' x' r' (by omega) (by omega) q'
    rw [e_236_5 _ _ X.1.ha.1, t_isSignA X.1 (by omega) 42, ca_ret, ite0, t_isSignA X.1 (by omega) 47, ca_ret, ite0, t_isK X.1 (by omega) 28 (w := 28) rfl (by decide) (li_w28 X.1.ha), ca_ret, ite0, e_540_5 _ _ X.1.hb.1, t_sgB X.1 (by omega) (by decide), ca_ret, ite0, t_sgB X.1 (by omega) (by decide), ca_ret, ite0, t_isWordB X.1 (by omega) (by decide), ca_ret, ite0, e_236_33 _ _ X.1.ha.1, t_isSignA X.1 (by omega) 42, ca_ret, ite0, t_isSignA X.1 (by omega) 47, ca_ret, ite0, e_540_32 _ _ X.1.hb.1]
    by_cases z1 : tk u n i = 6 ∧ (tok u n (pl u n i)).2.2 = 42
    · have s := t_sgn X.1 z1.1
      rw [z1.2] at s
      have s2 : b 395 602 0 = 42 := s.2
      rw [if_pos z1, if_pos z1, if_pos z1, s.1, if_neg (by decide), if_pos s2]
      exact go 12 (Or.inl rfl) ⟨by omega, by omega⟩
    · rw [if_neg z1, if_neg z1, if_neg z1]
      by_cases z2 : tk u n i = 6 ∧ (tok u n (pl u n i)).2.2 = 47
      · have s := t_sgn X.1 z2.1
        rw [z2.2] at s
        have s2 : b 395 602 0 = 47 := s.2
        rw [if_pos z2, if_pos z2, if_pos z2, s.1, if_neg (by decide), s2, if_neg (by decide)]
        exact go 13 (Or.inr (Or.inl rfl)) ⟨by omega, by omega⟩
      · rw [if_neg z2, if_neg z2, if_neg z2]
        by_cases z3 : tk u n i = 2 ∧ kw u n i = 28
        · have sB := t_sortB X.1
          rw [if_neg (by omega), if_neg (by omega), if_pos z3.1, if_neg (by omega)] at sB
          rw [if_pos z3, if_pos z3, if_pos sB]
          exact go 14 (Or.inr (Or.inr rfl)) ⟨by omega, by omega⟩
        · rw [if_neg z3, if_neg z3]; exact q.ret hlt
theorem rf_prod {i c : Nat} (S : RF 237 541 c u n M i) (R : ∀ i', i < i' → RF 237 541 c u n M i') (hc : 20 ≤ c ∧ c ≤ 40) : RF 236 540 (c + 2) u n M i := by
  intro m p a b dA dB X hA hB
  obtain ⟨d, rfl⟩ : ∃ e, dA = e + 2 := ⟨dA - 2, by omega⟩
  obtain ⟨e, rfl⟩ : ∃ e', dB = e' + 1 := ⟨dB - 1, by omega⟩
  rw [m_236 (d + 1) X.1.ha.1, m_540 e X.1.hb.1]
  refine Bo.caca (S m p a b (d + 1) e X (by omega) (by omega)) (by decide) (by decide) (fun x a1 y b1 HA1 HB1 z => ?_) (fun a1 b1 HA1 HB1 z => Bo.tx HA1 HB1 z)
  obtain ⟨j, p', r, hj, hr1, hr2, rfl, X1, V1, c427, c1⟩ := z
  have := X1.1.2.2.2.2.1
  exact t_prol R (by omega) (by omega) (by omega) (1201 - j) j p' a1 b1 x r (by omega) hj ⟨by omega, hr1, hr2, X1, V1, c427, c1⟩
/-- +, - -/
theorem t_suml {i0 p0 c : Nat} (R : ∀ i', i0 < i' → RF 236 540 c u n M i') (hc : 12 ≤ c) (hA : 20 * (40 - (b0 427 602 0).toNat) + c ≤ dA) (hB : 20 * (40 - (b0 427 602 0).toNat) + c ≤ dB) : ∀ (left i p : Nat) (a b : fi_H) (x : Int) (r : Nat), i + left = 1201 → i0 < i → XL u n M i0 i m p0 p a0 b0 a b x r → Bo 304 4 0 (c_235_5 (dA + 1) x a) (c_539_5 dB (r : Int) b) (XPo u n M i0 m p0 a0 b0) (WrX p0 a0 b0) := by
  intro left
  induction left using Nat.strongRecOn with
  | ind left IH =>
    intro i p a b x r hl hlt q
    have X := q.2.2.2.1
    have go : ∀ (o : Int), (o = 10 ∨ o = 11) → tk u n i ≠ 0 ∧ tk u n i ≠ 1 → Bo 304 4 0 (c_235_42 (dA + 1) x 377 (15 + sgn o) a) (c_539_44 dB (r : Int) (b 396 602 0) o b) (XPo u n M i0 m p0 a0 b0) (WrX p0 a0 b0) := by
      intro o ho hk
      rw [e_235_42 _ _ _ _ X.1.ha.1, vt304 X.1.ha.1, dv_s, e_539_44 _ _ _ _ X.1.hb.1]
      refine t_join q hk (o := o) (by omega) (by rcases ho with rfl | rfl <;> decide) (R (i + 1) (by omega)) hc hA hB (fun _ _ w => w) (fun x' a' b' r' j p' hj q' => ?_)
      have := q'.2.2.2.1.1.2.2.2.2.1
      exact IH (1201 - j) (by omega) j p' a' b' x' r' (by omega) (by omega) q'
    rw [e_235_5 _ _ X.1.ha.1, t_isSignA X.1 (by omega) 43, ca_ret, ite0, t_isSignA X.1 (by omega) 45, ca_ret, ite0, e_539_5 _ _ X.1.hb.1, t_sgB X.1 (by omega) (by decide), ca_ret, ite0, t_sgB X.1 (by omega) (by decide), ca_ret, ite0, e_235_23 _ _ X.1.ha.1, t_isSignA X.1 (by omega) 43, ca_ret, ite0, e_539_23 _ _ X.1.hb.1]
    by_cases z1 : tk u n i = 6 ∧ (tok u n (pl u n i)).2.2 = 43
    · have s := t_sgn X.1 z1.1
      rw [z1.2] at s
      have s2 : b 395 602 0 = 43 := s.2
      rw [if_pos z1, if_pos z1, if_pos z1, if_pos s2]
      exact go 10 (Or.inl rfl) ⟨by omega, by omega⟩
    · rw [if_neg z1, if_neg z1, if_neg z1]
      by_cases z2 : tk u n i = 6 ∧ (tok u n (pl u n i)).2.2 = 45
      · have s := t_sgn X.1 z2.1
        rw [z2.2] at s
        have s2 : b 395 602 0 = 45 := s.2
        rw [if_pos z2, if_pos z2, s2, if_neg (by decide)]
        exact go 11 (Or.inr rfl) ⟨by omega, by omega⟩
      · rw [if_neg z2, if_neg z2]; exact q.ret hlt
theorem rf_sum {i c : Nat} (S : RF 236 540 c u n M i) (R : ∀ i', i < i' → RF 236 540 c u n M i') (hc : 20 ≤ c ∧ c ≤ 40) : RF 235 539 (c + 2) u n M i := by
  intro m p a b dA dB X hA hB
  obtain ⟨d, rfl⟩ : ∃ e, dA = e + 2 := ⟨dA - 2, by omega⟩
  obtain ⟨e, rfl⟩ : ∃ e', dB = e' + 1 := ⟨dB - 1, by omega⟩
  rw [m_235 (d + 1) X.1.ha.1, m_539 e X.1.hb.1]
  refine Bo.caca (S m p a b (d + 1) e X (by omega) (by omega)) (by decide) (by decide) (fun x a1 y b1 HA1 HB1 z => ?_) (fun a1 b1 HA1 HB1 z => Bo.tx HA1 HB1 z)
  obtain ⟨j, p', r, hj, hr1, hr2, rfl, X1, V1, c427, c1⟩ := z
  have := X1.1.2.2.2.2.1
  exact t_suml R (by omega) (by omega) (by omega) (1201 - j) j p' a1 b1 x r (by omega) hj ⟨by omega, hr1, hr2, X1, V1, c427, c1⟩
end LEV
end

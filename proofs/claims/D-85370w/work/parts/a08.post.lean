section
/-! reading expressions: of, on, not, - -/
set_option maxRecDepth 100000
section POST
variable {u : Nat → Int} {n M i m p : Nat} {a b a0 b0 : fi_H} {dA dB d : Nat}
theorem vt368 (H : Shp b) : fi_vt 368 (b 0 ((602 : Int)).toNat 0) = some 546 := by
  rw [show ((602 : Int)).toNat = 602 from rfl, s0_602 H]; rfl
/-- the right hand of 'of' and 'on', behind their word -/
theorem t_ofon {i0 p0 : Nat} {x1 : Int} {q1 : Nat} (q : XL u n M i0 i m p0 p a0 b0 a b x1 q1) (hlt : i0 < i) (hk : tk u n i ≠ 0 ∧ tk u n i ≠ 1) {o : Int} (ho : o = 16 ∨ o = 17) {c : Nat} (R : RF 239 543 c u n M (i + 1)) (hc : 14 ≤ c ∧ c ≤ 30) (hA : 20 * (40 - (b0 427 602 0).toNat) + 12 ≤ dA) (hB : 20 * (40 - (b0 427 602 0).toNat) + 14 ≤ dB) {KB : Int → fi_H → fk_R} {s w : Int} (hpl : w = (pl u n i : Int)) (hs : s = 15 + sgn o)
    (hKB : ∀ (r : Nat) (h : fi_H), Hp h → r < 8000 → KB (r : Int) h = ca_ (fj_run dB 546 h [(4, 602), (0, o), (0, w), (0, kTwo o (h 10 618 q1) (h 10 618 r)), (0, (q1 : Int)), (0, (r : Int)), (0, -1)]) 0 (fun v2 h1 => some (.inl (some (0, v2)), h1)) (fun q h => tx_ q h)) :
    Bo 304 4 0 (cv_ (fj_run dA 241 a [(4, 377)]) (fun h8 => ca_ (fj_run dA 239 h8 [(4, 377)]) 4 (fun v12 h11 => lt_ (fi_upd h11 159 377 0 (wI ((h11 159 377 0) - 1))) fun h14 => ca_ (fj_run dA 290 h14 [(4, 377), (4, s), (4, x1), (4, v12), (0, w)]) 4 (fun v16 h15 => some (.inl (some (4, v16)), h15)) (fun q h => tx_ q h)) (fun q h => tx_ q h)) (fun q h => tx_ q h))
      (cv_ (fj_run dB 549 b [(4, 602), (0, b 396 602 0)]) (fun h7 => cv_ (fj_run dB 502 h7 [(4, 602)]) (fun h10 => ca_ (fj_run dB 543 h10 [(4, 602)]) 0 (fun v14 h13 => lt_ (fi_upd h13 427 602 0 (wI ((h13 427 602 0) - 1))) fun h16 => KB v14 h16) (fun q h => tx_ q h)) (fun q h => tx_ q h)) (fun q h => tx_ q h)) (XPo u n M i0 m p0 a0 b0) (WrX p0 a0 b0) := by
  subst hs
  obtain ⟨l1, l2, l3, X, V, c427, c1⟩ := q
  have hp := X.1.ple
  have ob := X.1.op
  have hpl2 : 0 ≤ w ∧ w ≤ 4000 := by omega
  refine t_opn X.1 (by omega) (by omega) hk (fun a' b' z => WrX.ofE V z) (fun a2 b2 P2 T2 e427 lt40 => ?_)
  have X2 := X.v P2 T2.v
  have V2 : XE p0 a0 b0 a2 b2 := V.tr T2.v.x
  refine Bo.caca (R m p a2 b2 dA dB X2 (by omega) (by omega)) (by decide) (by decide) (fun x2 a3 y b3 HA3 HB3 z => ?_) (fun a3 b3 HA3 HB3 z => Bo.tx HA3 HB3 (z.tr V2 (by omega)))
  obtain ⟨j, p', r, hj, hr1, hr2, rfl, X3, V3, f427, c2⟩ := z
  have cl := ((T2.v.x (p0 := p)).tr V3).pr X.1.ha X.1.hb c1 (by omega)
  have op := X3.1.op
  have rB := rI X3.1.hb (f := 427) rfl 602 0
  rw [lt_eq, lt_eq, op.1, wI_id (by omega) (by omega)]
  have X4 := X3.o (v := b3 427 602 0 - 1) (by omega)
  have T4 := o_tk (a := a3) (b := b3) (b3 427 602 0 - 1)
  have v4 : fi_upd b3 427 602 0 (b3 427 602 0 - 1) 427 602 0 = b3 427 602 0 - 1 := fi_upd_same _ _ _ _ _
  generalize fi_upd a3 159 377 0 (b3 427 602 0 - 1) = a4 at *
  generalize fi_upd b3 427 602 0 (b3 427 602 0 - 1) = b4 at *
  have cl4 := (T4.v.x (p0 := p')).pr X3.1.ha X3.1.hb cl (by omega)
  have c24 := (T4.v.x (p0 := p')).pr X3.1.ha X3.1.hb (PR.low (lo' := q1 + 1) (by omega) _ _ _ c2) (by omega)
  have V4 : XE p0 a0 b0 a4 b4 := (V2.tr (V3.mono (by omega))).tr T4.v.x
  rw [hKB r b4 X4.1.hb (by have := c2.lo; omega)]
  refine Bo.caca (t_mk2 X4 (o := o) (by omega) cl4 c24 (by omega) (by omega) (by omega) hpl2) (by decide) (by decide) (fun x a5 y b5 HA5 HB5 z => ?_) (fun a5 b5 HA5 HB5 z => Bo.tx HA5 HB5 (z.tr V4 (by omega)))
  obtain ⟨rfl, X5, V5, g427, c5⟩ := z
  exact Bo.ret (by decide) (by decide) HA5 HB5 ⟨j, p' + 1, p', by omega, by omega, by omega, rfl, X5, V4.tr (V5.mono (by omega)), by rw [g427, v4, f427, e427, c427]; omega, c5⟩
/-- 'of' -/
theorem rf_post {i c : Nat} (S : RF 240 544 c u n M i) (R : ∀ i', i < i' → RF 239 543 (c + 1) u n M i') (hc : 20 ≤ c ∧ c ≤ 24) : RF 239 543 (c + 1) u n M i := by
  intro m p a b dA dB X hA hB
  obtain ⟨d, rfl⟩ : ∃ e, dA = e + 1 := ⟨dA - 1, by omega⟩
  obtain ⟨e, rfl⟩ : ∃ e', dB = e' + 1 := ⟨dB - 1, by omega⟩
  rw [m_239 d X.1.ha.1, m_543 e X.1.hb.1]
  refine Bo.caca (S m p a b d e X (by omega) (by omega)) (by decide) (by decide) (fun x a1 y b1 HA1 HB1 z => ?_) (fun a1 b1 HA1 HB1 z => Bo.tx HA1 HB1 z)
  obtain ⟨j, p', r, hj, hr1, hr2, rfl, X1, V1, c427, c1⟩ := z
  have hj1 := X1.1.2.2.2.2.1
  have l1 := c1.lo
  rw [t_isK X1.1 (by omega) 30 (w := 30) rfl (by decide) (li_w30 X1.1.ha), ca_ret, ite0, t_isWordB X1.1 (by omega) (by decide), ca_ret, ite0]
  by_cases z : tk u n j = 2 ∧ kw u n j = 30
  · rw [if_pos z, if_pos z, X1.1.at, if_pos (by omega), Int.toNat_natCast, X1.1.row.2]
    refine t_ofon (i0 := i) (p0 := p) ⟨by omega, hr1, hr2, X1, V1, c427, c1⟩ hj ⟨by omega, by omega⟩ (o := 16) (Or.inl rfl) (R (j + 1) (by omega)) (by omega) (by omega) (by omega) rfl rfl (fun r' h H hr' => ?_)
    rw [if_pos (by omega), Int.toNat_natCast]
    by_cases w : h 10 618 r' = 7
    · rw [if_pos w, if_pos (by omega), Int.toNat_natCast, e_543_70 _ _ _ _ _ _ _ H.1, vt368 H.1, dv_s, w, X1.1.tb.1, show kTwo 16 (h 10 618 r) 7 = h 10 618 r by simp [kTwo]]
    · rw [if_neg w, e_543_70 _ _ _ _ _ _ _ H.1, vt368 H.1, dv_s, X1.1.tb.1, show kTwo 16 (h 10 618 r) (h 10 618 r') = -1 by simp [kTwo, w]]
  · rw [if_neg z, if_neg z]
    exact Bo.ret (by decide) (by decide) HA1 HB1 ⟨j, p', r, hj, hr1, hr2, rfl, X1, V1, c427, c1⟩
/-- 'on' -/
theorem rf_shift {i c : Nat} (S : RF 239 543 c u n M i) (R : ∀ i', i < i' → RF 239 543 c u n M i') (hc : 20 ≤ c ∧ c ≤ 25) : RF 238 542 (c + 1) u n M i := by
  intro m p a b dA dB X hA hB
  obtain ⟨d, rfl⟩ : ∃ e, dA = e + 1 := ⟨dA - 1, by omega⟩
  obtain ⟨e, rfl⟩ : ∃ e', dB = e' + 1 := ⟨dB - 1, by omega⟩
  rw [m_238 d X.1.ha.1, m_542 e X.1.hb.1]
  refine Bo.caca (S m p a b d e X (by omega) (by omega)) (by decide) (by decide) (fun x a1 y b1 HA1 HB1 z => ?_) (fun a1 b1 HA1 HB1 z => Bo.tx HA1 HB1 z)
  obtain ⟨j, p', r, hj, hr1, hr2, rfl, X1, V1, c427, c1⟩ := z
  have hj1 := X1.1.2.2.2.2.1
  have l1 := c1.lo
  rw [t_isK X1.1 (by omega) 29 (w := 29) rfl (by decide) (li_w29 X1.1.ha), ca_ret, ite0, t_isWordB X1.1 (by omega) (by decide), ca_ret, ite0]
  by_cases z : tk u n j = 2 ∧ kw u n j = 29
  · rw [if_pos z, if_pos z, X1.1.at, if_pos (by omega), Int.toNat_natCast, X1.1.row.2]
    refine t_ofon (i0 := i) (p0 := p) ⟨by omega, hr1, hr2, X1, V1, c427, c1⟩ hj ⟨by omega, by omega⟩ (o := 17) (Or.inr rfl) (R (j + 1) (by omega)) (by omega) (by omega) (by omega) rfl rfl (fun r' h H hr' => ?_)
    rw [if_pos (by omega), Int.toNat_natCast]
    by_cases w : h 10 618 r' = 4
    · rw [if_pos w, if_pos (by omega), Int.toNat_natCast, e_542_69 _ _ _ _ _ _ _ H.1, vt368 H.1, dv_s, w, X1.1.tb.1, show kTwo 17 (h 10 618 r) 4 = h 10 618 r by simp [kTwo]]
    · rw [if_neg w, e_542_69 _ _ _ _ _ _ _ H.1, vt368 H.1, dv_s, X1.1.tb.1, show kTwo 17 (h 10 618 r) (h 10 618 r') = -1 by simp [kTwo, w]]
  · rw [if_neg z, if_neg z]
    exact Bo.ret (by decide) (by decide) HA1 HB1 ⟨j, p', r, hj, hr1, hr2, rfl, X1, V1, c427, c1⟩
/-- a turned part: the rest behind its sign -/
theorem t_turn (X : XS u n M i m p a b) (hk : tk u n i ≠ 0 ∧ tk u n i ≠ 1) {s o : Int} (hs : (s = 1 ∧ o = 3) ∨ (s = 0 ∧ o = 15)) {MA MB c : Nat} (R : RF MA MB c u n M (i + 1)) (hc : 14 ≤ c ∧ c ≤ 30) (hA : 20 * (40 - (b 427 602 0).toNat) + 12 ≤ dA) (hB : 20 * (40 - (b 427 602 0).toNat) + 14 ≤ dB) {KB : Int → fi_H → fk_R} {w : Int} (hpl : w = (pl u n i : Int))
    (hKB : ∀ (r : Nat) (h : fi_H), Hp h → r < 8000 → KB (r : Int) h = ca_ (fj_run dB 546 h [(4, 602), (0, o), (0, w), (0, if (o = 3 ∧ h 10 618 r = 0) ∨ (o = 15 ∧ (isSm (h 10 618 r) ∨ h 10 618 r = 5)) then h 10 618 r else -1), (0, (r : Int)), (0, -1), (0, -1)]) 0 (fun v2 h1 => some (.inl (some (0, v2)), h1)) (fun q h => tx_ q h)) :
    Bo 304 4 0 (cv_ (fj_run dA 241 a [(4, 377)]) (fun h8 => ca_ (fj_run dA MA h8 [(4, 377)]) 4 (fun v12 h11 => lt_ (fi_upd h11 159 377 0 (wI ((h11 159 377 0) - 1))) fun h14 => ca_ (fj_run dA 295 h14 [(4, 377), (4, v12), (0, s), (0, w)]) 4 (fun v16 h15 => some (.inl (some (4, v16)), h15)) (fun q h => tx_ q h)) (fun q h => tx_ q h)) (fun q h => tx_ q h))
      (cv_ (fj_run dB 549 b [(4, 602), (0, b 396 602 0)]) (fun h7 => cv_ (fj_run dB 502 h7 [(4, 602)]) (fun h10 => ca_ (fj_run dB MB h10 [(4, 602)]) 0 (fun v14 h13 => lt_ (fi_upd h13 427 602 0 (wI ((h13 427 602 0) - 1))) fun h16 => KB v14 h16) (fun q h => tx_ q h)) (fun q h => tx_ q h)) (fun q h => tx_ q h)) (XPo u n M i m p a b) (WrX p a b) := by
  have hp := X.1.ple
  have ob := X.1.op
  refine t_opn X.1 (by omega) (by omega) hk (fun a' b' z => WrX.ofE XE.rf z) (fun a2 b2 P2 T2 e427 lt40 => ?_)
  have X2 := X.v P2 T2.v
  have V2 : XE p a b a2 b2 := T2.v.x
  refine Bo.caca (R m p a2 b2 dA dB X2 (by omega) (by omega)) (by decide) (by decide) (fun x2 a3 y b3 HA3 HB3 z => ?_) (fun a3 b3 HA3 HB3 z => Bo.tx HA3 HB3 (z.tr V2 (by omega)))
  obtain ⟨j, p', r, hj, hr1, hr2, rfl, X3, V3, f427, c2⟩ := z
  have op := X3.1.op
  rw [lt_eq, lt_eq, op.1, wI_id (by omega) (by omega)]
  have X4 := X3.o (v := b3 427 602 0 - 1) (by omega)
  have T4 := o_tk (a := a3) (b := b3) (b3 427 602 0 - 1)
  have v4 : fi_upd b3 427 602 0 (b3 427 602 0 - 1) 427 602 0 = b3 427 602 0 - 1 := fi_upd_same _ _ _ _ _
  generalize fi_upd a3 159 377 0 (b3 427 602 0 - 1) = a4 at *
  generalize fi_upd b3 427 602 0 (b3 427 602 0 - 1) = b4 at *
  have c24 := (T4.v.x (p0 := p')).pr X3.1.ha X3.1.hb c2 (by omega)
  have V4 : XE p a b a4 b4 := (V2.tr V3).tr T4.v.x
  rw [hKB r b4 X4.1.hb (by have := c2.lo; omega)]
  refine Bo.caca (t_one X4 hs c24 (by omega) (by omega) (by omega) (by omega)) (by decide) (by decide) (fun x a5 y b5 HA5 HB5 z => ?_) (fun a5 b5 HA5 HB5 z => Bo.tx HA5 HB5 (z.tr V4 (by omega)))
  obtain ⟨rfl, X5, V5, g427, c5⟩ := z
  exact Bo.ret (by decide) (by decide) HA5 HB5 ⟨j, p' + 1, p', by omega, by omega, by omega, rfl, X5, V4.tr (V5.mono (by omega)), by rw [g427, v4, f427, e427]; omega, c5⟩
end POST
end

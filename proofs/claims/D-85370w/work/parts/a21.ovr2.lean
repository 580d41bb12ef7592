section
/-! reading expressions: over -/
set_option maxRecDepth 100000
section OV2
variable {u : Nat → Int} {n M i m p p0 : Nat} {a b a0 b0 : fi_H} {dA dB d : Nat}
theorem Bo.rb {TA : Nat} {rA rB : fk_R} {P : Int → fi_H → Int → fi_H → Prop} {E : fi_H → fi_H → Prop} (q : Bo 304 TA 0 rA rB P E) : Bo 304 TA 0 rA (ca_ rB 0 (fun v h => some (.inl (some (0, v)), h)) (fun q h => tx_ q h)) P E := by
  obtain ⟨a1, b1, HA, HB, ⟨x, y, e1, e2, w⟩ | ⟨e1, e2, W⟩⟩ := q
  · have e2 : rB = some (.inl (some (0, y)), b1) := e2
    rw [e2, ca_ret]
    exact ⟨a1, b1, HA, HB, Or.inl ⟨x, y, e1, rfl, w⟩⟩
  · have e2 : rB = some (.inr 603, b1) := e2
    rw [e2, ca_thr, tx_603 HB]
    exact ⟨a1, b1, HA, HB, Or.inr ⟨e1, rfl, W⟩⟩
theorem t_s24e (X : XS u n M i m p a b) {x1 x2 x3 : Int} {q1 q2 q3 lo : Nat} (c1 : PR 16 a b m lo x1 q1) (c2 : PR 16 a b m (q1 + 1) x2 q2) (c3 : PR 16 a b m (q2 + 1) x3 q3) (hq : q3 < p) {pp : Int} (hpp : 0 ≤ pp ∧ pp ≤ 4000) (hA : 10 ≤ dA) (hB : 4 ≤ dB) :
    Bo 304 4 0 (if fi_in (a 0 x1.toNat 0) 340 = true then
                  dv_ (fi_vt 311 (a 0 (a 340 x1.toNat 0).toNat 0)) fun m28 => ca_ (fj_run dA m28 a [(4, a 340 x1.toNat 0)]) 0
                    (fun v26 h25 =>
                    if v26 = 0 then
                      c_251_71 dA pp h25
                    else
                      if fi_in (h25 0 x2.toNat 0) 340 = true then
                      if h25 340 x2.toNat 0 = 6 then
                        if fi_in (h25 0 x3.toNat 0) 340 = true then
                        if h25 340 x3.toNat 0 = 6 then
                          if fi_in (h25 0 x1.toNat 0) 341 = true then
                          if fi_in (h25 0 x2.toNat 0) 341 = true then
                          if fi_in (h25 0 x3.toNat 0) 341 = true then
                          ca_ (fj_run dA 6 h25 [(0, h25 341 x2.toNat 0), (0, h25 341 x3.toNat 0)]) 0
                            (fun v30 h29 =>
                            ca_ (fj_run dA 6 h29 [(0, h25 341 x1.toNat 0), (0, v30)]) 0
                              (fun v33 h32 =>
                              cv_ (fj_run dA 243 h32 [(4, 377), (0, wI (v33 + 1)), (0, pp)])
                                (fun h35 =>
                                nw_ h35 111 8 0 fun r38 h39 =>
                                cv_ (fj_run dA 253 h39 [(4, r38), (4, 303), (4, x1), (4, x2), (4, x3)])
                                  (fun h40 =>
                                  some (.inl (some (4, r38)), h40))
                                  (fun q42 h40 => tx_ q42 h40))
                                (fun q37 h35 => tx_ q37 h35))
                              (fun q34 h32 => tx_ q34 h32))
                            (fun q31 h29 => tx_ q31 h29)
                          else none
                          else none
                          else none
                        else
                          c_251_71 dA pp h25
                        else none
                      else
                        c_251_71 dA pp h25
                      else none)
                    (fun q27 h25 => tx_ q27 h25)
                  else none)
      (if 0 ≤ (q1 : Int) ∧ (q1 : Int) < 9300 then
                  if b 10 618 (q1 : Int).toNat = 1 then
                    c_553_73 dB pp (q1 : Int) (q2 : Int) (q3 : Int) (b 10 618 (q1 : Int).toNat) b
                  else
                    if b 10 618 (q1 : Int).toNat = 2 then
                      c_553_73 dB pp (q1 : Int) (q2 : Int) (q3 : Int) (b 10 618 (q1 : Int).toNat) b
                    else
                      if b 10 618 (q1 : Int).toNat = 3 then
                        c_553_73 dB pp (q1 : Int) (q2 : Int) (q3 : Int) (b 10 618 (q1 : Int).toNat) b
                      else
                        if b 10 618 (q1 : Int).toNat = 6 then
                          c_553_73 dB pp (q1 : Int) (q2 : Int) (q3 : Int) (b 10 618 (q1 : Int).toNat) b
                        else
                          c_553_98 dB pp (q1 : Int) (q2 : Int) (q3 : Int) (b 10 618 (q1 : Int).toNat) b
                  else none) (XPm u n M i m p lo a b) (WrX p a b) := by
  obtain ⟨d, rfl⟩ : ∃ e, dA = e + 2 := ⟨dA - 2, by omega⟩
  obtain ⟨e, rfl⟩ : ∃ e', dB = e' + 3 := ⟨dB - 3, by omega⟩
  have l1 := c1.lo
  have l2 := c2.lo
  have l3 := c3.lo
  have P1 := c1.prt
  have P2 := c2.prt
  have P3 := c3.prt
  have g1 := P1.2.2.2.2.2.2.1
  have g2 := P2.2.2.2.2.2.2.1
  have g3 := P3.2.2.2.2.2.2.1
  have k1 := P1.2.2.2.2.2.1
  have hpp2 := X.2.2.2.2
  have bad : c_251_71 (d + 2) pp a = some (.inr 304, wra a 5 pp) := by rw [e_251_71 _ _ X.1.ha.1, kA_wrong X.1.ha (by omega) (by omega) hpp]
  have e99 : ∀ κ : Int, c_553_116 (e + 3) (q1 : Int) (q2 : Int) (q3 : Int) 602 24 pp κ b = ca_ (fj_run (e + 3) 546 b [(4, 602), (0, 24), (0, pp), (0, κ), (0, (q1 : Int)), (0, (q2 : Int)), (0, (q3 : Int))]) 0 (fun v2 h1 => some (.inl (some (0, v2)), h1)) (fun q h => tx_ q h) := fun κ => by
    rw [e_553_116 _ _ _ _ _ _ _ _ X.1.hb.1, vt368 X.1.hb.1, dv_s]
  have e98 : c_553_98 (e + 3) pp (q1 : Int) (q2 : Int) (q3 : Int) (b 10 618 q1) b = some (.inr 603, wrb b 5 pp) := by
    rw [e_553_98 _ _ _ _ _ _ X.1.hb.1, e_553_99 _ _ _ _ _ _ _ X.1.hb.1, if_pos rfl, e99, kB_part (d := e) (p := p) X.1.hb ⟨by omega, by omega⟩ ⟨by omega, by omega⟩ ⟨hpp2.2.1, hpp2.2.2.1⟩ hpp (Or.inr (by omega)) (Or.inr (by omega)) (Or.inr (by omega)) (by rw [hig_q]; omega) (by rw [hig_q]; omega) (by rw [hig_q]; omega), if_pos rfl, ca_thr, tx_603 (wrb_hp X.1.hb (by omega) (by omega))]
  have e73 : c_553_73 (e + 3) pp (q1 : Int) (q2 : Int) (q3 : Int) (b 10 618 q1) b = if b 10 618 q2 = 4 ∧ b 10 618 q3 = 4 then ca_ (fj_run (e + 3) 546 b [(4, 602), (0, 24), (0, pp), (0, b 10 618 q1), (0, (q1 : Int)), (0, (q2 : Int)), (0, (q3 : Int))]) 0 (fun v2 h1 => some (.inl (some (0, v2)), h1)) (fun q h => tx_ q h) else some (.inr 603, wrb b 5 pp) := by
    rw [e_553_73 _ _ _ _ _ _ X.1.hb.1, if_pos (by omega : 0 ≤ (q2 : Int) ∧ (q2 : Int) < 9300), Int.toNat_natCast, if_pos (by omega : 0 ≤ (q3 : Int) ∧ (q3 : Int) < 9300), Int.toNat_natCast, e98]
    by_cases y2 : b 10 618 q2 = 4
    · rw [if_pos y2]
      by_cases y3 : b 10 618 q3 = 4
      · rw [if_pos y3, if_pos ⟨y2, y3⟩, e_553_99 _ _ _ _ _ _ _ X.1.hb.1, if_neg (by decide), e99]
      · rw [if_neg y3, if_neg (fun w => y3 w.2)]
    · rw [if_neg y2, if_neg (fun w => y2 w.1)]
  rw [if_pos (by omega : 0 ≤ (q1 : Int) ∧ (q1 : Int) < 9300), Int.toNat_natCast, e98, e73, if_pos P1.2.1, P1.2.2.2.1, kd_cl X.1.ha.1 (by omega), show fi_vt 311 159 = some 252 from rfl, dv_s, kA_sum (d := d + 1) X.1.ha.1 k1, ca_ret, ite0, bad, if_pos P2.2.1, P2.2.2.2.1, if_pos P3.2.1, P3.2.2.2.1, if_pos P1.2.2.1, if_pos P2.2.2.1, if_pos P3.2.2.1, P1.2.2.2.2.1, P2.2.2.2.2.1, P3.2.2.2.2.1, max6 X.1.ha.1, ca_ret, max6 X.1.ha.1, ca_ret, wI_id (x := max (b 10 622 q1) (max (b 10 622 q2) (b 10 622 q3)) + 1) (by omega) (by omega)]
  have wr : Bo 304 4 0 (some (.inr 304, wra a 5 pp)) (some (.inr 603, wrb b 5 pp)) (XPm u n M i m p lo a b) (WrX p a b) := x_wr X.1.ha X.1.hb XE.rf (by omega) hpp
  by_cases s1 : isSm (b 10 618 q1)
  · rw [if_pos s1]
    have em : ∀ r : fk_R, (if b 10 618 q1 = 1 then r else if b 10 618 q1 = 2 then r else if b 10 618 q1 = 3 then r else if b 10 618 q1 = 6 then r else some (.inr 603, wrb b 5 pp)) = r := fun r => by
      (repeat' split) <;> first | rfl | (exfalso; omega)
    rw [em]
    by_cases y2 : b 10 618 q2 = 4
    · rw [if_pos (by omega : 2 + b 10 618 q2 = 6)]
      by_cases y3 : b 10 618 q3 = 4
      · rw [if_pos (by omega : 2 + b 10 618 q3 = 6), if_pos ⟨y2, y3⟩]
        exact Bo.rb (t_mk3 X c1 c2 c3 hq (by omega) (by omega) hpp ⟨s1, y2, y3⟩)
      · rw [if_neg (by omega : ¬ 2 + b 10 618 q3 = 6), if_neg (fun w => y3 w.2)]; exact wr
    · rw [if_neg (by omega : ¬ 2 + b 10 618 q2 = 6), if_neg (fun w => y2 w.1)]; exact wr
  · rw [if_neg s1, if_neg (by omega), if_neg (by omega), if_neg (by omega), if_neg (by omega)]; exact wr
end OV2
end

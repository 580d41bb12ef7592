section
/-! reading: signs and words that must stand, numbers, dates, names -/
set_option maxRecDepth 100000
theorem Bo.tx {TA TB : Nat} {hA hB : fi_H} {P : Int → fi_H → Int → fi_H → Prop} {E : fi_H → fi_H → Prop} (HA : Hp hA) (HB : Hp hB) (q : E hA hB) : Bo 304 TA TB (tx_ 304 hA) (tx_ 603 hB) P E := by
  rw [tx_304 HA, tx_603 HB]; exact Bo.thr HA HB q
section TOK2
variable {u : Nat → Int} {n M i : Nat} {a b : fi_H} {dA dB : Nat}
/-- both throw at the token at hand -/
theorem t_wrong {TA TB : Nat} {P : Int → fi_H → Int → fi_H → Prop} (q : PS u n M i a b) {k : Int} (hk : 0 ≤ k ∧ k < 100) : Bo 304 TA TB (some (.inr 304, wra a k (pl u n i))) (some (.inr 603, wrb b k (pl u n i))) P (WrE a b) := by
  have hp := q.ple
  exact Bo.thr (wra_hp q.ha (by omega) (by omega)) (wrb_hp q.hb (by omega) (by omega)) ⟨wr_wr _ _, wra_fr _ _, wrb_fr _ _⟩
theorem kB_need (H : Hp b) (hB : 2 ≤ dB) {c : Prop} [Decidable c] {k p : Int} (hk : 0 ≤ k ∧ k < 100) (hp : 0 ≤ p ∧ p ≤ 4000) : fj_run dB 500 b [(4, 602), (0, if c then 1 else 0), (0, k), (0, p)] = if c then some (.inl none, b) else some (.inr 603, wrb b k p) := by
  by_cases q : c
  · rw [if_pos q, if_pos q]; exact kB_need1 H (by omega) (by decide)
  · rw [if_neg q, if_neg q]; exact kB_need0 H hB hk hp
/-- a sign must stand -/
theorem t_need (q : PS u n M i a b) (hA : 4 ≤ dA) (hB : 13 ≤ dB) {c : Int} (hc : c ≠ 108 ∧ c ≠ 103 ∧ c < 128) :
    Bo 304 9 9 (fj_run dA 182 a [(4, 377), (0, c)]) (fj_run dB 505 b [(4, 602), (0, c)]) (fun _ a' _ b' => PS u n M (i + 1) a' b' ∧ TkE a b a' b' ∧ b' 427 602 0 = b 427 602 0 ∧ tk u n i = 6 ∧ (tok u n (pl u n i)).2.2 = c) (WrE a b) := by
  obtain ⟨d, rfl⟩ : ∃ e, dA = e + 1 := ⟨dA - 1, by omega⟩
  obtain ⟨e, rfl⟩ : ∃ e, dB = e + 1 := ⟨dB - 1, by omega⟩
  have hp := q.ple
  rw [m_182 d c q.ha.1, t_isSignA q (by omega) c, ca_ret, ite0, m_505 e c q.hb.1, t_isSignB q (by omega) c, ca_ret, q.tb.1, kB_need q.hb (by omega) (by omega) (by omega)]
  by_cases z : tk u n i = 6 ∧ (tok u n (pl u n i)).2.2 = c
  · have hs := tok_sg i z.1
    have z2 : tk u n i = 6 ∧ bsg (tok u n (pl u n i)).2.2 = c := ⟨z.1, (bsg_iff hc.1 hc.2.1 (by omega) (by omega)).mpr z.2⟩
    rw [if_pos z, if_pos z2, cv_ret]
    refine Bo.cvcv (t_take q (by omega) (by omega) ⟨by omega, by omega⟩) (fun x a' y b' HA HB r => ?_) (fun a' b' HA HB r => Bo.tx HA HB r)
    exact Bo.vv HA HB ⟨r.1, r.2.1, r.2.2, z⟩
  · have z2 : ¬ (tk u n i = 6 ∧ bsg (tok u n (pl u n i)).2.2 = c) := fun w => z ⟨w.1, (bsg_iff hc.1 hc.2.1 (by omega) (by have := tok_sg i w.1; omega)).mp w.2⟩
    have Hw := wrb_hp (b := b) q.hb (k := 1) (p := (pl u n i : Int)) (by omega) (by omega)
    rw [if_neg z, if_neg z2, cv_thr, tx_603 Hw, kA_thr q (by omega) (by omega)]
    exact t_wrong q (by omega)
/-- a word must stand -/
theorem t_needWord (q : PS u n M i a b) (hA : 7 ≤ dA) (hB : 13 ≤ dB) {s : Int} {w : Nat} (hw : w < 82) (S : LitC a s (WL.getD w [])) :
    Bo 304 9 9 (fj_run dA 205 a [(4, 377), (4, s)]) (fj_run dB 523 b [(4, 602), (0, (w : Int))]) (fun _ a' _ b' => PS u n M (i + 1) a' b' ∧ TkE a b a' b' ∧ b' 427 602 0 = b 427 602 0 ∧ tk u n i = 2 ∧ kw u n i = (w : Int)) (WrE a b) := by
  obtain ⟨d, rfl⟩ : ∃ e, dA = e + 1 := ⟨dA - 1, by omega⟩
  obtain ⟨e, rfl⟩ : ∃ e, dB = e + 1 := ⟨dB - 1, by omega⟩
  have hp := q.ple
  rw [m_205 d s q.ha.1, t_isWordA q (by omega) S, ca_ret, ite0, m_523 e _ q.hb.1, t_isWordB q (by omega) (by omega), ca_ret, q.tb.1, kB_need q.hb (by omega) (by omega) (by omega)]
  by_cases z : tk u n i = 2 ∧ kw u n i = (w : Int)
  · rw [if_pos ((t_word hw).mpr z), if_pos z, cv_ret]
    refine Bo.cvcv (t_take q (by omega) (by omega) ⟨by omega, by omega⟩) (fun x a' y b' HA HB r => ?_) (fun a' b' HA HB r => Bo.tx HA HB r)
    exact Bo.vv HA HB ⟨r.1, r.2.1, r.2.2, z⟩
  · have Hw := wrb_hp (b := b) q.hb (k := 1) (p := (pl u n i : Int)) (by omega) (by omega)
    rw [if_neg (fun y => z ((t_word hw).mp y)), if_neg z, cv_thr, tx_603 Hw, kA_thr q (by omega) (by omega)]
    exact t_wrong q (by omega)
/-- the sort of the token at hand, as the model has it -/
theorem t_sortB (q : PS u n M i a b) : b 394 602 0 = (if tk u n i = 0 then 7 else if tk u n i = 1 then 0 else if tk u n i = 2 then (if kw u n i = -1 then 1 else 2) else (tk u n i : Int)) := by
  obtain ⟨t0, t1, t2, t3, t4, t5, t6, t7, t8⟩ := q.tb
  have hr := tk_rg (u := u) (n := n) i
  have t4' : tk u n i = 2 → b 394 602 0 = (if kw u n i = -1 then 1 else 2) := fun z => (t4 z).2.1
  have h : tk u n i = 0 ∨ tk u n i = 1 ∨ tk u n i = 2 ∨ tk u n i = 3 ∨ tk u n i = 4 ∨ tk u n i = 5 ∨ tk u n i = 6 := by omega
  rcases h with z | z | z | z | z | z | z
  · rw [if_pos z]; exact t2 z
  · rw [if_neg (by omega), if_pos z]; exact t3 z
  · rw [if_neg (by omega), if_neg (by omega), if_pos z]; exact t4' z
  · rw [if_neg (by omega), if_neg (by omega), if_neg (by omega), z]; exact (t5 z).1
  · rw [if_neg (by omega), if_neg (by omega), if_neg (by omega), z]; exact (t6 z).1
  · rw [if_neg (by omega), if_neg (by omega), if_neg (by omega), z]; exact (t7 z).1
  · rw [if_neg (by omega), if_neg (by omega), if_neg (by omega), z]; exact (t8 z).1
/-- what a number is -/
theorem tok_num (hu : ∀ k, n ≤ k → u k = 0) (h : tk u n i = 3) : 0 ≤ (tok u n (pl u n i)).2.2 ∧ (tok u n (pl u n i)).2.2 ≤ 999999999 := by
  have hp := pl_le hu i
  unfold tk at h
  generalize pl u n i = p at *
  unfold tok at h ⊢
  split at h
  · simp at h
  · rename_i z0
    rw [if_neg z0]
    split at h
    · simp only at h; split at h <;> simp at h
    · rename_i z1
      rw [if_neg z1]
      split at h
      · rename_i z2
        rw [if_pos z2]
        split at h
        · simp at h
        · rename_i z3
          rw [if_neg z3]
          split at h
          · simp at h
          · rename_i z4
            rw [if_neg z4]
            split at h
            · simp at h
            · rename_i z5
              rw [if_neg z5]
              obtain ⟨d1, d2, d3, d4⟩ := de_ok (u := u) (n := n) (n - p) p (by omega)
              obtain ⟨f1, f2⟩ := fg_rg (u := u) (p := p) (de u n p - p) (fun j hj => d3 (p + j) (by omega) (by omega))
              have f3 : (10 : Int) ^ (de u n p - p) ≤ 10 ^ 9 := by
                have : (10 : Nat) ^ (de u n p - p) ≤ 10 ^ 9 := Nat.pow_le_pow_right (by decide) (by omega)
                exact_mod_cast this
              have f4 : (10 : Int) ^ 9 = 1000000000 := by decide
              exact ⟨f1, by show fg u p (de u n p - p) ≤ 999999999; omega⟩
      · split at h
        · split at h <;> simp at h
        · split at h <;> simp at h
/-- a number within bounds -/
theorem t_number (q : PS u n M i a b) (hA : 4 ≤ dA) (hB : 13 ≤ dB) {lo hi : Int} (hl : -2147483648 ≤ lo ∧ lo < 2147483648) (hh : -2147483648 ≤ hi ∧ hi < 2147483648) :
    Bo 304 0 1 (fj_run dA 188 a [(4, 377), (0, lo), (0, hi)]) (fj_run dB 510 b [(4, 602), (1, lo), (1, hi)]) (fun x a' y b' => x = y ∧ (lo ≤ x ∧ x ≤ hi) ∧ PS u n M (i + 1) a' b' ∧ TkE a b a' b' ∧ b' 427 602 0 = b 427 602 0 ∧ tk u n i = 3 ∧ x = (tok u n (pl u n i)).2.2) (WrE a b) := by
  obtain ⟨d, rfl⟩ : ∃ e, dA = e + 1 := ⟨dA - 1, by omega⟩
  obtain ⟨e, rfl⟩ : ∃ e, dB = e + 1 := ⟨dB - 1, by omega⟩
  have hp := q.ple
  have hi2 := q.2.2.2.2.1
  have tn : ((602 : Int)).toNat = 602 := rfl
  have vt : fi_vt 348 129 = some 500 := rfl
  have hs := t_sortB q
  have hr := tk_rg (u := u) (n := n) i
  have Hw : ∀ k : Int, 0 ≤ k → k < 100 → Hp (wrb b k (pl u n i)) := fun k h1 h2 => wrb_hp q.hb (by omega) (by omega)
  rw [m_188 d lo hi q.ha.1, q.at, if_pos (by omega), Int.toNat_natCast, q.sort, m_510 e lo hi q.hb.1]
  by_cases z : tk u n i = 3
  · obtain ⟨n1, n2⟩ := tok_num (u := u) (n := n) (i := i) q.2.1.2.2.2.2.1 z
    rw [if_neg (by omega), if_neg (by omega), if_neg (by omega), z] at hs
    rw [if_pos (by omega), q.row.1.2.1 z, wI_id (by omega) (by omega), wI_id hl.1 hl.2, wI_id hh.1 hh.2]
    obtain ⟨d, rfl⟩ : ∃ e, d = e + 1 := ⟨d - 1, by omega⟩
    have hs3 : b 394 602 0 = 3 := hs.trans (by omega)
    rw [kA_in d q.ha.1 (by omega) (by omega) (by omega), ca_ret, ite0, hs3, if_pos (rfl : (3 : Int) = 3), e_510_14 e _ _ _ _ q.hb.1, tn, s0_602 q.hb.1, vt, dv_s, kB_need1 q.hb (by omega) (by decide), cv_ret, (q.tb.2.2.2.2.2.1 z).2]
    obtain ⟨e, rfl⟩ : ∃ k, e = k + 1 := ⟨e - 1, by omega⟩
    rw [kB_in e q.hb.1 (by omega) (by omega) (by omega), ca_ret, q.tb.1, kB_need q.hb (by omega) (by omega) (by omega)]
    by_cases y : lo ≤ (tok u n (pl u n i)).2.2 ∧ (tok u n (pl u n i)).2.2 ≤ hi
    · rw [if_pos y, if_pos y, cv_ret]
      refine Bo.cvcv (t_take q (by omega) (by omega) ⟨by omega, by omega⟩) (fun x a' y' b' HA HB r => ?_) (fun a' b' HA HB r => Bo.tx HA HB r)
      exact Bo.ret (by decide) (by decide) HA HB ⟨(q.tb.2.2.2.2.2.1 z).2.symm, y, r.1, r.2.1, r.2.2, z, rfl⟩
    · rw [if_neg y, if_neg y, cv_thr, tx_603 (Hw 3 (by omega) (by omega)), kA_thr q (by omega) (by omega)]
      exact t_wrong q (by omega)
  · have hb3 : b 394 602 0 ≠ 3 := by
      rw [hs]
      (repeat' split) <;> omega
    rw [if_neg (by omega), kA_thr q (by omega) (by omega), if_neg hb3, e_510_14 e _ _ _ _ q.hb.1, tn, s0_602 q.hb.1, vt, dv_s, q.tb.1, kB_need0 q.hb (by omega) (by omega) (by omega), cv_thr, tx_603 (Hw 1 (by omega) (by omega))]
    exact t_wrong q (by omega)
end TOK2
end

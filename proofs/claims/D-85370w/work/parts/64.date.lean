section
/-! reading: a date -/
set_option maxRecDepth 100000
section DATE
variable {u : Nat → Int} {n M i : Nat} {a b : fi_H} {dA dB : Nat}
theorem tok_date (hu : ∀ k, n ≤ k → u k = 0) (h : tk u n i = 5) : 0 ≤ (tok u n (pl u n i)).2.2 ∧ (tok u n (pl u n i)).2.2 ≤ 99999999 := by
  have hp := pl_le hu i
  unfold tk at h
  generalize pl u n i = p at *
  unfold tok at h ⊢
  split at h
  · simp at h
  · rename_i z0
    rw [if_neg z0]
    split at h
    · simp only at h; split at h <;> simp at h
    · rename_i z1
      rw [if_neg z1]
      split at h
      · rename_i z2
        rw [if_pos z2]
        split at h
        · simp at h
        · rename_i z3
          rw [if_neg z3]
          split at h
          · simp at h
          · rename_i z4
            rw [if_neg z4]
            split at h
            · rename_i z5
              rw [if_pos z5]
              obtain ⟨d1, d2, d3, d4⟩ := de_ok (u := u) (n := n) (n - p) p (by omega)
              obtain ⟨f1, f2⟩ := fg_rg (u := u) (p := p) 4 (fun j hj => d3 (p + j) (by omega) (by omega))
              have f3 : (10 : Int) ^ 4 = 10000 := by decide
              have t1 := tw_rg z5.2.2.1.1 z5.2.2.1.2
              have t2 := tw_rg z5.2.2.2.2.1 z5.2.2.2.2.2
              show 0 ≤ 10000 * fg u p 4 + 100 * tw u (de u n p + 1) + tw u (de u n p + 4) ∧ 10000 * fg u p 4 + 100 * tw u (de u n p + 1) + tw u (de u n p + 4) ≤ 99999999
              omega
            · simp at h
      · split at h
        · split at h <;> simp at h
        · split at h <;> simp at h
theorem t_date (q : PS u n M i a b) (hA : 4 ≤ dA) (hB : 13 ≤ dB) (hk : tk u n i = 5) :
    Bo 304 0 1 (fj_run dA 195 a [(4, 377)]) (fj_run dB 515 b [(4, 602)]) (fun x a' y b' => x = y ∧ (0 ≤ x ∧ x ≤ 65535) ∧ a 10 380 i = x ∧ PS u n M (i + 1) a' b' ∧ TkE a b a' b' ∧ b' 427 602 0 = b 427 602 0) (WrE a b) := by
  obtain ⟨d, rfl⟩ : ∃ e, dA = e + 1 := ⟨dA - 1, by omega⟩
  obtain ⟨e, rfl⟩ : ∃ e, dB = e + 5 := ⟨dB - 5, by omega⟩
  have hp := q.ple
  have hi2 := q.2.2.2.2.1
  have tn : ((602 : Int)).toNat = 602 := rfl
  have vt : fi_vt 348 129 = some 500 := rfl
  have hx := tok_date (u := u) (n := n) (i := i) q.2.1.2.2.2.2.1 hk
  have hs := q.row.1.2.2.2.1 hk
  have hw := (q.tb.2.2.2.2.2.2.2.1 hk).2
  have Hw : ∀ k : Int, 0 ≤ k → k < 100 → Hp (wrb b k (pl u n i)) := fun k h1 h2 => wrb_hp q.hb (by omega) (by omega)
  generalize (tok u n (pl u n i)).2.2 = x at *
  have hr := exd_rg (x / 10000) (x / 100 % 100) (x % 100)
  rw [m_195 d q.ha.1, q.at, if_pos (by omega), Int.toNat_natCast, q.sort, if_pos (by omega), hs, m_515 (e + 4) q.hb.1, hw, lq_nn (by omega) (by omega) (by omega) (by omega), lq_nn (by omega) (by omega) (by omega) (by omega), lr_nn (by omega) (by omega) (by omega) (by omega), lr_nn (by omega) (by omega) (by omega) (by omega)]
  simp (disch := omega) only [wI_id]
  -- the model throws where the class does
  have bad : exd (x / 10000) (x / 100 % 100) (x % 100) = -1 → ∀ rB : fk_R, rB = some (.inr 603, wrb b 3 (pl u n i)) → Bo 304 0 1 (if exd (x / 10000) (x / 100 % 100) (x % 100) = -1 then ca_ (fj_run d 164 a [(4, 377), (0, 3)]) 4 (fun v h => if v ≠ 0 then tx_ v.toNat h else none) (fun q h => tx_ q h) else cv_ (fj_run d 166 a [(4, 377)]) (fun h5 => some (.inl (some (0, exd (x / 10000) (x / 100 % 100) (x % 100))), h5)) (fun q h => tx_ q h)) rB (fun x' a' y b' => x' = y ∧ (0 ≤ x' ∧ x' ≤ 65535) ∧ exd (x / 10000) (x / 100 % 100) (x % 100) = x' ∧ PS u n M (i + 1) a' b' ∧ TkE a b a' b' ∧ b' 427 602 0 = b 427 602 0) (WrE a b) := by
    intro z rB hB
    rw [if_pos z, hB, kA_thr q (by omega) (by omega)]
    exact t_wrong q (by omega)
  have e78 : c_515_78 (e + 4) (x / 10000) (x / 100 % 100) (x % 100) 602 b = some (.inr 603, wrb b 3 (pl u n i)) := by
    rw [e_515_78 (e + 4) _ _ _ _ q.hb.1, e_515_79 (e + 4) _ _ _ _ _ q.hb.1, tn, s0_602 q.hb.1, vt, dv_s, q.tb.1, kB_need0 q.hb (by omega) (by omega) (by omega), cv_thr, tx_603 (Hw 3 (by omega) (by omega))]
  have hN := cN_rg (x / 10000) (x / 100 % 100)
  rw [kB_in (e + 3) q.hb.1 (by omega) (by omega) (by omega), ca_ret, ite0]
  by_cases c1 : 1900 ≤ x / 10000 ∧ x / 10000 ≤ 2079
  · rw [if_pos c1, kB_in (e + 3) q.hb.1 (by omega) (by omega) (by omega), ca_ret, ite0]
    by_cases c2 : 1 ≤ x / 100 % 100 ∧ x / 100 % 100 ≤ 12
    · rw [if_pos c2]
      by_cases c3 : 0 < x % 100
      · rw [if_pos c3, kB_len (e + 2) q.hb.1 (by omega) (by omega), ca_ret]
        by_cases c4 : cN (x / 10000) (x / 100 % 100) < x % 100
        · rw [if_pos c4]
          exact bad (by unfold exd; rw [if_neg (by omega)]) _ e78
        · rw [if_neg c4, e_515_79 (e + 4) _ _ _ _ _ q.hb.1, tn, s0_602 q.hb.1, vt, dv_s, kB_need1 q.hb (by omega) (by decide), cv_ret, kB_num (e + 1) q.hb.1 (by omega) (by omega) c2 (by omega), ca_ret]
          have hA1 := cA_rg (y := x / 10000) (by omega) (by omega)
          have hC := cC_rg (y := x / 10000) (m := x / 100 % 100)
          have hMr : -1000000 ≤ cM (x / 10000) (x / 100 % 100) (x % 100) ∧ cM (x / 10000) (x / 100 % 100) (x % 100) ≤ 1000000 := by unfold cM; omega
          rw [wI_id (x := cM (x / 10000) (x / 100 % 100) (x % 100)) (by omega) (by omega), kB_isDay (e + 2) q.hb.1 (by omega) (by omega), ca_ret, q.tb.1, kB_need q.hb (by omega) (by omega) (by omega)]
          have h0 : 0 ≤ cM (x / 10000) (x / 100 % 100) (x % 100) := by
            have hA2 := cA_le (y := 1900) (z := x / 10000) (by omega)
            have e0 : cA 1900 = 0 := by decide
            unfold cM; omega
          by_cases c5 : cM (x / 10000) (x / 100 % 100) (x % 100) ≤ 65535
          · have hex : exd (x / 10000) (x / 100 % 100) (x % 100) = cM (x / 10000) (x / 100 % 100) (x % 100) := by unfold exd; rw [if_pos (by omega)]
            rw [if_pos (⟨h0, c5⟩ : 0 ≤ cM (x / 10000) (x / 100 % 100) (x % 100) ∧ cM (x / 10000) (x / 100 % 100) (x % 100) ≤ 65535), cv_ret, hex, if_neg (by omega)]
            refine Bo.cvcv (t_take q (by omega) (by omega) ⟨by omega, by omega⟩) (fun x' a' y' b' HA HB r => ?_) (fun a' b' HA HB r => Bo.tx HA HB r)
            exact Bo.ret (by decide) (by decide) HA HB ⟨rfl, ⟨h0, c5⟩, rfl, r.1, r.2.1, r.2.2⟩
          · rw [if_neg (fun z => c5 z.2 : ¬ (0 ≤ cM (x / 10000) (x / 100 % 100) (x % 100) ∧ cM (x / 10000) (x / 100 % 100) (x % 100) ≤ 65535)), cv_thr, tx_603 (Hw 3 (by omega) (by omega))]
            exact bad (by unfold exd; rw [if_neg (by omega)]) _ rfl
      · rw [if_neg c3]
        exact bad (by unfold exd; rw [if_neg (by omega)]) _ e78
    · rw [if_neg c2]
      exact bad (by unfold exd; rw [if_neg (by omega)]) _ e78
  · rw [if_neg c1]
    exact bad (by unfold exd; rw [if_neg (by omega)]) _ e78
end DATE
end

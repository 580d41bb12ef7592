section
/-! reading: all names of a tape -/
set_option maxRecDepth 100000
section NAMES2
variable {u : Nat → Int} {n M m0 : Nat} {a0 b0 : fi_H} {dA dB : Nat}
/-- where a declaration begins or ends -/
def NS (u : Nat → Int) (n M i m : Nat) (a b : fi_H) : Prop := PS u n M i a b ∧ NmR a b m ∧ (0 ≤ a 160 377 0 ∧ a 215 303 0 + a 160 377 0 = (m : Int)) ∧ b 413 602 0 = (m : Int) ∧ 0 ≤ a 215 303 0
theorem NE.c215 {a b a' b' : fi_H} (p : NE m0 a b a' b') (h : 714 ≤ a 2 0 0) : a' 215 303 0 = a 215 303 0 := p.1.2 215 303 0 (by decide) (by omega) (by simp only [wNA, wVA, wTA, wvA]; omega)
theorem t_names {g f : Int} (ht0 : 714 ≤ a0 2 0 0) (hA : 16 ≤ dA) (hB : 21 ≤ dB) : ∀ (left i m : Nat) (a b : fi_H), i + left = 1201 → NS u n M i m a b → NE m0 a0 b0 a b → m0 ≤ m → a 215 303 0 = g → b 427 602 0 = f →
    Bo 304 9 9 (c_160_0 dA a) (c_498_0 dB b) (fun _ a' _ b' => ∃ j m', m0 ≤ m' ∧ NS u n M j m' a' b' ∧ NE m0 a0 b0 a' b' ∧ a' 215 303 0 = g ∧ b' 427 602 0 = f ∧ tk u n j = 0) (WrN m0 a0 b0) := by
  obtain ⟨d, rfl⟩ : ∃ e, dA = e + 1 := ⟨dA - 1, by omega⟩
  have tn : ((602 : Int)).toNat = 602 := rfl
  have vt : fi_vt 348 129 = some 500 := rfl
  intro left
  induction left using Nat.strongRecOn with
  | ind left ih =>
    intro i m a b hl S V hm0 hg hf
    have S0 := S
    obtain ⟨q, N, h1, h413, h0⟩ := S
    have hi := q.2.2.2.2.1
    have hp := q.ple
    have sB := t_sortB q
    have tr := tk_rg (u := u) (n := n) i
    rw [e_160_0 (d + 1) q.ha.1, q.at, if_pos (by omega), Int.toNat_natCast, q.sort, e_498_0 dB q.hb.1]
    by_cases z0 : tk u n i = 0
    · rw [if_pos z0] at sB
      rw [if_pos (by omega : (tk u n i : Int) = 0), if_pos sB]
      exact Bo.vv q.ha q.hb ⟨i, m, hm0, S0, V, hg, hf, z0⟩
    · have b7 : ¬ b 394 602 0 = 7 := by rw [sB]; (repeat' split) <;> omega
      rw [if_neg (by omega : ¬ (tk u n i : Int) = 0), if_neg b7]
      have step : ∀ s : Int, (s = 0 ∨ s = 1 ∨ s = 2) → tk u n i = 2 → Bo 304 9 9 (cv_ (c_161_38 d (if s = 1 then 1 else 0) (if s = 2 then 1 else 0) a) (fun h2 => c_160_0 (d + 1) h2) (fun q h => tx_ q h)) (c_498_73 dB s b) (fun _ a' _ b' => ∃ j m', m0 ≤ m' ∧ NS u n M j m' a' b' ∧ NE m0 a0 b0 a' b' ∧ a' 215 303 0 = g ∧ b' 427 602 0 = f ∧ tk u n j = 0) (WrN m0 a0 b0) := by
        intro s hs hk
        refine t_decl1 q V hm0 N h1 h413 hk (by omega) (by omega) (by omega) (fun a1 b1 j1 hj1 hiM P1 V1 N1 k1 k413 hm hn hrow c1 => ?_)
        have w1 := V.c215 ht0
        have w2 := V1.c215 ht0
        refine t_decl2 P1 V1 hm0 N1 k1 k413 hm (by omega) hiM hn hrow hs (by omega) (by omega) (fun a2 b2 j2 hj2 P2 V2 N2 k2 k413' c2 c215 => ?_)
        have w3 := P2.2.2.2.2.1
        exact ih (1201 - j2) (by omega) j2 (m + 1) a2 b2 (by omega) ⟨P2, N2, k2, k413', by omega⟩ V2 (by omega) (by omega) (by omega)
      have e40 : ∀ s0 s1 : Int, c_498_40 dB 602 1 b = if tk u n i = 2 ∧ kw u n i = 0 then c_498_73 dB 0 b else if tk u n i = 2 ∧ kw u n i = 1 then c_498_73 dB 1 b else c_498_73 dB 2 b := fun s0 s1 => by
        rw [e_498_40 dB _ _ q.hb.1, tn, s0_602 q.hb.1, vt, dv_s, kB_need1 q.hb (by omega) (by decide), cv_ret, t_isWordB q (by omega) (by decide), ca_ret, ite0]
        by_cases y : tk u n i = 2 ∧ kw u n i = 0
        · rw [if_pos y, if_pos y]
        · rw [if_neg y, if_neg y, t_isWordB q (by omega) (by decide), ca_ret, ite0]
      have e161 : ∀ x1 x2 : Int, x1 = (if tk u n i = 2 ∧ kw u n i = 1 then 1 else 0) → x2 = (if tk u n i = 2 ∧ kw u n i = 70 then 1 else 0) → fj_run (d + 1) 161 a [(4, 377)] = if x1 = 0 then (if x2 = 0 then (if tk u n i = 2 ∧ kw u n i = 0 then c_161_38 d x1 x2 a else some (.inr 304, wra a 1 (pl u n i))) else c_161_38 d x1 x2 a) else c_161_38 d x1 x2 a := by
        intro x1 x2 h1 h2
        have E1 : (if tk u n i = 2 ∧ eqL (lw u n i) (cw u n i) (WL.getD 1 []) = true then (1 : Int) else 0) = x1 := by
          rw [h1]
          by_cases y : tk u n i = 2 ∧ kw u n i = 1
          · rw [if_pos y, if_pos ((t_word (w := 1) (by decide)).mpr y)]
          · rw [if_neg y, if_neg (fun w => y ((t_word (w := 1) (by decide)).mp w))]
        have E2 : (if tk u n i = 2 ∧ eqL (lw u n i) (cw u n i) (WL.getD 70 []) = true then (1 : Int) else 0) = x2 := by
          rw [h2]
          by_cases y : tk u n i = 2 ∧ kw u n i = 70
          · rw [if_pos y, if_pos ((t_word (w := 70) (by decide)).mpr y)]
          · rw [if_neg y, if_neg (fun w => y ((t_word (w := 70) (by decide)).mp w))]
        rw [m_161 d q.ha.1, t_isWordA q (by omega) (li_w1 q.ha), ca_ret, t_isWordA q (by omega) (li_w70 q.ha), ca_ret, E1, E2, t_isWordA q (by omega) (li_w0 q.ha), ca_ret, ite0, kA_thr q (by omega) (by omega)]
        by_cases y1 : x1 = 0
        · rw [if_pos y1, if_pos y1]
          by_cases y2 : x2 = 0
          · rw [if_pos y2, if_pos y2]
            by_cases y : tk u n i = 2 ∧ kw u n i = 0
            · rw [if_pos y, if_pos ((t_word (w := 0) (by decide)).mpr y)]
            · rw [if_neg y, if_neg (fun w => y ((t_word (w := 0) (by decide)).mp w))]
          · rw [if_neg y2, if_neg y2]
        · rw [if_neg y1, if_neg y1]
      have eB : ca_ (fj_run dB 499 b [(4, 602), (0, 0)]) 0 (fun v2 h1 => if v2 = 0 then ca_ (fj_run dB 499 h1 [(4, 602), (0, 1)]) 0 (fun v5 h4 => if v5 = 0 then ca_ (fj_run dB 499 h4 [(4, 602), (0, 70)]) 0 (fun v8 h7 => if v8 = 0 then c_498_40 dB 602 0 h7 else c_498_35 dB 602 h7) (fun q h => tx_ q h) else c_498_35 dB 602 h4) (fun q h => tx_ q h) else c_498_35 dB 602 h1) (fun q h => tx_ q h) = if tk u n i = 2 ∧ kw u n i = 0 then c_498_40 dB 602 1 b else if tk u n i = 2 ∧ kw u n i = 1 then c_498_40 dB 602 1 b else if tk u n i = 2 ∧ kw u n i = 70 then c_498_40 dB 602 1 b else c_498_40 dB 602 0 b := by
        rw [t_isWordB q (by omega) (by decide), ca_ret, ite0, t_isWordB q (by omega) (by decide), ca_ret, ite0, t_isWordB q (by omega) (by decide), ca_ret, ite0, e_498_35 dB _ q.hb.1]
      rw [eB]
      by_cases w0 : tk u n i = 2 ∧ kw u n i = 0
      · rw [e161 0 0 (by rw [if_neg (by omega)]) (by rw [if_neg (by omega)]), if_pos (rfl : (0 : Int) = 0), if_pos (rfl : (0 : Int) = 0), if_pos w0, if_pos w0, e40 0 0, if_pos w0]
        exact step 0 (Or.inl rfl) w0.1
      · rw [if_neg w0]
        by_cases w1 : tk u n i = 2 ∧ kw u n i = 1
        · rw [e161 1 0 (by rw [if_pos w1]) (by rw [if_neg (by omega)]), if_neg (by decide : ¬ (1 : Int) = 0), if_pos w1, e40 0 0, if_neg w0, if_pos w1]
          exact step 1 (Or.inr (Or.inl rfl)) w1.1
        · rw [if_neg w1]
          by_cases w2 : tk u n i = 2 ∧ kw u n i = 70
          · rw [e161 0 1 (by rw [if_neg w1]) (by rw [if_pos w2]), if_pos (rfl : (0 : Int) = 0), if_neg (by decide : ¬ (1 : Int) = 0), if_pos w2, e40 0 0, if_neg w0, if_neg w1]
            exact step 2 (Or.inr (Or.inr rfl)) w2.1
          · rw [e161 0 0 (by rw [if_neg w1]) (by rw [if_neg w2]), if_pos (rfl : (0 : Int) = 0), if_pos (rfl : (0 : Int) = 0), if_neg w0, if_neg w2, cv_thr, tx_304 (wra_hp q.ha (by omega) (by omega)), e_498_40 dB _ _ q.hb.1, tn, s0_602 q.hb.1, vt, dv_s, q.tb.1, kB_need0 q.hb (by omega) (by omega) (by omega), cv_thr, tx_603 (wrb_hp q.hb (by omega) (by omega))]
            exact n_wr q.ha q.hb V (by omega) (by omega)
end NAMES2
end

/-! days: the runs of both sides -/
set_option maxRecDepth 100000
theorem cyo_ok {n : Int} (h0 : 0 ≤ n) (h1 : n ≤ 65535) : (cer n = 4 ∧ 299 ≤ cyo n ∧ cyo n ≤ 399 ∧ 365 * cyo n + cyo n / 4 - cyo n / 100 ≤ cdo n ∧ cdo n < 365 * (cyo n + 1) + (cyo n + 1) / 4 - (cyo n + 1) / 100 + (cyo n + 1) / 400) ∨ (cer n = 5 ∧ 0 ≤ cyo n ∧ cyo n ≤ 79 ∧ 365 * cyo n + cyo n / 4 ≤ cdo n ∧ cdo n < 365 * (cyo n + 1) + (cyo n + 1) / 4) := by
  rcases cer_v h0 h1 with ⟨a, b, c, -⟩ | ⟨a, b, c, -⟩
  · left
    obtain ⟨k, k1, k2, k3, k4, k5⟩ := cyo_b b c
    have : cyo n = k := k3
    rw [this]
    exact ⟨a, k1, k2, k4, k5⟩
  · right
    obtain ⟨k, k1, k2, k3, k4, k5⟩ := cyo_a b c
    have : cyo n = k := k3
    rw [this]
    exact ⟨a, k1, k2, k4, k5⟩
theorem cdy_rg {n : Int} (h0 : 0 ≤ n) (h1 : n ≤ 65535) : 0 ≤ cdy n ∧ cdy n ≤ 365 ∧ (cdy n = 365 → cL (cyo n + 400 * cer n + 1)) := by
  have e : cdy n = cdo n - (365 * cyo n + cyo n / 4 - cyo n / 100) := rfl
  rcases cyo_ok h0 h1 with ⟨a, b, c, p, q⟩ | ⟨a, b, c, p, q⟩
  · refine ⟨by omega, by omega, fun q365 => ?_⟩
    rw [a]
    by_cases z : cyo n = 399
    · rw [z]; exact ⟨by omega, Or.inr (by omega)⟩
    · refine ⟨by omega, Or.inl ?_⟩
      omega
  · refine ⟨by omega, by omega, fun q365 => ?_⟩
    rw [a]
    exact ⟨by omega, Or.inl (by omega)⟩
theorem cmp_rg {n : Int} (h0 : 0 ≤ n) (h1 : n ≤ 65535) : 0 ≤ cmp_ n ∧ cmp_ n ≤ 11 := by
  obtain ⟨a, b, -⟩ := cdy_rg h0 h1
  unfold cmp_
  omega
theorem cY_rg {n : Int} (h0 : 0 ≤ n) (h1 : n ≤ 65535) : 1899 ≤ cY n ∧ cY n ≤ 2080 := by
  unfold cY
  rcases cyo_ok h0 h1 with ⟨a, b, c, p, q⟩ | ⟨a, b, c, p, q⟩ <;> split <;> omega
theorem cD_look {n : Int} (h0 : 0 ≤ n) (h1 : n ≤ 65535) : cD n (cY n) (cMo n) (cDa n) := by
  obtain ⟨a, b, c⟩ := cdy_rg h0 h1
  obtain ⟨p, q⟩ := cmp_rg h0 h1
  have em : cmp_ n = (5 * cdy n + 2) / 153 := rfl
  have ed : cDa n = cdy n - (153 * cmp_ n + 2) / 5 + 1 := rfl
  have ez : cdo n + cer n * 146097 = n + 693901 := by unfold cdo cz; omega
  have ey : cdy n = cdo n - (365 * cyo n + cyo n / 4 - cyo n / 100) := rfl
  have hyo : 0 ≤ cyo n ∧ cyo n ≤ 399 := by rcases cyo_ok h0 h1 with ⟨_, b, c, _, _⟩ | ⟨_, b, c, _, _⟩ <;> omega
  have eN := cA_next (cyo n + 400 * cer n)
  have eA : cA (cyo n + 400 * cer n + 1) = 365 * (cyo n + 400 * cer n + 1 - 1900) + (cyo n + 400 * cer n) / 4 - (cyo n + 400 * cer n) / 100 + (cyo n + 400 * cer n) / 400 - 460 := by
    unfold cA
    rw [show cyo n + 400 * cer n + 1 - 1 = cyo n + 400 * cer n by omega]
  have hm : cmp_ n = 0 ∨ cmp_ n = 1 ∨ cmp_ n = 2 ∨ cmp_ n = 3 ∨ cmp_ n = 4 ∨ cmp_ n = 5 ∨ cmp_ n = 6 ∨ cmp_ n = 7 ∨ cmp_ n = 8 ∨ cmp_ n = 9 ∨ cmp_ n = 10 ∨ cmp_ n = 11 := by omega
  have hE : cmp_ n = 11 → cdy n ≤ 364 + cE (cyo n + 400 * cer n + 1) := by
    intro _
    by_cases z : cdy n = 365
    · rw [cE_y (c z)]; omega
    · have := cE_rg (cyo n + 400 * cer n + 1); omega
  have q4 : (cyo n + 400 * cer n) / 4 = cyo n / 4 + 100 * cer n := by omega
  have q100 : (cyo n + 400 * cer n) / 100 = cyo n / 100 + 4 * cer n := by omega
  have q400 : (cyo n + 400 * cer n) / 400 = cer n := by omega
  rw [q4, q100, q400] at eA
  have hr := cE_rg (cyo n + 400 * cer n)
  have hr1 := cE_rg (cyo n + 400 * cer n + 1)
  rcases hm with z | z | z | z | z | z | z | z | z | z | z | z
  all_goals
    have e1 : cMo n = (if cmp_ n < 10 then cmp_ n + 3 else cmp_ n - 9) := rfl
    rw [z] at em ed e1
    simp only [Int.reduceLT, Int.reduceAdd, Int.reduceSub, if_true, if_false] at e1
    have e2 : cY n = cyo n + 400 * cer n + (if cMo n ≤ 2 then 1 else 0) := rfl
    rw [e1] at e2
    simp only [Int.reduceLE, if_true, if_false, Int.add_zero] at e2
    unfold cD cM
    rw [e1, e2, ed]
    simp only [cC, cN, Int.reduceLE, Int.reduceEq, if_true, if_false, or_false, false_or, or_true, true_or, or_self]
    refine ⟨by first | omega | decide | simp, ⟨by omega, ?_⟩, ?_⟩ <;> omega
/-! the class -/
section RUNS
variable (d : Nat) {h : fi_H}
theorem kA_leap {y : Int} (H : Shp h) (h0 : 0 ≤ y) (h1 : y < 100000) : fj_run (d + 1) 158 h [(0, y)] = some (.inl (some (0, cE y)), h) := by
  rw [m_158 d y H, ir_nn h0 (by omega) (by omega) (by omega), ir_nn h0 (by omega) (by omega) (by omega), ir_nn h0 (by omega) (by omega) (by omega)]
  by_cases q1 : y % 4 = 0
  · rw [if_pos q1]
    by_cases q2 : y % 100 = 0
    · rw [if_pos q2]
      by_cases q3 : y % 400 = 0
      · rw [if_pos q3, cE_y ⟨q1, Or.inr q3⟩]
      · rw [if_neg q3, cE_n (fun q => by rcases q.2 with e | e; exact e q2; exact q3 e)]
    · rw [if_neg q2, cE_y ⟨q1, Or.inl q2⟩]
  · rw [if_neg q1, cE_n (fun q => q1 q.1)]
theorem kB_leap {y : Int} (H : Shp h) (h0 : 0 ≤ y) (h1 : y < 100000) : fj_run (d + 1) 517 h [(0, y)] = some (.inl (some (0, cE y)), h) := by
  rw [m_517 d y H, ir_nn h0 (by omega) (by omega) (by omega), ir_nn h0 (by omega) (by omega) (by omega), ir_nn h0 (by omega) (by omega) (by omega)]
  by_cases q1 : y % 4 = 0
  · rw [if_pos q1]
    by_cases q2 : y % 100 = 0
    · rw [if_pos q2]
      by_cases q3 : y % 400 = 0
      · rw [if_pos q3, cE_y ⟨q1, Or.inr q3⟩]
      · rw [if_neg q3, cE_n (fun q => by rcases q.2 with e | e; exact e q2; exact q3 e)]
    · rw [if_neg q2, cE_y ⟨q1, Or.inl q2⟩]
  · rw [if_neg q1, cE_n (fun q => q1 q.1)]
theorem kA_len {y m : Int} (H : Shp h) (h0 : 0 ≤ y) (h1 : y < 100000) : fj_run (d + 2) 157 h [(0, y), (0, m)] = some (.inl (some (0, cN y m)), h) := by
  rw [m_157 (d + 1) y m H]
  have hr := cE_rg y
  by_cases q2 : m = 2
  · rw [if_pos q2, kA_leap d H h0 h1, ca_ret]
    unfold cN
    rw [if_pos q2]
    by_cases e : cE y = 0
    · rw [if_pos e, e]; rfl
    · rw [if_neg e, show cE y = 1 by omega]; rfl
  · unfold cN
    rw [if_neg q2, if_neg q2]
    by_cases q4 : m = 4; (rw [if_pos q4, if_pos (by omega)])
    by_cases q6 : m = 6; (rw [if_neg q4, if_pos q6, if_pos (by omega)])
    by_cases q9 : m = 9; (rw [if_neg q4, if_neg q6, if_pos q9, if_pos (by omega)])
    by_cases q11 : m = 11; (rw [if_neg q4, if_neg q6, if_neg q9, if_pos q11, if_pos (by omega)])
    rw [if_neg q4, if_neg q6, if_neg q9, if_neg q11, if_neg (by omega)]
theorem kB_len {y m : Int} (H : Shp h) (h0 : 0 ≤ y) (h1 : y < 100000) : fj_run (d + 2) 516 h [(0, y), (0, m)] = some (.inl (some (0, cN y m)), h) := by
  rw [m_516 (d + 1) y m H]
  have hr := cE_rg y
  by_cases q2 : m = 2
  · rw [if_pos q2, kB_leap d H h0 h1, ca_ret]
    unfold cN
    rw [if_pos q2]
    by_cases e : cE y = 0
    · rw [if_pos e, e]; rfl
    · rw [if_neg e, show cE y = 1 by omega]; rfl
  · unfold cN
    rw [if_neg q2, if_neg q2]
    by_cases q4 : m = 4; (rw [if_pos q4, if_pos (by omega)])
    by_cases q6 : m = 6; (rw [if_neg q4, if_pos q6, if_pos (by omega)])
    by_cases q9 : m = 9; (rw [if_neg q4, if_neg q6, if_pos q9, if_pos (by omega)])
    by_cases q11 : m = 11; (rw [if_neg q4, if_neg q6, if_neg q9, if_pos q11, if_pos (by omega)])
    rw [if_neg q4, if_neg q6, if_neg q9, if_neg q11, if_neg (by omega)]
theorem kA_num {y m dd : Int} (H : Shp h) (h0 : 1 ≤ y) (h1 : y < 4000) (hm : 1 ≤ m ∧ m ≤ 12) (hd : 0 ≤ dd ∧ dd ≤ 100) : fj_run (d + 1) 159 h [(0, y), (0, m), (0, dd)] = some (.inl (some (0, cM y m dd)), h) := by
  rw [m_159 d y m dd H]
  have eN := cA_next y
  have eA : cA (y + 1) = 365 * (y + 1 - 1900) + y / 4 - y / 100 + y / 400 - 460 := by
    unfold cA
    rw [show y + 1 - 1 = y by omega]
  have hmm : m = 1 ∨ m = 2 ∨ m = 3 ∨ m = 4 ∨ m = 5 ∨ m = 6 ∨ m = 7 ∨ m = 8 ∨ m = 9 ∨ m = 10 ∨ m = 11 ∨ m = 12 := by omega
  by_cases q : 2 < m
  · rw [if_pos q, e_159_12 d _ _ _ H, if_pos q, e_159_48 d _ _ _ _ _ H]
    unfold lt_
    simp (disch := omega) only [wI_id, iq_nn]
    congr 4
    unfold cM cC
    rcases hmm with rfl | rfl | rfl | rfl | rfl | rfl | rfl | rfl | rfl | rfl | rfl | rfl <;> simp at q ⊢ <;> omega
  · rw [if_neg q, e_159_12 d _ _ _ H, if_neg q, e_159_48 d _ _ _ _ _ H]
    unfold lt_
    simp (disch := omega) only [wI_id, iq_nn]
    congr 4
    unfold cM cC cA
    rcases hmm with rfl | rfl | rfl | rfl | rfl | rfl | rfl | rfl | rfl | rfl | rfl | rfl <;> simp at q ⊢ <;> omega
theorem kB_ahead {y : Int} (H : Shp h) (h0 : 1 ≤ y) (h1 : y < 4000) : fj_run (d + 1) 519 h [(0, y)] = some (.inl (some (0, cA y)), h) := by
  rw [m_519 d y H]
  simp (disch := omega) only [wI_id, iq_nn]
  rfl
theorem kB_numl {y m : Int} (H : Shp h) (h0 : 1 ≤ y) (h1 : y < 4000) (hm : m ≤ 13) : ∀ (k : Nat) (s x : Int), 1 ≤ x → x + k = m → -2000000000 ≤ s → s + 31 * k ≤ 2000000 → c_518_12 (d + 2) y m s x h = some (.inl (some (0, s + cC y m - cC y x)), h) := by
  intro k
  induction k with
  | zero =>
    intro s x hx hk _ _
    have : x = m := by omega
    subst this
    rw [e_518_12 (d + 2) _ _ _ _ H, if_neg (by omega)]
    exact ret_eq (by omega)
  | succ k ih =>
    intro s x hx hk h2 h3
    have hN := cN_rg y x
    rw [e_518_12 (d + 2) _ _ _ _ H, if_pos (by omega), kB_len d H (by omega) (by omega), ca_ret, wI_id (x := s + cN y x) (by omega) (by omega), wI_id (x := x + 1) (by omega) (by omega)]
    rw [ih (s + cN y x) (x + 1) (by omega) (by omega) (by omega) (by omega), cC_next (by omega) (by omega)]
    exact ret_eq (by omega)
theorem cA_rg {y : Int} (h0 : 1 ≤ y) (h1 : y < 4000) : -800000 ≤ cA y ∧ cA y ≤ 900000 := by unfold cA; omega
theorem kB_num {y m dd : Int} (H : Shp h) (h0 : 1 ≤ y) (h1 : y < 4000) (hm : 1 ≤ m ∧ m ≤ 12) (hd : 0 ≤ dd ∧ dd ≤ 100) : fj_run (d + 3) 518 h [(0, y), (0, m), (0, dd)] = some (.inl (some (0, cM y m dd)), h) := by
  have ha := cA_rg h0 h1
  rw [m_518 (d + 2) y m dd H, kB_ahead (d + 1) H h0 h1, ca_ret, wI_id (x := cA y + dd) (by omega) (by omega), wI_id (by omega) (by omega)]
  rw [kB_numl d H h0 h1 (by omega) (m - 1).toNat (cA y + dd - 1) 1 (by omega) (by omega) (by omega) (by omega)]
  have e3 : cC y 1 = 0 := by simp [cC]
  refine ret_eq ?_
  unfold cM
  omega
/-- the class's calendar, looked at a day -/
def lkA (x0 : Nat) (h : fi_H) (n : Int) : fi_H := fi_upd (fi_upd (fi_upd h 113 x0 0 (cDa n)) 112 x0 0 (cMo n)) 111 x0 0 (cY n)
def lkB (h : fi_H) (n : Int) : fi_H := fi_upd (fi_upd (fi_upd h 384 602 0 (cY n)) 385 602 0 (cMo n)) 386 602 0 (cDa n)
abbrev wcA (x0 : Nat) (f a _i : Nat) : Prop := a = x0 ∧ (f = 111 ∨ f = 112 ∨ f = 113)
abbrev wcB (f a _i : Nat) : Prop := a = 602 ∧ (f = 384 ∨ f = 385 ∨ f = 386)
theorem cDa_rg {n : Int} (h0 : 0 ≤ n) (h1 : n ≤ 65535) : (1 ≤ cDa n ∧ cDa n ≤ 31) ∧ (1 ≤ cMo n ∧ cMo n ≤ 12) ∧ cDa n ≤ cN (cY n) (cMo n) := by
  obtain ⟨a, b, c⟩ := cD_look h0 h1
  have := cN_rg (cY n) (cMo n)
  exact ⟨⟨b.1, by omega⟩, a, b.2⟩
theorem lkA_hp {x0 : Nat} (H : Hp h) {n : Int} (h0 : 0 ≤ n) (h1 : n ≤ 65535) (hx : 302 < x0 ∧ x0 ≤ 714) : Hp (lkA x0 h n) := by
  obtain ⟨a, b, -⟩ := cDa_rg h0 h1
  have c := cY_rg h0 h1
  unfold lkA
  refine Hp.u (Hp.u (Hp.u H 0 hx ⟨by decide, by decide⟩ ?_) 0 hx ⟨by decide, by decide⟩ ?_) 0 hx ⟨by decide, by decide⟩ ?_ <;> (rw [show fr_ty _ = 10 from rfl]; unfold nt_; simp only [if_true]; omega)
theorem lkB_hp (H : Hp h) {n : Int} (h0 : 0 ≤ n) (h1 : n ≤ 65535) : Hp (lkB h n) := by
  obtain ⟨a, b, -⟩ := cDa_rg h0 h1
  have c := cY_rg h0 h1
  unfold lkB
  refine Hp.u (Hp.u (Hp.u H 0 ⟨by decide, by decide⟩ ⟨by decide, by decide⟩ ?_) 0 ⟨by decide, by decide⟩ ⟨by decide, by decide⟩ ?_) 0 ⟨by decide, by decide⟩ ⟨by decide, by decide⟩ ?_ <;> (rw [show fr_ty _ = 10 from rfl]; unfold nt_; simp only [if_true]; omega)
theorem lkA_fr {x0 : Nat} (hx : 0 < x0) (n : Int) : Fr (wcA x0) h (lkA x0 h n) := by
  unfold lkA
  exact Fr.u 0 _ (Fr.u 0 _ (Fr.u 0 _ (Fr.rf _ _) hx (by simp [wcA])) hx (by simp [wcA])) hx (by simp [wcA])
theorem lkB_fr (n : Int) : Fr wcB h (lkB h n) := by
  unfold lkB
  exact Fr.u 0 _ (Fr.u 0 _ (Fr.u 0 _ (Fr.rf _ _) (by decide) (by decide)) (by decide) (by decide)) (by decide) (by decide)
theorem lkA_v {x0 : Nat} (n : Int) : lkA x0 h n 111 x0 0 = cY n ∧ lkA x0 h n 112 x0 0 = cMo n ∧ lkA x0 h n 113 x0 0 = cDa n := by simp [lkA, fi_upd]
theorem lkB_v (n : Int) : lkB h n 384 602 0 = cY n ∧ lkB h n 385 602 0 = cMo n ∧ lkB h n 386 602 0 = cDa n := by simp [lkB, fi_upd]
theorem kA_look {x0 : Nat} {n : Int} (H : Hp h) (hx : 302 < x0 ∧ x0 ≤ 714) (hk : h 0 x0 0 = 101) (h0 : 0 ≤ n) (h1 : n ≤ 65535) : fj_run (d + 1) 40 h [(4, x0), (0, n)] = some (.inl none, lkA x0 h n) := by
  obtain ⟨a, b, -⟩ := cDa_rg h0 h1
  have c := cY_rg h0 h1
  have hdo : 0 ≤ cdo n ∧ cdo n ≤ 146096 := by rcases cer_v h0 h1 with ⟨_, p, q, -⟩ | ⟨_, p, q, -⟩ <;> omega
  have her : 4 ≤ cer n ∧ cer n ≤ 5 := by rcases cer_v h0 h1 with ⟨e, _⟩ | ⟨e, _⟩ <;> omega
  have hyo : 0 ≤ cyo n ∧ cyo n ≤ 399 := by rcases cyo_ok h0 h1 with ⟨_, b, c, _, _⟩ | ⟨_, b, c, _, _⟩ <;> omega
  obtain ⟨dy0, dy1, -⟩ := cdy_rg h0 h1
  obtain ⟨mp0, mp1⟩ := cmp_rg h0 h1
  have E1 : iq_ (wI (n + 693901)) 146097 = cer n := by rw [wI_id (by omega) (by omega), iq_nn (by omega) (by omega) (by omega) (by omega)]; rfl
  have E2 : wI ((wI (n + 693901)) - (wI (cer n * 146097))) = cdo n := by
    rw [wI_id (x := n + 693901) (by omega) (by omega), wI_id (x := cer n * 146097) (by omega) (by omega)]
    have : cdo n = n + 693901 - cer n * 146097 := rfl
    rw [← this]; exact wI_id (by omega) (by omega)
  have E3 : iq_ (wI ((wI ((wI (cdo n - (iq_ (cdo n) 1460))) + (iq_ (cdo n) 36524))) - (iq_ (cdo n) 146096))) 365 = cyo n := by
    simp (disch := omega) only [wI_id, iq_nn]
    rfl
  have E4 : wI (cdo n - (wI ((wI ((wI (365 * cyo n)) + (iq_ (cyo n) 4))) - (iq_ (cyo n) 100)))) = cdy n := by
    have : cdy n = cdo n - (365 * cyo n + cyo n / 4 - cyo n / 100) := rfl
    simp (disch := omega) only [wI_id, iq_nn]
    rfl
  have E5 : iq_ (wI ((wI (5 * cdy n)) + 2)) 153 = cmp_ n := by
    simp (disch := omega) only [wI_id, iq_nn]
    rfl
  have E6 : wI ((wI (cdy n - (iq_ (wI ((wI (153 * cmp_ n)) + 2)) 5))) + 1) = cDa n := by
    have : cDa n = cdy n - (153 * cmp_ n + 2) / 5 + 1 := rfl
    simp (disch := omega) only [wI_id, iq_nn]
    rfl
  have hkn : h 0 ((x0 : Int)).toNat 0 = 101 := hk
  rw [m_40 d (x0 : Int) n H.1 hkn, lt_eq, E1, E2, lt_eq, E3, lt_eq, E4, e_40_67 d _ _ _ _ H.1 hkn, if_pos (by omega), lt_eq, E5, E6]
  have tn : ((x0 : Int)).toNat = x0 := rfl
  rw [tn]
  have H1 : Hp (fi_upd h 113 x0 0 (cDa n)) := Hp.u H 0 hx ⟨by decide, by decide⟩ (by rw [show fr_ty _ = 10 from rfl]; unfold nt_; simp only [if_true]; omega)
  have hk1 : (fi_upd h 113 x0 0 (cDa n)) 0 x0 0 = 101 := by rw [fi_upd_ne _ _ _ _ _ (by omega)]; exact hk
  have key : (if cmp_ n < 10 then c_40_118 d (x0 : Int) (cer n) (cyo n) (x0 : Int) (wI (cmp_ n + 3)) (fi_upd h 113 x0 0 (cDa n)) else c_40_118 d (x0 : Int) (cer n) (cyo n) (x0 : Int) (wI (cmp_ n - 9)) (fi_upd h 113 x0 0 (cDa n))) = c_40_118 d (x0 : Int) (cer n) (cyo n) (x0 : Int) (cMo n) (fi_upd h 113 x0 0 (cDa n)) := by
    by_cases q : cmp_ n < 10
    · rw [if_pos q, wI_id (by omega) (by omega)]; unfold cMo; rw [if_pos q]
    · rw [if_neg q, wI_id (by omega) (by omega)]; unfold cMo; rw [if_neg q]
  rw [key, e_40_118 d (x0 : Int) _ _ _ _ H1.1 hk1, tn, if_pos hk1, if_pos (by omega), lt_eq]
  have H2 : Hp (fi_upd (fi_upd h 113 x0 0 (cDa n)) 112 x0 0 (cMo n)) := Hp.u H1 0 hx ⟨by decide, by decide⟩ (by rw [show fr_ty _ = 10 from rfl]; unfold nt_; simp only [if_true]; omega)
  have hk2 : (fi_upd (fi_upd h 113 x0 0 (cDa n)) 112 x0 0 (cMo n)) 0 x0 0 = 101 := by rw [fi_upd_ne _ _ _ _ _ (by omega)]; exact hk1
  have eM : (fi_upd (fi_upd h 113 x0 0 (cDa n)) 112 x0 0 (cMo n)) 112 x0 0 = cMo n := fi_upd_same _ _ _ _ _
  rw [eM, wI_id (x := 400 * cer n) (by omega) (by omega), wI_id (x := cyo n + 400 * cer n) (by omega) (by omega)]
  have key2 : ∀ s, s = (if cMo n ≤ 2 then 1 else 0) → c_40_143 d (x0 : Int) (cyo n + 400 * cer n) s (fi_upd (fi_upd h 113 x0 0 (cDa n)) 112 x0 0 (cMo n)) = some (.inl none, lkA x0 h n) := by
    intro s hs
    rw [e_40_143 d _ _ _ H2.1, tn, if_pos hk2, if_pos (by omega), lt_eq]
    have : cyo n + 400 * cer n + s = cY n := by rw [hs]; rfl
    rw [this, wI_id (by omega) (by omega)]
    rfl
  by_cases q : 2 < cMo n
  · rw [if_pos q]; exact key2 0 (by rw [if_neg (by omega)])
  · rw [if_neg q]; exact key2 1 (by rw [if_pos (by omega)])
theorem kB_lookm {n : Int} (H : Hp h) (h0 : 0 ≤ n) (h1 : n ≤ 65535) : ∀ (k : Nat) (x : Int), 1 ≤ x → x + k = cMo n → c_593_36 (d + 2) (cY n) (n - cA (cY n) - cC (cY n) x) x h = some (.inl none, lkB h n) := by
  obtain ⟨dm, dd, de⟩ := cD_look h0 h1
  have hy := cY_rg h0 h1
  obtain ⟨b1, b2, b3, b4⟩ := cD_in (cD_look h0 h1)
  have hE := cE_rg (cY n)
  have hA := cA_next (cY n)
  have hl := cD_look h0 h1
  unfold cM at de
  intro k
  induction k with
  | zero =>
    intro x hx hk
    have : x = cMo n := by omega
    subst this
    have hN := cN_rg (cY n) (cMo n)
    rw [e_593_36 (d + 2) _ _ _ H.1, kB_len d H.1 (by omega) (by omega), ca_ret, if_pos (by omega)]
    unfold lt_
    have : n - cA (cY n) - cC (cY n) (cMo n) + 1 = cDa n := by omega
    rw [this, wI_id (by omega) (by omega)]
    rfl
  | succ k ih =>
    intro x hx hk
    have hN := cN_rg (cY n) x
    have hC := cC_le (y := cY n) (m := x + 1) (n := cMo n) (by omega) (by omega) (by omega)
    have hC0 := cC_rg (y := cY n) (m := x)
    rw [cC_next hx (by omega)] at hC
    rw [e_593_36 (d + 2) _ _ _ H.1, kB_len d H.1 (by omega) (by omega), ca_ret, if_neg (by omega), kB_len d H.1 (by omega) (by omega), ca_ret]
    rw [wI_id (x := x + 1) (by omega) (by omega), wI_id (x := n - cA (cY n) - cC (cY n) x - cN (cY n) x) (by omega) (by omega)]
    have := ih (x + 1) (by omega) (by omega)
    rw [cC_next hx (by omega)] at this
    rw [← this]
    congr 1; omega
theorem kB_looky {n : Int} (H : Hp h) (h0 : 0 ≤ n) (h1 : n ≤ 65535) : ∀ (k : Nat) (x : Int), 1900 ≤ x → x + k = cY n → c_593_10 (d + 2) n x h = some (.inl none, lkB h n) := by
  have hy := cY_rg h0 h1
  obtain ⟨b1, b2, b3, b4⟩ := cD_in (cD_look h0 h1)
  intro k
  induction k with
  | zero =>
    intro x hx hk
    have : x = cY n := by omega
    subst this
    have hl := kB_lookm d H h0 h1 (cMo n - 1).toNat 1 (by omega) (by have := (cD_look h0 h1).1; omega)
    have e3 : cC (cY n) 1 = 0 := by simp [cC]
    rw [e3] at hl
    have hE := cE_rg (cY n)
    have hA := cA_next (cY n)
    rw [e_593_10 (d + 2) _ _ H.1, wI_id (by omega) (by omega), kB_ahead (d + 1) H.1 (by omega) (by omega), ca_ret, if_pos (by omega), kB_ahead (d + 1) H.1 (by omega) (by omega), ca_ret, wI_id (by omega) (by omega), ← hl]
    congr 1; omega
  | succ k ih =>
    intro x hx hk
    have hA := cA_le (y := x + 1) (z := cY n) (by omega)
    rw [e_593_10 (d + 2) _ _ H.1, wI_id (by omega) (by omega), kB_ahead (d + 1) H.1 (by omega) (by omega), ca_ret, if_neg (by omega)]
    exact ih (x + 1) (by omega) (by omega)
theorem kB_look {n : Int} (H : Hp h) (h0 : 0 ≤ n) (h1 : n ≤ 65535) : fj_run (d + 3) 593 h [(4, 602), (0, n)] = some (.inl none, lkB h n) := by
  have hy := cY_rg h0 h1
  obtain ⟨b1, b2, b3, b4⟩ := cD_in (cD_look h0 h1)
  have hle : 1900 + n / 366 ≤ cY n := by
    by_cases q : 1900 + n / 366 ≤ cY n
    · exact q
    · exfalso
      have := cA_le (y := cY n + 1) (z := 1900 + n / 366) (by omega)
      have h2 : cA (1900 + n / 366) ≤ n := by unfold cA; omega
      omega
  rw [m_593 (d + 2) n H.1, iq_nn h0 (by omega) (by omega) (by omega), wI_id (by omega) (by omega)]
  exact kB_looky d H h0 h1 (cY n - (1900 + n / 366)).toNat _ (by omega) (by omega)
end RUNS

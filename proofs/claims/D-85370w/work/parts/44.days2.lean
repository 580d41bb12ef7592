/-! days: months on, months between, Easter, working days -/
set_option maxRecDepth 100000
theorem ix_neg {y z : Int} (h1 : -2147483648 ≤ y) (h2 : y < 2147483648) (h3 : -2147483648 ≤ z) (h4 : z < 2147483648) : ix_ y z < 0 ↔ ((y < 0) ↔ ¬ (z < 0)) := by
  have ey : (fi_I y).toBitVec.toInt = y := fr_tI ⟨h1, h2⟩
  have ez : (fi_I z).toBitVec.toInt = z := fr_tI ⟨h3, h4⟩
  have e : ix_ y z = ((fi_I y).toBitVec ^^^ (fi_I z).toBitVec).toInt := rfl
  have m := BitVec.msb_eq_toInt (x := (fi_I y).toBitVec ^^^ (fi_I z).toBitVec)
  rw [BitVec.msb_xor, BitVec.msb_eq_toInt (x := (fi_I y).toBitVec), BitVec.msb_eq_toInt (x := (fi_I z).toBitVec), ey, ez, ← e] at m
  by_cases q1 : y < 0 <;> by_cases q2 : z < 0 <;> by_cases q3 : ix_ y z < 0 <;> simp [q1, q2, q3] at m ⊢
theorem cY_rg2 {n : Int} (h0 : 0 ≤ n) (h1 : n ≤ 65535) : 1900 ≤ cY n ∧ cY n ≤ 2079 := by
  obtain ⟨b1, b2, b3, b4⟩ := cD_in (cD_look h0 h1)
  constructor
  · by_cases q : 1900 ≤ cY n
    · exact q
    · have := cA_le (y := cY n + 1) (z := 1900) (by omega)
      have e : cA 1900 = 0 := by decide
      omega
  · by_cases q : cY n ≤ 2079
    · exact q
    · have := cA_le (y := 2080) (z := cY n) (by omega)
      have e : cA 2080 = 65744 := by decide
      omega
def mvk (n mo : Int) : Int := 12 * cY n + cMo n - 1 + mo
noncomputable def mvd (n mo : Int) : Int := if mvk n mo / 12 < 1800 ∨ 2200 < mvk n mo / 12 then -2147483648 else cM (mvk n mo / 12) (mvk n mo % 12 + 1) (if cDa n ≤ cN (mvk n mo / 12) (mvk n mo % 12 + 1) then cDa n else cN (mvk n mo / 12) (mvk n mo % 12 + 1))
noncomputable def gon (n mo dd : Int) : Int := if mvd n mo = -2147483648 then -1 else if mvd n mo + dd < 0 ∨ 65535 < mvd n mo + dd then -1 else mvd n mo + dd
theorem mvd_rg {n mo : Int} (h0 : 0 ≤ n) (h1 : n ≤ 65535) : mvd n mo = -2147483648 ∨ (-100000 ≤ mvd n mo ∧ mvd n mo ≤ 200000) := by
  obtain ⟨⟨a1, a2⟩, -, -⟩ := cDa_rg h0 h1
  unfold mvd
  by_cases q : mvk n mo / 12 < 1800 ∨ 2200 < mvk n mo / 12
  · rw [if_pos q]; exact Or.inl rfl
  · rw [if_neg q]
    right
    have hN := cN_rg (mvk n mo / 12) (mvk n mo % 12 + 1)
    have hC := cC_rg (y := mvk n mo / 12) (m := mvk n mo % 12 + 1)
    have hA : -40000 ≤ cA (mvk n mo / 12) ∧ cA (mvk n mo / 12) ≤ 120000 := by unfold cA; omega
    unfold cM
    split <;> omega
theorem gon_rg (n mo dd : Int) : gon n mo dd = -1 ∨ (0 ≤ gon n mo dd ∧ gon n mo dd ≤ 65535) := by
  unfold gon
  split
  · exact Or.inl rfl
  · split <;> omega
theorem lkA_lkA (x0 : Nat) (h : fi_H) (m n : Int) : lkA x0 (lkA x0 h m) n = lkA x0 h n := by
  funext f a i
  simp only [lkA, fi_upd]
  (repeat' split) <;> first | rfl | omega
theorem lkB_lkB (h : fi_H) (m n : Int) : lkB (lkB h m) n = lkB h n := by
  funext f a i
  simp only [lkB, fi_upd]
  (repeat' split) <;> first | rfl | omega
section RUNS
variable (d : Nat) {h : fi_H}
theorem kA_in {x lo hi : Int} (H : Shp h) (hx : -9223372036854775808 ≤ x ∧ x < 9223372036854775808) (hl : -9223372036854775808 ≤ lo ∧ lo < 9223372036854775808) (hh : -9223372036854775808 ≤ hi ∧ hi < 9223372036854775808) : fj_run (d + 1) 3 h [(1, x), (1, lo), (1, hi)] = some (.inl (some (0, if lo ≤ x ∧ x ≤ hi then 1 else 0)), h) := by
  have e1 : lc_ x lo < 0 ↔ x < lo := by rw [lc_lt, wJ_id hx.1 hx.2, wJ_id hl.1 hl.2]
  have e2 : 0 < lc_ x hi ↔ hi < x := by rw [lc_gt, wJ_id hx.1 hx.2, wJ_id hh.1 hh.2]
  rw [m_3 d x lo hi H]
  by_cases q : x < lo
  · rw [if_pos (e1.mpr q), if_neg (by omega)]
  · rw [if_neg (fun z => q (e1.mp z))]
    by_cases q2 : hi < x
    · rw [if_pos (e2.mpr q2), if_neg (by omega)]
    · rw [if_neg (fun z => q2 (e2.mp z)), if_pos (by omega)]
theorem kB_in {x lo hi : Int} (H : Shp h) (hx : -9223372036854775808 ≤ x ∧ x < 9223372036854775808) (hl : -9223372036854775808 ≤ lo ∧ lo < 9223372036854775808) (hh : -9223372036854775808 ≤ hi ∧ hi < 9223372036854775808) : fj_run (d + 1) 508 h [(1, x), (1, lo), (1, hi)] = some (.inl (some (0, if lo ≤ x ∧ x ≤ hi then 1 else 0)), h) := by
  have e1 : lc_ x lo < 0 ↔ x < lo := by rw [lc_lt, wJ_id hx.1 hx.2, wJ_id hl.1 hl.2]
  have e2 : 0 < lc_ x hi ↔ hi < x := by rw [lc_gt, wJ_id hx.1 hx.2, wJ_id hh.1 hh.2]
  rw [m_508 d x lo hi H]
  by_cases q : x < lo
  · rw [if_pos (e1.mpr q), if_neg (by omega)]
  · rw [if_neg (fun z => q (e1.mp z))]
    by_cases q2 : hi < x
    · rw [if_pos (e2.mpr q2), if_neg (by omega)]
    · rw [if_neg (fun z => q2 (e2.mp z)), if_pos (by omega)]
theorem ite01 {c : Prop} [Decidable c] {a b : fk_R} : (if (if c then (1 : Int) else 0) = 0 ∨ (if c then (1 : Int) else 0) = 1 then a else b) = a := by by_cases q : c <;> simp [q]
theorem ite0 {c : Prop} [Decidable c] {a b : fk_R} : (if (if c then (1 : Int) else 0) = 0 then a else b) = if c then b else a := by by_cases q : c <;> simp [q]
theorem kA_isDay {n : Int} (H : Shp h) (h0 : -2147483648 ≤ n) (h1 : n < 2147483648) : fj_run (d + 2) 2 h [(4, 303), (0, n)] = some (.inl (some (0, if 0 ≤ n ∧ n ≤ 65535 then 1 else 0)), h) := by
  rw [m_2 (d + 1) n H, wI_id h0 h1, kA_in d H (by omega) (by omega) (by omega), ca_ret, ite01]
theorem kB_isDay {n : Int} (H : Shp h) (h0 : -9223372036854775808 ≤ n) (h1 : n < 9223372036854775808) : fj_run (d + 2) 520 h [(1, n)] = some (.inl (some (0, if 0 ≤ n ∧ n ≤ 65535 then 1 else 0)), h) := by
  rw [m_520 (d + 1) n H, kB_in d H ⟨h0, h1⟩ (by omega) (by omega), ca_ret, ite01]
theorem kA_fdiv {x : Int} (H : Shp h) (h0 : 0 ≤ x) (h1 : x < 2147483648) : fj_run (d + 1) 351 h [(0, x), (0, 12)] = some (.inl (some (0, x / 12)), h) := by
  rw [m_351 d x 12 H, if_neg (by decide), if_neg (fun q => by have := (ix_neg (by omega) h1 (by omega) (by omega)).mp q; omega), iq_nn h0 h1 (by omega) (by omega)]
theorem kA_moved {x0 : Nat} {n mo dd : Int} (H : Hp h) (hx : 302 < x0 ∧ x0 ≤ 714) (hk : h 0 x0 0 = 101) (h0 : 0 ≤ n ∧ n ≤ 65535) (hm : -2400 ≤ mo ∧ mo ≤ 2400) (hd : -65535 ≤ dd ∧ dd ≤ 65535) : fj_run (d + 3) 350 h [(4, x0), (0, n), (0, mo), (0, dd)] = some (.inl (some (0, gon n mo dd)), lkA x0 h n) := by
  obtain ⟨v1, v2, v3⟩ := lkA_v (h := h) (x0 := x0) n
  obtain ⟨⟨a1, a2⟩, ⟨a3, a4⟩, -⟩ := cDa_rg h0.1 h0.2
  have hy := cY_rg h0.1 h0.2
  have HL := (lkA_hp H h0.1 h0.2 hx).1
  have tn : ((x0 : Int)).toNat = x0 := rfl
  have ek : mvk n mo = 12 * cY n + cMo n - 1 + mo := rfl
  rw [m_350 (d + 2) (x0 : Int) n mo dd H.1 hk, kA_look (d + 1) H hx hk h0.1 h0.2, cv_ret, lt_eq, tn, v1, v2]
  have e1 : wI ((wI ((wI ((wI (12 * cY n)) + cMo n)) - 1)) + mo) = mvk n mo := by
    simp (disch := omega) only [wI_id]
    rfl
  rw [e1, kA_fdiv (d + 1) HL (by omega) (by omega), ca_ret]
  have hM := mvd_rg (mo := mo) h0.1 h0.2
  by_cases q1 : mvk n mo / 12 < 1800
  · rw [if_pos q1]
    have : mvd n mo = -2147483648 := by unfold mvd; exact if_pos (Or.inl q1)
    unfold gon
    rw [if_pos this]
  · rw [if_neg q1]
    by_cases q2 : 2200 < mvk n mo / 12
    · rw [if_pos q2]
      have : mvd n mo = -2147483648 := by unfold mvd; exact if_pos (Or.inr q2)
      unfold gon
      rw [if_pos this]
    · rw [if_neg q2]
      have e2 : wI ((wI (mvk n mo - (wI (12 * (mvk n mo / 12))))) + 1) = mvk n mo % 12 + 1 := by
        simp (disch := omega) only [wI_id]
        omega
      have hN := cN_rg (mvk n mo / 12) (mvk n mo % 12 + 1)
      have key : ∀ v, v = (if cDa n ≤ cN (mvk n mo / 12) (mvk n mo % 12 + 1) then cDa n else cN (mvk n mo / 12) (mvk n mo % 12 + 1)) → fj_run (d + 2) 159 (lkA x0 h n) [(0, mvk n mo / 12), (0, mvk n mo % 12 + 1), (0, v)] = some (.inl (some (0, mvd n mo)), lkA x0 h n) := by
        intro v hv
        have hv2 : 1 ≤ v ∧ v ≤ 31 := by rw [hv]; split <;> omega
        rw [kA_num (d + 1) HL (by omega) (by omega) (by omega) (by omega), hv]
        unfold mvd
        rw [if_neg (by omega : ¬ (mvk n mo / 12 < 1800 ∨ 2200 < mvk n mo / 12))]
      have hne : mvd n mo ≠ -2147483648 := by
        unfold mvd
        rw [if_neg (by omega : ¬ (mvk n mo / 12 < 1800 ∨ 2200 < mvk n mo / 12))]
        have hC := cC_rg (y := mvk n mo / 12) (m := mvk n mo % 12 + 1)
        have hA : -40000 ≤ cA (mvk n mo / 12) := by unfold cA; omega
        unfold cM
        split <;> omega
      have fin : (if wI (mvd n mo + dd) < 0 then some (.inl (some (0, (-1))), lkA x0 h n) else if 65535 < wI (mvd n mo + dd) then some (.inl (some (0, (-1))), lkA x0 h n) else some (.inl (some (0, wI (mvd n mo + dd))), lkA x0 h n) : fk_R) = some (.inl (some (0, gon n mo dd)), lkA x0 h n) := by
        rw [wI_id (by omega) (by omega)]
        unfold gon
        rw [if_neg hne]
        by_cases p1 : mvd n mo + dd < 0
        · rw [if_pos p1, if_pos (Or.inl p1)]
        · rw [if_neg p1]
          by_cases p2 : 65535 < mvd n mo + dd
          · rw [if_pos p2, if_pos (Or.inr p2)]
          · rw [if_neg p2, if_neg (by omega)]
      rw [e2, kA_len d HL (by omega) (by omega), ca_ret, v3, m_7 (d + 1) _ _ HL]
      by_cases p : cN (mvk n mo / 12) (mvk n mo % 12 + 1) < cDa n
      · rw [if_pos p, ca_ret, key _ (by rw [if_neg (by omega)]), ca_ret]
        exact fin
      · rw [if_neg p, ca_ret, key _ (by rw [if_pos (by omega)]), ca_ret]
        exact fin
theorem kB_moved {n mo : Int} (H : Hp h) (h0 : 0 ≤ n ∧ n ≤ 65535) (hm : -2400 ≤ mo ∧ mo ≤ 2400) : fj_run (d + 5) 601 h [(4, 602), (0, n), (0, mo)] = some (.inl (some (0, mvd n mo)), lkB h n) := by
  obtain ⟨v1, v2, v3⟩ := lkB_v (h := h) n
  obtain ⟨⟨a1, a2⟩, ⟨a3, a4⟩, -⟩ := cDa_rg h0.1 h0.2
  have hy := cY_rg h0.1 h0.2
  have HL := (lkB_hp H h0.1 h0.2).1
  have ek : mvk n mo = 12 * cY n + cMo n - 1 + mo := rfl
  rw [m_601 (d + 4) n mo H.1, kB_look (d + 1) H h0.1 h0.2, cv_ret, lt_eq, v1, v2]
  have e1 : wI ((wI ((wI ((wI (12 * cY n)) + cMo n)) - 1)) + mo) = mvk n mo := by
    simp (disch := omega) only [wI_id]
    rfl
  rw [e1, iq_nn (by omega) (by omega) (by omega) (by omega), ir_nn (by omega) (by omega) (by omega) (by omega), wI_id (x := mvk n mo / 12) (by omega) (by omega), kB_in (d + 3) HL (by omega) (by omega) (by omega), ca_ret, ite0]
  by_cases q : 1800 ≤ mvk n mo / 12 ∧ mvk n mo / 12 ≤ 2200
  · rw [if_pos q, wI_id (x := mvk n mo % 12 + 1) (by omega) (by omega), kB_len (d + 2) HL (by omega) (by omega), ca_ret, v3]
    have hN := cN_rg (mvk n mo / 12) (mvk n mo % 12 + 1)
    have key : ∀ v, v = (if cDa n ≤ cN (mvk n mo / 12) (mvk n mo % 12 + 1) then cDa n else cN (mvk n mo / 12) (mvk n mo % 12 + 1)) → c_601_83 (d + 4) (mvk n mo / 12) (mvk n mo % 12 + 1) v (lkB h n) = some (.inl (some (0, mvd n mo)), lkB h n) := by
      intro v hv
      have hv2 : 1 ≤ v ∧ v ≤ 31 := by rw [hv]; split <;> omega
      rw [e_601_83 (d + 4) _ _ _ HL, kB_num (d + 1) HL (by omega) (by omega) (by omega) (by omega), ca_ret, hv]
      unfold mvd
      rw [if_neg (by omega : ¬ (mvk n mo / 12 < 1800 ∨ 2200 < mvk n mo / 12))]
    by_cases p : cDa n < cN (mvk n mo / 12) (mvk n mo % 12 + 1)
    · rw [if_pos p]; exact key _ (by rw [if_pos (by omega)])
    · rw [if_neg p, kB_len (d + 2) HL (by omega) (by omega), ca_ret]
      refine key _ ?_
      split <;> omega
  · rw [if_neg q]
    have : mvd n mo = -2147483648 := by unfold mvd; exact if_pos (by omega)
    rw [this]
theorem kB_gone {n mo dd : Int} (H : Hp h) (h0 : 0 ≤ n ∧ n ≤ 65535) (hm : -2400 ≤ mo ∧ mo ≤ 2400) (hd : -65535 ≤ dd ∧ dd ≤ 65535) : fj_run (d + 6) 618 h [(4, 602), (0, n), (0, mo), (0, dd)] = some (.inl (some (0, gon n mo dd)), lkB h n) := by
  have HL := (lkB_hp H h0.1 h0.2).1
  have hM := mvd_rg (mo := mo) h0.1 h0.2
  rw [m_618 (d + 5) n mo dd H.1, kB_moved d H h0 hm, ca_ret]
  unfold gon
  by_cases q : mvd n mo = -2147483648
  · rw [if_pos q, if_pos q]
  · rw [if_neg q, if_neg q, wI_id (x := mvd n mo) (by omega) (by omega), wI_id (x := dd) (by omega) (by omega), wJ_id (by omega) (by omega), kB_isDay (d + 3) HL (by omega) (by omega), ca_ret, ite0, wI_id (by omega) (by omega)]
    by_cases p : 0 ≤ mvd n mo + dd ∧ mvd n mo + dd ≤ 65535
    · rw [if_pos p, if_neg (by omega)]
    · rw [if_neg p, if_pos (by omega)]
/-! whole months between two days -/
noncomputable def fmk (a b : Int) : Int := 12 * cY b + cMo b - (12 * cY a + cMo a)
noncomputable def fmo (a b : Int) : Int := if b < mvd a (fmk a b) then fmk a b - 1 else fmk a b
noncomputable def fm (a b : Int) : Int := if a ≤ b then fmo a b else -(fmo b a)
theorem fmk_rg {a b : Int} (ha : 0 ≤ a ∧ a ≤ 65535) (hb : 0 ≤ b ∧ b ≤ 65535) : -2399 ≤ fmk a b ∧ fmk a b ≤ 2399 := by
  obtain ⟨-, ⟨a3, a4⟩, -⟩ := cDa_rg ha.1 ha.2
  obtain ⟨-, ⟨b3, b4⟩, -⟩ := cDa_rg hb.1 hb.2
  have := cY_rg2 ha.1 ha.2
  have := cY_rg2 hb.1 hb.2
  unfold fmk
  omega
theorem mvd_fmk {a b : Int} (ha : 0 ≤ a ∧ a ≤ 65535) (hb : 0 ≤ b ∧ b ≤ 65535) : 0 ≤ mvd a (fmk a b) := by
  obtain ⟨⟨a1, a2⟩, ⟨a3, a4⟩, -⟩ := cDa_rg ha.1 ha.2
  obtain ⟨-, ⟨b3, b4⟩, -⟩ := cDa_rg hb.1 hb.2
  have := cY_rg2 ha.1 ha.2
  have := cY_rg2 hb.1 hb.2
  have e : mvk a (fmk a b) = 12 * cY b + cMo b - 1 := by unfold mvk fmk; omega
  have e1 : mvk a (fmk a b) / 12 = cY b := by rw [e]; omega
  have e2 : mvk a (fmk a b) % 12 + 1 = cMo b := by rw [e]; omega
  unfold mvd
  rw [e1, e2, if_neg (by omega)]
  have hN := cN_rg (cY b) (cMo b)
  have hC := cC_rg (y := cY b) (m := cMo b)
  have hA := cA_le (y := 1900) (z := cY b) (by omega)
  have e0 : cA 1900 = 0 := by decide
  unfold cM
  split <;> omega
theorem kA_betw {x0 : Nat} {a b : Int} (H : Hp h) (hx : 302 < x0 ∧ x0 ≤ 714) (hk : h 0 x0 0 = 101) (ha : 0 ≤ a ∧ a ≤ 65535) (hb : 0 ≤ b ∧ b ≤ 65535) : fj_run (d + 4) 394 h [(4, x0), (0, a), (0, b)] = some (.inl (some (0, fmo a b)), lkA x0 h a) := by
  obtain ⟨v1, v2, -⟩ := lkA_v (h := h) (x0 := x0) b
  obtain ⟨w1, w2, -⟩ := lkA_v (h := lkA x0 h b) (x0 := x0) a
  have tn : ((x0 : Int)).toNat = x0 := rfl
  have H1 := lkA_hp H hb.1 hb.2 hx
  have H2 := lkA_hp H1 ha.1 ha.2 hx
  have k1 : lkA x0 h b 0 x0 0 = 101 := by rw [(lkA_fr (by omega) b).2 0 x0 0 (by omega) (by have := H.1.2.2.1; omega) (by simp [wcA])]; exact hk
  have k2 : lkA x0 (lkA x0 h b) a 0 x0 0 = 101 := by rw [(lkA_fr (by omega) a).2 0 x0 0 (by omega) (by have := H1.1.2.2.1; omega) (by simp [wcA])]; exact k1
  have hr := fmk_rg ha hb
  obtain ⟨⟨a1, a2⟩, ⟨a3, a4⟩, -⟩ := cDa_rg ha.1 ha.2
  obtain ⟨-, ⟨b3, b4⟩, -⟩ := cDa_rg hb.1 hb.2
  have ya := cY_rg2 ha.1 ha.2
  have yb := cY_rg2 hb.1 hb.2
  rw [m_394 (d + 3) (x0 : Int) a b H.1 hk, kA_look (d + 2) H hx hk hb.1 hb.2, cv_ret, lt_eq, tn, v1, v2, kA_look (d + 2) H1 hx k1 ha.1 ha.2, cv_ret, lt_eq, w1, w2]
  have e1 : wI ((wI ((wI (12 * cY b)) + cMo b)) - (wI ((wI (12 * cY a)) + cMo a))) = fmk a b := by
    simp (disch := omega) only [wI_id]
    rfl
  rw [e1, kA_moved d H2 hx k2 ha (by omega) (by omega), ca_ret, wI_id (by omega) (by omega), lkA_lkA, lkA_lkA]
  have hM := mvd_rg (mo := fmk a b) ha.1 ha.2
  have hp := mvd_fmk ha hb
  by_cases p1 : 65535 < mvd a (fmk a b)
  · have hg : gon a (fmk a b) 0 = -1 := by unfold gon; rw [if_neg (by omega), if_pos (by omega)]
    rw [hg, if_pos rfl]
    unfold fmo
    rw [if_pos (by omega)]
  · have hg : gon a (fmk a b) 0 = mvd a (fmk a b) := by unfold gon; rw [if_neg (by omega), if_neg (by omega), Int.add_zero]
    rw [hg, if_neg (by omega)]
    unfold fmo
    by_cases p2 : b < mvd a (fmk a b)
    · rw [if_pos p2, if_pos p2]
    · rw [if_neg p2, if_neg p2]
theorem fmo_rg {a b : Int} (ha : 0 ≤ a ∧ a ≤ 65535) (hb : 0 ≤ b ∧ b ≤ 65535) : -2400 ≤ fmo a b ∧ fmo a b ≤ 2400 := by
  have := fmk_rg ha hb
  unfold fmo
  split <;> omega
theorem kA_months {x0 : Nat} {a b : Int} (H : Hp h) (hx : 302 < x0 ∧ x0 ≤ 714) (hk : h 0 x0 0 = 101) (ha : 0 ≤ a ∧ a ≤ 65535) (hb : 0 ≤ b ∧ b ≤ 65535) : fj_run (d + 5) 393 h [(4, x0), (0, a), (0, b)] = some (.inl (some (0, fm a b)), lkA x0 h (if a ≤ b then a else b)) := by
  rw [m_393 (d + 4) (x0 : Int) a b H.1 hk]
  unfold fm
  by_cases q : b < a
  · have := fmo_rg hb ha
    rw [if_pos q, kA_betw d H hx hk hb ha, ca_ret, if_neg (by omega), if_neg (by omega), wI_id (by omega) (by omega)]
  · rw [if_neg q, kA_betw d H hx hk ha hb, ca_ret, if_pos (by omega), if_pos (by omega)]
theorem kB_fullle {a b : Int} (H : Hp h) (ha : 0 ≤ a ∧ a ≤ 65535) (hb : 0 ≤ b ∧ b ≤ 65535) (q : ¬ b < a) : fj_run (d + 6) 600 h [(4, 602), (0, a), (0, b)] = some (.inl (some (0, fmo a b)), lkB h a) := by
  obtain ⟨v1, v2, -⟩ := lkB_v (h := h) a
  obtain ⟨w1, w2, -⟩ := lkB_v (h := lkB h a) b
  have H1 := lkB_hp H ha.1 ha.2
  have H2 := lkB_hp H1 hb.1 hb.2
  have hr := fmk_rg ha hb
  obtain ⟨⟨a1, a2⟩, ⟨a3, a4⟩, -⟩ := cDa_rg ha.1 ha.2
  obtain ⟨-, ⟨b3, b4⟩, -⟩ := cDa_rg hb.1 hb.2
  have ya := cY_rg2 ha.1 ha.2
  have yb := cY_rg2 hb.1 hb.2
  rw [m_600 (d + 5) a b H.1, if_neg q, kB_look (d + 2) H ha.1 ha.2, cv_ret, lt_eq, v1, v2, kB_look (d + 2) H1 hb.1 hb.2, cv_ret, lt_eq, w1, w2]
  have e1 : wI ((wI ((wI (12 * cY b)) + cMo b)) - (wI ((wI (12 * cY a)) + cMo a))) = fmk a b := by
    simp (disch := omega) only [wI_id]
    rfl
  rw [e1, kB_moved d H2 ha (by omega), ca_ret, wI_id (by omega) (by omega), lkB_lkB, lkB_lkB]
  unfold fmo
  by_cases p2 : b < mvd a (fmk a b)
  · rw [if_pos p2, if_pos p2]
  · rw [if_neg p2, if_neg p2]
theorem kB_full {a b : Int} (H : Hp h) (ha : 0 ≤ a ∧ a ≤ 65535) (hb : 0 ≤ b ∧ b ≤ 65535) : fj_run (d + 7) 600 h [(4, 602), (0, a), (0, b)] = some (.inl (some (0, fm a b)), lkB h (if a ≤ b then a else b)) := by
  unfold fm
  by_cases q : b < a
  · have := fmo_rg hb ha
    rw [m_600 (d + 6) a b H.1, if_pos q, kB_fullle d H hb ha (by omega), ca_ret, if_neg (by omega), if_neg (by omega), wI_id (by omega) (by omega)]
  · rw [kB_fullle (d + 1) H ha hb q, if_pos (by omega), if_pos (by omega)]
theorem kA_first {x0 : Nat} {n : Int} (H : Hp h) (hx : 302 < x0 ∧ x0 ≤ 714) (hk : h 0 x0 0 = 101) (h0 : 0 ≤ n ∧ n ≤ 65535) : fj_run (d + 2) 367 h [(4, x0), (0, n)] = some (.inl (some (0, cM (cY n) (cMo n) 1)), lkA x0 h n) := by
  obtain ⟨-, -, v3⟩ := lkA_v (h := h) (x0 := x0) n
  obtain ⟨⟨a1, a2⟩, -, -⟩ := cDa_rg h0.1 h0.2
  have tn : ((x0 : Int)).toNat = x0 := rfl
  have e := (cD_look h0.1 h0.2).2.2
  rw [m_367 (d + 1) (x0 : Int) n H.1 hk, kA_look d H hx hk h0.1 h0.2, cv_ret, tn, v3, wI_id (x := n - cDa n) (by omega) (by omega), wI_id (by omega) (by omega)]
  unfold cM at e ⊢
  exact ret_eq (by omega)
/-- the day that three numbers tell; -1 if there is none -/
noncomputable def exd (y m dd : Int) : Int := if (1900 ≤ y ∧ y ≤ 2079) ∧ (1 ≤ m ∧ m ≤ 12) ∧ (1 ≤ dd ∧ dd ≤ cN y m) ∧ cM y m dd ≤ 65535 then cM y m dd else -1
theorem exd_rg (y m dd : Int) : exd y m dd = -1 ∨ (0 ≤ exd y m dd ∧ exd y m dd ≤ 65535) := by
  unfold exd
  split
  · rename_i q
    right
    refine ⟨?_, q.2.2.2⟩
    have hC := cC_rg (y := y) (m := m)
    have hA := cA_le (y := 1900) (z := y) (by omega)
    have e0 : cA 1900 = 0 := by decide
    unfold cM
    omega
  · exact Or.inl rfl
theorem kA_exact {y m dd : Int} (H : Shp h) (hy : -9223372036854775808 ≤ y ∧ y < 9223372036854775808) (hm : -9223372036854775808 ≤ m ∧ m < 9223372036854775808) (hd : -9223372036854775808 ≤ dd ∧ dd < 9223372036854775808) : fj_run (d + 3) 156 h [(1, y), (1, m), (1, dd)] = some (.inl (some (0, exd y m dd)), h) := by
  have l1 : ∀ {x z : Int}, (-9223372036854775808 ≤ x ∧ x < 9223372036854775808) → (-9223372036854775808 ≤ z ∧ z < 9223372036854775808) → (lc_ x z < 0 ↔ x < z) := fun hx hz => by rw [lc_lt, wJ_id hx.1 hx.2, wJ_id hz.1 hz.2]
  have l2 : ∀ {x z : Int}, (-9223372036854775808 ≤ x ∧ x < 9223372036854775808) → (-9223372036854775808 ≤ z ∧ z < 9223372036854775808) → (0 < lc_ x z ↔ z < x) := fun hx hz => by rw [lc_gt, wJ_id hx.1 hx.2, wJ_id hz.1 hz.2]
  rw [m_156 (d + 2) y m dd H]
  unfold exd
  by_cases q1 : y < 1900; (rw [if_pos ((l1 hy (by omega)).mpr q1), if_neg (by omega)])
  rw [if_neg (fun z => q1 ((l1 hy (by omega)).mp z))]
  by_cases q2 : 2079 < y; (rw [if_pos ((l2 hy (by omega)).mpr q2), if_neg (by omega)])
  rw [if_neg (fun z => q2 ((l2 hy (by omega)).mp z))]
  by_cases q3 : m < 1; (rw [if_pos ((l1 hm (by omega)).mpr q3), if_neg (by omega)])
  rw [if_neg (fun z => q3 ((l1 hm (by omega)).mp z))]
  by_cases q4 : 12 < m; (rw [if_pos ((l2 hm (by omega)).mpr q4), if_neg (by omega)])
  rw [if_neg (fun z => q4 ((l2 hm (by omega)).mp z))]
  by_cases q5 : dd < 1; (rw [if_pos ((l1 hd (by omega)).mpr q5), if_neg (by omega)])
  rw [if_neg (fun z => q5 ((l1 hd (by omega)).mp z)), wI_id (x := y) (by omega) (by omega), wI_id (x := m) (by omega) (by omega), kA_len d H (by omega) (by omega), ca_ret]
  have hN := cN_rg y m
  rw [wI_id (x := cN y m) (by omega) (by omega)]
  by_cases q6 : cN y m < dd; (rw [if_pos ((l2 hd (by omega)).mpr q6), if_neg (by omega)])
  rw [if_neg (fun z => q6 ((l2 hd (by omega)).mp z)), wI_id (x := dd) (by omega) (by omega), kA_num (d + 1) H (by omega) (by omega) (by omega) (by omega), ca_ret]
  by_cases q7 : 65535 < cM y m dd
  · rw [if_pos q7, if_neg (by omega)]
  · rw [if_neg q7, if_pos (by omega)]
/-! Easter -/
def esh (y : Int) : Int := (19 * (y % 19) + y / 100 - y / 100 / 4 - (y / 100 - (y / 100 + 8) / 25 + 1) / 3 + 15) % 30
def esl (y : Int) : Int := (32 + 2 * (y / 100 % 4) + 2 * (y % 100 / 4) - esh y - y % 100 % 4) % 7
def es (y : Int) : Int := esh y + esl y - 7 * ((y % 19 + 11 * esh y + 22 * esl y) / 451) + 114
noncomputable def eas (y : Int) : Int := cM y (es y / 31) (es y % 31 + 1)
theorem es_rg {y : Int} : (0 ≤ esh y ∧ esh y ≤ 29) ∧ (0 ≤ esl y ∧ esl y ≤ 6) ∧ 93 ≤ es y ∧ es y ≤ 154 := by
  have h1 : 0 ≤ esh y ∧ esh y ≤ 29 := by unfold esh; omega
  have h2 : 0 ≤ esl y ∧ esl y ≤ 6 := by unfold esl; omega
  refine ⟨h1, h2, ?_, ?_⟩ <;> (unfold es; omega)
theorem kA_easter {y : Int} (H : Shp h) (h0 : 1000 ≤ y) (h1 : y ≤ 3000) : fj_run (d + 2) 387 h [(0, y)] = some (.inl (some (0, eas y)), h) := by
  obtain ⟨⟨a1, a2⟩, ⟨b1, b2⟩, c1, c2⟩ := es_rg (y := y)
  have E1 : ir_ (wI ((wI ((wI ((wI ((wI (19 * (ir_ y 19))) + (iq_ y 100))) - (iq_ (iq_ y 100) 4))) - (iq_ (wI ((wI ((iq_ y 100) - (iq_ (wI ((iq_ y 100) + 8)) 25))) + 1)) 3))) + 15)) 30 = esh y := by
    simp (disch := omega) only [wI_id, iq_nn, ir_nn]
    rfl
  have E2 : ir_ (wI ((wI ((wI ((wI (32 + (wI (2 * (ir_ (iq_ y 100) 4))))) + (wI (2 * (iq_ (ir_ y 100) 4))))) - (esh y))) - (ir_ (ir_ y 100) 4))) 7 = esl y := by
    simp (disch := omega) only [wI_id, iq_nn, ir_nn]
    rfl
  have E3 : wI ((wI ((wI (esh y + esl y)) - (wI (7 * (iq_ (wI ((wI ((ir_ y 19) + (wI (11 * (esh y))))) + (wI (22 * (esl y))))) 451))))) + 114) = es y := by
    simp (disch := omega) only [wI_id, iq_nn, ir_nn]
    rfl
  rw [m_387 (d + 1) y H, lt_eq, E1, e_387_47 (d + 1) _ _ _ _ _ H, lt_eq, E2, lt_eq, E3, e_387_104 (d + 1) _ _ H, iq_nn (by omega) (by omega) (by omega) (by omega), ir_nn (by omega) (by omega) (by omega) (by omega), wI_id (by omega) (by omega), kA_num d H (by omega) (by omega) (by omega) (by omega), ca_ret]
  rfl
theorem kB_easter {y : Int} (H : Shp h) (h0 : 1000 ≤ y) (h1 : y ≤ 3000) : fj_run (d + 4) 596 h [(0, y)] = some (.inl (some (0, eas y)), h) := by
  obtain ⟨⟨a1, a2⟩, ⟨b1, b2⟩, c1, c2⟩ := es_rg (y := y)
  have E1 : ir_ (wI ((wI ((wI ((wI ((wI (19 * (ir_ y 19))) + (iq_ y 100))) - (iq_ (iq_ y 100) 4))) - (iq_ (wI ((wI ((iq_ y 100) - (iq_ (wI ((iq_ y 100) + 8)) 25))) + 1)) 3))) + 15)) 30 = esh y := by
    simp (disch := omega) only [wI_id, iq_nn, ir_nn]
    rfl
  have E2 : ir_ (wI ((wI ((wI ((wI (32 + (wI (2 * (ir_ (iq_ y 100) 4))))) + (wI (2 * (iq_ (ir_ y 100) 4))))) - (esh y))) - (ir_ (ir_ y 100) 4))) 7 = esl y := by
    simp (disch := omega) only [wI_id, iq_nn, ir_nn]
    rfl
  have E3 : wI ((wI ((wI (esh y + esl y)) - (wI (7 * (iq_ (wI ((wI ((ir_ y 19) + (wI (11 * (esh y))))) + (wI (22 * (esl y))))) 451))))) + 114) = es y := by
    simp (disch := omega) only [wI_id, iq_nn, ir_nn]
    rfl
  rw [m_596 (d + 3) y H, lt_eq, E1, e_596_47 (d + 3) _ _ _ _ _ H, lt_eq, E2, lt_eq, E3, e_596_104 (d + 3) _ _ H, iq_nn (by omega) (by omega) (by omega) (by omega), ir_nn (by omega) (by omega) (by omega) (by omega), wI_id (by omega) (by omega), kB_num d H (by omega) (by omega) (by omega) (by omega), ca_ret]
  rfl
end RUNS

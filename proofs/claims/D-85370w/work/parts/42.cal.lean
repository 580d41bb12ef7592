/-! days: plain numbers -/
def cL (y : Int) : Prop := y % 4 = 0 ∧ (y % 100 ≠ 0 ∨ y % 400 = 0)
def cA (y : Int) : Int := 365 * (y - 1900) + (y - 1) / 4 - (y - 1) / 100 + (y - 1) / 400 - 460
noncomputable def cE (y : Int) : Int := @ite Int (cL y) (Classical.propDecidable _) 1 0
theorem cE_y {y : Int} (h : cL y) : cE y = 1 := by unfold cE; exact if_pos h
theorem cE_n {y : Int} (h : ¬ cL y) : cE y = 0 := by unfold cE; exact if_neg h
noncomputable def cN (y m : Int) : Int := if m = 2 then 28 + cE y else if m = 4 ∨ m = 6 ∨ m = 9 ∨ m = 11 then 30 else 31
/-- days of a year ahead of a month -/
noncomputable def cC (y m : Int) : Int := if m ≤ 1 then 0 else if m = 2 then 31 else cE y + (if m = 3 then 59 else if m = 4 then 90 else if m = 5 then 120 else if m = 6 then 151 else if m = 7 then 181 else if m = 8 then 212 else if m = 9 then 243 else if m = 10 then 273 else if m = 11 then 304 else if m = 12 then 334 else 365)
noncomputable def cM (y m d : Int) : Int := cA y + cC y m + d - 1
theorem cE_rg (y : Int) : 0 ≤ cE y ∧ cE y ≤ 1 := by by_cases h : cL y; (rw [cE_y h]; omega); (rw [cE_n h]; omega)
theorem cA_next (y : Int) : cA (y + 1) = cA y + 365 + cE y := by
  have e1 : y + 1 - 1 = y := by omega
  unfold cA
  rw [e1]
  by_cases h : cL y
  · rw [cE_y h]; obtain ⟨h1, h2⟩ := h; rcases h2 with h2 | h2 <;> omega
  · rw [cE_n h]
    have h2 : y % 4 ≠ 0 ∨ (y % 100 = 0 ∧ y % 400 ≠ 0) := by
      by_cases q : y % 4 = 0
      · right
        constructor
        · by_cases q2 : y % 100 = 0; exact q2; exact absurd ⟨q, Or.inl q2⟩ h
        · intro q2; exact h ⟨q, Or.inr q2⟩
      · exact Or.inl q
    rcases h2 with h2 | ⟨h2, h3⟩ <;> omega
theorem cC_next {y m : Int} (h1 : 1 ≤ m) (h2 : m ≤ 12) : cC y (m + 1) = cC y m + cN y m := by
  have h : m = 1 ∨ m = 2 ∨ m = 3 ∨ m = 4 ∨ m = 5 ∨ m = 6 ∨ m = 7 ∨ m = 8 ∨ m = 9 ∨ m = 10 ∨ m = 11 ∨ m = 12 := by omega
  rcases h with rfl | rfl | rfl | rfl | rfl | rfl | rfl | rfl | rfl | rfl | rfl | rfl <;> simp [cC, cN] <;> omega
theorem cC_13 (y : Int) : cC y 13 = 365 + cE y := by simp [cC]; omega
theorem cN_rg (y m : Int) : 28 ≤ cN y m ∧ cN y m ≤ 31 := by
  have := cE_rg y
  unfold cN
  split
  · omega
  · split <;> omega
theorem cC_rg {y m : Int} : 0 ≤ cC y m ∧ cC y m ≤ 366 := by
  have := cE_rg y
  unfold cC
  (repeat' split) <;> omega
/-- the years' first days grow -/
theorem cA_le {y z : Int} (h : y ≤ z) : cA y + 365 * (z - y) ≤ cA z := by
  obtain ⟨k, rfl⟩ : ∃ k : Nat, z = y + (k : Int) := ⟨(z - y).toNat, by omega⟩
  clear h
  induction k with
  | zero => simp
  | succ k ih =>
    have e : y + ((k + 1 : Nat) : Int) = y + (k : Int) + 1 := by omega
    rw [e, cA_next]
    have := cE_rg (y + (k : Int))
    omega
theorem cC_le {y m n : Int} (h : m ≤ n) (h0 : 1 ≤ m) (h2 : n ≤ 13) : cC y m ≤ cC y n := by
  obtain ⟨k, rfl⟩ : ∃ k : Nat, n = m + (k : Int) := ⟨(n - m).toNat, by omega⟩
  clear h
  induction k with
  | zero => simp
  | succ k ih =>
    have e : m + ((k + 1 : Nat) : Int) = m + (k : Int) + 1 := by omega
    rw [e] at h2 ⊢
    rw [cC_next (by omega) (by omega)]
    have := cN_rg y (m + (k : Int))
    have := ih (by omega)
    omega
/-- a day of the calendar -/
def cD (n y m d : Int) : Prop := (1 ≤ m ∧ m ≤ 12) ∧ (1 ≤ d ∧ d ≤ cN y m) ∧ cM y m d = n
theorem cD_in {n y m d : Int} (h : cD n y m d) : cA y ≤ n ∧ n < cA (y + 1) ∧ cA y + cC y m ≤ n ∧ n < cA y + cC y (m + 1) := by
  obtain ⟨⟨h1, h2⟩, ⟨h3, h4⟩, h5⟩ := h
  unfold cM at h5
  have e := cC_next (y := y) h1 h2
  have l1 := cC_le (y := y) (m := 1) (n := m) h1 (by omega) (by omega)
  have l2 := cC_le (y := y) (m := m + 1) (n := 13) (by omega) (by omega) (by omega)
  rw [cC_13] at l2
  have e2 := cA_next y
  have e3 : cC y 1 = 0 := by simp [cC]
  refine ⟨by omega, by omega, by omega, by omega⟩
theorem cD_one {n y m d y' m' d' : Int} (h : cD n y m d) (h' : cD n y' m' d') : y = y' ∧ m = m' ∧ d = d' := by
  obtain ⟨a1, a2, a3, a4⟩ := cD_in h
  obtain ⟨b1, b2, b3, b4⟩ := cD_in h'
  have hy : y = y' := by
    rcases Int.lt_trichotomy y y' with q | q | q
    · have := cA_le (y := y + 1) (z := y') (by omega); omega
    · exact q
    · have := cA_le (y := y' + 1) (z := y) (by omega); omega
  subst hy
  obtain ⟨⟨h1, h2⟩, _, h5⟩ := h
  obtain ⟨⟨h1', h2'⟩, _, h5'⟩ := h'
  have hm : m = m' := by
    rcases Int.lt_trichotomy m m' with q | q | q
    · have := cC_le (y := y) (m := m + 1) (n := m') (by omega) (by omega) (by omega); omega
    · exact q
    · have := cC_le (y := y) (m := m' + 1) (n := m) (by omega) (by omega) (by omega); omega
  subst hm
  unfold cM at h5 h5'
  exact ⟨rfl, rfl, by omega⟩
/-! a day looked at, as the class has it -/
def cz (n : Int) : Int := n + 693901
def cer (n : Int) : Int := cz n / 146097
def cdo (n : Int) : Int := cz n - cer n * 146097
def cyo (n : Int) : Int := (cdo n - cdo n / 1460 + cdo n / 36524 - cdo n / 146096) / 365
def cdy (n : Int) : Int := cdo n - (365 * cyo n + cyo n / 4 - cyo n / 100)
def cmp_ (n : Int) : Int := (5 * cdy n + 2) / 153
def cDa (n : Int) : Int := cdy n - (153 * cmp_ n + 2) / 5 + 1
def cMo (n : Int) : Int := if cmp_ n < 10 then cmp_ n + 3 else cmp_ n - 9
def cY (n : Int) : Int := cyo n + 400 * cer n + (if cMo n ≤ 2 then 1 else 0)
theorem cer_v {n : Int} (h0 : 0 ≤ n) (h1 : n ≤ 65535) : (cer n = 4 ∧ 109513 ≤ cdo n ∧ cdo n ≤ 146096 ∧ cdo n = n + 109513) ∨ (cer n = 5 ∧ 0 ≤ cdo n ∧ cdo n ≤ 28951 ∧ cdo n + 36584 = n) := by
  unfold cdo cer cz
  omega
/-- where the years (from March on) of an era begin -/
theorem cyo_a {e : Int} (h0 : 0 ≤ e) (h1 : e ≤ 28951) : ∃ k, 0 ≤ k ∧ k ≤ 79 ∧ (e - e / 1460 + e / 36524 - e / 146096) / 365 = k ∧ 365 * k + k / 4 ≤ e ∧ e < 365 * (k + 1) + (k + 1) / 4 := by
  refine ⟨_, ?_, ?_, rfl, ?_, ?_⟩ <;> omega
theorem cyo_b3 {e : Int} (h0 : 109572 ≤ e) (h1 : e ≤ 146095) : ∃ k, 299 ≤ k ∧ k ≤ 399 ∧ (e - e / 1460 + 3) / 365 = k ∧ 365 * k + k / 4 - k / 100 ≤ e ∧ e < 365 * (k + 1) + (k + 1) / 4 - (k + 1) / 100 + (k + 1) / 400 := by
  obtain ⟨t, ht⟩ : ∃ t, t = (e - 109572) / 1461 := ⟨_, rfl⟩
  obtain ⟨s, hs⟩ : ∃ s, s = e - 109572 - 1461 * t := ⟨_, rfl⟩
  have b1 : 0 ≤ s ∧ s ≤ 1460 ∧ 0 ≤ t ∧ t ≤ 24 := by omega
  clear ht
  obtain ⟨q, hq⟩ : ∃ q, q = (72 + t + s) / 1460 := ⟨_, rfl⟩
  have he : e = 109572 + 1461 * t + s := by omega
  clear hs h0 h1
  subst he
  have e1 : (109572 + 1461 * t + s) / 1460 = 75 + t + q := by omega
  have b2 : q = 0 ∨ q = 1 := by omega
  have b3 : q = 1 → 1364 ≤ s := by omega
  clear hq
  obtain ⟨j, hj⟩ : ∃ j, j = (s - q) / 365 := ⟨_, rfl⟩
  have e2 : (109572 + 1461 * t + s - (109572 + 1461 * t + s) / 1460 + 3) / 365 = 300 + 4 * t + j := by rw [e1]; omega
  have b4 : j = 0 ∨ j = 1 ∨ j = 2 ∨ j = 3 := by omega
  have b5 : 365 * j ≤ s - q ∧ s - q < 365 * j + 365 := by omega
  clear hj e1
  have e4 : (300 + 4 * t + j) / 4 = 75 + t := by omega
  have e100 : (300 + 4 * t + j) / 100 = 3 := by omega
  refine ⟨300 + 4 * t + j, by omega, by omega, e2, by omega, ?_⟩
  clear e2
  rcases b4 with rfl | rfl | rfl | rfl
  · have a1 : (300 + 4 * t + 0 + 1) / 4 = 75 + t := by omega
    have a2 : (300 + 4 * t + 0 + 1) / 100 = 3 := by omega
    have a3 : (300 + 4 * t + 0 + 1) / 400 = 0 := by omega
    omega
  · have a1 : (300 + 4 * t + 1 + 1) / 4 = 75 + t := by omega
    have a2 : (300 + 4 * t + 1 + 1) / 100 = 3 := by omega
    have a3 : (300 + 4 * t + 1 + 1) / 400 = 0 := by omega
    omega
  · have a1 : (300 + 4 * t + 2 + 1) / 4 = 75 + t := by omega
    have a2 : (300 + 4 * t + 2 + 1) / 100 = 3 := by omega
    have a3 : (300 + 4 * t + 2 + 1) / 400 = 0 := by omega
    omega
  · have a1 : (300 + 4 * t + 3 + 1) / 4 = 76 + t := by omega
    have a2 : (300 + 4 * t + 3 + 1) / 100 = 3 + (300 + 4 * t + 3 + 1) / 400 := by omega
    omega
theorem cyo_b {e : Int} (h0 : 109513 ≤ e) (h1 : e ≤ 146096) : ∃ k, 299 ≤ k ∧ k ≤ 399 ∧ (e - e / 1460 + e / 36524 - e / 146096) / 365 = k ∧ 365 * k + k / 4 - k / 100 ≤ e ∧ e < 365 * (k + 1) + (k + 1) / 4 - (k + 1) / 100 + (k + 1) / 400 := by
  by_cases q : e < 109572
  · refine ⟨299, by omega, by omega, by omega, by omega, by omega⟩
  · by_cases q2 : e = 146096
    · subst q2; exact ⟨399, by decide, by decide, by decide, by decide, by decide⟩
    · have e1 : e / 36524 = 3 := by omega
      have e2 : e / 146096 = 0 := by omega
      rw [e1, e2, Int.sub_zero]
      exact cyo_b3 (by omega) (by omega)

/-! holidays and working days -/
set_option maxRecDepth 100000
/-- whether a day is a holiday of a sort -/
def hol (s a b n : Int) : Prop := (s = 0 → cDa n = a ∧ cMo n = b) ∧ (s = 1 → eas (cY n) + a = n) ∧ (s = 2 → n % 7 = a ∧ cMo n = b ∧ cDa n < 8) ∧ (s = 3 → n % 7 = a ∧ cMo n = b ∧ cN (cY n) (cMo n) - 7 < cDa n)
/-- a holiday of the class tells what the model's rows tell -/
def HolO (h : fi_H) (o s a b : Int) : Prop := (714 < o ∧ o ≤ h 2 0 0) ∧ ((s = 0 ∧ h 0 o.toNat 0 = 108 ∧ h 331 o.toNat 0 = a ∧ h 332 o.toNat 0 = b) ∨ (s = 1 ∧ h 0 o.toNat 0 = 105 ∧ h 333 o.toNat 0 = a ∧ -100 ≤ a ∧ a ≤ 100) ∨
  ((s = 2 ∨ s = 3) ∧ h 0 o.toNat 0 = 127 ∧ h 334 o.toNat 0 = s - 2 ∧ h 335 o.toNat 0 = a ∧ h 336 o.toNat 0 = b))
def HolR (a b : fi_H) : Prop := ((a 210 303 0 = 307 ∧ a 211 303 0 = 308) ∨ (a 210 303 0 = 308 ∧ a 211 303 0 = 307)) ∧ (a 212 303 0 = b 390 602 0 ∧ 0 ≤ b 390 602 0 ∧ b 390 602 0 ≤ 20) ∧
  ∀ k : Nat, (k : Int) < b 390 602 0 → HolO a (a 12 (a 210 303 0).toNat k) (b 10 604 k) (b 10 605 k) (b 10 606 k)
theorem HolO.st {h h' : fi_H} {W : Nat → Nat → Nat → Prop} (F : Fr W h h') (hW : ∀ f x i, 714 < x → ¬ W f x i) {o s a b : Int} (q : HolO h o s a b) : HolO h' o s a b := by
  obtain ⟨q1, q2⟩ := q
  have e : ∀ f, h' f o.toNat 0 = h f o.toNat 0 := fun f => F.2 f _ 0 (by omega) (by omega) (hW f _ _ (by omega))
  refine ⟨⟨q1.1, by have := F.1; omega⟩, ?_⟩
  rw [e 0, e 331, e 332, e 333, e 334, e 335, e 336]
  exact q2
theorem HolR.stA {a a' b : fi_H} {W : Nat → Nat → Nat → Prop} (H : Hp a) (F : Fr W a a') (hW : ∀ f x i, 714 < x → ¬ W f x i) (h1 : ¬ W 210 303 0 ∧ ¬ W 211 303 0 ∧ ¬ W 212 303 0 ∧ ∀ k, ¬ W 12 307 k ∧ ¬ W 12 308 k) (q : HolR a b) : HolR a' b := by
  obtain ⟨q1, q2, q3⟩ := q
  have ht := H.1.2.2.1
  have e1 : a' 210 303 0 = a 210 303 0 := F.2 _ _ _ (by omega) (by omega) h1.1
  have e2 : a' 211 303 0 = a 211 303 0 := F.2 _ _ _ (by omega) (by omega) h1.2.1
  have e3 : a' 212 303 0 = a 212 303 0 := F.2 _ _ _ (by omega) (by omega) h1.2.2.1
  refine ⟨by rw [e1, e2]; exact q1, by rw [e3]; exact q2, fun k hk => ?_⟩
  have e4 : a' 12 (a 210 303 0).toNat k = a 12 (a 210 303 0).toNat k := by
    rcases q1 with ⟨z, -⟩ | ⟨z, -⟩ <;> rw [z]
    · exact F.2 _ _ _ (by decide) (by show ((307 : Nat) : Int) ≤ _; omega) (h1.2.2.2 k).1
    · exact F.2 _ _ _ (by decide) (by show ((308 : Nat) : Int) ≤ _; omega) (h1.2.2.2 k).2
  rw [e1, e4]
  exact HolO.st F hW (q3 k hk)
theorem HolR.stB {a b b' : fi_H} {W : Nat → Nat → Nat → Prop} (H : Hp b) (F : Fr W b b') (h1 : ¬ W 390 602 0 ∧ ∀ k, ¬ W 10 604 k ∧ ¬ W 10 605 k ∧ ¬ W 10 606 k) (q : HolR a b) : HolR a b' := by
  obtain ⟨q1, q2, q3⟩ := q
  have ht := H.1.2.2.1
  have e : b' 390 602 0 = b 390 602 0 := F.2 _ _ _ (by omega) (by omega) h1.1
  refine ⟨q1, by rw [e]; exact q2, fun k hk => ?_⟩
  rw [e] at hk
  rw [F.2 10 604 k (by omega) (by omega) (h1.2 k).1, F.2 10 605 k (by omega) (by omega) (h1.2 k).2.1, F.2 10 606 k (by omega) (by omega) (h1.2 k).2.2]
  exact q3 k hk
/-- a working day, by the model's rows -/
def wkd (b : fi_H) (n : Int) : Prop := n % 7 ≤ 4 ∧ ∀ k : Nat, (k : Int) < b 390 602 0 → ¬ hol (b 10 604 k) (b 10 605 k) (b 10 606 k) n
section RUNS
variable (d : Nat) {h : fi_H}
theorem kA_is {n o s a b : Int} (H : Hp h) (h0 : 0 ≤ n ∧ n ≤ 65535) (hc : h 111 306 0 = cY n ∧ h 112 306 0 = cMo n ∧ h 113 306 0 = cDa n) (q : HolO h o s a b) :
    ∃ m v, fi_vt 109 (h 0 o.toNat 0) = some m ∧ fj_run (d + 3) m h [(4, o), (0, n), (4, 306)] = some (.inl (some (0, v)), h) ∧ ((v = 1 ∧ hol s a b n) ∨ (v = 0 ∧ ¬ hol s a b n)) := by
  obtain ⟨c1, c2, c3⟩ := hc
  have hcl : h 0 ((306 : Int)).toNat 0 = 101 := s0_306 H.1
  have t306 : ((306 : Int)).toNat = 306 := rfl
  have hy := cY_rg2 h0.1 h0.2
  obtain ⟨⟨d1, d2⟩, ⟨m1, m2⟩, -⟩ := cDa_rg h0.1 h0.2
  obtain ⟨q1, ⟨rfl, k, e1, e2⟩ | ⟨rfl, k, e1, e2, e3⟩ | ⟨hs, k, e1, e2, e3⟩⟩ := q
  · have hh : hol 0 a b n ↔ (cDa n = a ∧ cMo n = b) := by simp [hol]
    rw [hh]
    by_cases p1 : cDa n = a
    · by_cases p2 : cMo n = b
      · refine ⟨388, 1, by rw [k]; rfl, ?_, Or.inl ⟨rfl, p1, p2⟩⟩
        rw [m_388 (d + 2) o n 306 H.1 k, if_pos hcl, t306, c2, c3, e1, e2, if_pos p1, if_pos p2]
      · refine ⟨388, 0, by rw [k]; rfl, ?_, Or.inr ⟨rfl, fun z => p2 z.2⟩⟩
        rw [m_388 (d + 2) o n 306 H.1 k, if_pos hcl, t306, c2, c3, e1, e2, if_pos p1, if_neg p2]
    · refine ⟨388, 0, by rw [k]; rfl, ?_, Or.inr ⟨rfl, fun z => p1 z.1⟩⟩
      rw [m_388 (d + 2) o n 306 H.1 k, if_pos hcl, t306, c2, c3, e1, e2, if_neg p1]
  · have hh : hol 1 a b n ↔ eas (cY n) + a = n := by simp [hol]
    rw [hh]
    have hr := es_rg (y := cY n)
    have hea : 0 ≤ eas (cY n) ∧ eas (cY n) ≤ 100000 := by
      have hC := cC_rg (y := cY n) (m := es (cY n) / 31)
      have hA := cA_le (y := 1900) (z := cY n) (by omega)
      have hA2 := cA_rg (y := cY n) (by omega) (by omega)
      have hA3 := cA_le (y := cY n) (z := 2080) (by omega)
      have e0 : cA 1900 = 0 := by decide
      have e5 : cA 2080 = 65744 := by decide
      unfold eas cM
      omega
    by_cases p1 : eas (cY n) + a = n
    · refine ⟨386, 1, by rw [k]; rfl, ?_, Or.inl ⟨rfl, p1⟩⟩
      rw [m_386 (d + 2) o n 306 H.1 k, if_pos hcl, t306, c1, kA_easter d H.1 (by omega) (by omega), ca_ret, e1, wI_id (by omega) (by omega), if_pos p1]
    · refine ⟨386, 0, by rw [k]; rfl, ?_, Or.inr ⟨rfl, p1⟩⟩
      rw [m_386 (d + 2) o n 306 H.1 k, if_pos hcl, t306, c1, kA_easter d H.1 (by omega) (by omega), ca_ret, e1, wI_id (by omega) (by omega), if_neg p1]
  · have h7 : ir_ n 7 = n % 7 := ir_nn (by omega) (by omega) (by omega) (by omega)
    have hh : hol s a b n ↔ (n % 7 = a ∧ cMo n = b ∧ (if s = 2 then cDa n < 8 else cN (cY n) (cMo n) - 7 < cDa n)) := by
      unfold hol
      rcases hs with rfl | rfl <;> simp
    rw [hh]
    have hN := cN_rg (cY n) b
    by_cases p2 : cMo n = b
    · by_cases p1 : n % 7 = a
      · rcases hs with rfl | rfl
        · rw [if_pos rfl]
          by_cases p3 : cDa n < 8
          · refine ⟨389, 1, by rw [k]; rfl, ?_, Or.inl ⟨rfl, p1, p2, p3⟩⟩
            rw [m_389 (d + 2) o n 306 H.1 k, if_pos hcl, t306, c2, e3, if_pos p2, h7, e2, if_pos p1, e1, if_pos (by omega), c3, if_neg (by omega)]
          · refine ⟨389, 0, by rw [k]; rfl, ?_, Or.inr ⟨rfl, fun z => p3 z.2.2⟩⟩
            rw [m_389 (d + 2) o n 306 H.1 k, if_pos hcl, t306, c2, e3, if_pos p2, h7, e2, if_pos p1, e1, if_pos (by omega), c3, if_pos (by omega)]
        · rw [if_neg (by omega)]
          by_cases p3 : cN (cY n) (cMo n) - 7 < cDa n
          · refine ⟨389, 1, by rw [k]; rfl, ?_, Or.inl ⟨rfl, p1, p2, p3⟩⟩
            rw [m_389 (d + 2) o n 306 H.1 k, if_pos hcl, t306, c2, e3, if_pos p2, h7, e2, if_pos p1, e1, if_neg (by omega), c1, kA_len d H.1 (by omega) (by omega), ca_ret, c3, wI_id (by omega) (by omega), ← p2, if_pos (by omega)]
          · refine ⟨389, 0, by rw [k]; rfl, ?_, Or.inr ⟨rfl, fun z => p3 z.2.2⟩⟩
            rw [m_389 (d + 2) o n 306 H.1 k, if_pos hcl, t306, c2, e3, if_pos p2, h7, e2, if_pos p1, e1, if_neg (by omega), c1, kA_len d H.1 (by omega) (by omega), ca_ret, c3, wI_id (by omega) (by omega), ← p2, if_neg (by omega)]
      · refine ⟨389, 0, by rw [k]; rfl, ?_, Or.inr ⟨rfl, fun z => p1 z.1⟩⟩
        rw [m_389 (d + 2) o n 306 H.1 k, if_pos hcl, t306, c2, e3, if_pos p2, h7, e2, if_neg p1]
    · refine ⟨389, 0, by rw [k]; rfl, ?_, Or.inr ⟨rfl, fun z => p2 z.2.1⟩⟩
      rw [m_389 (d + 2) o n 306 H.1 k, if_pos hcl, t306, c2, e3, if_neg p2]
theorem kA_workl {n : Int} {b : fi_H} (H : Hp h) (h0 : 0 ≤ n ∧ n ≤ 65535) (hc : h 111 306 0 = cY n ∧ h 112 306 0 = cMo n ∧ h 113 306 0 = cDa n) (R : HolR h b) : ∀ (m : Nat) (x : Nat), (x : Int) + m = b 390 602 0 →
    ∃ v, c_385_20 (d + 3) n x h = some (.inl (some (0, v)), h) ∧ ((v = 1 ∧ ∀ k : Nat, x ≤ k → (k : Int) < b 390 602 0 → ¬ hol (b 10 604 k) (b 10 605 k) (b 10 606 k) n) ∨ (v = 0 ∧ ∃ k : Nat, x ≤ k ∧ (k : Int) < b 390 602 0 ∧ hol (b 10 604 k) (b 10 605 k) (b 10 606 k) n)) := by
  obtain ⟨q1, q2, q3⟩ := R
  intro m
  induction m with
  | zero =>
    intro x hx
    refine ⟨1, ?_, Or.inl ⟨rfl, fun k k1 k2 => by omega⟩⟩
    rw [e_385_20 (d + 3) n x H.1, q2.1, if_neg (by omega)]
  | succ m ih =>
    intro x hx
    have hlen : 20 ≤ h 0 (h 210 303 0).toNat 0 ∧ h 0 (h 210 303 0).toNat 0 < 30 ∧ h 1 (h 210 303 0).toNat 0 = 20 := by
      rcases q1 with ⟨z, -⟩ | ⟨z, -⟩ <;> rw [z]
      · exact ⟨by rw [show ((307 : Int)).toNat = 307 from rfl, s0_307 H.1]; omega, by rw [show ((307 : Int)).toNat = 307 from rfl, s0_307 H.1]; omega, s1_307 H.1⟩
      · exact ⟨by rw [show ((308 : Int)).toNat = 308 from rfl, s0_308 H.1]; omega, by rw [show ((308 : Int)).toNat = 308 from rfl, s0_308 H.1]; omega, s1_308 H.1⟩
    have tx : ((x : Int)).toNat = x := rfl
    obtain ⟨M, v, hM, hr, hv⟩ := kA_is d H h0 hc (q3 x (by omega))
    rw [e_385_20 (d + 3) n x H.1, q2.1, if_pos (by omega), if_pos ⟨⟨hlen.1, hlen.2.1⟩, by omega, by rw [hlen.2.2]; omega⟩, tx, hM]
    have hd : ∀ k : Nat → fk_R, dv_ (some M) k = k M := fun _ => rfl
    rw [hd, hr, ca_ret]
    rcases hv with ⟨rfl, hv⟩ | ⟨rfl, hv⟩
    · refine ⟨0, by rw [if_neg (by omega)], Or.inr ⟨rfl, x, Nat.le_refl _, by omega, hv⟩⟩
    · obtain ⟨w, hw, hz⟩ := ih (x + 1) (by omega)
      refine ⟨w, ?_, ?_⟩
      · rw [if_pos rfl, wI_id (by omega) (by omega)]; exact hw
      · rcases hz with ⟨z1, z2⟩ | ⟨z1, k, z2, z3, z4⟩
        · refine Or.inl ⟨z1, fun k k1 k2 => ?_⟩
          by_cases e : k = x
          · subst e; exact hv
          · exact z2 k (by omega) k2
        · exact Or.inr ⟨z1, k, by omega, z3, z4⟩
theorem kA_work {n : Int} {b : fi_H} (H : Hp h) (h0 : 0 ≤ n ∧ n ≤ 65535) (R : HolR h b) : ∃ v h', fj_run (d + 4) 385 h [(4, 303), (0, n)] = some (.inl (some (0, v)), h') ∧ Hp h' ∧ Fr (wcA 306) h h' ∧ ((v = 1 ∧ wkd b n) ∨ (v = 0 ∧ ¬ wkd b n)) := by
  have h7 : ir_ n 7 = n % 7 := ir_nn (by omega) (by omega) (by omega) (by omega)
  rw [m_385 (d + 3) n H.1, h7]
  by_cases q : 4 < n % 7
  · exact ⟨0, h, by rw [if_pos q], H, Fr.rf _ _, Or.inr ⟨rfl, fun z => by have := z.1; omega⟩⟩
  · have HL := lkA_hp H h0.1 h0.2 (x0 := 306) ⟨by omega, by omega⟩
    have F := lkA_fr (h := h) (x0 := 306) (by omega) n
    have R' := HolR.stA H F (fun f x i hx q => by have := q.1; omega) ⟨by simp [wcA], by simp [wcA], by simp [wcA], fun k => by simp [wcA]⟩ R
    have e : fj_run (d + 3) 40 h [(4, 306), (0, n)] = some (.inl none, lkA 306 h n) := kA_look (d + 2) H (x0 := 306) ⟨by omega, by omega⟩ (s0_306 H.1) h0.1 h0.2
    obtain ⟨v, hv, hz⟩ := kA_workl d HL h0 (lkA_v n) R' (b 390 602 0).toNat 0 (by have := R.2.1; omega)
    refine ⟨v, lkA 306 h n, ?_, HL, F, ?_⟩
    · rw [if_neg q, e, cv_ret]; exact hv
    · rcases hz with ⟨z1, z2⟩ | ⟨z1, k, -, z3, z4⟩
      · exact Or.inl ⟨z1, by omega, fun k hk => z2 k (Nat.zero_le _) hk⟩
      · exact Or.inr ⟨z1, fun z => z.2 k z3 z4⟩
end RUNS
section RUNSB
variable (d : Nat) {h : fi_H}
theorem kB_workl {n : Int} {a : fi_H} (H : Hp h) (h0 : 0 ≤ n ∧ n ≤ 65535) (hc : h 384 602 0 = cY n ∧ h 385 602 0 = cMo n ∧ h 386 602 0 = cDa n) (R : HolR a h) : ∀ (m : Nat) (x : Nat), (x : Int) + m = h 390 602 0 →
    ∃ v, c_595_17 (d + 4) n x h = some (.inl (some (0, v)), h) ∧ ((v = 1 ∧ ∀ k : Nat, x ≤ k → (k : Int) < h 390 602 0 → ¬ hol (h 10 604 k) (h 10 605 k) (h 10 606 k) n) ∨ (v = 0 ∧ ∃ k : Nat, x ≤ k ∧ (k : Int) < h 390 602 0 ∧ hol (h 10 604 k) (h 10 605 k) (h 10 606 k) n)) := by
  obtain ⟨q1, q2, q3⟩ := R
  obtain ⟨c1, c2, c3⟩ := hc
  have hy := cY_rg2 h0.1 h0.2
  obtain ⟨⟨d1, d2⟩, ⟨m1, m2⟩, -⟩ := cDa_rg h0.1 h0.2
  have h7 : ir_ n 7 = n % 7 := ir_nn (by omega) (by omega) (by omega) (by omega)
  intro m
  induction m with
  | zero =>
    intro x hx
    refine ⟨1, ?_, Or.inl ⟨rfl, fun k k1 k2 => by omega⟩⟩
    rw [e_595_17 (d + 4) n x H.1, if_neg (by omega)]
  | succ m ih =>
    intro x hx
    have tx : ((x : Int)).toNat = x := rfl
    have hx2 : (x : Int) < h 390 602 0 := by omega
    have stop : ∀ s, s = (1 : Int) → hol (h 10 604 x) (h 10 605 x) (h 10 606 x) n → ∃ v, c_595_215 (d + 4) n x s h = some (.inl (some (0, v)), h) ∧ ((v = 1 ∧ ∀ k : Nat, x ≤ k → (k : Int) < h 390 602 0 → ¬ hol (h 10 604 k) (h 10 605 k) (h 10 606 k) n) ∨ (v = 0 ∧ ∃ k : Nat, x ≤ k ∧ (k : Int) < h 390 602 0 ∧ hol (h 10 604 k) (h 10 605 k) (h 10 606 k) n)) := by
      intro s hs q
      refine ⟨0, ?_, Or.inr ⟨rfl, x, Nat.le_refl _, hx2, q⟩⟩
      rw [e_595_215 (d + 4) n x s H.1, hs, if_neg (by omega)]
    have on : ∀ s, s = (0 : Int) → ¬ hol (h 10 604 x) (h 10 605 x) (h 10 606 x) n → ∃ v, c_595_215 (d + 4) n x s h = some (.inl (some (0, v)), h) ∧ ((v = 1 ∧ ∀ k : Nat, x ≤ k → (k : Int) < h 390 602 0 → ¬ hol (h 10 604 k) (h 10 605 k) (h 10 606 k) n) ∨ (v = 0 ∧ ∃ k : Nat, x ≤ k ∧ (k : Int) < h 390 602 0 ∧ hol (h 10 604 k) (h 10 605 k) (h 10 606 k) n)) := by
      intro s hs q
      obtain ⟨w, hw, hz⟩ := ih (x + 1) (by omega)
      refine ⟨w, ?_, ?_⟩
      · rw [e_595_215 (d + 4) n x s H.1, hs, if_pos rfl, wI_id (by omega) (by omega)]; exact hw
      · rcases hz with ⟨z1, z2⟩ | ⟨z1, k, z2, z3, z4⟩
        · refine Or.inl ⟨z1, fun k k1 k2 => ?_⟩
          by_cases e : k = x
          · subst e; exact q
          · exact z2 k (by omega) k2
        · exact Or.inr ⟨z1, k, by omega, z3, z4⟩
    rw [e_595_17 (d + 4) n x H.1, if_pos hx2, if_pos (by omega), tx, c1, c2, c3, h7]
    obtain ⟨-, ⟨s0, -⟩ | ⟨s1, -, -, hr1, hr2⟩ | ⟨hs, -⟩⟩ := q3 x hx2
    · have hh : hol (h 10 604 x) (h 10 605 x) (h 10 606 x) n ↔ (cDa n = h 10 605 x ∧ cMo n = h 10 606 x) := by rw [s0]; simp [hol]
      rw [hh] at stop on
      rw [if_pos s0]
      by_cases p1 : cDa n = h 10 605 x
      · rw [if_pos p1]
        by_cases p2 : cMo n = h 10 606 x
        · rw [if_pos p2, e_595_87 (d + 4) n x 1 H.1]; exact stop 1 rfl ⟨p1, p2⟩
        · rw [if_neg p2, e_595_86 (d + 4) n x H.1, e_595_87 (d + 4) n x 0 H.1]; exact on 0 rfl (fun z => p2 z.2)
      · rw [if_neg p1, e_595_86 (d + 4) n x H.1, e_595_87 (d + 4) n x 0 H.1]; exact on 0 rfl (fun z => p1 z.1)
    · have hh : hol (h 10 604 x) (h 10 605 x) (h 10 606 x) n ↔ eas (cY n) + h 10 605 x = n := by rw [s1]; simp [hol]
      rw [hh] at stop on
      have hr := es_rg (y := cY n)
      have hea : 0 ≤ eas (cY n) ∧ eas (cY n) ≤ 100000 := by
        have hC := cC_rg (y := cY n) (m := es (cY n) / 31)
        have hA := cA_le (y := 1900) (z := cY n) (by omega)
        have hA3 := cA_le (y := cY n) (z := 2080) (by omega)
        have e0 : cA 1900 = 0 := by decide
        have e5 : cA 2080 = 65744 := by decide
        unfold eas cM
        omega
      rw [if_neg (by omega), if_pos s1, kB_easter d H.1 (by omega) (by omega), ca_ret, wI_id (by omega) (by omega)]
      by_cases p1 : eas (cY n) + h 10 605 x = n
      · rw [if_pos p1, e_595_114 (d + 4) n x 1 H.1]; exact stop 1 rfl p1
      · rw [if_neg p1, e_595_114 (d + 4) n x 0 H.1]; exact on 0 rfl p1
    · have hN := cN_rg (cY n) (cMo n)
      rcases hs with s2 | s3
      · have hh : hol (h 10 604 x) (h 10 605 x) (h 10 606 x) n ↔ (n % 7 = h 10 605 x ∧ cMo n = h 10 606 x ∧ cDa n < 8) := by rw [s2]; simp [hol]
        rw [hh] at stop on
        rw [if_neg (by omega), if_neg (by omega), if_pos s2]
        by_cases p1 : n % 7 = h 10 605 x
        · rw [if_pos p1]
          by_cases p2 : cMo n = h 10 606 x
          · rw [if_pos p2]
            by_cases p3 : cDa n < 8
            · rw [if_pos p3, e_595_158 (d + 4) n x 1 H.1]; exact stop 1 rfl ⟨p1, p2, p3⟩
            · rw [if_neg p3, e_595_157 (d + 4) n x H.1, e_595_158 (d + 4) n x 0 H.1]; exact on 0 rfl (fun z => p3 z.2.2)
          · rw [if_neg p2, e_595_157 (d + 4) n x H.1, e_595_158 (d + 4) n x 0 H.1]; exact on 0 rfl (fun z => p2 z.2.1)
        · rw [if_neg p1, e_595_157 (d + 4) n x H.1, e_595_158 (d + 4) n x 0 H.1]; exact on 0 rfl (fun z => p1 z.1)
      · have hh : hol (h 10 604 x) (h 10 605 x) (h 10 606 x) n ↔ (n % 7 = h 10 605 x ∧ cMo n = h 10 606 x ∧ cN (cY n) (cMo n) - 7 < cDa n) := by rw [s3]; simp [hol]
        rw [hh] at stop on
        rw [if_neg (by omega), if_neg (by omega), if_neg (by omega)]
        by_cases p1 : n % 7 = h 10 605 x
        · rw [if_pos p1]
          by_cases p2 : cMo n = h 10 606 x
          · rw [if_pos p2, kB_len (d + 2) H.1 (by omega) (by omega), ca_ret, wI_id (by omega) (by omega)]
            by_cases p3 : cN (cY n) (cMo n) - 7 < cDa n
            · rw [if_pos p3, e_595_214 (d + 4) n x 1 H.1]; exact stop 1 rfl ⟨p1, p2, p3⟩
            · rw [if_neg p3, e_595_213 (d + 4) n x H.1, e_595_214 (d + 4) n x 0 H.1]; exact on 0 rfl (fun z => p3 z.2.2)
          · rw [if_neg p2, e_595_213 (d + 4) n x H.1, e_595_214 (d + 4) n x 0 H.1]; exact on 0 rfl (fun z => p2 z.2.1)
        · rw [if_neg p1, e_595_213 (d + 4) n x H.1, e_595_214 (d + 4) n x 0 H.1]; exact on 0 rfl (fun z => p1 z.1)
theorem wkd_st {b b' : fi_H} {W : Nat → Nat → Nat → Prop} (H : Hp b) (F : Fr W b b') (h1 : ¬ W 390 602 0 ∧ ∀ k, ¬ W 10 604 k ∧ ¬ W 10 605 k ∧ ¬ W 10 606 k) (n : Int) : wkd b' n ↔ wkd b n := by
  have ht := H.1.2.2.1
  unfold wkd
  rw [F.2 390 602 0 (by omega) (by omega) h1.1]
  have e : ∀ k, b' 10 604 k = b 10 604 k ∧ b' 10 605 k = b 10 605 k ∧ b' 10 606 k = b 10 606 k := fun k => ⟨F.2 _ _ _ (by omega) (by omega) (h1.2 k).1, F.2 _ _ _ (by omega) (by omega) (h1.2 k).2.1, F.2 _ _ _ (by omega) (by omega) (h1.2 k).2.2⟩
  constructor
  · rintro ⟨q1, q2⟩
    exact ⟨q1, fun k hk z => q2 k hk (by rw [(e k).1, (e k).2.1, (e k).2.2]; exact z)⟩
  · rintro ⟨q1, q2⟩
    exact ⟨q1, fun k hk z => q2 k hk (by rw [(e k).1, (e k).2.1, (e k).2.2] at z; exact z)⟩
theorem kB_work {n : Int} {a : fi_H} (H : Hp h) (h0 : 0 ≤ n ∧ n ≤ 65535) (R : HolR a h) : ∃ v h', fj_run (d + 5) 595 h [(4, 602), (0, n)] = some (.inl (some (0, v)), h') ∧ Hp h' ∧ Fr wcB h h' ∧ ((v = 1 ∧ wkd h n) ∨ (v = 0 ∧ ¬ wkd h n)) := by
  have h7 : ir_ n 7 = n % 7 := ir_nn (by omega) (by omega) (by omega) (by omega)
  rw [m_595 (d + 4) n H.1, h7]
  by_cases q : 4 < n % 7
  · exact ⟨0, h, by rw [if_pos q], H, Fr.rf _ _, Or.inr ⟨rfl, fun z => by have := z.1; omega⟩⟩
  · have HL := lkB_hp H h0.1 h0.2
    have F := lkB_fr (h := h) n
    have R' := HolR.stB H F ⟨by simp [wcB], fun k => by simp [wcB]⟩ R
    have W := wkd_st H F ⟨by simp [wcB], fun k => by simp [wcB]⟩ n
    obtain ⟨v, hv, hz⟩ := kB_workl d HL h0 (lkB_v n) R' (lkB h n 390 602 0).toNat 0 (by have := R'.2.1; omega)
    refine ⟨v, lkB h n, ?_, HL, F, ?_⟩
    · rw [if_neg q, kB_look (d + 1) H h0.1 h0.2, cv_ret]; exact hv
    · rw [← W]
      rcases hz with ⟨z1, z2⟩ | ⟨z1, k, -, z3, z4⟩
      · exact Or.inl ⟨z1, by omega, fun k hk => z2 k (Nat.zero_le _) hk⟩
      · exact Or.inr ⟨z1, fun z => z.2 k z3 z4⟩
/-- the first working day from one on: of both the same -/
theorem k_duel {X : Nat} {a b : fi_H} : ∀ (m : Nat) (x : Int) (hA hB : fi_H), 0 ≤ x → x + m = 65536 → Hp hA → Hp hB → HolR hA hB → Fr (wcA 306) a hA → Fr wcB b hB →
    Bo X 0 0 (c_391_2 (d + 4) x hA) (c_597_2 (d + 5) x hB) (fun v hA' w hB' => v = w ∧ (v = -1 ∨ 0 ≤ v ∧ v ≤ 65535) ∧ Fr (wcA 306) a hA' ∧ Fr wcB b hB') (fun _ _ => False) := by
  intro m
  induction m with
  | zero =>
    intro x hA hB h0 hx HA HB R FA FB
    rw [e_391_2 (d + 4) x HA.1, e_597_2 (d + 5) x HB.1, if_pos (by omega), if_pos (by omega)]
    exact Bo.ret (by decide) (by decide) HA HB ⟨rfl, Or.inl rfl, FA, FB⟩
  | succ m ih =>
    intro x hA hB h0 hx HA HB R FA FB
    obtain ⟨v, hA1, eA, HA1, FA1, vA⟩ := kA_work d HA ⟨h0, by omega⟩ R
    obtain ⟨w, hB1, eB, HB1, FB1, vB⟩ := kB_work d HB ⟨h0, by omega⟩ R
    rw [e_391_2 (d + 4) x HA.1, e_597_2 (d + 5) x HB.1, if_neg (by omega), if_neg (by omega), eA, eB, ca_ret, ca_ret]
    rcases vA with ⟨rfl, p⟩ | ⟨rfl, p⟩
    · rcases vB with ⟨rfl, q⟩ | ⟨rfl, q⟩
      · rw [if_neg (by omega), if_neg (by omega)]
        exact Bo.ret (by decide) (by decide) HA1 HB1 ⟨rfl, Or.inr ⟨h0, by omega⟩, FA.tr FA1, FB.tr FB1⟩
      · exact absurd p q
    · rcases vB with ⟨rfl, q⟩ | ⟨rfl, q⟩
      · exact absurd q p
      · rw [if_pos rfl, if_pos rfl, wI_id (by omega) (by omega)]
        have R1 := HolR.stA HA FA1 (fun f x i hx q => by have := q.1; omega) ⟨by simp [wcA], by simp [wcA], by simp [wcA], fun k => by simp [wcA]⟩ (HolR.stB HB FB1 ⟨by simp [wcB], fun k => by simp [wcB]⟩ R)
        exact ih (x + 1) hA1 hB1 (by omega) (by omega) HA1 HB1 R1 (FA.tr FA1) (FB.tr FB1)
theorem k_dueOf {X : Nat} {hA hB : fi_H} {n : Int} (HA : Hp hA) (HB : Hp hB) (R : HolR hA hB) (h0 : 0 ≤ n ∧ n ≤ 65535) :
    Bo X 0 0 (fj_run (d + 5) 391 hA [(4, 303), (0, n)]) (fj_run (d + 6) 597 hB [(4, 602), (0, n)]) (fun v hA' w hB' => v = w ∧ (v = -1 ∨ 0 ≤ v ∧ v ≤ 65535) ∧ Fr (wcA 306) hA hA' ∧ Fr wcB hB hB') (fun _ _ => False) := by
  rw [m_391 (d + 4) n HA.1, m_597 (d + 5) n HB.1]
  exact k_duel d (65536 - n).toNat n hA hB h0.1 (by omega) HA HB R (Fr.rf _ _) (Fr.rf _ _)
end RUNSB

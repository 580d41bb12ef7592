section
/-! the class cuts its tape -/
set_option maxRecDepth 100000
/-- the tape that is being cut -/
def LexU (u : Nat → Int) (n : Nat) (h : fi_H) : Prop := Hp h ∧ h 156 377 0 = (n : Int) ∧ n ≤ 4000 ∧ (∀ k, k < n → h 8 376 k = u k) ∧ ∀ k, n ≤ k → u k = 0
theorem LexU.st {u : Nat → Int} {n : Nat} {h h' : fi_H} {W : Nat → Nat → Nat → Prop} (q : LexU u n h) (H : Hp h') (F : Fr W h h') (hW : ¬ W 156 377 0 ∧ ∀ k, ¬ W 8 376 k) : LexU u n h' := by
  obtain ⟨q0, q1, q2, q3, q4⟩ := q
  have ht := q0.1.2.2.1
  exact ⟨H, by rw [F.2 156 377 0 (by omega) (by omega) hW.1]; exact q1, q2, fun k hk => by rw [F.2 8 376 k (by omega) (by omega) (hW.2 k)]; exact q3 k hk, q4⟩
/-- the row of a token -/
abbrev wrow (m : Nat) (f a i : Nat) : Prop := i = m ∧ ((f = 8 ∧ a = 378) ∨ (f = 10 ∧ a = 380) ∨ (f = 11 ∧ a = 381) ∨ (f = 5 ∧ a = 382) ∨ (f = 12 ∧ a = 383))
section LEXA
variable (d : Nat) {u : Nat → Int} {n : Nat} {h : fi_H}
theorem kA_byte (L : LexU u n h) (k : Nat) : fj_run (d + 1) 114 h [(4, 377), (0, (k : Int))] = some (.inl (some (0, u k)), h) := by
  obtain ⟨q0, q1, q2, q3, q4⟩ := L
  rw [m_114 d k q0.1, q1]
  by_cases q : k < n
  · rw [if_pos (by omega), if_pos (by omega), Int.toNat_natCast, q3 k q]
  · rw [if_neg (by omega), q4 k (by omega)]
theorem kA_byte' (L : LexU u n h) {x : Int} (k : Nat) (hx : x = (k : Int)) : fj_run (d + 1) 114 h [(4, 377), (0, x)] = some (.inl (some (0, u k)), h) := by rw [hx]; exact kA_byte d L k
theorem kA_small (H : Shp h) (c : Int) : fj_run (d + 1) 115 h [(4, 377), (0, c)] = some (.inl (some (0, if xs c then 1 else 0)), h) := by
  rw [m_115 d c H]
  by_cases q : c < 97
  · rw [if_pos q, if_neg (by omega)]
  · rw [if_neg q]
    by_cases q2 : 122 < c
    · rw [if_pos q2, if_neg (by omega)]
    · rw [if_neg q2, if_pos (by omega)]
theorem kA_digit (H : Shp h) (c : Int) : fj_run (d + 1) 128 h [(4, 377), (0, c)] = some (.inl (some (0, if xd c then 1 else 0)), h) := by
  rw [m_128 d c H]
  by_cases q : c < 48
  · rw [if_pos q, if_neg (by omega)]
  · rw [if_neg q]
    by_cases q2 : 57 < c
    · rw [if_pos q2, if_neg (by omega)]
    · rw [if_neg q2, if_pos (by omega)]
theorem kA_areTwo (L : LexU u n h) {x : Int} (k : Nat) (hx : x = (k : Int)) (hk : k ≤ 5000) : fj_run (d + 2) 154 h [(4, 377), (0, x)] = some (.inl (some (0, if xd (u k) ∧ xd (u (k + 1)) then 1 else 0)), h) := by
  subst hx
  rw [m_154 (d + 1) k L.1.1, kA_byte d L k, ca_ret, kA_digit d L.1.1, ca_ret, ite0]
  by_cases q1 : xd (u k)
  · rw [if_pos q1, wI_id (by omega) (by omega), kA_byte' d L (k + 1) (by omega), ca_ret, kA_digit d L.1.1, ca_ret, ite0]
    by_cases q2 : xd (u (k + 1))
    · rw [if_pos q2, if_pos ⟨q1, q2⟩]
    · rw [if_neg q2, if_neg (fun z => q2 z.2)]
  · rw [if_neg q1, if_neg (fun z => q1 z.1)]
theorem kA_two (L : LexU u n h) {x : Int} (k : Nat) (hx : x = (k : Int)) (hk : k ≤ 5000) (h1 : xd (u k)) (h2 : xd (u (k + 1))) : fj_run (d + 2) 155 h [(4, 377), (0, x)] = some (.inl (some (0, tw u k)), h) := by
  subst hx
  rw [m_155 (d + 1) k L.1.1, kA_byte d L k, ca_ret, wI_id (x := (k : Int) + 1) (by omega) (by omega), kA_byte' d L (k + 1) (by omega), ca_ret]
  simp (disch := omega) only [wI_id]
  unfold tw
  exact ret_eq (by omega)
theorem kA_blanks (L : LexU u n h) : ∀ (m k : Nat), k + m = n → c_112_2 (d + 1) k h = some (.inl (some (0, (bk u n false k : Int))), h) ∧ c_112_66 (d + 1) k h = some (.inl (some (0, (bk u n true k : Int))), h) := by
  obtain ⟨q0, q1, q2, q3, q4⟩ := L
  intro m
  induction m with
  | zero =>
    intro k hk
    have a : c_112_2 (d + 1) k h = some (.inl (some (0, (bk u n false k : Int))), h) := by
      rw [e_112_2 (d + 1) k q0.1, q1, if_neg (by omega), bk, if_neg (by omega)]
    have b : bk u n true k = bk u n false k := by rw [bk, if_neg (by omega), bk, if_neg (by omega)]
    refine ⟨a, ?_⟩
    rw [e_112_66 (d + 1) k q0.1, q1, if_neg (by omega), a, b]
  | succ m ih =>
    intro k hk
    obtain ⟨a1, a2⟩ := ih (k + 1) (by omega)
    have hs : wI ((k : Int) + 1) = ((k + 1 : Nat) : Int) := by rw [wI_id (by omega) (by omega)]; omega
    have e3 := q3 k (by omega)
    have b2 : c_112_2 (d + 1) k h = some (.inl (some (0, (bk u n false k : Int))), h) := by
      have hb : bk u n false k = if u k = 32 ∨ u k = 10 then bk u n false (k + 1) else if u k = 39 then bk u n true (k + 1) else k := by rw [bk, if_pos (by omega), if_neg (by simp)]
      rw [hb, e_112_2 (d + 1) k q0.1, q1, if_pos (by omega), if_pos (by omega), Int.toNat_natCast, e3]
      have g : c_112_52 (d + 1) k h = if u k = 39 then c_112_66 (d + 1) k h else c_112_2 (d + 1) ((k + 1 : Nat) : Int) h := by
        rw [e_112_52 (d + 1) k q0.1, if_pos (by omega), Int.toNat_natCast, e3, hs]
      by_cases p1 : u k = 32
      · rw [if_pos p1, if_pos (Or.inl p1), g, if_neg (by omega)]; exact a1
      · rw [if_neg p1]
        by_cases p2 : u k = 10
        · rw [if_pos p2, if_pos (Or.inr p2), g, if_neg (by omega)]; exact a1
        · rw [if_neg p2, if_neg (by omega : ¬ (u k = 32 ∨ u k = 10))]
          by_cases p3 : u k = 39
          · rw [if_pos p3, if_pos p3, g, if_pos p3, e_112_66 (d + 1) k q0.1, q1, if_pos (by omega), if_pos (by omega), Int.toNat_natCast, e3, if_neg p2, hs]; exact a2
          · rw [if_neg p3, if_neg p3]
    refine ⟨b2, ?_⟩
    have hb : bk u n true k = if u k = 10 then bk u n false (k + 1) else bk u n true (k + 1) := by rw [bk, if_pos (by omega), if_pos rfl]
    rw [hb, e_112_66 (d + 1) k q0.1, q1, if_pos (by omega), if_pos (by omega), Int.toNat_natCast, e3]
    by_cases p2 : u k = 10
    · rw [if_pos p2, if_pos p2, b2, bk, if_pos (by omega), if_neg (by simp), if_pos (Or.inr p2)]
    · rw [if_neg p2, if_neg p2, hs]; exact a2
theorem kA_blank (L : LexU u n h) {k : Nat} (hk : k ≤ n) : fj_run (d + 2) 112 h [(4, 377), (0, (k : Int))] = some (.inl (some (0, (bk u n false k : Int))), h) := by
  rw [m_112 (d + 1) k L.1.1]
  exact (kA_blanks d L (n - k) k (by omega)).1
/-- the digits' loop -/
theorem kA_digl (L : LexU u n h) {p : Nat} (hp : p ≤ n) : ∀ (m j : Nat) (v : Int), p + j + m = de u n p → (j ≤ 10 → v = fg u p j) → 0 ≤ v → v ≤ 10000000000 →
    ∃ v', c_152_4 (d + 2) p ((p + j : Nat) : Int) v h = c_152_66 (d + 2) p ((de u n p : Nat) : Int) v' 378 (h 157 377 0) (if 9 < de u n p - p then 1 else 3) h ∧ (de u n p - p ≤ 10 → v' = fg u p (de u n p - p)) ∧ 0 ≤ v' ∧ v' ≤ 10000000000 := by
  obtain ⟨d1, d2, d3, d4⟩ := de_ok (u := u) (n := n) (n - p) p (by omega)
  have hn4 := L.2.2.1
  intro m
  induction m with
  | zero =>
    intro j v hj hv h0 h1
    have ej : j = de u n p - p := by omega
    refine ⟨v, ?_, fun q => by rw [← ej]; exact hv (by omega), h0, h1⟩
    have hnd : ¬ xd (u (p + j)) := by
      rw [show p + j = de u n p by omega]
      by_cases z : de u n p < n
      · exact d4 z
      · rw [L.2.2.2.2 _ (by omega)]; omega
    rw [e_152_4 (d + 2) p _ v L.1.1, kA_byte (d + 1) L (p + j), ca_ret, kA_digit (d + 1) L.1.1, ca_ret, if_neg hnd, if_pos rfl, wI_id (by omega) (by omega), show p + j = de u n p by omega]
    by_cases z : 9 < de u n p - p
    · rw [if_pos z, if_pos (by omega)]
    · rw [if_neg z, if_neg (by omega)]
  | succ m ih =>
    intro j v hj hv h0 h1
    have hd := d3 (p + j) (by omega) (by omega)
    have hJ : wJ ((wJ ((wJ (10 * v)) + (wI (u (p + j))))) - 48) = 10 * v + (u (p + j) - 48) := by
      rw [wI_id (by omega) (by omega), wJ_id (x := 10 * v) (by omega) (by omega), wJ_id (x := 10 * v + u (p + j)) (by omega) (by omega), wJ_id (by omega) (by omega)]
      omega
    have hs : wI (((p + j : Nat) : Int) + 1) = ((p + (j + 1) : Nat) : Int) := by rw [wI_id (by omega) (by omega)]; omega
    have cmp : 0 < lc_ 10000000000 (10 * v + (u (p + j) - 48)) ↔ 10 * v + (u (p + j) - 48) < 10000000000 := by rw [lc_gt, wJ_id (by omega) (by omega), wJ_id (by omega) (by omega)]
    have main : ∀ w, w = (if 10 * v + (u (p + j) - 48) < 10000000000 then 10 * v + (u (p + j) - 48) else 10000000000) → ∃ v', c_152_4 (d + 2) p ((p + (j + 1) : Nat) : Int) w h = c_152_66 (d + 2) p ((de u n p : Nat) : Int) v' 378 (h 157 377 0) (if 9 < de u n p - p then 1 else 3) h ∧ (de u n p - p ≤ 10 → v' = fg u p (de u n p - p)) ∧ 0 ≤ v' ∧ v' ≤ 10000000000 := by
      intro w hw
      refine ih (j + 1) w (by omega) (fun q => ?_) (by rw [hw]; split <;> omega) (by rw [hw]; split <;> omega)
      have e : fg u p (j + 1) = 10 * fg u p j + (u (p + j) - 48) := rfl
      obtain ⟨g1, g2⟩ := fg_rg (u := u) (p := p) j (fun i hi => d3 (p + i) (by omega) (by omega))
      have g3 : (10 : Int) ^ j ≤ 10 ^ 9 := by
        have : (10 : Nat) ^ j ≤ 10 ^ 9 := Nat.pow_le_pow_right (by decide) (by omega)
        exact_mod_cast this
      have g4 : (10 : Int) ^ 9 = 1000000000 := by decide
      have := hv (by omega)
      rw [hw, e, ← this, if_pos (by omega)]
    rw [e_152_4 (d + 2) p _ v L.1.1, kA_byte (d + 1) L (p + j), ca_ret, kA_digit (d + 1) L.1.1, ca_ret, if_pos hd, if_neg (by omega), kA_byte (d + 1) L (p + j), ca_ret, hJ, hs, m_153 (d + 1) _ _ L.1.1]
    by_cases z : 10 * v + (u (p + j) - 48) < 10000000000
    · rw [if_pos (cmp.mpr z), ca_ret]; exact main _ (by rw [if_pos z])
    · rw [if_neg (fun q => z (cmp.mp q)), ca_ret]; exact main _ (by rw [if_neg z])
end LEXA
end

section
/-! names: as both keep them; which one stands at hand -/
set_option maxRecDepth 100000
/-- a value of a kind (0 truth, 1 count, 2 money, 3 rate, 4 date, 5 span, 6 real, 7 person) -/
def Vok (k x y : Int) : Prop :=
  (k = 0 → (x = 0 ∨ x = 1) ∧ y = 0) ∧ (k = 1 → -2147483648 ≤ x ∧ x < 2147483648 ∧ y = 0) ∧ (k = 2 → -1000000000000 ≤ x ∧ x ≤ 1000000000000 ∧ y = 0) ∧
  (k = 3 → -1000000 ≤ x ∧ x ≤ 1000000 ∧ 1 ≤ y ∧ y ≤ 1000000 ∧ Int.gcd x y = 1) ∧ (k = 4 → 0 ≤ x ∧ x ≤ 65535 ∧ y = 0) ∧ (k = 5 → -2400 ≤ x ∧ x ≤ 2400 ∧ -65535 ≤ y ∧ y ≤ 65535) ∧
  (k = 6 → (wJ x).emod 9223372036854775808 < 9218868437227405312 ∧ -9223372036854775808 ≤ x ∧ x < 9223372036854775808 ∧ y = 0) ∧ (k = 7 → 0 ≤ x ∧ x < 30 ∧ y = 0)
/-- letters of a name -/
def Nml (l : Nat) (c : Nat → Int) : Prop := (1 ≤ l ∧ l ≤ 12) ∧ (∀ j : Nat, j < l → 1 ≤ c j ∧ c j < 128 ∧ xw (c j)) ∧ xs (c 0) ∧ kwd l c = -1
/-- name k: the class's thing t, the model's rows -/
def NmK (a b : fi_H) (k : Nat) : Prop :=
  (714 < a 12 320 k ∧ a 12 320 k ≤ a 2 0 0) ∧ a 0 (a 12 320 k).toNat 0 = 124 ∧
  (∃ l c, StrN a (a 321 (a 12 320 k).toNat 0) l c ∧ Nml l c ∧ b 11 608 k = pk c (if l < 6 then l else 6) ∧ b 11 609 k = pk (fun j => c (6 + j)) (l - 6)) ∧
  (0 ≤ b 10 611 k ∧ b 10 611 k ≤ 7 ∧ a 324 (a 12 320 k).toNat 0 = 2 + b 10 611 k) ∧
  (0 ≤ b 10 610 k ∧ b 10 610 k ≤ 3 ∧ a 322 (a 12 320 k).toNat 0 = (if b 10 610 k = 1 then 1 else 0) ∧ a 323 (a 12 320 k).toNat 0 = (if b 10 610 k = 2 then 1 else 0) ∧ a 330 (a 12 320 k).toNat 0 = (if b 10 610 k = 3 then 1 else 0)) ∧
  (b 10 610 k = 2 → b 10 611 k = 2 ∨ b 10 611 k = 3) ∧ (b 10 610 k = 3 → b 10 611 k = 7) ∧
  (0 ≤ b 10 612 k ∧ b 10 612 k ≤ 4 ∧ a 325 (a 12 320 k).toNat 0 = 10 + b 10 612 k ∧ (b 10 612 k ≠ 0 → b 10 610 k = 1 ∧ b 10 611 k = 2 ∧ a 326 (a 12 320 k).toNat 0 = b 10 613 k ∧ 1 ≤ b 10 613 k ∧ b 10 613 k ≤ 999999999)) ∧
  (a 329 (a 12 320 k).toNat 0 = b 4 614 k ∧ (b 4 614 k = 1 → a 327 (a 12 320 k).toNat 0 = b 11 615 k ∧ a 328 (a 12 320 k).toNat 0 = b 11 616 k ∧ Vok (b 10 611 k) (b 11 615 k) (b 11 616 k)))
/-- so many names -/
def NmR (a b : fi_H) (m : Nat) : Prop := m ≤ 40 ∧ ∀ k, k < m → NmK a b k
theorem pk_inj {c c' : Nat → Int} : ∀ (k k' : Nat), (∀ i, i < k → 1 ≤ c i ∧ c i < 256) → (∀ i, i < k' → 1 ≤ c' i ∧ c' i < 256) → pk c k = pk c' k' → k = k' ∧ ∀ i, i < k → c i = c' i := by
  intro k
  induction k with
  | zero =>
    intro k' _ h' e
    cases k' with
    | zero => exact ⟨rfl, fun i hi => by omega⟩
    | succ k' =>
      exfalso
      have a := h' k' (by omega)
      obtain ⟨b, -⟩ := pk_rg (c := c') k' (fun i hi => ⟨by have := h' i (by omega); omega, (h' i (by omega)).2⟩)
      have e1 : pk c 0 = 0 := rfl
      have e2 : pk c' (k' + 1) = 256 * pk c' k' + c' k' := rfl
      omega
  | succ k ih =>
    intro k' h h' e
    have a := h k (by omega)
    obtain ⟨b, -⟩ := pk_rg (c := c) k (fun i hi => ⟨by have := h i (by omega); omega, (h i (by omega)).2⟩)
    have e1 : pk c (k + 1) = 256 * pk c k + c k := rfl
    cases k' with
    | zero =>
      exfalso
      have e2 : pk c' 0 = 0 := rfl
      omega
    | succ k' =>
      have a' := h' k' (by omega)
      obtain ⟨b', -⟩ := pk_rg (c := c') k' (fun i hi => ⟨by have := h' i (by omega); omega, (h' i (by omega)).2⟩)
      have e2 : pk c' (k' + 1) = 256 * pk c' k' + c' k' := rfl
      obtain ⟨r1, r2⟩ := ih k' (fun i hi => h i (by omega)) (fun i hi => h' i (by omega)) (by omega)
      subst r1
      refine ⟨rfl, fun i hi => ?_⟩
      by_cases z : i = k
      · subst z; omega
      · exact r2 i (by omega)
theorem pk_cong {c c' : Nat → Int} : ∀ (k : Nat), (∀ i, i < k → c i = c' i) → pk c k = pk c' k := by
  intro k
  induction k with
  | zero => intro _; rfl
  | succ k ih =>
    intro h
    show 256 * pk c k + c k = 256 * pk c' k + c' k
    rw [ih (fun i hi => h i (by omega)), h k (by omega)]
/-- two names are the same by their letters, or by their numbers -/
theorem nm_eq {l l' : Nat} {c c' : Nat → Int} (h1 : l ≤ 12) (h2 : l' ≤ 12) (h : ∀ i, i < l → 1 ≤ c i ∧ c i < 128) (h' : ∀ i, i < l' → 1 ≤ c' i ∧ c' i < 128) :
    eqS l c l' c' = true ↔ (pk c (if l < 6 then l else 6) = pk c' (if l' < 6 then l' else 6) ∧ pk (fun j => c (6 + j)) (l - 6) = pk (fun j => c' (6 + j)) (l' - 6)) := by
  rw [eqS_iff]
  constructor
  · rintro ⟨rfl, e⟩
    exact ⟨pk_cong _ (fun i hi => e i (by split at hi <;> omega)), pk_cong _ (fun i hi => e (6 + i) (by omega))⟩
  · rintro ⟨e1, e2⟩
    obtain ⟨a1, a2⟩ := pk_inj _ _ (fun i hi => by have := h i (by split at hi <;> omega); omega) (fun i hi => by have := h' i (by split at hi <;> omega); omega) e1
    obtain ⟨b1, b2⟩ := pk_inj _ _ (fun i hi => by have := h (6 + i) (by omega); omega) (fun i hi => by have := h' (6 + i) (by omega); omega) e2
    have hl : l = l' := by split at a1 <;> split at a1 <;> omega
    refine ⟨hl, fun i hi => ?_⟩
    by_cases z : i < 6
    · exact a2 i (by split <;> omega)
    · have : c (6 + (i - 6)) = c' (6 + (i - 6)) := b2 (i - 6) (by omega)
      rw [show 6 + (i - 6) = i by omega] at this
      exact this
section NAMES
variable {u : Nat → Int} {n M i : Nat} {a b : fi_H} {dA dB : Nat}
theorem t_nameOf (q : PS u n M i a b) (hA : 4 ≤ dA) (hB : 1 ≤ dB) (hk : tk u n i = 2) {m : Nat} (N : NmR a b m) (hm : a 215 303 0 + a 160 377 0 = (m : Int)) (hm2 : b 413 602 0 = (m : Int)) :
    ∃ r : Int, fj_run dA 181 a [(4, 377), (4, a 12 383 i)] = some (.inl (some (0, r)), a) ∧ fj_run dB 504 b [(4, 602)] = some (.inl (some (0, r)), b) ∧ (r = -1 ∨ (0 ≤ r ∧ r < (m : Int))) := by
  obtain ⟨d, rfl⟩ : ∃ e, dA = e + 4 := ⟨dA - 4, by omega⟩
  obtain ⟨e, rfl⟩ : ∃ k, dB = k + 1 := ⟨dB - 1, by omega⟩
  have hi := q.2.2.2.2.1
  obtain ⟨N0, N1⟩ := N
  have S := (q.row.1.2.2.2.2.2 hk).1
  have hc := cw_rg (u := u) (n := n) (i := i) q.2.1.2.2.2.2.1 hk
  have hlen : lw u n i ≤ 12 := by
    unfold lw
    unfold tk at hk
    have hp := pl_le q.2.1.2.2.2.2.1 i
    generalize pl u n i = p at *
    unfold tok at hk ⊢
    split at hk
    · simp at hk
    · rename_i z0
      rw [if_neg z0]
      split at hk
      · rename_i z1
        rw [if_pos z1]
        show we u n p - p ≤ 12
        simp only at hk
        split at hk
        · simp at hk
        · omega
      · split at hk
        · split at hk
          · simp at hk
          · split at hk
            · simp at hk
            · split at hk <;> simp at hk
        · split at hk
          · split at hk <;> simp at hk
          · split at hk <;> simp at hk
  obtain ⟨-, -, b400, b401⟩ := q.tb.2.2.2.2.1 hk
  have b400 : b 400 602 0 = pk (cw u n i) (if lw u n i < 6 then lw u n i else 6) := b400
  have b401 : b 401 602 0 = pk (fun j => cw u n i (6 + j)) (lw u n i - 6) := by
    rw [b401]
    refine pk_cong _ (fun j _ => ?_)
    show u (pl u n i + 6 + j) = u (pl u n i + (6 + j))
    rw [show pl u n i + 6 + j = pl u n i + (6 + j) by omega]
  have r400 := rJ q.hb (f := 400) rfl 602 0
  have r401 := rJ q.hb (f := 401) rfl 602 0
  have main : ∀ (j k : Nat), k + j = m → ∃ r : Int, c_181_2 (d + 3) (a 12 383 i) (k : Int) a = some (.inl (some (0, r)), a) ∧ c_504_2 e (k : Int) b = some (.inl (some (0, r)), b) ∧ (r = -1 ∨ (0 ≤ r ∧ r < (m : Int))) := by
    intro j
    induction j with
    | zero =>
      intro k hk2
      refine ⟨-1, ?_, ?_, Or.inl rfl⟩
      · rw [e_181_2 (d + 3) _ _ q.ha.1, hm, wI_id (by omega) (by omega), if_neg (by omega)]
      · rw [e_504_2 e _ q.hb.1, hm2, if_neg (by omega)]
    | succ j ih =>
      intro k hk2
      obtain ⟨⟨n1, n2⟩, n3, ⟨l, c, T, ⟨T1, T2, T3, T4⟩, T5, T6⟩, -⟩ := N1 k (by omega)
      obtain ⟨r, x1, x2, x3⟩ := ih (k + 1) (by omega)
      have r608 := rJ q.hb (f := 11) rfl 608 k
      have r609 := rJ q.hb (f := 11) rfl 609 k
      have g := nm_eq (l := l) (l' := lw u n i) (c := c) (c' := cw u n i) T1.2 hlen (fun i hi => by have := T2 i hi; omega) (fun j hj => by have := hc j hj; exact ⟨this.1, this.2.1⟩)
      rw [← T5, ← T6, ← b400, ← b401] at g
      have l1 : lc_ (b 11 608 k) (b 400 602 0) = 0 ↔ b 11 608 k = b 400 602 0 := by rw [lc_eq, wJ_id r608.1 r608.2, wJ_id r400.1 r400.2]
      have l2 : lc_ (b 11 609 k) (b 401 602 0) = 0 ↔ b 11 609 k = b 401 602 0 := by rw [lc_eq, wJ_id r609.1 r609.2, wJ_id r401.1 r401.2]
      have sk : wI ((k : Int) + 1) = ((k + 1 : Nat) : Int) := by rw [wI_id (by omega) (by omega)]; omega
      have eA : c_181_2 (d + 3) (a 12 383 i) (k : Int) a = if eqS l c (lw u n i) (cw u n i) = true then some (.inl (some (0, (k : Int))), a) else c_181_2 (d + 3) (a 12 383 i) ((k + 1 : Nat) : Int) a := by
        rw [e_181_2 (d + 3) _ _ q.ha.1, hm, wI_id (by omega) (by omega), if_pos (by omega), if_pos (by omega), Int.toNat_natCast, if_pos n3, T.1.2.1, show fi_vt 216 131 = some 64 from rfl, dv_s, kS_eq d q.ha T.1 S, ca_ret, sk]
        by_cases y : eqS l c (lw u n i) (cw u n i) = true
        · rw [if_pos y, if_neg (by decide), if_pos y]
        · rw [if_neg y, if_pos rfl, if_neg y]
      have eB : c_504_2 e (k : Int) b = if lc_ (b 11 608 k) (b 400 602 0) = 0 then (if lc_ (b 11 609 k) (b 401 602 0) = 0 then some (.inl (some (0, (k : Int))), b) else c_504_40 e (k : Int) b) else c_504_40 e (k : Int) b := by
        rw [e_504_2 e _ q.hb.1, hm2, if_pos (by omega), if_pos (by omega), Int.toNat_natCast]
      rw [eA, eB]
      have on : c_504_40 e (k : Int) b = some (.inl (some (0, r)), b) := by rw [e_504_40 e _ q.hb.1, sk]; exact x2
      by_cases y : eqS l c (lw u n i) (cw u n i) = true
      · obtain ⟨y1, y2⟩ := g.mp y
        refine ⟨(k : Int), ?_, ?_, Or.inr ⟨by omega, by omega⟩⟩
        · rw [if_pos y]
        · rw [if_pos (l1.mpr y1), if_pos (l2.mpr y2)]
      · refine ⟨r, ?_, ?_, x3⟩
        · rw [if_neg y]; exact x1
        · by_cases y1 : b 11 608 k = b 400 602 0
          · rw [if_pos (l1.mpr y1)]
            by_cases y2 : b 11 609 k = b 401 602 0
            · exact absurd (g.mpr ⟨y1, y2⟩) y
            · rw [if_neg (fun z => y2 (l2.mp z))]; exact on
          · rw [if_neg (fun z => y1 (l1.mp z))]; exact on
  obtain ⟨r, x1, x2, x3⟩ := main m 0 (by omega)
  exact ⟨r, by rw [m_181 (d + 3) _ q.ha.1]; exact x1, by rw [m_504 e q.hb.1]; exact x2, x3⟩
end NAMES
end

section
/-! the lexer: what both sides cut, by the bytes; u k = the byte at k, 0 behind the end -/
abbrev xs (c : Int) : Prop := 97 ≤ c ∧ c ≤ 122
abbrev xd (c : Int) : Prop := 48 ≤ c ∧ c ≤ 57
abbrev xw (c : Int) : Prop := xs c ∨ xd c ∨ c = 95
def we (u : Nat → Int) (n k : Nat) : Nat := if k < n ∧ xw (u k) then we u n (k + 1) else k
termination_by n - k
def de (u : Nat → Int) (n k : Nat) : Nat := if k < n ∧ xd (u k) then de u n (k + 1) else k
termination_by n - k
/-- behind blanks; b: within a remark -/
def bk (u : Nat → Int) (n : Nat) (b : Bool) (k : Nat) : Nat :=
  if k < n then (if b = true then (if u k = 10 then bk u n false (k + 1) else bk u n true (k + 1)) else if u k = 32 ∨ u k = 10 then bk u n false (k + 1) else if u k = 39 then bk u n true (k + 1) else k) else k
termination_by n - k
/-- the number that so many digits tell -/
def fg (u : Nat → Int) (p : Nat) : Nat → Int
  | 0 => 0
  | k + 1 => 10 * fg u p k + (u (p + k) - 48)
def tw (u : Nat → Int) (q : Nat) : Int := 10 * (u q - 48) + (u (q + 1) - 48)
abbrev sg (c : Int) : Prop := c = 35 ∨ c = 37 ∨ c = 40 ∨ c = 41 ∨ c = 42 ∨ c = 43 ∨ c = 44 ∨ c = 45 ∨ c = 47 ∨ c = 58 ∨ c = 59 ∨ c = 61 ∨ c = 123 ∨ c = 125
/-- a token at a place: its sort (0 end, 1 none, 2 word, 3 number, 4 money, 5 date, 6 sign), where it ends, what it tells -/
def tok (u : Nat → Int) (n p : Nat) : Nat × Nat × Int :=
  if n ≤ p then (0, p, 0)
  else if xs (u p) then (if 12 < we u n p - p then 1 else 2, we u n p, 0)
  else if xd (u p) then
    (if 9 < de u n p - p then (1, de u n p, 0)
     else if u (de u n p) = 46 ∧ xd (u (de u n p + 1)) ∧ xd (u (de u n p + 2)) then (4, de u n p + 3, 100 * fg u p (de u n p - p) + tw u (de u n p + 1))
     else if de u n p - p = 4 ∧ u (de u n p) = 45 ∧ (xd (u (de u n p + 1)) ∧ xd (u (de u n p + 2))) ∧ u (de u n p + 3) = 45 ∧ xd (u (de u n p + 4)) ∧ xd (u (de u n p + 5)) then (5, de u n p + 6, 10000 * fg u p 4 + 100 * tw u (de u n p + 1) + tw u (de u n p + 4))
     else (3, de u n p, fg u p (de u n p - p)))
  else if u p = 60 ∨ u p = 62 then (if u (p + 1) = 61 then (6, p + 2, if u p = 60 then 108 else 103) else (6, p + 1, u p))
  else if sg (u p) then (6, p + 1, u p) else (1, p + 1, 0)
/-- the places of the tokens, one behind another -/
def pl (u : Nat → Int) (n : Nat) : Nat → Nat
  | 0 => bk u n false 0
  | i + 1 => bk u n false (tok u n (pl u n i)).2.1
section PURE
variable {u : Nat → Int} {n : Nat}
theorem we_ok : ∀ (m k : Nat), k + m = n → k ≤ we u n k ∧ we u n k ≤ n ∧ (∀ j, k ≤ j → j < we u n k → xw (u j)) ∧ (we u n k < n → ¬ xw (u (we u n k))) := by
  intro m
  induction m with
  | zero =>
    intro k hk
    rw [we, if_neg (by omega)]
    exact ⟨Nat.le_refl _, by omega, fun j a b => by omega, fun a => by omega⟩
  | succ m ih =>
    intro k hk
    rw [we]
    by_cases q : xw (u k)
    · rw [if_pos ⟨by omega, q⟩]
      obtain ⟨a, b, c, e⟩ := ih (k + 1) (by omega)
      refine ⟨by omega, b, fun j j1 j2 => ?_, e⟩
      by_cases z : j = k
      · rw [z]; exact q
      · exact c j (by omega) j2
    · rw [if_neg (fun z => q z.2)]
      exact ⟨Nat.le_refl _, by omega, fun j a b => by omega, fun _ => q⟩
theorem de_ok : ∀ (m k : Nat), k + m = n → k ≤ de u n k ∧ de u n k ≤ n ∧ (∀ j, k ≤ j → j < de u n k → xd (u j)) ∧ (de u n k < n → ¬ xd (u (de u n k))) := by
  intro m
  induction m with
  | zero =>
    intro k hk
    rw [de, if_neg (by omega)]
    exact ⟨Nat.le_refl _, by omega, fun j a b => by omega, fun a => by omega⟩
  | succ m ih =>
    intro k hk
    rw [de]
    by_cases q : xd (u k)
    · rw [if_pos ⟨by omega, q⟩]
      obtain ⟨a, b, c, e⟩ := ih (k + 1) (by omega)
      refine ⟨by omega, b, fun j j1 j2 => ?_, e⟩
      by_cases z : j = k
      · rw [z]; exact q
      · exact c j (by omega) j2
    · rw [if_neg (fun z => q z.2)]
      exact ⟨Nat.le_refl _, by omega, fun j a b => by omega, fun _ => q⟩
theorem bk_ok : ∀ (m k : Nat) (b : Bool), k + m = n → k ≤ bk u n b k ∧ bk u n b k ≤ n ∧ (bk u n b k < n → u (bk u n b k) ≠ 32 ∧ u (bk u n b k) ≠ 10 ∧ u (bk u n b k) ≠ 39) := by
  intro m
  induction m with
  | zero =>
    intro k b hk
    rw [bk, if_neg (by omega)]
    exact ⟨Nat.le_refl _, by omega, fun a => by omega⟩
  | succ m ih =>
    intro k b hk
    rw [bk, if_pos (by omega)]
    have step : ∀ c, k ≤ bk u n c (k + 1) ∧ bk u n c (k + 1) ≤ n ∧ (bk u n c (k + 1) < n → u (bk u n c (k + 1)) ≠ 32 ∧ u (bk u n c (k + 1)) ≠ 10 ∧ u (bk u n c (k + 1)) ≠ 39) := fun c => by
      obtain ⟨a1, a2, a3⟩ := ih (k + 1) c (by omega)
      exact ⟨by omega, a2, a3⟩
    by_cases hb : b = true
    · rw [if_pos hb]
      by_cases q : u k = 10
      · rw [if_pos q]; exact step false
      · rw [if_neg q]; exact step true
    · rw [if_neg hb]
      by_cases q : u k = 32 ∨ u k = 10
      · rw [if_pos q]; exact step false
      · rw [if_neg q]
        by_cases q2 : u k = 39
        · rw [if_pos q2]; exact step true
        · rw [if_neg q2]
          exact ⟨Nat.le_refl _, by omega, fun _ => ⟨fun z => q (Or.inl z), fun z => q (Or.inr z), q2⟩⟩
theorem fg_rg {p : Nat} : ∀ (k : Nat), (∀ j : Nat, j < k → xd (u (p + j))) → 0 ≤ fg u p k ∧ fg u p k < 10 ^ k := by
  intro k
  induction k with
  | zero => intro _; exact ⟨Int.le_refl _, by show (0 : Int) < 10 ^ 0; decide⟩
  | succ k ih =>
    intro h
    obtain ⟨a, b⟩ := ih (fun j hj => h j (by omega))
    have c := h k (by omega)
    have e : fg u p (k + 1) = 10 * fg u p k + (u (p + k) - 48) := rfl
    have e2 : (10 : Int) ^ (k + 1) = 10 ^ k * 10 := by rw [Int.pow_succ]
    rw [e, e2]
    omega
theorem tw_rg {q : Nat} (h1 : xd (u q)) (h2 : xd (u (q + 1))) : 0 ≤ tw u q ∧ tw u q ≤ 99 := by unfold tw; omega
theorem tok_end {p : Nat} (hp : p < n) (hu : ∀ k, n ≤ k → u k = 0) : p < (tok u n p).2.1 ∧ (tok u n p).2.1 ≤ n := by
  have nz : ∀ k, u k ≠ 0 → k < n := fun k q => by
    by_cases z : k < n
    · exact z
    · exact absurd (hu k (by omega)) q
  unfold tok
  rw [if_neg (by omega)]
  obtain ⟨w1, w2, w3, w4⟩ := we_ok (u := u) (n := n) (n - p) p (by omega)
  obtain ⟨d1, d2, d3, d4⟩ := de_ok (u := u) (n := n) (n - p) p (by omega)
  by_cases q1 : xs (u p)
  · rw [if_pos q1]
    have : p < we u n p := by
      by_cases z : we u n p = p
      · exact absurd (Or.inl (by rw [z]; exact q1)) (w4 (by omega))
      · omega
    exact ⟨this, w2⟩
  · rw [if_neg q1]
    by_cases q2 : xd (u p)
    · rw [if_pos q2]
      have hd : p < de u n p := by
        by_cases z : de u n p = p
        · exact absurd (by rw [z]; exact q2) (d4 (by omega))
        · omega
      by_cases q3 : 9 < de u n p - p
      · rw [if_pos q3]; exact ⟨hd, d2⟩
      · rw [if_neg q3]
        by_cases q4 : u (de u n p) = 46 ∧ xd (u (de u n p + 1)) ∧ xd (u (de u n p + 2))
        · rw [if_pos q4]
          have := nz (de u n p + 2) (by omega)
          exact ⟨by show p < de u n p + 3; omega, by show de u n p + 3 ≤ n; omega⟩
        · rw [if_neg q4]
          split
          · rename_i q5
            have := nz (de u n p + 5) (by omega)
            exact ⟨by show p < de u n p + 6; omega, by show de u n p + 6 ≤ n; omega⟩
          · exact ⟨hd, d2⟩
    · rw [if_neg q2]
      split
      · split
        · have := nz (p + 1) (by omega)
          exact ⟨by show p < p + 2; omega, by show p + 2 ≤ n; omega⟩
        · exact ⟨by show p < p + 1; omega, by show p + 1 ≤ n; omega⟩
      · split
        · exact ⟨by show p < p + 1; omega, by show p + 1 ≤ n; omega⟩
        · exact ⟨by show p < p + 1; omega, by show p + 1 ≤ n; omega⟩
theorem pl_le (hu : ∀ k, n ≤ k → u k = 0) : ∀ i, pl u n i ≤ n := by
  intro i
  induction i with
  | zero => exact (bk_ok (u := u) (n := n) n 0 false (by omega)).2.1
  | succ i ih =>
    have he : (tok u n (pl u n i)).2.1 ≤ n := by
      by_cases q : pl u n i < n
      · exact (tok_end q hu).2
      · unfold tok; rw [if_pos (by omega)]; exact ih
    exact (bk_ok (u := u) (n := n) (n - (tok u n (pl u n i)).2.1) (tok u n (pl u n i)).2.1 false (by omega)).2.1
end PURE
end

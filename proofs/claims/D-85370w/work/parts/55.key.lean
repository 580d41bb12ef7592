section
/-! the model's words: which one stands at a place; letters as numbers -/
set_option maxRecDepth 100000
theorem WL_ok : WL.all (fun w => w.all (fun x => decide (0 < x) && decide (x < 128) && decide (x ≠ 32)) && decide (0 < w.length) && decide (w.length ≤ 12)) = true := by decide +kernel
theorem WS_len : WS.length = 485 := by decide +kernel
def flt (l : List (List Int)) : List Int := l.flatMap (fun w => w ++ [32])
section KEY
variable (d : Nat) {u : Nat → Int} {n : Nat} {h : fi_H}
/-- a letter of the model's words -/
theorem kB_wch (H : Hp h) {x : Int} (i : Nat) (hx : x = (i : Int)) (hi : i < 485) (hc : 0 ≤ WS.getD i 0 ∧ WS.getD i 0 < 128) : fj_run (d + 5) 20 h [(4, 281), (0, x)] = some (.inl (some (0, WS.getD i 0)), h) := by
  have S := (li_281 H).1
  rw [WS_281] at S
  exact kS_at d H S i hx (by rw [WS_len]; exact hi) hc
theorem kB_wlen (H : Hp h) : fj_run (d + 2) 18 h [(4, 281)] = some (.inl (some (0, 485)), h) := by
  have S := (li_281 H).1
  rw [WS_281] at S
  have := kS_len d H S
  rw [WS_len] at this
  exact this
/-- two words are held against one another -/
theorem kB_keyc (L : LexB u n h) {p N f : Nat} {w : List Int} (hp : p + N ≤ n) (hw : w.length = N) (hf : f + N < 485) (hu : ∀ j : Nat, j < N → 1 ≤ u (p + j)) (hs : ∀ j : Nat, j < N → WS.getD (f + j) 0 = w.getD j 0) (hr : ∀ j : Nat, j < N → 0 ≤ w.getD j 0 ∧ w.getD j 0 < 128) (k : Int) (wh : Int) :
    ∀ (m j : Nat) (x : Int), j + m = N → (x = 1 ∧ (∀ i, i < j → w.getD i 0 = u (p + i))) ∨ (x = 0 ∧ ∃ i, i < N ∧ w.getD i 0 ≠ u (p + i)) →
      ∃ y, c_492_54 (d + 5) p (N : Int) wh (f : Int) k x (j : Int) h = c_492_100 (d + 5) p (N : Int) wh k y h ∧ ((y = 1 ∧ eqW w N (fun i => u (p + i)) = true) ∨ (y = 0 ∧ ¬ eqW w N (fun i => u (p + i)) = true)) := by
  have hn := L.2.2.1
  have no : (∃ i, i < N ∧ w.getD i 0 ≠ u (p + i)) → ¬ eqW w N (fun i => u (p + i)) = true := fun ⟨i, hi, q⟩ z => q ((eqS_iff.mp z).2 i (by omega))
  intro m
  induction m with
  | zero =>
    intro j x hj hx
    have : j = N := by omega
    subst this
    refine ⟨x, by rw [e_492_54 (d + 5) _ _ _ _ _ _ _ L.1.1, if_neg (by omega)], ?_⟩
    rcases hx with ⟨a, b⟩ | ⟨a, b⟩
    · exact Or.inl ⟨a, eqS_iff.mpr ⟨hw, fun i hi => b i (by omega)⟩⟩
    · exact Or.inr ⟨a, no b⟩
  | succ m ih =>
    intro j x hj hx
    rw [e_492_54 (d + 5) _ _ _ _ _ _ _ L.1.1, if_pos (by omega)]
    rcases hx with ⟨a, b⟩ | ⟨a, b⟩
    · have hc := hr j (by omega)
      rw [if_neg (by omega), wI_id (x := (f : Int) + (j : Int)) (by omega) (by omega), kB_wch d L.1 (f + j) (by omega) (by omega) (by rw [hs j (by omega)]; exact hc), ca_ret, wI_id (x := (p : Int) + (j : Int)) (by omega) (by omega), kB_see' (d + 4) L (p + j) (by omega), ca_ret, sv_u L (hu j (by omega)), hs j (by omega)]
      by_cases q : w.getD j 0 = u (p + j)
      · rw [if_pos q, e_492_92 (d + 5) _ _ _ _ _ _ _ L.1.1, wI_id (by omega) (by omega)]
        exact ih (j + 1) 1 (by omega) (Or.inl ⟨rfl, fun i hi => by
          by_cases z : i = j
          · subst z; exact q
          · exact b i (by omega)⟩)
      · rw [if_neg q, e_492_92 (d + 5) _ _ _ _ _ _ _ L.1.1, wI_id (by omega) (by omega)]
        exact ih (j + 1) 0 (by omega) (Or.inr ⟨rfl, j, by omega, q⟩)
    · rw [if_pos a]
      exact ⟨0, by rw [a], Or.inr ⟨rfl, no b⟩⟩
/-- to the blank behind a word -/
theorem kB_keyw (H : Hp h) {p N f : Nat} {w : List Int} (hf : f + w.length < 485) (hs : ∀ j : Nat, j < w.length → WS.getD (f + j) 0 = w.getD j 0) (hr : ∀ j : Nat, j < w.length → 0 < w.getD j 0 ∧ w.getD j 0 < 128 ∧ w.getD j 0 ≠ 32) (wh : Int) :
    ∀ (m j : Nat), j + m = w.length → c_492_8 (d + 6) p (N : Int) wh (f : Int) ((f + j : Nat) : Int) h = c_492_8 (d + 6) p (N : Int) wh (f : Int) ((f + w.length : Nat) : Int) h := by
  intro m
  induction m with
  | zero => intro j hj; rw [show j = w.length by omega]
  | succ m ih =>
    intro j hj
    have hc := hr j (by omega)
    rw [← ih (j + 1) (by omega), e_492_8 (d + 6) _ _ _ _ _ H.1, kB_wlen (d + 4) H, ca_ret, if_pos (by omega), kB_wch (d + 1) H (f + j) rfl (by omega) (by rw [hs j (by omega)]; omega), ca_ret, hs j (by omega), if_neg hc.2.2, e_492_116 (d + 6) _ _ _ _ _ H.1, wI_id (by omega) (by omega)]
    rfl
theorem kB_keyl (L : LexB u n h) {p N : Nat} (hp : p + N ≤ n) (hN : 0 < N) (hu : ∀ j : Nat, j < N → 1 ≤ u (p + j)) : ∀ (l : List (List Int)) (f i : Nat), f + (flt l).length = 485 → i + l.length = 82 → (∀ j : Nat, j < (flt l).length → WS.getD (f + j) 0 = (flt l).getD j 0) → (∀ w ∈ l, ∀ j : Nat, j < w.length → 0 < w.getD j 0 ∧ w.getD j 0 < 128 ∧ w.getD j 0 ≠ 32) →
    c_492_8 (d + 6) p (N : Int) (i : Int) (f : Int) (f : Int) h = some (.inl (some (0, kwf l N (fun j => u (p + j)) i)), h) := by
  have hn := L.2.2.1
  intro l
  induction l with
  | nil =>
    intro f i hf hi _ _
    have : f = 485 := by simpa [flt] using hf
    rw [e_492_8 (d + 6) _ _ _ _ _ L.1.1, kB_wlen (d + 4) L.1, ca_ret, if_neg (by omega)]
    rfl
  | cons w l ih =>
    intro f i hf hi hs hr
    have e : flt (w :: l) = w ++ (32 :: flt l) := by simp [flt]
    have hlen : (flt (w :: l)).length = w.length + 1 + (flt l).length := by rw [e]; simp; omega
    rw [hlen] at hf
    have hs1 : ∀ j : Nat, j < w.length → WS.getD (f + j) 0 = w.getD j 0 := fun j hj => by
      rw [hs j (by omega), e]
      simp [List.getD_eq_getElem?_getD, List.getElem?_append_left hj]
    have hs2 : WS.getD (f + w.length) 0 = 32 := by
      rw [hs w.length (by omega), e]
      simp [List.getD_eq_getElem?_getD]
    have hs3 : ∀ j : Nat, j < (flt l).length → WS.getD (f + w.length + 1 + j) 0 = (flt l).getD j 0 := fun j hj => by
      have := hs (w.length + 1 + j) (by omega)
      rw [show f + (w.length + 1 + j) = f + w.length + 1 + j by omega] at this
      rw [this, e]
      simp only [List.getD_eq_getElem?_getD]
      rw [List.getElem?_append_right (by omega), show w.length + 1 + j - w.length = j + 1 by omega]
      rfl
    have hrw := hr w (by simp)
    have hil := ih (f + w.length + 1) (i + 1) (by omega) (by simp at hi; omega) hs3 (fun w' hw' => hr w' (by simp [hw']))
    have nxt : c_492_116 (d + 6) p (N : Int) (wI ((i : Int) + 1)) (wI (((f + w.length : Nat) : Int) + 1)) ((f + w.length : Nat) : Int) h = some (.inl (some (0, kwf l N (fun j => u (p + j)) ((i : Int) + 1))), h) := by
      simp at hi
      rw [e_492_116 (d + 6) _ _ _ _ _ L.1.1, wI_id (x := (i : Int) + 1) (by omega) (by omega), wI_id (by omega) (by omega)]
      exact hil
    have w0 := kB_keyw d (p := p) (N := N) L.1 (f := f) (by omega) hs1 hrw (i : Int) w.length 0 (by omega)
    rw [show f + 0 = f from rfl] at w0
    rw [w0, e_492_8 (d + 6) _ _ _ _ _ L.1.1, kB_wlen (d + 4) L.1, ca_ret, if_pos (by omega), kB_wch (d + 1) L.1 (f + w.length) rfl (by omega) (by rw [hs2]; omega), ca_ret, hs2, if_pos rfl, wI_id (x := ((f + w.length : Nat) : Int) - (f : Int)) (by omega) (by omega)]
    have kk : kwf (w :: l) N (fun j => u (p + j)) (i : Int) = if eqW w N (fun j => u (p + j)) = true then (i : Int) else kwf l N (fun j => u (p + j)) ((i : Int) + 1) := rfl
    rw [kk]
    by_cases q : w.length = N
    · rw [if_pos (by omega), e_492_49 (d + 6) _ _ _ _ _ _ L.1.1]
      obtain ⟨y, e1, r⟩ := kB_keyc (d + 1) L (f := f) (w := w) hp q (by omega) hu (fun j hj => hs1 j (by omega)) (fun j hj => ⟨by have := hrw j (by omega); omega, (hrw j (by omega)).2.1⟩) ((f + w.length : Nat) : Int) (i : Int) N 0 1 (by omega) (Or.inl ⟨rfl, fun j hj => by omega⟩)
      have e1 : c_492_54 (d + 6) p (N : Int) (i : Int) (f : Int) ((f + w.length : Nat) : Int) 1 0 h = c_492_100 (d + 6) p (N : Int) (i : Int) ((f + w.length : Nat) : Int) y h := e1
      rw [e1, e_492_100 (d + 6) _ _ _ _ _ L.1.1]
      rcases r with ⟨rfl, r⟩ | ⟨rfl, r⟩
      · rw [if_neg (by decide), if_pos r]
      · rw [if_pos rfl, if_neg r]; exact nxt
    · have hne : ¬ eqW w N (fun j => u (p + j)) = true := fun z => q (eqS_iff.mp z).1
      rw [if_neg (by omega), e_492_49 (d + 6) _ _ _ _ _ _ L.1.1, e_492_54 (d + 6) _ _ _ _ _ _ _ L.1.1, if_pos (by omega), if_pos rfl, e_492_100 (d + 6) _ _ _ _ _ L.1.1, if_pos rfl, if_neg hne]
      exact nxt
theorem kB_key (L : LexB u n h) {x y : Int} {p N : Nat} (hx : x = (p : Int)) (hy : y = (N : Int)) (hp : p + N ≤ n) (hN : 0 < N) (hu : ∀ j : Nat, j < N → 1 ≤ u (p + j)) : fj_run (d + 7) 492 h [(4, 602), (0, x), (0, y)] = some (.inl (some (0, kwd N (fun j => u (p + j)))), h) := by
  subst hx hy
  rw [m_492 (d + 6) _ _ L.1.1]
  exact kB_keyl d L hp hN hu WL 0 0 (by rw [Nat.zero_add]; exact WS_len) (by decide) (fun j _ => by rw [Nat.zero_add]; rfl) (fun w hw j hj => by
    have a := List.all_eq_true.mp WL_ok w hw
    simp only [Bool.and_eq_true] at a
    have b := List.all_eq_true.mp a.1.1 (w.getD j 0) (by
      rw [List.getD_eq_getElem?_getD, List.getElem?_eq_getElem hj]
      exact List.getElem_mem hj)
    simp only [Bool.and_eq_true, decide_eq_true_eq] at b
    exact ⟨b.1.1, b.1.2, b.2⟩)
/-! letters -/
theorem lol {x y : Int} (h0 : 0 ≤ x) (h1 : x < 281474976710656) (h2 : 0 ≤ y) (h3 : y < 256) : lo_ (lsl_ x 8) y = 256 * x + y := by
  have ex : (fi_J6 x).toBitVec.toInt = x := fr_tJ ⟨by omega, by omega⟩
  have ey : (fi_J6 y).toBitVec.toInt = y := fr_tJ ⟨by omega, by omega⟩
  have nx : (fi_J6 x).toBitVec.toNat = x.toNat := by
    have c := BitVec.toInt_eq_toNat_cond (fi_J6 x).toBitVec
    have l := (fi_J6 x).toBitVec.isLt
    rw [ex] at c
    split at c <;> omega
  have ny : (fi_J6 y).toBitVec.toNat = y.toNat := by
    have c := BitVec.toInt_eq_toNat_cond (fi_J6 y).toBitVec
    have l := (fi_J6 y).toBitVec.isLt
    rw [ey] at c
    split at c <;> omega
  have e0 : fi_J6 (lsl_ x 8) = fi_J6 x <<< ((fi_I 8).toInt64 &&& 63) := by
    show Int64.ofInt ((fi_J6 x <<< ((fi_I 8).toInt64 &&& 63)).toInt) = _
    exact Int64.ofInt_toInt _
  have e8 : ((fi_I 8).toInt64 &&& 63 : Int64) = 8 := by decide
  unfold lo_
  rw [e0, e8]
  have eb : (fi_J6 x <<< (8 : Int64) ||| fi_J6 y).toInt = ((fi_J6 x).toBitVec <<< 8 ||| (fi_J6 y).toBitVec).toInt := rfl
  rw [eb]
  have en : ((fi_J6 x).toBitVec <<< 8 ||| (fi_J6 y).toBitVec).toNat = x.toNat * 256 + y.toNat := by
    rw [BitVec.toNat_or, BitVec.toNat_shiftLeft, nx, ny]
    have : x.toNat <<< 8 % 2 ^ 64 = x.toNat <<< 8 := Nat.mod_eq_of_lt (by rw [Nat.shiftLeft_eq]; omega)
    rw [this, ← Nat.shiftLeft_add_eq_or_of_lt (by omega), Nat.shiftLeft_eq]
  have ec := BitVec.toInt_eq_toNat_cond ((fi_J6 x).toBitVec <<< 8 ||| (fi_J6 y).toBitVec)
  rw [en, if_pos (by omega)] at ec
  rw [ec]
  omega
theorem pk_rg {c : Nat → Int} : ∀ k, (∀ i, i < k → 0 ≤ c i ∧ c i < 256) → 0 ≤ pk c k ∧ pk c k < 256 ^ k := by
  intro k
  induction k with
  | zero => intro _; exact ⟨Int.le_refl _, by show (0 : Int) < 10 ^ 0; decide⟩
  | succ k ih =>
    intro q
    obtain ⟨a, b⟩ := ih (fun i hi => q i (by omega))
    have c0 := q k (by omega)
    have e : pk c (k + 1) = 256 * pk c k + c k := rfl
    have e2 : (256 : Int) ^ (k + 1) = 256 ^ k * 256 := by rw [Int.pow_succ]
    rw [e, e2]
    omega
theorem kB_letl (L : LexB u n h) {p k : Nat} (hp : p + k ≤ n) (hk : k ≤ 6) (hu : ∀ j : Nat, j < k → 1 ≤ u (p + j)) : ∀ (m j : Nat), j + m = k → c_493_5 (d + 1) ((p + k : Nat) : Int) (pk (fun i => u (p + i)) j) ((p + j : Nat) : Int) h = some (.inl (some (1, pk (fun i => u (p + i)) k)), h) := by
  have hn := L.2.2.1
  intro m
  induction m with
  | zero =>
    intro j hj
    have : j = k := by omega
    subst this
    rw [e_493_5 (d + 1) _ _ _ L.1.1, if_neg (by omega)]
  | succ m ih =>
    intro j hj
    have h1 := hu j (by omega)
    have h2 := L.2.2.2.2.2 (p + j)
    obtain ⟨g1, g2⟩ := pk_rg (c := fun i => u (p + i)) j (fun i hi => ⟨by have := hu i (by omega); show 0 ≤ u (p + i); omega, by have := L.2.2.2.2.2 (p + i); show u (p + i) < 256; omega⟩)
    have g3 : (256 : Int) ^ j ≤ 256 ^ 5 := by
      have : (256 : Nat) ^ j ≤ 256 ^ 5 := Nat.pow_le_pow_right (by decide) (by omega)
      exact_mod_cast this
    have g4 : (256 : Int) ^ 5 = 1099511627776 := by decide
    rw [e_493_5 (d + 1) _ _ _ L.1.1, if_pos (by omega), kB_see d L, ca_ret, sv_u L h1, wI_id (x := u (p + j)) (by omega) (by omega), lol g1 (by omega) (by omega) (by omega), wI_id (by omega) (by omega)]
    have := ih (j + 1) (by omega)
    rw [← this]
    rfl
theorem kB_let (L : LexB u n h) {x y : Int} {p k : Nat} (hx : x = (p : Int)) (hy : y = ((p + k : Nat) : Int)) (hp : p + k ≤ n) (hk : k ≤ 6) (hu : ∀ j : Nat, j < k → 1 ≤ u (p + j)) : fj_run (d + 2) 493 h [(4, 602), (0, x), (0, y)] = some (.inl (some (1, pk (fun i => u (p + i)) k)), h) := by
  subst hx hy
  rw [m_493 (d + 1) _ _ L.1.1]
  exact kB_letl d L hp hk hu k 0 (by omega)
end KEY
end

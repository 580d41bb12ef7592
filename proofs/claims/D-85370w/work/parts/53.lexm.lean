section
/-! the model cuts one token -/
set_option maxRecDepth 100000
def LexB (u : Nat → Int) (n : Nat) (h : fi_H) : Prop := Hp h ∧ h 393 602 0 = (n : Int) ∧ n ≤ 4000 ∧ (∀ k, k < n → h 10 607 k = u k % 256) ∧ (∀ k, n ≤ k → u k = 0) ∧ ∀ k, -128 ≤ u k ∧ u k < 128
theorem LexB.st {u : Nat → Int} {n : Nat} {h h' : fi_H} {W : Nat → Nat → Nat → Prop} (q : LexB u n h) (H : Hp h') (F : Fr W h h') (hW : ¬ W 393 602 0 ∧ ∀ k, ¬ W 10 607 k) : LexB u n h' := by
  obtain ⟨q0, q1, q2, q3, q4⟩ := q
  have ht := q0.1.2.2.1
  exact ⟨H, by rw [F.2 393 602 0 (by omega) (by omega) hW.1]; exact q1, q2, fun k hk => by rw [F.2 10 607 k (by omega) (by omega) (hW.2 k)]; exact q3 k hk, q4⟩
def sv (u : Nat → Int) (n k : Nat) : Int := if k < n then u k % 256 else -1
/-- what the model writes as it cuts -/
abbrev wcut (f a _i : Nat) : Prop := a = 602 ∧ 394 ≤ f ∧ f ≤ 401
theorem wcut_U : ¬ wcut 393 602 0 ∧ ∀ k, ¬ wcut 10 607 k := ⟨by omega, fun k q => by omega⟩
/-- letters as a number -/
def pk (c : Nat → Int) : Nat → Int
  | 0 => 0
  | k + 1 => 256 * pk c k + c k
def eqW (w : List Int) (k : Nat) (c : Nat → Int) : Bool := eqS w.length (fun i => w.getD i 0) k c
def kwf : List (List Int) → Nat → (Nat → Int) → Int → Int
  | [], _, _, _ => -1
  | w :: l, k, c, i => if eqW w k c = true then i else kwf l k c (i + 1)
def kwd (k : Nat) (c : Nat → Int) : Int := kwf WL k c 0
def bsg (x : Int) : Int := if x = 108 then 256 else if x = 103 then 257 else x
/-- the token at hand -/
def TokB (u : Nat → Int) (p : Nat) (T : Nat × Nat × Int) (h : fi_H) : Prop :=
  h 396 602 0 = (p : Int) ∧ (T.1 ≠ 1 → h 397 602 0 = (T.2.1 : Int)) ∧ (T.1 = 0 → h 394 602 0 = 7) ∧ (T.1 = 1 → h 394 602 0 = 0) ∧
  (T.1 = 2 → h 395 602 0 = kwd (T.2.1 - p) (fun i => u (p + i)) ∧ h 394 602 0 = (if kwd (T.2.1 - p) (fun i => u (p + i)) = -1 then 1 else 2) ∧ h 400 602 0 = pk (fun i => u (p + i)) (if T.2.1 - p < 6 then T.2.1 - p else 6) ∧ h 401 602 0 = pk (fun i => u (p + 6 + i)) (T.2.1 - p - 6)) ∧
  (T.1 = 3 → h 394 602 0 = 3 ∧ h 399 602 0 = T.2.2) ∧ (T.1 = 4 → h 394 602 0 = 4 ∧ h 399 602 0 = T.2.2) ∧ (T.1 = 5 → h 394 602 0 = 5 ∧ h 399 602 0 = T.2.2) ∧ (T.1 = 6 → h 394 602 0 = 6 ∧ h 395 602 0 = bsg T.2.2)
section LEXM
variable (d : Nat) {u : Nat → Int} {n : Nat} {h : fi_H}
theorem sv_c (L : LexB u n h) (k : Nat) {c : Int} (h1 : 1 ≤ c) (h2 : c ≤ 127) : sv u n k = c ↔ u k = c := by
  have hr := L.2.2.2.2.2 k
  unfold sv
  by_cases q : k < n
  · rw [if_pos q]; omega
  · rw [if_neg q, L.2.2.2.2.1 k (by omega)]; omega
theorem sv_s (L : LexB u n h) (k : Nat) : xs (sv u n k) ↔ xs (u k) := by
  have hr := L.2.2.2.2.2 k
  unfold sv
  by_cases q : k < n
  · rw [if_pos q]; omega
  · rw [if_neg q, L.2.2.2.2.1 k (by omega)]; omega
theorem sv_d (L : LexB u n h) (k : Nat) : xd (sv u n k) ↔ xd (u k) := by
  have hr := L.2.2.2.2.2 k
  unfold sv
  by_cases q : k < n
  · rw [if_pos q]; omega
  · rw [if_neg q, L.2.2.2.2.1 k (by omega)]; omega
theorem sv_u (L : LexB u n h) {k : Nat} (hk : 1 ≤ u k) : sv u n k = u k := (sv_c L k hk (by have := L.2.2.2.2.2 k; omega)).mpr rfl
theorem kB_see (L : LexB u n h) (k : Nat) : fj_run (d + 1) 488 h [(4, 602), (0, (k : Int))] = some (.inl (some (0, sv u n k)), h) := by
  obtain ⟨q0, q1, q2, q3, q4, q5⟩ := L
  rw [m_488 d k q0.1, q1]
  unfold sv
  by_cases q : k < n
  · rw [if_pos (by omega), if_pos (by omega), if_pos q, Int.toNat_natCast, q3 k q]
  · rw [if_neg (by omega), if_neg q]
theorem kB_see' (L : LexB u n h) {x : Int} (k : Nat) (hx : x = (k : Int)) : fj_run (d + 1) 488 h [(4, 602), (0, x)] = some (.inl (some (0, sv u n k)), h) := by rw [hx]; exact kB_see d L k
theorem kB_small (H : Shp h) (c : Int) : fj_run (d + 1) 489 h [(0, c)] = some (.inl (some (0, if xs c then 1 else 0)), h) := by
  rw [m_489 d c H]
  by_cases q : c < 97
  · rw [if_pos q, if_neg (by omega)]
  · rw [if_neg q]
    by_cases q2 : 122 < c
    · rw [if_pos q2, if_neg (by omega)]
    · rw [if_neg q2, if_pos (by omega)]
theorem kB_digit (H : Shp h) (c : Int) : fj_run (d + 1) 491 h [(0, c)] = some (.inl (some (0, if xd c then 1 else 0)), h) := by
  rw [m_491 d c H]
  by_cases q : c < 48
  · rw [if_pos q, if_neg (by omega)]
  · rw [if_neg q]
    by_cases q2 : 57 < c
    · rw [if_pos q2, if_neg (by omega)]
    · rw [if_neg q2, if_pos (by omega)]
theorem kB_blanks (L : LexB u n h) : ∀ (m k : Nat), k + m = n → c_487_7 (d + 1) k 1 h = c_487_7 (d + 1) (bk u n false k) 0 h ∧ c_487_47 (d + 1) k 1 h = c_487_7 (d + 1) (bk u n true k) 0 h := by
  have hn := L.2.2.1
  have hsz := L.2.1
  intro m
  induction m with
  | zero =>
    intro k hk
    have hv : sv u n k = -1 := by unfold sv; rw [if_neg (by omega)]
    have b1 : bk u n false k = k := by rw [bk, if_neg (by omega)]
    have b2 : bk u n true k = k := by rw [bk, if_neg (by omega)]
    have a : c_487_7 (d + 1) k 1 h = c_487_7 (d + 1) k 0 h := by
      rw [e_487_7 (d + 1) k 1 L.1.1, if_neg (by decide), kB_see d L, ca_ret, hv, if_neg (by decide), kB_see d L, ca_ret, hv, if_neg (by decide), kB_see d L, ca_ret, hv, if_neg (by decide)]
    refine ⟨by rw [b1]; exact a, ?_⟩
    rw [e_487_47 (d + 1) k 1 L.1.1, hsz, if_neg (by omega), a, b2]
  | succ m ih =>
    intro k hk
    obtain ⟨a1, a2⟩ := ih (k + 1) (by omega)
    have hs : wI ((k : Int) + 1) = ((k + 1 : Nat) : Int) := by rw [wI_id (by omega) (by omega)]; omega
    have c10 := sv_c L k (c := 10) (by decide) (by decide)
    have c32 := sv_c L k (c := 32) (by decide) (by decide)
    have c39 := sv_c L k (c := 39) (by decide) (by decide)
    have g : c_487_31 (d + 1) k 1 h = c_487_7 (d + 1) (bk u n false (k + 1)) 0 h := by rw [e_487_31 (d + 1) k 1 L.1.1, hs]; exact a1
    have t : u k ≠ 10 → c_487_47 (d + 1) k 1 h = c_487_7 (d + 1) (bk u n true (k + 1)) 0 h := fun q => by
      rw [e_487_47 (d + 1) k 1 L.1.1, hsz, if_pos (by omega), kB_see d L, ca_ret, if_neg (fun z => q (c10.mp z)), hs]; exact a2
    have f : c_487_7 (d + 1) k 1 h = c_487_7 (d + 1) (bk u n false k) 0 h := by
      have hb : bk u n false k = if u k = 32 ∨ u k = 10 then bk u n false (k + 1) else if u k = 39 then bk u n true (k + 1) else k := by rw [bk, if_pos (by omega), if_neg (by simp)]
      rw [hb, e_487_7 (d + 1) k 1 L.1.1, if_neg (by decide), kB_see d L, ca_ret]
      by_cases p1 : u k = 32
      · rw [if_pos (c32.mpr p1), if_pos (Or.inl p1)]; exact g
      · rw [if_neg (fun z => p1 (c32.mp z)), kB_see d L, ca_ret]
        by_cases p2 : u k = 10
        · rw [if_pos (c10.mpr p2), if_pos (Or.inr p2)]; exact g
        · rw [if_neg (fun z => p2 (c10.mp z)), if_neg (by omega : ¬ (u k = 32 ∨ u k = 10)), kB_see d L, ca_ret]
          by_cases p3 : u k = 39
          · rw [if_pos (c39.mpr p3), if_pos p3]; exact t p2
          · rw [if_neg (fun z => p3 (c39.mp z)), if_neg p3]
    refine ⟨f, ?_⟩
    by_cases p2 : u k = 10
    · rw [e_487_47 (d + 1) k 1 L.1.1, hsz, if_pos (by omega), kB_see d L, ca_ret, if_pos (c10.mpr p2), f, bk, if_pos (by omega), if_neg (by simp), if_pos (Or.inr p2)]
      have : bk u n true k = bk u n false (k + 1) := by rw [bk, if_pos (by omega), if_pos rfl, if_pos p2]
      rw [this]
    · rw [t p2]
      have : bk u n true k = bk u n true (k + 1) := by rw [bk, if_pos (by omega), if_pos rfl, if_neg p2]
      rw [this]
theorem kB_digl (L : LexB u n h) {p : Nat} (hp : p ≤ n) : ∀ (m j : Nat), p + j + m = de u n p → c_495_2 (d + 1) p (j : Int) h = some (.inl (some (0, ((de u n p - p : Nat) : Int))), h) := by
  obtain ⟨d1, d2, d3, d4⟩ := de_ok (u := u) (n := n) (n - p) p (by omega)
  have hn := L.2.2.1
  intro m
  induction m with
  | zero =>
    intro j hj
    have hnd : ¬ xd (u (p + j)) := by
      rw [show p + j = de u n p by omega]
      by_cases z : de u n p < n
      · exact d4 z
      · rw [L.2.2.2.2.1 _ (by omega)]; omega
    rw [e_495_2 (d + 1) p _ L.1.1, wI_id (by omega) (by omega), kB_see' d L (p + j) (by omega), ca_ret, kB_digit d L.1.1, ca_ret, ite0, if_neg (fun z => hnd ((sv_d L _).mp z))]
    exact ret_eq (by omega)
  | succ m ih =>
    intro j hj
    have hd := d3 (p + j) (by omega) (by omega)
    rw [e_495_2 (d + 1) p _ L.1.1, wI_id (by omega) (by omega), kB_see' d L (p + j) (by omega), ca_ret, kB_digit d L.1.1, ca_ret, ite0, if_pos ((sv_d L _).mpr hd), wI_id (by omega) (by omega)]
    exact ih (j + 1) (by omega)
theorem kB_digits (L : LexB u n h) {x : Int} {p : Nat} (hx : x = (p : Int)) (hp : p ≤ n) : fj_run (d + 2) 495 h [(4, 602), (0, x)] = some (.inl (some (0, ((de u n p - p : Nat) : Int))), h) := by
  subst hx
  obtain ⟨d1, d2, d3, d4⟩ := de_ok (u := u) (n := n) (n - p) p (by omega)
  rw [m_495 (d + 1) p L.1.1]
  exact kB_digl d L hp (de u n p - p) 0 (by omega)
theorem kB_figl (L : LexB u n h) {p k : Nat} (hp : p ≤ n) (hk : k ≤ 9) (hd : ∀ j : Nat, j < k → xd (u (p + j))) : ∀ (m j : Nat), j + m = k → c_496_5 (d + 1) p (k : Int) (fg u p j) (j : Int) h = some (.inl (some (1, fg u p k)), h) := by
  have hn := L.2.2.1
  intro m
  induction m with
  | zero =>
    intro j hj
    have : j = k := by omega
    subst this
    rw [e_496_5 (d + 1) p _ _ _ L.1.1, if_neg (by omega)]
  | succ m ih =>
    intro j hj
    have h1 := hd j (by omega)
    obtain ⟨g1, g2⟩ := fg_rg (u := u) (p := p) j (fun i hi => hd i (by omega))
    have g3 : (10 : Int) ^ j ≤ 10 ^ 9 := by
      have : (10 : Nat) ^ j ≤ 10 ^ 9 := Nat.pow_le_pow_right (by decide) (by omega)
      exact_mod_cast this
    have g4 : (10 : Int) ^ 9 = 1000000000 := by decide
    rw [e_496_5 (d + 1) p _ _ _ L.1.1, if_pos (by omega), wI_id (x := (p : Int) + (j : Int)) (by omega) (by omega), kB_see' d L (p + j) (by omega), ca_ret, sv_u L (by omega), wI_id (x := u (p + j)) (by omega) (by omega), wJ_id (x := 10 * fg u p j) (by omega) (by omega), wJ_id (x := 10 * fg u p j + u (p + j)) (by omega) (by omega), wJ_id (by omega) (by omega), wI_id (by omega) (by omega)]
    have e : 10 * fg u p j + u (p + j) - 48 = fg u p (j + 1) := by show _ = 10 * fg u p j + (u (p + j) - 48); omega
    rw [e]
    exact ih (j + 1) (by omega)
theorem kB_fig (L : LexB u n h) {x y : Int} {p k : Nat} (hx : x = (p : Int)) (hy : y = (k : Int)) (hp : p ≤ n) (hk : k ≤ 9) (hd : ∀ j : Nat, j < k → xd (u (p + j))) : fj_run (d + 2) 496 h [(4, 602), (0, x), (0, y)] = some (.inl (some (1, fg u p k)), h) := by
  subst hx hy
  rw [m_496 (d + 1) _ _ L.1.1]
  exact kB_figl d L hp hk hd k 0 (by omega)
/-- what is written as a token is cut -/
theorem uM (H : Hp h) (f : Nat) (hf : f = 394 ∨ f = 395 ∨ f = 396 ∨ f = 397 ∨ f = 398) {v : Int} (hv : -2147483648 ≤ v ∧ v < 2147483648) : Hp (fi_upd h f 602 0 v) := by
  rcases hf with rfl | rfl | rfl | rfl | rfl <;> exact Hp.uI H 0 (by decide) (by decide) hv
theorem uML (H : Hp h) (f : Nat) (hf : f = 399 ∨ f = 400 ∨ f = 401) {v : Int} (hv : -9223372036854775808 ≤ v ∧ v < 9223372036854775808) : Hp (fi_upd h f 602 0 v) := by
  rcases hf with rfl | rfl | rfl <;> exact Hp.uJ H 0 (by decide) (by decide) hv
theorem uF {h0 : fi_H} (F : Fr wcut h0 h) (f : Nat) (hf : 394 ≤ f ∧ f ≤ 401) (v : Int) : Fr wcut h0 (fi_upd h f 602 0 v) := Fr.u 0 _ F (by decide) ⟨rfl, hf⟩
/-- what stands after a number is cut -/
def CutE (u : Nat → Int) (n p : Nat) (h : fi_H) (r : fk_R) : Prop := ∃ h', r = some (.inl none, h') ∧ Hp h' ∧ Fr wcut h h' ∧ h' 398 602 0 = h 398 602 0 ∧ TokB u p (tok u n p) h'
theorem kB_num107 (L : LexB u n h) {p : Nat} (hp : p < n) (hd : xd (u p)) (hat : h 396 602 0 = (p : Int)) (hend : h 397 602 0 = ((de u n p : Nat) : Int)) (hs : h 394 602 0 = (if 9 < de u n p - p then 0 else 3)) (hw : ¬ 9 < de u n p - p → h 399 602 0 = fg u p (de u n p - p)) {s : Int}
    (hq : (s = 1 ∧ ¬ 9 < de u n p - p ∧ de u n p - p = 4 ∧ u (de u n p) = 45 ∧ (xd (u (de u n p + 1)) ∧ xd (u (de u n p + 2))) ∧ u (de u n p + 3) = 45 ∧ xd (u (de u n p + 4)) ∧ xd (u (de u n p + 5))) ∨
      (s = 0 ∧ ¬ (de u n p - p = 4 ∧ u (de u n p) = 45 ∧ (xd (u (de u n p + 1)) ∧ xd (u (de u n p + 2))) ∧ u (de u n p + 3) = 45 ∧ xd (u (de u n p + 4)) ∧ xd (u (de u n p + 5))))) :
    CutE u n p h (c_494_107 (d + 3) p ((de u n p - p : Nat) : Int) s h) := by
  obtain ⟨d1, d2, d3, d4⟩ := de_ok (u := u) (n := n) (n - p) p (by omega)
  have hn := L.2.2.1
  have hx : ¬ xs (u p) := by omega
  have e0 : ¬ 9 < de u n p - p → tok u n p = if u (de u n p) = 46 ∧ xd (u (de u n p + 1)) ∧ xd (u (de u n p + 2)) then (4, de u n p + 3, 100 * fg u p (de u n p - p) + tw u (de u n p + 1))
     else if de u n p - p = 4 ∧ u (de u n p) = 45 ∧ (xd (u (de u n p + 1)) ∧ xd (u (de u n p + 2))) ∧ u (de u n p + 3) = 45 ∧ xd (u (de u n p + 4)) ∧ xd (u (de u n p + 5)) then (5, de u n p + 6, 10000 * fg u p 4 + 100 * tw u (de u n p + 1) + tw u (de u n p + 4)) else (3, de u n p, fg u p (de u n p - p)) := fun q => by
    unfold tok
    rw [if_neg (by omega), if_neg hx, if_pos hd, if_neg q]
  have nz : ∀ k, u k ≠ 0 → k < n := fun k q => by
    by_cases z : k < n
    · exact z
    · exact absurd (L.2.2.2.2.1 k (by omega)) q
  unfold CutE
  rw [e_494_107 (d + 3) p _ s L.1.1]
  rcases hq with ⟨rfl, q9, q⟩ | ⟨rfl, q⟩
  · -- a date
    have e := e0 q9
    rw [if_neg (by omega), if_pos q] at e
    obtain ⟨q1, q2, q3, q4, q5⟩ := q
    rw [if_neg (by decide)]
    have H1 := uM L.1 394 (by omega) (v := 5) (by omega)
    have F1 := uF (h0 := h) (Fr.rf _ h) 394 (by omega) 5
    have L1 := L.st H1 F1 wcut_U
    have z1 : ∀ f, f ≠ 394 → fi_upd h 394 602 0 5 f 602 0 = h f 602 0 := fun f q => fi_upd_ne _ _ _ _ _ (by omega)
    have s1 : fi_upd h 394 602 0 5 394 602 0 = 5 := fi_upd_same _ _ _ _ _
    repeat rewrite [lt_eq]
    generalize hX : fi_upd h 394 602 0 5 = h1 at *
    have n5 := nz (de u n p + 5) (by omega)
    have hde : de u n p = p + 4 := by omega
    rw [hde] at q2 q3 q4 q5 e
    have t1 : 0 ≤ tw u (p + 5) ∧ tw u (p + 5) ≤ 99 := tw_rg q3.1 q3.2
    have t2 : 0 ≤ tw u (p + 8) ∧ tw u (p + 8) ≤ 99 := tw_rg q5.1 q5.2
    obtain ⟨f1, f2⟩ := fg_rg (u := u) (p := p) 4 (fun j hj => d3 (p + j) (by omega) (by omega))
    have f3 : (10 : Int) ^ 4 = 10000 := by decide
    have g1 : fg u (p + 5) 2 = tw u (p + 5) := by simp [fg, tw]
    have g2 : fg u (p + 8) 2 = tw u (p + 8) := by simp [fg, tw]
    rw [wI_id (x := (p : Int) + 5) (by omega) (by omega), kB_fig (d + 1) L1 (p := p + 5) (k := 2) (by omega) (by omega) (by omega) (by omega) (fun j hj => by
      have : j = 0 ∨ j = 1 := by omega
      rcases this with rfl | rfl
      · exact q3.1
      · exact q3.2), ca_ret, wI_id (x := (p : Int) + 8) (by omega) (by omega), kB_fig (d + 1) L1 (p := p + 8) (k := 2) (by omega) (by omega) (by omega) (by omega) (fun j hj => by
      have : j = 0 ∨ j = 1 := by omega
      rcases this with rfl | rfl
      · exact q5.1
      · exact q5.2), ca_ret, g1, g2, z1 399 (by omega), hw q9, show de u n p - p = 4 by omega, wJ_id (x := 10000 * fg u p 4) (by omega) (by omega), wJ_id (x := 100 * tw u (p + 5)) (by omega) (by omega), wJ_id (x := 10000 * fg u p 4 + 100 * tw u (p + 5)) (by omega) (by omega), wJ_id (by omega) (by omega), wI_id (x := (p : Int) + 10) (by omega) (by omega)]
    have H2 := uML H1 399 (by omega) (v := 10000 * fg u p 4 + 100 * tw u (p + 5) + tw u (p + 8)) (by omega)
    have F2 := uF F1 399 (by omega) (10000 * fg u p 4 + 100 * tw u (p + 5) + tw u (p + 8))
    refine ⟨_, rfl, uM H2 397 (by omega) (by omega), uF F2 397 (by omega) _, ?_, ?_⟩
    · rw [fi_upd_ne _ _ _ _ _ (by omega), fi_upd_ne _ _ _ _ _ (by omega)]; exact z1 398 (by omega)
    · rw [e]
      refine ⟨?_, fun _ => ?_, fun z => by simp at z, fun z => by simp at z, fun z => by simp at z, fun z => by simp at z, fun z => by simp at z, fun _ => ⟨?_, ?_⟩, fun z => by simp at z⟩
      · rw [fi_upd_ne _ _ _ _ _ (by omega), fi_upd_ne _ _ _ _ _ (by omega), z1 396 (by omega)]; exact hat
      · rw [fi_upd_same]; show (p : Int) + 10 = ((p + 4 + 6 : Nat) : Int); omega
      · rw [fi_upd_ne _ _ _ _ _ (by omega), fi_upd_ne _ _ _ _ _ (by omega)]; exact s1
      · rw [fi_upd_ne _ _ _ _ _ (by omega), fi_upd_same]
  · rw [if_pos rfl]
    by_cases q9 : 9 < de u n p - p
    · have e : tok u n p = (1, de u n p, 0) := by unfold tok; rw [if_neg (by omega), if_neg hx, if_pos hd, if_pos q9]
      have fin : TokB u p (tok u n p) h := by
        rw [e]
        exact ⟨hat, fun z => absurd rfl z, fun z => by simp at z, fun _ => by rw [hs, if_pos q9], fun z => by simp at z, fun z => by simp at z, fun z => by simp at z, fun z => by simp at z, fun z => by simp at z⟩
      rw [if_neg (by omega)]
      exact ⟨h, rfl, L.1, Fr.rf _ _, rfl, fin⟩
    · have e := e0 q9
      rw [if_neg q] at e
      rw [if_pos (by omega), wI_id (x := (p : Int) + ((de u n p - p : Nat) : Int)) (by omega) (by omega), kB_see' (d + 2) L (de u n p) (by omega), ca_ret]
      have plain : Unit → ¬ (u (de u n p) = 46 ∧ xd (u (de u n p + 1)) ∧ xd (u (de u n p + 2))) → ∃ h', (some (.inl none, h) : fk_R) = some (.inl none, h') ∧ Hp h' ∧ Fr wcut h h' ∧ h' 398 602 0 = h 398 602 0 ∧ TokB u p (tok u n p) h' := fun _ z0 => by
        rw [if_neg z0] at e
        refine ⟨h, rfl, L.1, Fr.rf _ _, rfl, ?_⟩
        rw [e]
        exact ⟨hat, fun _ => hend, fun z => by simp at z, fun z => by simp at z, fun z => by simp at z, fun _ => ⟨by rw [hs, if_neg q9], hw q9⟩, fun z => by simp at z, fun z => by simp at z, fun z => by simp at z⟩
      by_cases k1 : u (de u n p) = 46
      · rw [if_pos ((sv_c L _ (by decide) (by decide)).mpr k1), wI_id (x := (p : Int) + ((de u n p - p : Nat) : Int) + 1) (by omega) (by omega)]
        have n0 := nz (de u n p) (by omega)
        rw [kB_digits (d + 1) L (p := de u n p + 1) (by omega) (by omega), ca_ret]
        obtain ⟨c1, c2, c3, c4⟩ := de_ok (u := u) (n := n) (n - (de u n p + 1)) (de u n p + 1) (by omega)
        by_cases k2 : xd (u (de u n p + 1)) ∧ xd (u (de u n p + 1 + 1))
        · have n2 := nz (de u n p + 1 + 1) (by omega)
          have hlen : 1 < de u n (de u n p + 1) - (de u n p + 1) := by
            by_cases z : de u n (de u n p + 1) = de u n p + 1
            · exact absurd (by rw [z]; exact k2.1) (c4 (by omega))
            · by_cases z2 : de u n (de u n p + 1) = de u n p + 1 + 1
              · exact absurd (by rw [z2]; exact k2.2) (c4 (by omega))
              · omega
          rw [if_pos (by omega)]
          rw [if_pos ⟨k1, k2⟩] at e
          have H1 := uM L.1 394 (by omega) (v := 4) (by omega)
          have F1 := uF (h0 := h) (Fr.rf _ h) 394 (by omega) 4
          have L1 := L.st H1 F1 wcut_U
          have z1 : ∀ f, f ≠ 394 → fi_upd h 394 602 0 4 f 602 0 = h f 602 0 := fun f q => fi_upd_ne _ _ _ _ _ (by omega)
          have s1 : fi_upd h 394 602 0 4 394 602 0 = 4 := fi_upd_same _ _ _ _ _
          repeat rewrite [lt_eq]
          generalize hX : fi_upd h 394 602 0 4 = h1 at *
          have t1 := tw_rg k2.1 k2.2
          obtain ⟨f1, f2⟩ := fg_rg (u := u) (p := p) (de u n p - p) (fun j hj => d3 (p + j) (by omega) (by omega))
          have f3 : (10 : Int) ^ (de u n p - p) ≤ 10 ^ 9 := by
            have : (10 : Nat) ^ (de u n p - p) ≤ 10 ^ 9 := Nat.pow_le_pow_right (by decide) (by omega)
            exact_mod_cast this
          have f4 : (10 : Int) ^ 9 = 1000000000 := by decide
          have g1 : fg u (de u n p + 1) 2 = tw u (de u n p + 1) := by simp [fg, tw]
          rw [kB_fig (d + 1) L1 (p := de u n p + 1) (k := 2) (by omega) (by omega) (by omega) (by omega) (fun j hj => by
            have : j = 0 ∨ j = 1 := by omega
            rcases this with rfl | rfl
            · exact k2.1
            · exact k2.2), ca_ret, g1, z1 399 (by omega), hw q9, wJ_id (x := 100 * fg u p (de u n p - p)) (by omega) (by omega), wJ_id (by omega) (by omega), wI_id (x := (p : Int) + ((de u n p - p : Nat) : Int) + 3) (by omega) (by omega)]
          have H2 := uML H1 399 (by omega) (v := 100 * fg u p (de u n p - p) + tw u (de u n p + 1)) (by omega)
          have F2 := uF F1 399 (by omega) (100 * fg u p (de u n p - p) + tw u (de u n p + 1))
          refine ⟨_, rfl, uM H2 397 (by omega) (by omega), uF F2 397 (by omega) _, ?_, ?_⟩
          · rw [fi_upd_ne _ _ _ _ _ (by omega), fi_upd_ne _ _ _ _ _ (by omega)]; exact z1 398 (by omega)
          · rw [e]
            refine ⟨?_, fun _ => ?_, fun z => by simp at z, fun z => by simp at z, fun z => by simp at z, fun z => by simp at z, fun _ => ⟨?_, ?_⟩, fun z => by simp at z, fun z => by simp at z⟩
            · rw [fi_upd_ne _ _ _ _ _ (by omega), fi_upd_ne _ _ _ _ _ (by omega), z1 396 (by omega)]; exact hat
            · rw [fi_upd_same]; show (p : Int) + ((de u n p - p : Nat) : Int) + 3 = ((de u n p + 3 : Nat) : Int); omega
            · rw [fi_upd_ne _ _ _ _ _ (by omega), fi_upd_ne _ _ _ _ _ (by omega)]; exact s1
            · rw [fi_upd_ne _ _ _ _ _ (by omega), fi_upd_same]
        · have hlen : ¬ 1 < de u n (de u n p + 1) - (de u n p + 1) := fun z => k2 ⟨c3 _ (by omega) (by omega), c3 _ (by omega) (by omega)⟩
          rw [if_neg (by omega)]
          exact plain () (fun z => k2 z.2)
      · rw [if_neg (fun z => k1 ((sv_c L _ (by decide) (by decide)).mp z))]
        exact plain () (fun z => k1 z.1)
end LEXM
end

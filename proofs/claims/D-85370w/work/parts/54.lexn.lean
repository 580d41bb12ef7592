section
/-! the model cuts one token: numbers, signs, words, all -/
set_option maxRecDepth 100000
theorem dv_s (m : Nat) (k : Nat → fk_R) : dv_ (some m) k = k m := rfl
section LEXN
variable (d : Nat) {u : Nat → Int} {n : Nat} {h : fi_H}
theorem kB_num46 (L : LexB u n h) {p : Nat} (hp : p < n) (hd : xd (u p)) (hat : h 396 602 0 = (p : Int)) (hend : h 397 602 0 = ((de u n p : Nat) : Int)) (hw : ¬ 9 < de u n p - p → h 399 602 0 = fg u p (de u n p - p)) {s : Int} (hs : s = (if 9 < de u n p - p then 0 else 3)) :
    CutE u n p h (c_494_46 (d + 3) p ((de u n p - p : Nat) : Int) 602 s h) := by
  obtain ⟨d1, d2, d3, d4⟩ := de_ok (u := u) (n := n) (n - p) p (by omega)
  have hn := L.2.2.1
  have hs2 : s = 0 ∨ s = 3 := by rw [hs]; split <;> omega
  have H1 := uM L.1 394 (by omega) (v := s) (by omega)
  have F1 := uF (h0 := h) (Fr.rf _ h) 394 (by omega) s
  have L1 := L.st H1 F1 wcut_U
  have z1 : ∀ f, f ≠ 394 → fi_upd h 394 602 0 s f 602 0 = h f 602 0 := fun f q => fi_upd_ne _ _ _ _ _ (by omega)
  have s1 : fi_upd h 394 602 0 s 394 602 0 = s := fi_upd_same _ _ _ _ _
  have tn : ((602 : Int)).toNat = 602 := rfl
  have e46 : c_494_46 (d + 3) p ((de u n p - p : Nat) : Int) 602 s h = _ := e_494_46 (d + 3) p ((de u n p - p : Nat) : Int) 602 s L.1.1
  rw [tn, s0_602 L.1.1, if_pos rfl, if_pos (by decide)] at e46
  repeat rewrite [lt_eq] at e46
  rw [e46]
  clear e46
  generalize hX : fi_upd h 394 602 0 s = h1 at *
  have fin : ∀ x : Int, ((x = 1 ∧ ¬ 9 < de u n p - p ∧ de u n p - p = 4 ∧ u (de u n p) = 45 ∧ (xd (u (de u n p + 1)) ∧ xd (u (de u n p + 2))) ∧ u (de u n p + 3) = 45 ∧ xd (u (de u n p + 4)) ∧ xd (u (de u n p + 5))) ∨
      (x = 0 ∧ ¬ (de u n p - p = 4 ∧ u (de u n p) = 45 ∧ (xd (u (de u n p + 1)) ∧ xd (u (de u n p + 2))) ∧ u (de u n p + 3) = 45 ∧ xd (u (de u n p + 4)) ∧ xd (u (de u n p + 5))))) → CutE u n p h (c_494_107 (d + 3) p ((de u n p - p : Nat) : Int) x h1) := by
    intro x hx
    obtain ⟨h', r1, r2, r3, r4, r5⟩ := kB_num107 d L1 hp hd (by rw [z1 396 (by omega)]; exact hat) (by rw [z1 397 (by omega)]; exact hend) (by rw [s1]; exact hs) (fun q => by rw [z1 399 (by omega)]; exact hw q) hx
    exact ⟨h', r1, r2, F1.tr r3, by rw [r4, z1 398 (by omega)], r5⟩
  have no : ¬ (de u n p - p = 4 ∧ u (de u n p) = 45 ∧ (xd (u (de u n p + 1)) ∧ xd (u (de u n p + 2))) ∧ u (de u n p + 3) = 45 ∧ xd (u (de u n p + 4)) ∧ xd (u (de u n p + 5))) → CutE u n p h (c_494_106 (d + 3) p ((de u n p - p : Nat) : Int) h1) := fun q => by
    rw [e_494_106 (d + 3) _ _ H1.1]
    exact fin 0 (Or.inr ⟨rfl, q⟩)
  have nz : ∀ k, u k ≠ 0 → k < n := fun k q => by
    by_cases z : k < n
    · exact z
    · exact absurd (L.2.2.2.2.1 k (by omega)) q
  by_cases q1 : de u n p - p = 4
  · have hde : de u n p = p + 4 := by omega
    rw [if_pos (by omega), wI_id (x := (p : Int) + 4) (by omega) (by omega), kB_see' (d + 2) L1 (de u n p) (by omega), ca_ret]
    by_cases q2 : u (de u n p) = 45
    · have n0 := nz _ (by rw [q2]; decide)
      rw [if_pos ((sv_c L1 _ (by decide) (by decide)).mpr q2), wI_id (x := (p : Int) + 5) (by omega) (by omega), kB_digits (d + 1) L1 (p := de u n p + 1) (by omega) (by omega), ca_ret]
      obtain ⟨c1, c2, c3, c4⟩ := de_ok (u := u) (n := n) (n - (de u n p + 1)) (de u n p + 1) (by omega)
      by_cases q3 : de u n (de u n p + 1) - (de u n p + 1) = 2
      · have x1 := c3 (de u n p + 1) (by omega) (by omega)
        have x2 := c3 (de u n p + 2) (by omega) (by omega)
        rw [if_pos (by omega), wI_id (x := (p : Int) + 7) (by omega) (by omega), kB_see' (d + 2) L1 (de u n p + 3) (by omega), ca_ret]
        by_cases q4 : u (de u n p + 3) = 45
        · have n3 := nz (de u n p + 3) (by rw [q4]; decide)
          rw [if_pos ((sv_c L1 _ (by decide) (by decide)).mpr q4), wI_id (x := (p : Int) + 8) (by omega) (by omega), kB_digits (d + 1) L1 (p := de u n p + 4) (by omega) (by omega), ca_ret]
          obtain ⟨g1, g2, g3, g4⟩ := de_ok (u := u) (n := n) (n - (de u n p + 4)) (de u n p + 4) (by omega)
          by_cases q5 : xd (u (de u n p + 4)) ∧ xd (u (de u n p + 5))
          · have n5 := nz (de u n p + 5) (by omega)
            have hlen : 1 < de u n (de u n p + 4) - (de u n p + 4) := by
              by_cases z : de u n (de u n p + 4) = de u n p + 4
              · exact absurd (by rw [z]; exact q5.1) (g4 (by omega))
              · by_cases z2 : de u n (de u n p + 4) = de u n p + 5
                · exact absurd (by rw [z2]; exact q5.2) (g4 (by omega))
                · omega
            rw [if_pos (by omega)]
            exact fin 1 (Or.inl ⟨rfl, by omega, q1, q2, ⟨x1, x2⟩, q4, q5⟩)
          · have hlen : ¬ 1 < de u n (de u n p + 4) - (de u n p + 4) := fun z => q5 ⟨g3 _ (by omega) (by omega), g3 _ (by omega) (by omega)⟩
            rw [if_neg (by omega)]
            exact no (fun z => q5 z.2.2.2.2)
        · rw [if_neg (fun z => q4 ((sv_c L1 _ (by decide) (by decide)).mp z))]
          exact no (fun z => q4 z.2.2.2.1)
      · rw [if_neg (by omega)]
        refine no (fun z => q3 ?_)
        have n2 := nz (de u n p + 2) (by omega)
        have n3 := nz (de u n p + 3) (by omega)
        by_cases y1 : de u n (de u n p + 1) = de u n p + 1
        · exact absurd (by rw [y1]; exact z.2.2.1.1) (c4 (by omega))
        · by_cases y2 : de u n (de u n p + 1) = de u n p + 2
          · exact absurd (by rw [y2]; exact z.2.2.1.2) (c4 (by omega))
          · by_cases y3 : de u n (de u n p + 1) = de u n p + 3
            · omega
            · have := c3 (de u n p + 3) (by omega) (by omega)
              rw [z.2.2.2.1] at this
              omega
    · rw [if_neg (fun z => q2 ((sv_c L1 _ (by decide) (by decide)).mp z))]
      exact no (fun z => q2 z.2.1)
  · rw [if_neg (by omega)]
    exact no (fun z => q1 z.1)
theorem kB_number (L : LexB u n h) {p : Nat} (hp : p < n) (hx : ¬ xs (u p)) (hd : xd (u p)) (hat : h 396 602 0 = (p : Int)) : CutE u n p h (fj_run (d + 4) 494 h [(4, 602), (0, (p : Int))]) := by
  obtain ⟨d1, d2, d3, d4⟩ := de_ok (u := u) (n := n) (n - p) p (by omega)
  have hn := L.2.2.1
  have tn : ((602 : Int)).toNat = 602 := rfl
  rw [m_494 (d + 3) p L.1.1, kB_digits (d + 1) L (p := p) rfl (by omega), ca_ret]
  have main : ∀ k : Nat, k = (if de u n p - p < 10 then de u n p - p else 9) → CutE u n p h (c_494_21 (d + 3) p ((de u n p - p : Nat) : Int) 602 602 p (k : Int) h) := by
    intro k hk
    have hk9 : k ≤ 9 := by rw [hk]; split <;> omega
    have hkd : k ≤ de u n p - p := by rw [hk]; split <;> omega
    obtain ⟨f1, f2⟩ := fg_rg (u := u) (p := p) k (fun j hj => d3 (p + j) (by omega) (by omega))
    have f3 : (10 : Int) ^ k ≤ 10 ^ 9 := by
      have : (10 : Nat) ^ k ≤ 10 ^ 9 := Nat.pow_le_pow_right (by decide) (by omega)
      exact_mod_cast this
    have f4 : (10 : Int) ^ 9 = 1000000000 := by decide
    have H1 := uML L.1 399 (by omega) (v := fg u p k) (by omega)
    have F1 := uF (h0 := h) (Fr.rf _ h) 399 (by omega) (fg u p k)
    have H2 := uM H1 397 (by omega) (v := ((de u n p : Nat) : Int)) (by omega)
    have F2 := uF F1 397 (by omega) ((de u n p : Nat) : Int)
    have L2 := L.st H2 F2 wcut_U
    have go : ∀ s, s = (if 9 < de u n p - p then (0 : Int) else 3) → CutE u n p h (c_494_46 (d + 3) p ((de u n p - p : Nat) : Int) 602 s (fi_upd (fi_upd h 399 602 0 (fg u p k)) 397 602 0 ((de u n p : Nat) : Int))) := by
      intro s hs
      obtain ⟨h', r1, r2, r3, r4, r5⟩ := kB_num46 d L2 hp hd (by rw [fi_upd_ne _ _ _ _ _ (by omega), fi_upd_ne _ _ _ _ _ (by omega)]; exact hat) (fi_upd_same _ _ _ _ _) (fun q => by
        rw [fi_upd_ne _ _ _ _ _ (by omega), fi_upd_same, hk, if_pos (by omega)]) hs
      exact ⟨h', r1, r2, F2.tr r3, by rw [r4, fi_upd_ne _ _ _ _ _ (by omega), fi_upd_ne _ _ _ _ _ (by omega)], r5⟩
    rw [e_494_21 (d + 3) _ _ _ _ _ _ L.1.1, tn, s0_602 L.1.1, show fi_vt 347 129 = some 496 from rfl, dv_s, kB_fig (d + 1) L (p := p) (k := k) rfl rfl (by omega) hk9 (fun j hj => d3 (p + j) (by omega) (by omega)), ca_ret, s0_602 L.1.1, if_pos rfl, if_pos (by decide), wI_id (x := (p : Int) + ((de u n p - p : Nat) : Int)) (by omega) (by omega), show (p : Int) + ((de u n p - p : Nat) : Int) = ((de u n p : Nat) : Int) by omega]
    repeat rewrite [lt_eq]
    by_cases q : 9 < de u n p - p
    · rw [if_pos (by omega)]; exact go 0 (by rw [if_pos q])
    · rw [if_neg (by omega)]; exact go 3 (by rw [if_neg q])
  by_cases q : ((de u n p - p : Nat) : Int) < 10
  · rw [if_pos q]; exact main (de u n p - p) (by rw [if_pos (by omega)])
  · rw [if_neg q]; exact main 9 (by rw [if_neg (by omega)])
theorem kB_sign (L : LexB u n h) {p : Nat} (hp : p < n) (hx : ¬ xs (u p)) (hd : ¬ xd (u p)) (hat : h 396 602 0 = (p : Int)) : CutE u n p h (fj_run (d + 3) 497 h [(4, 602), (0, (p : Int)), (0, sv u n p)]) := by
  have hn := L.2.2.1
  have hr := L.2.2.2.2.2 p
  have tn : ((602 : Int)).toNat = 602 := rfl
  have hsv : sv u n p = u p % 256 := by unfold sv; rw [if_pos hp]
  have cc : ∀ c : Int, 1 ≤ c → c ≤ 127 → (sv u n p = c ↔ u p = c) := fun c a b => sv_c L p a b
  -- the sort is written, then the sign
  have main : ∀ s : Int, (s = 6 ∧ (sg (u p) ∨ u p = 60 ∨ u p = 62)) ∨ (s = 0 ∧ ¬ (sg (u p) ∨ u p = 60 ∨ u p = 62)) → CutE u n p h (c_497_103 (d + 2) p (sv u n p) 602 s h) := by
    intro s hs
    have hs2 : s = 6 ∨ s = 0 := by omega
    have H1 := uM L.1 394 (by omega) (v := s) (by omega)
    have F1 := uF (h0 := h) (Fr.rf _ h) 394 (by omega) s
    have H2 := uM H1 395 (by omega) (v := sv u n p) (by omega)
    have F2 := uF F1 395 (by omega) (sv u n p)
    have H3 := uM H2 397 (by omega) (v := ((p + 1 : Nat) : Int)) (by omega)
    have F3 := uF F2 397 (by omega) ((p + 1 : Nat) : Int)
    have L3 := L.st H3 F3 wcut_U
    have z3 : ∀ f, f ≠ 394 → f ≠ 395 → f ≠ 397 → fi_upd (fi_upd (fi_upd h 394 602 0 s) 395 602 0 (sv u n p)) 397 602 0 ((p + 1 : Nat) : Int) f 602 0 = h f 602 0 := fun f q1 q2 q3 => by rw [fi_upd_ne _ _ _ _ _ (by omega), fi_upd_ne _ _ _ _ _ (by omega), fi_upd_ne _ _ _ _ _ (by omega)]
    have v394 : fi_upd (fi_upd (fi_upd h 394 602 0 s) 395 602 0 (sv u n p)) 397 602 0 ((p + 1 : Nat) : Int) 394 602 0 = s := by rw [fi_upd_ne _ _ _ _ _ (by omega), fi_upd_ne _ _ _ _ _ (by omega), fi_upd_same]
    have v395 : fi_upd (fi_upd (fi_upd h 394 602 0 s) 395 602 0 (sv u n p)) 397 602 0 ((p + 1 : Nat) : Int) 395 602 0 = sv u n p := by rw [fi_upd_ne _ _ _ _ _ (by omega), fi_upd_same]
    have v397 : fi_upd (fi_upd (fi_upd h 394 602 0 s) 395 602 0 (sv u n p)) 397 602 0 ((p + 1 : Nat) : Int) 397 602 0 = ((p + 1 : Nat) : Int) := fi_upd_same _ _ _ _ _
    have e103 : c_497_103 (d + 2) p (sv u n p) 602 s h = _ := e_497_103 (d + 2) p (sv u n p) 602 s L.1.1
    rw [tn, s0_602 L.1.1, if_pos rfl, if_pos (by decide), wI_id (x := (p : Int) + 1) (by omega) (by omega)] at e103
    repeat rewrite [lt_eq] at e103
    rw [e103]
    clear e103
    rw [show (p : Int) + 1 = ((p + 1 : Nat) : Int) by omega]
    generalize hX : fi_upd (fi_upd (fi_upd h 394 602 0 s) 395 602 0 (sv u n p)) 397 602 0 ((p + 1 : Nat) : Int) = h3 at *
    have tk : ¬ (u p = 60 ∨ u p = 62) → tok u n p = if sg (u p) then (6, p + 1, u p) else (1, p + 1, 0) := fun q => by unfold tok; rw [if_neg (by omega), if_neg hx, if_neg hd, if_neg q]
    have six : tok u n p = (6, p + 1, u p) → s = 6 → 1 ≤ u p → CutE u n p h (some (.inl none, h3)) := fun e q q0 => by
      refine ⟨h3, rfl, H3, F3, z3 398 (by omega) (by omega) (by omega), ?_⟩
      rw [e]
      refine ⟨by rw [z3 396 (by omega) (by omega) (by omega)]; exact hat, fun _ => v397, fun z => by simp at z, fun z => by simp at z, fun z => by simp at z, fun z => by simp at z, fun z => by simp at z, fun z => by simp at z, fun _ => ⟨by rw [v394, q], ?_⟩⟩
      rw [v395, sv_u L q0]
      show u p = bsg (u p)
      unfold bsg
      rw [if_neg (by omega), if_neg (by omega)]
    have two : (u p = 60 ∨ u p = 62) → CutE u n p h (c_497_130 (d + 2) p (sv u n p) h3) := fun q => by
      have e : tok u n p = if u (p + 1) = 61 then (6, p + 2, if u p = 60 then 108 else 103) else (6, p + 1, u p) := by unfold tok; rw [if_neg (by omega), if_neg hx, if_neg hd, if_pos q]
      rw [e_497_130 (d + 2) _ _ H3.1, wI_id (x := (p : Int) + 1) (by omega) (by omega), kB_see' (d + 1) L3 (p + 1) (by omega), ca_ret]
      by_cases q2 : u (p + 1) = 61
      · rw [if_pos q2] at e
        rw [if_pos ((sv_c L3 _ (by decide) (by decide)).mpr q2)]
        have fin : ∀ x : Int, x = (if u p = 60 then 256 else 257) → CutE u n p h (c_497_158 (d + 2) p 602 x h3) := by
          intro x hx2
          have hx3 : x = 256 ∨ x = 257 := by rw [hx2]; split <;> omega
          have H4 := uM H3 395 (by omega) (v := x) (by omega)
          have F4 := uF F3 395 (by omega) x
          have H5 := uM H4 397 (by omega) (v := ((p + 2 : Nat) : Int)) (by omega)
          have F5 := uF F4 397 (by omega) ((p + 2 : Nat) : Int)
          rw [e_497_158 (d + 2) _ _ _ H3.1, tn, s0_602 H3.1, if_pos rfl, if_pos (by decide), wI_id (x := (p : Int) + 2) (by omega) (by omega), show (p : Int) + 2 = ((p + 2 : Nat) : Int) by omega]
          repeat rewrite [lt_eq]
          refine ⟨_, rfl, H5, F5, ?_, ?_⟩
          · rw [fi_upd_ne _ _ _ _ _ (by omega), fi_upd_ne _ _ _ _ _ (by omega)]; exact z3 398 (by omega) (by omega) (by omega)
          · rw [e]
            refine ⟨?_, fun _ => fi_upd_same _ _ _ _ _, fun z => by simp at z, fun z => by simp at z, fun z => by simp at z, fun z => by simp at z, fun z => by simp at z, fun z => by simp at z, fun _ => ⟨?_, ?_⟩⟩
            · rw [fi_upd_ne _ _ _ _ _ (by omega), fi_upd_ne _ _ _ _ _ (by omega), z3 396 (by omega) (by omega) (by omega)]; exact hat
            · rw [fi_upd_ne _ _ _ _ _ (by omega), fi_upd_ne _ _ _ _ _ (by omega), v394]; omega
            · rw [fi_upd_ne _ _ _ _ _ (by omega), fi_upd_same, hx2]
              show _ = bsg (if u p = 60 then 108 else 103)
              by_cases y : u p = 60
              · rw [if_pos y, if_pos y]; decide
              · rw [if_neg y, if_neg y]; decide
        by_cases y : u p = 60
        · rw [if_pos ((cc 60 (by decide) (by decide)).mpr y)]; exact fin 256 (by rw [if_pos y])
        · rw [if_neg (fun z => y ((cc 60 (by decide) (by decide)).mp z))]; exact fin 257 (by rw [if_neg y])
      · rw [if_neg q2] at e
        rw [if_neg (fun z => q2 ((sv_c L3 _ (by decide) (by decide)).mp z))]
        exact six e (by omega) (by omega)
    by_cases y1 : u p = 60
    · rw [if_pos ((cc 60 (by decide) (by decide)).mpr y1)]; exact two (Or.inl y1)
    · rw [if_neg (fun z => y1 ((cc 60 (by decide) (by decide)).mp z))]
      by_cases y2 : u p = 62
      · rw [if_pos ((cc 62 (by decide) (by decide)).mpr y2)]; exact two (Or.inr y2)
      · rw [if_neg (fun z => y2 ((cc 62 (by decide) (by decide)).mp z))]
        by_cases y3 : sg (u p)
        · exact six (by rw [tk (by omega), if_pos y3]) (by omega) (by omega)
        · have e : tok u n p = (1, p + 1, 0) := by rw [tk (by omega), if_neg y3]
          have s0 : s = 0 := by
            rcases hs with ⟨-, q⟩ | ⟨q, -⟩
            · rcases q with q | q | q
              · exact absurd q y3
              · exact absurd q y1
              · exact absurd q y2
            · exact q
          refine ⟨h3, rfl, H3, F3, z3 398 (by omega) (by omega) (by omega), ?_⟩
          rw [e]
          exact ⟨by rw [z3 396 (by omega) (by omega) (by omega)]; exact hat, fun z => absurd rfl z, fun z => by simp at z, fun _ => by rw [v394, s0], fun z => by simp at z, fun z => by simp at z, fun z => by simp at z, fun z => by simp at z, fun z => by simp at z⟩
  have yes : (sg (u p) ∨ u p = 60 ∨ u p = 62) → CutE u n p h (c_497_97 (d + 2) p (sv u n p) 602 h) := fun q => by
    rw [e_497_97 (d + 2) _ _ _ L.1.1]
    exact main 6 (Or.inl ⟨rfl, q⟩)
  rw [m_497 (d + 2) _ _ L.1.1]
  by_cases c40 : u p = 40
  · rw [if_pos ((cc 40 (by decide) (by decide)).mpr c40)]; exact yes (by omega)
  rw [if_neg (fun z => c40 ((cc 40 (by decide) (by decide)).mp z))]
  by_cases c41 : u p = 41
  · rw [if_pos ((cc 41 (by decide) (by decide)).mpr c41)]; exact yes (by omega)
  rw [if_neg (fun z => c41 ((cc 41 (by decide) (by decide)).mp z))]
  by_cases c123 : u p = 123
  · rw [if_pos ((cc 123 (by decide) (by decide)).mpr c123)]; exact yes (by omega)
  rw [if_neg (fun z => c123 ((cc 123 (by decide) (by decide)).mp z))]
  by_cases c125 : u p = 125
  · rw [if_pos ((cc 125 (by decide) (by decide)).mpr c125)]; exact yes (by omega)
  rw [if_neg (fun z => c125 ((cc 125 (by decide) (by decide)).mp z))]
  by_cases c44 : u p = 44
  · rw [if_pos ((cc 44 (by decide) (by decide)).mpr c44)]; exact yes (by omega)
  rw [if_neg (fun z => c44 ((cc 44 (by decide) (by decide)).mp z))]
  by_cases c59 : u p = 59
  · rw [if_pos ((cc 59 (by decide) (by decide)).mpr c59)]; exact yes (by omega)
  rw [if_neg (fun z => c59 ((cc 59 (by decide) (by decide)).mp z))]
  by_cases c58 : u p = 58
  · rw [if_pos ((cc 58 (by decide) (by decide)).mpr c58)]; exact yes (by omega)
  rw [if_neg (fun z => c58 ((cc 58 (by decide) (by decide)).mp z))]
  by_cases c47 : u p = 47
  · rw [if_pos ((cc 47 (by decide) (by decide)).mpr c47)]; exact yes (by omega)
  rw [if_neg (fun z => c47 ((cc 47 (by decide) (by decide)).mp z))]
  by_cases c42 : u p = 42
  · rw [if_pos ((cc 42 (by decide) (by decide)).mpr c42)]; exact yes (by omega)
  rw [if_neg (fun z => c42 ((cc 42 (by decide) (by decide)).mp z))]
  by_cases c43 : u p = 43
  · rw [if_pos ((cc 43 (by decide) (by decide)).mpr c43)]; exact yes (by omega)
  rw [if_neg (fun z => c43 ((cc 43 (by decide) (by decide)).mp z))]
  by_cases c45 : u p = 45
  · rw [if_pos ((cc 45 (by decide) (by decide)).mpr c45)]; exact yes (by omega)
  rw [if_neg (fun z => c45 ((cc 45 (by decide) (by decide)).mp z))]
  by_cases c37 : u p = 37
  · rw [if_pos ((cc 37 (by decide) (by decide)).mpr c37)]; exact yes (by omega)
  rw [if_neg (fun z => c37 ((cc 37 (by decide) (by decide)).mp z))]
  by_cases c61 : u p = 61
  · rw [if_pos ((cc 61 (by decide) (by decide)).mpr c61)]; exact yes (by omega)
  rw [if_neg (fun z => c61 ((cc 61 (by decide) (by decide)).mp z))]
  by_cases c35 : u p = 35
  · rw [if_pos ((cc 35 (by decide) (by decide)).mpr c35)]; exact yes (by omega)
  rw [if_neg (fun z => c35 ((cc 35 (by decide) (by decide)).mp z))]
  by_cases c60 : u p = 60
  · rw [if_pos ((cc 60 (by decide) (by decide)).mpr c60)]; exact yes (by omega)
  rw [if_neg (fun z => c60 ((cc 60 (by decide) (by decide)).mp z))]
  by_cases c62 : u p = 62
  · rw [if_pos ((cc 62 (by decide) (by decide)).mpr c62)]; exact yes (by omega)
  rw [if_neg (fun z => c62 ((cc 62 (by decide) (by decide)).mp z))]
  exact main 0 (Or.inr ⟨rfl, by omega⟩)
end LEXN
end

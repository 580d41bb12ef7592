section
/-! the model cuts the next token -/
set_option maxRecDepth 100000
section CUT
variable (d : Nat) {u : Nat → Int} {n : Nat} {h : fi_H}
theorem kwd_rg (k : Nat) (c : Nat → Int) : -1 ≤ kwd k c ∧ kwd k c < 82 := by
  have key : ∀ (l : List (List Int)) (i : Int), 0 ≤ i → -1 ≤ kwf l k c i ∧ kwf l k c i < i + l.length ∨ kwf l k c i = -1 := by
    intro l
    induction l with
    | nil => intro i _; exact Or.inr rfl
    | cons w l ih =>
      intro i hi
      have e : kwf (w :: l) k c i = if eqW w k c = true then i else kwf l k c (i + 1) := rfl
      rw [e]
      by_cases q : eqW w k c = true
      · rw [if_pos q]; left; simp; omega
      · rw [if_neg q]
        rcases ih (i + 1) (by omega) with h | h
        · left; simp at h ⊢; omega
        · exact Or.inr h
  have := key WL 0 (by omega)
  have e : WL.length = 82 := by decide
  unfold kwd
  rw [e] at this
  omega
theorem kB_wordl {p : Nat} (L : LexB u n h) (hp : p ≤ n) : ∀ (m k : Nat), k + m = we u n p → p ≤ k → c_490_2 (d + 2) p (k : Int) h = c_490_2 (d + 2) p ((we u n p : Nat) : Int) h := by
  obtain ⟨w1, w2, w3, w4⟩ := we_ok (u := u) (n := n) (n - p) p (by omega)
  have hn := L.2.2.1
  intro m
  induction m with
  | zero => intro k hk _; rw [show k = we u n p by omega]
  | succ m ih =>
    intro k hk hpk
    have hw := w3 k hpk (by omega)
    have go : c_490_34 (d + 2) p (k : Int) h = c_490_2 (d + 2) p ((we u n p : Nat) : Int) h := by
      rw [e_490_34 (d + 2) _ _ L.1.1, wI_id (by omega) (by omega), ← ih (k + 1) (by omega) (by omega)]
      rfl
    rw [e_490_2 (d + 2) p _ L.1.1, kB_see (d + 1) L, ca_ret, kB_small (d + 1) L.1.1, ca_ret, ite0]
    by_cases q1 : xs (u k)
    · rw [if_pos ((sv_s L k).mpr q1)]; exact go
    · rw [if_neg (fun z => q1 ((sv_s L k).mp z)), kB_see (d + 1) L, ca_ret, kB_digit (d + 1) L.1.1, ca_ret, ite0]
      by_cases q2 : xd (u k)
      · rw [if_pos ((sv_d L k).mpr q2)]; exact go
      · rw [if_neg (fun z => q2 ((sv_d L k).mp z)), kB_see (d + 1) L, ca_ret, if_pos ((sv_c L k (by decide) (by decide)).mpr (by rcases hw with q | q | q; exact absurd q q1; exact absurd q q2; exact q))]
        exact go
theorem kB_word (L : LexB u n h) {p : Nat} (hp : p < n) (hx : xs (u p)) (hat : h 396 602 0 = (p : Int)) : CutE u n p h (fj_run (d + 9) 490 h [(4, 602), (0, (p : Int))]) := by
  obtain ⟨w1, w2, w3, w4⟩ := we_ok (u := u) (n := n) (n - p) p (by omega)
  have hn := L.2.2.1
  have tn : ((602 : Int)).toNat = 602 := rfl
  have hlt : p < we u n p := by
    by_cases z : we u n p = p
    · exact absurd (Or.inl (by rw [z]; exact hx)) (w4 (by omega))
    · omega
  have e0 : tok u n p = (if 12 < we u n p - p then 1 else 2, we u n p, 0) := by unfold tok; rw [if_neg (by omega), if_pos hx]
  have hu : ∀ j : Nat, j < we u n p - p → 1 ≤ u (p + j) := fun j hj => by rcases w3 (p + j) (by omega) (by omega) with q | q | q <;> omega
  have hnw : ¬ xw (u (we u n p)) := by
    by_cases z : we u n p < n
    · exact w4 z
    · rw [L.2.2.2.2.1 _ (by omega)]; intro q; rcases q with q | q | q <;> omega
  generalize hE : we u n p = E at *
  have H1 := uM L.1 397 (by omega) (v := (E : Int)) (by omega)
  have F1 := uF (h0 := h) (Fr.rf _ h) 397 (by omega) (E : Int)
  have L1 := L.st H1 F1 wcut_U
  have hkr := kwd_rg (E - p) (fun j => u (p + j))
  have H2 := uM H1 395 (by omega) (v := kwd (E - p) (fun j => u (p + j))) (by omega)
  have F2 := uF F1 395 (by omega) (kwd (E - p) (fun j => u (p + j)))
  have z2 : ∀ f, f ≠ 395 → f ≠ 397 → fi_upd (fi_upd h 397 602 0 (E : Int)) 395 602 0 (kwd (E - p) (fun j => u (p + j))) f 602 0 = h f 602 0 := fun f q1 q2 => by rw [fi_upd_ne _ _ _ _ _ (by omega), fi_upd_ne _ _ _ _ _ (by omega)]
  have v395 : fi_upd (fi_upd h 397 602 0 (E : Int)) 395 602 0 (kwd (E - p) (fun j => u (p + j))) 395 602 0 = kwd (E - p) (fun j => u (p + j)) := fi_upd_same _ _ _ _ _
  have v397 : fi_upd (fi_upd h 397 602 0 (E : Int)) 395 602 0 (kwd (E - p) (fun j => u (p + j))) 397 602 0 = (E : Int) := by rw [fi_upd_ne _ _ _ _ _ (by omega), fi_upd_same]
  have start : fj_run (d + 9) 490 h [(4, 602), (0, (p : Int))] = (if kwd (E - p) (fun j => u (p + j)) = -1 then (if 12 < (E : Int) - (p : Int) then c_490_83 (d + 8) p (E : Int) 602 0 (fi_upd (fi_upd h 397 602 0 (E : Int)) 395 602 0 (kwd (E - p) (fun j => u (p + j)))) else c_490_83 (d + 8) p (E : Int) 602 1 (fi_upd (fi_upd h 397 602 0 (E : Int)) 395 602 0 (kwd (E - p) (fun j => u (p + j))))) else c_490_83 (d + 8) p (E : Int) 602 2 (fi_upd (fi_upd h 397 602 0 (E : Int)) 395 602 0 (kwd (E - p) (fun j => u (p + j))))) := by
    rw [m_490 (d + 8) p L.1.1, kB_wordl (d + 6) L (by omega) (we u n p - p) p (by omega) (Nat.le_refl _), hE, e_490_2 (d + 8) p _ L.1.1, kB_see (d + 7) L, ca_ret, kB_small (d + 7) L.1.1, ca_ret, ite0, if_neg (fun z => hnw (Or.inl ((sv_s L _).mp z))), kB_see (d + 7) L, ca_ret, kB_digit (d + 7) L.1.1, ca_ret, ite0, if_neg (fun z => hnw (Or.inr (Or.inl ((sv_d L _).mp z)))), kB_see (d + 7) L, ca_ret, if_neg (fun z => hnw (Or.inr (Or.inr ((sv_c L _ (by decide) (by decide)).mp z)))), lt_eq, wI_id (x := (E : Int) - (p : Int)) (by omega) (by omega), kB_key (d + 1) L1 (p := p) (N := E - p) rfl (by omega) (by omega) (by omega) hu, ca_ret, lt_eq, v395]
  -- what is written behind the sort
  have fin : ∀ s : Int, (s = 0 ∨ s = 1 ∨ s = 2) → (12 < E - p → s = 0) → (¬ 12 < E - p → s = (if kwd (E - p) (fun j => u (p + j)) = -1 then 1 else 2)) → CutE u n p h (c_490_83 (d + 8) p (E : Int) 602 s (fi_upd (fi_upd h 397 602 0 (E : Int)) 395 602 0 (kwd (E - p) (fun j => u (p + j))))) := by
    intro s hs s1 s2
    generalize hX : fi_upd (fi_upd h 397 602 0 (E : Int)) 395 602 0 (kwd (E - p) (fun j => u (p + j))) = h2 at *
    have H3 := uM H2 394 (by omega) (v := s) (by omega)
    have F3 := uF F2 394 (by omega) s
    have L3 := L.st H3 F3 wcut_U
    have z3 : ∀ f, f ≠ 394 → fi_upd h2 394 602 0 s f 602 0 = h2 f 602 0 := fun f q => fi_upd_ne _ _ _ _ _ (by omega)
    have v394 : fi_upd h2 394 602 0 s 394 602 0 = s := fi_upd_same _ _ _ _ _
    rw [e_490_83 (d + 8) _ _ _ _ H2.1, tn, s0_602 H2.1, if_pos rfl, if_pos (by decide), lt_eq, wI_id (x := (p : Int) + 6) (by omega) (by omega)]
    generalize hY : fi_upd h2 394 602 0 s = h3 at *
    have main : ∀ k : Nat, k = (if E - p < 6 then E - p else 6) → CutE u n p h (c_490_105 (d + 8) p (E : Int) 602 602 p ((p + k : Nat) : Int) h3) := by
      intro k hk
      have hk6 : k ≤ 6 := by rw [hk]; split <;> omega
      have hkE : k ≤ E - p := by rw [hk]; split <;> omega
      obtain ⟨g1, g2⟩ := pk_rg (c := fun i => u (p + i)) k (fun i hi => ⟨by have := hu i (by omega); show 0 ≤ u (p + i); omega, by have := L.2.2.2.2.2 (p + i); show u (p + i) < 256; omega⟩)
      have g3 : (256 : Int) ^ k ≤ 256 ^ 6 := by
        have : (256 : Nat) ^ k ≤ 256 ^ 6 := Nat.pow_le_pow_right (by decide) (by omega)
        exact_mod_cast this
      have g4 : (256 : Int) ^ 6 = 281474976710656 := by decide
      have H4 := uML H3 400 (by omega) (v := pk (fun i => u (p + i)) k) (by omega)
      have F4 := uF F3 400 (by omega) (pk (fun i => u (p + i)) k)
      have L4 := L.st H4 F4 wcut_U
      have z4 : ∀ f, f ≠ 400 → fi_upd h3 400 602 0 (pk (fun i => u (p + i)) k) f 602 0 = h3 f 602 0 := fun f q => fi_upd_ne _ _ _ _ _ (by omega)
      have v400 : fi_upd h3 400 602 0 (pk (fun i => u (p + i)) k) 400 602 0 = pk (fun i => u (p + i)) k := fi_upd_same _ _ _ _ _
      rw [e_490_105 (d + 8) _ _ _ _ _ _ H3.1, tn, s0_602 H3.1, show fi_vt 345 129 = some 493 from rfl, dv_s, kB_let (d + 6) L3 (p := p) (k := k) rfl rfl (by omega) hk6 (fun j hj => hu j (by omega)), ca_ret, s0_602 H3.1, if_pos rfl, if_pos (by decide), lt_eq, wI_id (x := (p : Int) + 6) (by omega) (by omega), wI_id (x := (p : Int) + 12) (by omega) (by omega)]
      generalize hZ : fi_upd h3 400 602 0 (pk (fun i => u (p + i)) k) = h4 at *
      have last : ∀ x : Int, (0 ≤ x ∧ x < 281474976710656) → (¬ 12 < E - p → x = pk (fun i => u (p + 6 + i)) (E - p - 6)) → CutE u n p h (c_490_141 (d + 8) 602 x h4) := by
        intro x hx1 hx2
        have H5 := uML H4 401 (by omega) (v := x) (by omega)
        have F5 := uF F4 401 (by omega) x
        have z5 : ∀ f, f ≠ 401 → fi_upd h4 401 602 0 x f 602 0 = h4 f 602 0 := fun f q => fi_upd_ne _ _ _ _ _ (by omega)
        rw [e_490_141 (d + 8) _ _ H4.1, tn, s0_602 H4.1, if_pos rfl, if_pos (by decide), lt_eq]
        refine ⟨_, rfl, H5, F5, ?_, ?_⟩
        · rw [z5 398 (by omega), z4 398 (by omega), z3 398 (by omega), z2 398 (by omega) (by omega)]
        · rw [e0]
          have b : (fi_upd h4 401 602 0 x) 396 602 0 = (p : Int) := by rw [z5 396 (by omega), z4 396 (by omega), z3 396 (by omega), z2 396 (by omega) (by omega)]; exact hat
          have b7 : (fi_upd h4 401 602 0 x) 397 602 0 = (E : Int) := by rw [z5 397 (by omega), z4 397 (by omega), z3 397 (by omega)]; exact v397
          have b4 : (fi_upd h4 401 602 0 x) 394 602 0 = s := by rw [z5 394 (by omega), z4 394 (by omega)]; exact v394
          by_cases q : 12 < E - p
          · rw [if_pos q]
            exact ⟨b, fun _ => b7, fun z => by simp at z, fun _ => by rw [b4]; exact s1 q, fun z => by simp at z, fun z => by simp at z, fun z => by simp at z, fun z => by simp at z, fun z => by simp at z⟩
          · rw [if_neg q]
            refine ⟨b, fun _ => b7, fun z => by simp at z, fun z => by simp at z, fun _ => ⟨?_, ?_, ?_, ?_⟩, fun z => by simp at z, fun z => by simp at z, fun z => by simp at z, fun z => by simp at z⟩
            · rw [z5 395 (by omega), z4 395 (by omega), z3 395 (by omega)]; exact v395
            · rw [b4]; exact s2 q
            · rw [z5 400 (by omega), v400, hk]
            · rw [fi_upd_same]; exact hx2 q
      by_cases q6 : (p : Int) + 6 < (E : Int)
      · rw [if_pos q6]
        by_cases q12 : (p : Int) + 12 < (E : Int)
        · rw [if_pos q12, e_490_140 (d + 8) _ H4.1]
          exact last 0 (by omega) (fun z => by omega)
        · obtain ⟨m1, m2⟩ := pk_rg (c := fun i => u (p + 6 + i)) (E - p - 6) (fun i hi => ⟨by have := hu (6 + i) (by omega); show 0 ≤ u (p + 6 + i); rw [show p + 6 + i = p + (6 + i) by omega]; omega, by have := L.2.2.2.2.2 (p + 6 + i); show u (p + 6 + i) < 256; omega⟩)
          have m3 : (256 : Int) ^ (E - p - 6) ≤ 256 ^ 6 := by
            have : (256 : Nat) ^ (E - p - 6) ≤ 256 ^ 6 := Nat.pow_le_pow_right (by decide) (by omega)
            exact_mod_cast this
          rw [if_neg q12, kB_let (d + 6) L4 (p := p + 6) (k := E - p - 6) (by omega) (by omega) (by omega) (by omega) (fun j hj => by rw [show p + 6 + j = p + (6 + j) by omega]; exact hu (6 + j) (by omega)), ca_ret]
          exact last _ (by omega) (fun _ => rfl)
      · rw [if_neg q6, e_490_140 (d + 8) _ H4.1]
        refine last 0 (by omega) (fun _ => ?_)
        rw [show E - p - 6 = 0 by omega]
        rfl
    by_cases q : (E : Int) < (p : Int) + 6
    · rw [if_pos q, show (E : Int) = ((p + (E - p) : Nat) : Int) by omega]
      have := main (E - p) (by rw [if_pos (by omega)])
      rw [show ((p + (E - p) : Nat) : Int) = (E : Int) by omega] at this ⊢
      exact this
    · rw [if_neg q]
      exact main 6 (by rw [if_neg (by omega)])
  rw [start]
  by_cases q : kwd (E - p) (fun j => u (p + j)) = -1
  · rw [if_pos q]
    by_cases q2 : 12 < E - p
    · rw [if_pos (by omega)]; exact fin 0 (by omega) (fun _ => rfl) (fun z => absurd q2 z)
    · rw [if_neg (by omega)]; exact fin 1 (by omega) (fun z => absurd z q2) (fun _ => by rw [if_pos q])
  · rw [if_neg q]
    refine fin 2 (by omega) (fun z => ?_) (fun _ => by rw [if_neg q])
    exfalso
    -- no word of the model is longer than twelve letters
    have key : ∀ (l : List (List Int)) (i : Int), (∀ w ∈ l, w.length ≤ 12) → kwf l (E - p) (fun j => u (p + j)) i = -1 := by
      intro l
      induction l with
      | nil => intro i _; rfl
      | cons w l ih =>
        intro i hl
        have e : kwf (w :: l) (E - p) (fun j => u (p + j)) i = if eqW w (E - p) (fun j => u (p + j)) = true then i else kwf l (E - p) (fun j => u (p + j)) (i + 1) := rfl
        rw [e, if_neg (fun y => by have := (eqS_iff.mp y).1; have := hl w (by simp); omega)]
        exact ih (i + 1) (fun w' hw' => hl w' (by simp [hw']))
    refine q (key WL 0 (fun w hw => ?_))
    have a := List.all_eq_true.mp WL_ok w hw
    simp only [Bool.and_eq_true, decide_eq_true_eq] at a
    exact a.2
/-- the next token comes to be at hand; so many are counted, the end is none -/
theorem kB_cut (L : LexB u n h) {e : Nat} (he : h 397 602 0 = (e : Int)) (he2 : e ≤ n) {t : Int} (ht : h 398 602 0 = t) (ht2 : 0 ≤ t ∧ t ≤ 100000) :
    ∃ h', fj_run (d + 11) 487 h [(4, 602)] = some (.inl none, h') ∧ Hp h' ∧ Fr wcut h h' ∧ TokB u (bk u n false e) (tok u n (bk u n false e)) h' ∧ h' 398 602 0 = (if (tok u n (bk u n false e)).1 = 0 then t else t + 1) := by
  have hn := L.2.2.1
  obtain ⟨p1, p2, p3⟩ := bk_ok (u := u) (n := n) (n - e) e false (by omega)
  generalize hP : bk u n false e = p at *
  have a0 : fj_run (d + 11) 487 h [(4, 602)] = c_487_7 (d + 10) (p : Int) 0 h := by
    rw [m_487 (d + 10) L.1.1, he, (kB_blanks (d + 9) L (n - e) e (by omega)).1, hP]
  have H1 := uM L.1 396 (by omega) (v := (p : Int)) (by omega)
  have F1 := uF (h0 := h) (Fr.rf _ h) 396 (by omega) (p : Int)
  have L1 := L.st H1 F1 wcut_U
  have H2 := uM H1 398 (by omega) (v := t + 1) (by omega)
  have F2 := uF F1 398 (by omega) (t + 1)
  have L2 := L.st H2 F2 wcut_U
  have w398 : fi_upd h 396 602 0 (p : Int) 398 602 0 = t := by rw [fi_upd_ne _ _ _ _ _ (by omega)]; exact ht
  have v398 : fi_upd (fi_upd h 396 602 0 (p : Int)) 398 602 0 (t + 1) 398 602 0 = t + 1 := fi_upd_same _ _ _ _ _
  have v396 : fi_upd (fi_upd h 396 602 0 (p : Int)) 398 602 0 (t + 1) 396 602 0 = (p : Int) := by rw [fi_upd_ne _ _ _ _ _ (by omega), fi_upd_same]
  rw [a0, e_487_7 (d + 10) _ _ L.1.1, if_pos rfl, lt_eq, kB_see (d + 9) L1, ca_ret, w398, wI_id (x := t + 1) (by omega) (by omega), lt_eq]
  generalize hX : fi_upd (fi_upd h 396 602 0 (p : Int)) 398 602 0 (t + 1) = h2 at *
  by_cases q0 : p = n
  · have e0 : tok u n p = (0, p, 0) := by unfold tok; rw [if_pos (by omega)]
    have hs : sv u n p = -1 := by unfold sv; rw [if_neg (by omega)]
    rw [hs, if_pos rfl, lt_eq, fi_upd_ne _ _ _ _ _ (by omega), v398, wI_id (by omega) (by omega), lt_eq, lt_eq]
    have H3 := uM (uM (uM H2 394 (by omega) (v := 7) (by omega)) 398 (by omega) (v := t + 1 - 1) (by omega)) 397 (by omega) (v := (p : Int)) (by omega)
    have F3 := uF (uF (uF F2 394 (by omega) 7) 398 (by omega) (t + 1 - 1)) 397 (by omega) (p : Int)
    refine ⟨_, rfl, H3, F3, ?_, ?_⟩
    · rw [e0]
      refine ⟨?_, fun _ => fi_upd_same _ _ _ _ _, fun _ => ?_, fun z => by simp at z, fun z => by simp at z, fun z => by simp at z, fun z => by simp at z, fun z => by simp at z, fun z => by simp at z⟩
      · rw [fi_upd_ne _ _ _ _ _ (by omega), fi_upd_ne _ _ _ _ _ (by omega), fi_upd_ne _ _ _ _ _ (by omega)]; exact v396
      · rw [fi_upd_ne _ _ _ _ _ (by omega), fi_upd_ne _ _ _ _ _ (by omega), fi_upd_same]
    · rw [e0, if_pos rfl, fi_upd_ne _ _ _ _ _ (by omega), fi_upd_same]; omega
  · have hs : sv u n p = u p % 256 := by unfold sv; rw [if_pos (by omega)]
    have hnz : (tok u n p).1 ≠ 0 := by
      unfold tok
      rw [if_neg (by omega)]
      (repeat' split) <;> simp
    have cl : ∀ r : fk_R, CutE u n p h2 r → ∃ h', r = some (.inl none, h') ∧ Hp h' ∧ Fr wcut h h' ∧ TokB u p (tok u n p) h' ∧ h' 398 602 0 = (if (tok u n p).1 = 0 then t else t + 1) := by
      rintro r ⟨h', r1, r2, r3, r4, r5⟩
      exact ⟨h', r1, r2, F2.tr r3, r5, by rw [r4, v398, if_neg hnz]⟩
    have wrap : ∀ M : Nat, ∀ as : List FV, CutE u n p h2 (fj_run (d + 10) M h2 as) → CutE u n p h2 (cv_ (fj_run (d + 10) M h2 as) (fun h => some (.inl none, h)) (fun q h => tx_ q h)) := by
      rintro M as ⟨h', r1, r2⟩
      refine ⟨h', by rw [r1, cv_ret], r2⟩
    rw [if_neg (by omega), kB_small (d + 9) H2.1, ca_ret, ite0]
    by_cases q1 : xs (u p)
    · rw [if_pos ((sv_s L p).mpr q1)]
      exact cl _ (wrap 490 _ (kB_word (d + 1) L2 (by omega) q1 v396))
    · rw [if_neg (fun z => q1 ((sv_s L p).mp z)), kB_digit (d + 9) H2.1, ca_ret, ite0]
      by_cases q2 : xd (u p)
      · rw [if_pos ((sv_d L p).mpr q2)]
        exact cl _ (wrap 494 _ (kB_number (d + 6) L2 (by omega) q1 q2 v396))
      · rw [if_neg (fun z => q2 ((sv_d L p).mp z))]
        exact cl _ (wrap 497 _ (kB_sign (d + 7) L2 (by omega) q1 q2 v396))
end CUT
end

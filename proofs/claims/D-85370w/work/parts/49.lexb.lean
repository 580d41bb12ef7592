section
/-! the class cuts: digits, words, signs; the rows of its tokens -/
set_option maxRecDepth 100000
/-- a string that isn't the builder's -/
def StrN (h : fi_H) (s : Int) (k : Nat) (c : Nat → Int) : Prop := StrC h s k c ∧ 714 < s ∧ 714 < h 317 s.toNat 0 ∧ h 317 s.toNat 0 ≠ h 145 384 0
/-- row m of the tokens tells a token -/
def RowT (u : Nat → Int) (p : Nat) (T : Nat × Nat × Int) (h : fi_H) (m : Nat) : Prop :=
  h 8 378 m = (T.1 : Int) ∧ (T.1 = 3 → h 10 380 m = T.2.2) ∧ (T.1 = 4 → h 11 381 m = T.2.2) ∧ (T.1 = 5 → h 10 380 m = exd (T.2.2 / 10000) (T.2.2 / 100 % 100) (T.2.2 % 100)) ∧ (T.1 = 6 → h 5 382 m = T.2.2) ∧
  (T.1 = 2 → StrN h (h 12 383 m) (T.2.1 - p) (fun i => u (p + i)))
theorem wrow_U {m : Nat} : ¬ wrow m 156 377 0 ∧ ∀ k, ¬ wrow m 8 376 k := ⟨by simp [wrow], fun k => by simp [wrow]⟩
section LEXB
variable (d : Nat) {u : Nat → Int} {n : Nat} {h : fi_H}
theorem kA_dig149 (L : LexU u n h) {p m : Nat} (hm : h 157 377 0 = (m : Int)) (hm2 : m < 1202) (hp : p < n) (hd : xd (u p)) (hq : ¬ 9 < de u n p - p) (hne : ¬ (u (de u n p) = 46 ∧ xd (u (de u n p + 1)) ∧ xd (u (de u n p + 2)))) (hs : h 8 378 m = 3) (hv : h 10 380 m = fg u p (de u n p - p)) :
    ∃ h', c_152_149 (d + 3) p ((de u n p : Nat) : Int) (fg u p (de u n p - p)) h = some (.inl (some (0, ((tok u n p).2.1 : Int))), h') ∧ Hp h' ∧ Fr (wrow m) h h' ∧ RowT u p (tok u n p) h' m := by
  obtain ⟨d1, d2, d3, d4⟩ := de_ok (u := u) (n := n) (n - p) p (by omega)
  have hn := L.2.2.1
  have hx : ¬ xs (u p) := by omega
  have e0 : tok u n p = if de u n p - p = 4 ∧ u (de u n p) = 45 ∧ (xd (u (de u n p + 1)) ∧ xd (u (de u n p + 2))) ∧ u (de u n p + 3) = 45 ∧ xd (u (de u n p + 4)) ∧ xd (u (de u n p + 5)) then (5, de u n p + 6, 10000 * fg u p 4 + 100 * tw u (de u n p + 1) + tw u (de u n p + 4)) else (3, de u n p, fg u p (de u n p - p)) := by
    unfold tok
    rw [if_neg (by omega), if_neg hx, if_pos hd, if_neg hq, if_neg hne]
  have plain : tok u n p = (3, de u n p, fg u p (de u n p - p)) → ∃ h', (some (.inl (some (0, ((de u n p : Nat) : Int))), h) : fk_R) = some (.inl (some (0, ((tok u n p).2.1 : Int))), h') ∧ Hp h' ∧ Fr (wrow m) h h' ∧ RowT u p (tok u n p) h' m := by
    intro e
    refine ⟨h, by rw [e], L.1, Fr.rf _ _, ?_⟩
    rw [e]
    exact ⟨hs, fun _ => hv, fun z => by simp at z, fun z => by simp at z, fun z => by simp at z, fun z => by simp at z⟩
  generalize hde : de u n p = q at *
  rw [e_152_149 (d + 3) _ _ _ L.1.1, wI_id (by omega) (by omega)]
  by_cases q1 : (q : Int) - (p : Int) = 4
  · rw [if_pos q1, kA_byte (d + 2) L q, ca_ret]
    by_cases q2 : u q = 45
    · rw [if_pos q2, wI_id (x := (q : Int) + 1) (by omega) (by omega), kA_areTwo (d + 1) L (q + 1) (by omega) (by omega), ca_ret, ite0]
      by_cases q3 : xd (u (q + 1)) ∧ xd (u (q + 1 + 1))
      · rw [if_pos q3, wI_id (x := (q : Int) + 3) (by omega) (by omega), kA_byte' (d + 2) L (q + 3) (by omega), ca_ret]
        by_cases q4 : u (q + 3) = 45
        · rw [if_pos q4, wI_id (x := (q : Int) + 4) (by omega) (by omega), kA_areTwo (d + 1) L (q + 4) (by omega) (by omega), ca_ret, ite0]
          by_cases q5 : xd (u (q + 4)) ∧ xd (u (q + 4 + 1))
          · rw [if_pos q5, hm, if_pos (by omega), Int.toNat_natCast]
            have e : tok u n p = (5, q + 6, 10000 * fg u p 4 + 100 * tw u (q + 1) + tw u (q + 4)) := by rw [e0, if_pos ⟨by omega, q2, q3, q4, q5⟩]
            have H1 : Hp (fi_upd h 8 378 m 5) := Hp.uB L.1 m (by decide) (by decide) (by omega)
            have F1 : Fr (wrow m) h (fi_upd h 8 378 m 5) := Fr.u m _ (Fr.rf _ _) (by decide) (by simp [wrow])
            have L1 := L.st H1 F1 wrow_U
            have hm1 : fi_upd h 8 378 m 5 157 377 0 = (m : Int) := by rw [fi_upd_ne _ _ _ _ _ (by omega)]; exact hm
            have s1 : fi_upd h 8 378 m 5 8 378 m = 5 := fi_upd_same _ _ _ _ _
            repeat rewrite [lt_eq]
            generalize hX : fi_upd h 8 378 m 5 = h1 at *
            have t1 := tw_rg q3.1 q3.2
            have t2 := tw_rg q5.1 q5.2
            obtain ⟨f1, f2⟩ := fg_rg (u := u) (p := p) 4 (fun j hj => d3 (p + j) (by omega) (by omega))
            have f3 : (10 : Int) ^ 4 = 10000 := by decide
            have e4 : fg u p (q - p) = fg u p 4 := by rw [show q - p = 4 by omega]
            rw [kA_two (d + 1) L1 (q + 1) (by omega) (by omega) q3.1 q3.2, ca_ret, kA_two (d + 1) L1 (q + 4) (by omega) (by omega) q5.1 q5.2, ca_ret, wI_id (x := tw u (q + 1)) (by omega) (by omega), wI_id (x := tw u (q + 4)) (by omega) (by omega), e4, kA_exact d L1.1.1 (by omega) (by omega) (by omega), ca_ret, hm1, if_pos (by omega), Int.toNat_natCast, wI_id (by omega) (by omega)]
            have hr := exd_rg (fg u p 4) (tw u (q + 1)) (tw u (q + 4))
            refine ⟨fi_upd h1 10 380 m (exd (fg u p 4) (tw u (q + 1)) (tw u (q + 4))), by rw [e, lt_eq]; exact ret_eq (by show _ = ((q + 6 : Nat) : Int); omega), Hp.uI H1 m (by decide) (by decide) (by omega), Fr.u m _ F1 (by decide) (by simp [wrow]), ?_⟩
            rw [e]
            refine ⟨?_, fun z => by simp at z, fun z => by simp at z, fun _ => ?_, fun z => by simp at z, fun z => by simp at z⟩
            · rw [fi_upd_ne _ _ _ _ _ (by omega)]; exact s1
            · rw [fi_upd_same]
              have a1 : (10000 * fg u p 4 + 100 * tw u (q + 1) + tw u (q + 4)) / 10000 = fg u p 4 := by omega
              have a2 : (10000 * fg u p 4 + 100 * tw u (q + 1) + tw u (q + 4)) / 100 % 100 = tw u (q + 1) := by omega
              have a3 : (10000 * fg u p 4 + 100 * tw u (q + 1) + tw u (q + 4)) % 100 = tw u (q + 4) := by omega
              show _ = exd ((10000 * fg u p 4 + 100 * tw u (q + 1) + tw u (q + 4)) / 10000) ((10000 * fg u p 4 + 100 * tw u (q + 1) + tw u (q + 4)) / 100 % 100) ((10000 * fg u p 4 + 100 * tw u (q + 1) + tw u (q + 4)) % 100)
              rw [a1, a2, a3]
          · rw [if_neg q5]; exact plain (by rw [e0, if_neg (fun z => q5 z.2.2.2.2)])
        · rw [if_neg q4]; exact plain (by rw [e0, if_neg (fun z => q4 z.2.2.2.1)])
      · rw [if_neg q3]; exact plain (by rw [e0, if_neg (fun z => q3 z.2.2.1)])
    · rw [if_neg q2]; exact plain (by rw [e0, if_neg (fun z => q2 z.2.1)])
  · rw [if_neg q1]; exact plain (by rw [e0, if_neg (fun z => by omega)])
theorem kA_digits (L : LexU u n h) {p m : Nat} (hm : h 157 377 0 = (m : Int)) (hm2 : m < 1202) (hp : p < n) (hd : xd (u p)) :
    ∃ h', fj_run (d + 4) 152 h [(4, 377), (0, (p : Int))] = some (.inl (some (0, ((tok u n p).2.1 : Int))), h') ∧ Hp h' ∧ Fr (wrow m) h h' ∧ RowT u p (tok u n p) h' m := by
  obtain ⟨d1, d2, d3, d4⟩ := de_ok (u := u) (n := n) (n - p) p (by omega)
  have hn := L.2.2.1
  have hx : ¬ xs (u p) := by omega
  obtain ⟨v, ev, ev1, v0, v1⟩ := kA_digl (d + 1) L (p := p) (by omega) (de u n p - p) 0 0 (by omega) (fun _ => rfl) (by omega) (by omega)
  rw [m_152 (d + 3) p L.1.1]
  have ev : c_152_4 (d + 3) p (p : Int) 0 h = c_152_66 (d + 3) p ((de u n p : Nat) : Int) v 378 (h 157 377 0) (if 9 < de u n p - p then 1 else 3) h := ev
  rw [ev, hm]
  have a1 := s0_378 L.1.1
  have a2 := s1_378 L.1.1
  have tn : ((378 : Int)).toNat = 378 := rfl
  have et8 : fi_et 1 8 = 8 := by decide
  have hsB : ∀ s : Int, s = 1 ∨ s = 3 → ∀ r : fk_R, r = (lt_ (fi_upd h 8 378 m s) fun h1 => lt_ (fi_upd h1 10 380 m (wI v)) fun h2 => if h2 8 378 m = 3 then (ca_ (fj_run (d + 3) 114 h2 [(4, 377), (0, ((de u n p : Nat) : Int))]) 0
      (fun v6 h5 =>
      if v6 = 46 then
        ca_ (fj_run (d + 3) 154 h5 [(4, 377), (0, wI (((de u n p : Nat) : Int) + 1))]) 0
          (fun v9 h8 =>
          if v9 = 0 then
            c_152_149 (d + 3) p ((de u n p : Nat) : Int) v h8
          else
            if 0 ≤ h8 157 377 0 ∧ h8 157 377 0 < 1202 then
            lt_ (fi_upd h8 8 378 (h8 157 377 0).toNat 4) fun h11 =>
            ca_ (fj_run (d + 3) 155 h11 [(4, 377), (0, wI (((de u n p : Nat) : Int) + 1))]) 0
              (fun v14 h13 =>
              if 0 ≤ h11 157 377 0 ∧ h11 157 377 0 < 1202 then
              lt_ (fi_upd h13 11 381 (h11 157 377 0).toNat (wJ ((wJ (100 * v)) + (wI v14)))) fun h16 =>
              some (.inl (some (0, wI (((de u n p : Nat) : Int) + 3))), h16)
              else none)
              (fun q15 h13 => tx_ q15 h13)
            else none)
          (fun q10 h8 => tx_ q10 h8)
      else
        c_152_149 (d + 3) p ((de u n p : Nat) : Int) v h5)
      (fun q7 h5 => tx_ q7 h5)) else c_152_149 (d + 3) p ((de u n p : Nat) : Int) v h2) → c_152_66 (d + 3) p ((de u n p : Nat) : Int) v 378 m s h = r := by
    intro s hs r hr
    have hm1 : fi_upd h 8 378 m s 157 377 0 = (m : Int) := by rw [fi_upd_ne _ _ _ _ _ (by omega)]; exact hm
    have hm3 : ∀ x, fi_upd (fi_upd h 8 378 m s) 10 380 m x 157 377 0 = (m : Int) := fun x => by rw [fi_upd_ne _ _ _ _ _ (by omega)]; exact hm1
    rw [hr, e_152_66 (d + 3) _ _ _ _ _ _ L.1.1, tn, a1, et8, a2, if_pos ⟨by decide, by decide⟩, if_pos (by omega), wB_id (by omega) (by omega), if_pos (by rcases hs with rfl | rfl <;> rfl)]
    repeat rewrite [lt_eq]
    rw [Int.toNat_natCast, hm1, if_pos (by omega), Int.toNat_natCast, hm3, if_pos (by omega), Int.toNat_natCast]
  by_cases q9 : 9 < de u n p - p
  · have e : tok u n p = (1, de u n p, 0) := by
      unfold tok
      rw [if_neg (by omega), if_neg hx, if_pos hd, if_pos q9]
    rw [if_pos q9, hsB 1 (Or.inl rfl) _ rfl]
    have H1 : Hp (fi_upd h 8 378 m 1) := Hp.uB L.1 m (by decide) (by decide) (by omega)
    have H2 : Hp (fi_upd (fi_upd h 8 378 m 1) 10 380 m (wI v)) := Hp.uI H1 m (by decide) (by decide) (by have := wI_rg v; omega)
    have F2 : Fr (wrow m) h (fi_upd (fi_upd h 8 378 m 1) 10 380 m (wI v)) := Fr.u m _ (Fr.u m _ (Fr.rf _ _) (by decide) (by simp [wrow])) (by decide) (by simp [wrow])
    repeat rewrite [lt_eq]
    have e1 : fi_upd (fi_upd h 8 378 m 1) 10 380 m (wI v) 8 378 m = 1 := by rw [fi_upd_ne _ _ _ _ _ (by omega), fi_upd_same]
    rw [e1, if_neg (by decide), e_152_149 (d + 3) _ _ _ H2.1, wI_id (x := ((de u n p : Nat) : Int) - (p : Int)) (by omega) (by omega), if_neg (by omega)]
    refine ⟨_, by rw [e], H2, F2, ?_⟩
    rw [e]
    exact ⟨e1, fun z => by simp at z, fun z => by simp at z, fun z => by simp at z, fun z => by simp at z, fun z => by simp at z⟩
  · have hv := ev1 (by omega)
    obtain ⟨f1, f2⟩ := fg_rg (u := u) (p := p) (de u n p - p) (fun j hj => d3 (p + j) (by omega) (by omega))
    have f3 : (10 : Int) ^ (de u n p - p) ≤ 10 ^ 9 := by
      have : (10 : Nat) ^ (de u n p - p) ≤ 10 ^ 9 := Nat.pow_le_pow_right (by decide) (by omega)
      exact_mod_cast this
    have f4 : (10 : Int) ^ 9 = 1000000000 := by decide
    rw [← hv] at f1 f2
    rw [if_neg q9, hsB 3 (Or.inr rfl) _ rfl, wI_id (by omega) (by omega)]
    have H1 : Hp (fi_upd h 8 378 m 3) := Hp.uB L.1 m (by decide) (by decide) (by omega)
    have H2 : Hp (fi_upd (fi_upd h 8 378 m 3) 10 380 m v) := Hp.uI H1 m (by decide) (by decide) (by omega)
    have F2 : Fr (wrow m) h (fi_upd (fi_upd h 8 378 m 3) 10 380 m v) := Fr.u m _ (Fr.u m _ (Fr.rf _ _) (by decide) (by simp [wrow])) (by decide) (by simp [wrow])
    have e1 : fi_upd (fi_upd h 8 378 m 3) 10 380 m v 8 378 m = 3 := by rw [fi_upd_ne _ _ _ _ _ (by omega), fi_upd_same]
    have e2 : fi_upd (fi_upd h 8 378 m 3) 10 380 m v 10 380 m = v := fi_upd_same _ _ _ _ _
    have hm2' : fi_upd (fi_upd h 8 378 m 3) 10 380 m v 157 377 0 = (m : Int) := by rw [fi_upd_ne _ _ _ _ _ (by omega), fi_upd_ne _ _ _ _ _ (by omega)]; exact hm
    have L2 := L.st H2 F2 wrow_U
    repeat rewrite [lt_eq]
    generalize hX : fi_upd (fi_upd h 8 378 m 3) 10 380 m v = h2 at *
    rw [e1, if_pos rfl, kA_byte (d + 2) L2 (de u n p), ca_ret]
    have go : ¬ (u (de u n p) = 46 ∧ xd (u (de u n p + 1)) ∧ xd (u (de u n p + 2))) → ∃ h', c_152_149 (d + 3) p ((de u n p : Nat) : Int) v h2 = some (.inl (some (0, ((tok u n p).2.1 : Int))), h') ∧ Hp h' ∧ Fr (wrow m) h h' ∧ RowT u p (tok u n p) h' m := by
      intro hne
      obtain ⟨h', r1, r2, r3, r4⟩ := kA_dig149 d L2 hm2' hm2 hp hd q9 hne e1 (by rw [e2, hv])
      rw [← hv] at r1
      exact ⟨h', r1, r2, F2.tr r3, r4⟩
    by_cases q4 : u (de u n p) = 46
    · rw [if_pos q4, wI_id (x := ((de u n p : Nat) : Int) + 1) (by omega) (by omega), kA_areTwo (d + 1) L2 (de u n p + 1) (by omega) (by omega), ca_ret, ite0]
      by_cases q5 : xd (u (de u n p + 1)) ∧ xd (u (de u n p + 1 + 1))
      · have e : tok u n p = (4, de u n p + 3, 100 * fg u p (de u n p - p) + tw u (de u n p + 1)) := by
          unfold tok
          rw [if_neg (by omega), if_neg hx, if_pos hd, if_neg q9, if_pos ⟨q4, q5⟩]
        rw [if_pos q5, hm2', if_pos (by omega), Int.toNat_natCast]
        have H3 : Hp (fi_upd h2 8 378 m 4) := Hp.uB H2 m (by decide) (by decide) (by omega)
        have F3 : Fr (wrow m) h (fi_upd h2 8 378 m 4) := Fr.u m _ F2 (by decide) (by simp [wrow])
        have L3 := L.st H3 F3 wrow_U
        have hm3 : fi_upd h2 8 378 m 4 157 377 0 = (m : Int) := by rw [fi_upd_ne _ _ _ _ _ (by omega)]; exact hm2'
        have s3 : fi_upd h2 8 378 m 4 8 378 m = 4 := fi_upd_same _ _ _ _ _
        generalize hY : fi_upd h2 8 378 m 4 = h3 at *
        have t1 := tw_rg q5.1 q5.2
        rw [lt_eq, kA_two (d + 1) L3 (de u n p + 1) (by omega) (by omega) q5.1 q5.2, ca_ret, hm3, if_pos (by omega), Int.toNat_natCast, wI_id (x := tw u (de u n p + 1)) (by omega) (by omega), wI_id (by omega) (by omega), wJ_id (x := 100 * v) (by omega) (by omega), wJ_id (by omega) (by omega)]
        refine ⟨fi_upd h3 11 381 m (100 * v + tw u (de u n p + 1)), by rw [e, lt_eq]; exact ret_eq (by show _ = ((de u n p + 3 : Nat) : Int); omega), Hp.uJ H3 m (by decide) (by decide) (by omega), Fr.u m _ F3 (by decide) (by simp [wrow]), ?_⟩
        rw [e]
        refine ⟨?_, fun z => by simp at z, fun _ => ?_, fun z => by simp at z, fun z => by simp at z, fun z => by simp at z⟩
        · rw [fi_upd_ne _ _ _ _ _ (by omega)]; exact s3
        · rw [fi_upd_same, hv]
      · rw [if_neg q5]; exact go (fun z => q5 z.2)
    · rw [if_neg q4]; exact go (fun z => q4 z.1)
/-! words, signs -/
def FrL (R : Nat → Nat → Nat → Prop) (h h' : fi_H) : Prop := Fr (fun f a i => R f a i ∨ wbd (h 145 384 0) f a i) h h' ∧ (h' 145 384 0 = h 145 384 0 ∨ h 2 0 0 < h' 145 384 0)
theorem FrL.tr {R : Nat → Nat → Nat → Prop} {a b c : fi_H} (p : FrL R a b) (q : FrL R b c) : FrL R a c := by
  obtain ⟨p1, p2⟩ := p
  obtain ⟨q1, q2⟩ := q
  refine ⟨⟨Int.le_trans p1.1 q1.1, fun f x i h0 hx hw => ?_⟩, ?_⟩
  · have e : ¬ (R f x i ∨ wbd (b 145 384 0) f x i) := by
      intro z
      rcases z with z | z | ⟨z1, z2⟩
      · exact hw (Or.inl z)
      · exact hw (Or.inr (Or.inl z))
      · rcases p2 with r | r
        · exact hw (Or.inr (Or.inr ⟨z1, by rw [z2, r]⟩))
        · omega
    exact (q1.2 f x i h0 (Int.le_trans hx p1.1) e).trans (p1.2 f x i h0 hx hw)
  · have := p1.1
    rcases q2 with r | r
    · rw [r]; exact p2
    · right; omega
theorem FrB.l {R : Nat → Nat → Nat → Prop} {a b : fi_H} (p : FrB a b) : FrL R a b := ⟨p.1.mono (fun _ _ _ q => Or.inr q), p.2⟩
theorem Fr.l {R : Nat → Nat → Nat → Prop} {a b : fi_H} (H : Hp a) (p : Fr R a b) (hR : ¬ R 145 384 0) : FrL R a b := ⟨p.mono (fun _ _ _ q => Or.inl q), Or.inl (p.2 145 384 0 (by decide) (by have := H.1.2.2.1; omega) hR)⟩
theorem FrL.mono {R S : Nat → Nat → Nat → Prop} {a b : fi_H} (p : FrL R a b) (k : ∀ f x i : Nat, R f x i → S f x i) : FrL S a b := ⟨p.1.mono (fun f x i q => q.elim (fun z => Or.inl (k f x i z)) Or.inr), p.2⟩
theorem LexU.l {h' : fi_H} {R : Nat → Nat → Nat → Prop} (L : LexU u n h) {k : Nat} {c : Nat → Int} (B : Bd h k c) (H : Hp h') (F : FrL R h h') (hR : ¬ R 156 377 0 ∧ ∀ k, ¬ R 8 376 k) : LexU u n h' := by
  obtain ⟨b1, b2, -⟩ := B
  refine L.st H F.1 ⟨?_, fun k => ?_⟩
  · rintro (z | z | ⟨z, -⟩)
    · exact hR.1 z
    · exact absurd z (by decide)
    · exact absurd z (by decide)
  · rintro (z | z | ⟨-, z⟩)
    · exact hR.2 k z
    · exact absurd z (by decide)
    · omega
theorem StrN.l {h' : fi_H} {R : Nat → Nat → Nat → Prop} {s : Int} {k : Nat} {c : Nat → Int} (q : StrN h s k c) (F : FrL R h h') (hR : ∀ f x i : Nat, 714 < x → f ≠ 319 → f ≠ 320 → ¬ R f x i) : StrN h' s k c := by
  obtain ⟨⟨q1, q2, q3, q4, q5, q6, q7⟩, q8, q9, q10⟩ := q
  have e : ∀ f i : Nat, f ≠ 319 → f ≠ 320 → h' f s.toNat i = h f s.toNat i ∨ (f = 8 ∧ ((s.toNat : Nat) : Int) = h 145 384 0) := by
    intro f i f1 f2
    by_cases z : f = 8 ∧ ((s.toNat : Nat) : Int) = h 145 384 0
    · exact Or.inr z
    · refine Or.inl (F.1.2 f _ i (by omega) (by omega) ?_)
      rintro (y | y | y)
      · exact hR _ _ _ (by omega) f1 f2 y
      · omega
      · exact z y
  have e0 : ∀ f i : Nat, f ≠ 8 → f < 319 → h' f s.toNat i = h f s.toNat i := fun f i hf hf2 => (e f i (by omega) (by omega)).resolve_right (fun z => hf z.1)
  have ev : ∀ f i : Nat, f < 319 → h' f (h 317 s.toNat 0).toNat i = h f (h 317 s.toNat 0).toNat i := by
    intro f i hf
    refine F.1.2 f _ i (by omega) (by omega) ?_
    rintro (y | y | ⟨-, y⟩)
    · exact hR _ _ _ (by omega) (by omega) (by omega) y
    · omega
    · omega
  refine ⟨⟨⟨q1.1, by have := F.1.1; omega⟩, ?_, ?_, ?_, ?_, ?_, ?_⟩, q8, ?_, ?_⟩
  · rw [e0 0 0 (by decide) (by decide)]; exact q2
  · rw [e0 318 0 (by decide) (by decide)]; exact q3
  · rw [e0 317 0 (by decide) (by decide)]; exact ⟨q4.1, by have := F.1.1; omega⟩
  · rw [e0 317 0 (by decide) (by decide), ev _ _ (by decide)]; exact q5
  · rw [e0 317 0 (by decide) (by decide), ev _ _ (by decide)]; exact q6
  · intro i hi; rw [e0 317 0 (by decide) (by decide), ev _ _ (by decide)]; exact q7 i hi
  · rw [e0 317 0 (by decide) (by decide)]; exact q9
  · rw [e0 317 0 (by decide) (by decide)]
    rcases F.2 with z | z
    · rw [z]; exact q10
    · omega
theorem kA_wordl {p : Nat} (hp : p ≤ n) : ∀ (m k : Nat) (h : fi_H), LexU u n h → k + m = we u n p → p ≤ k → Bd h (k - p) (fun i => u (p + i)) →
    ∃ h1, c_113_24 (d + 6) p (k : Int) h = c_113_99 (d + 6) ((we u n p : Nat) : Int) 378 (h1 157 377 0) (if 12 < we u n p - p then 1 else 2) h1 ∧ Hp h1 ∧ Bd h1 (we u n p - p) (fun i => u (p + i)) ∧ FrB h h1 := by
  obtain ⟨w1, w2, w3, w4⟩ := we_ok (u := u) (n := n) (n - p) p (by omega)
  intro m
  induction m with
  | zero =>
    intro k h L hk hpk B
    have ek : k = we u n p := by omega
    subst ek
    have hn := L.2.2.1
    have hnw : ¬ xw (u (we u n p)) := by
      by_cases z : we u n p < n
      · exact w4 z
      · rw [L.2.2.2.2 _ (by omega)]; intro q; rcases q with q | q | q <;> omega
    refine ⟨h, ?_, L.1, B, FrB.rf h⟩
    rw [e_113_24 (d + 6) p _ L.1.1, kA_byte (d + 5) L, ca_ret, kA_small (d + 5) L.1.1, ca_ret, ite0, if_neg (fun q => hnw (Or.inl q)), kA_byte (d + 5) L, ca_ret, kA_digit (d + 5) L.1.1, ca_ret, ite0, if_neg (fun q => hnw (Or.inr (Or.inl q))), kA_byte (d + 5) L, ca_ret, if_neg (fun q => hnw (Or.inr (Or.inr q))), wI_id (by omega) (by omega)]
    by_cases z : 12 < we u n p - p
    · rw [if_pos z, if_pos (by omega)]
    · rw [if_neg z, if_neg (by omega)]
  | succ m ih =>
    intro k h L hk hpk B
    have hn := L.2.2.1
    have hw := w3 k hpk (by omega)
    have hrg : 0 ≤ u k ∧ u k < 128 := by rcases hw with q | q | q <;> omega
    obtain ⟨h1, e1, H1, B1, F1⟩ := kA_append d L.1 B (by omega) (by show 0 ≤ u (p + (k - p)) ∧ u (p + (k - p)) < 128; rw [show p + (k - p) = k by omega]; exact hrg)
    have e1 : fj_run (d + 6) 129 h [(4, 384), (0, u k)] = some (.inl (some (4, 384)), h1) := by
      have : u (p + (k - p)) = u k := by rw [show p + (k - p) = k by omega]
      rw [← this]; exact e1
    have L1 : LexU u n h1 := L.l B H1 (F1.l (R := fun _ _ _ => False)) ⟨fun q => q, fun _ q => q⟩
    obtain ⟨h2, e2, H2, B2, F2⟩ := ih (k + 1) h1 L1 (by omega) (by omega) (by rw [show k + 1 - p = k - p + 1 by omega]; exact B1)
    have go : c_113_58 (d + 6) p (k : Int) h = c_113_24 (d + 6) p ((k + 1 : Nat) : Int) h1 := by
      rw [e_113_58 (d + 6) p _ L.1.1, kA_byte (d + 5) L, ca_ret, wC_id hrg.1 (by omega), e1, ca_ret, wI_id (by omega) (by omega)]
      rfl
    refine ⟨h2, ?_, H2, B2, F1.tr F2⟩
    rw [← e2, ← go, e_113_24 (d + 6) p _ L.1.1, kA_byte (d + 5) L, ca_ret, kA_small (d + 5) L.1.1, ca_ret, ite0]
    by_cases q1 : xs (u k)
    · rw [if_pos q1]
    · rw [if_neg q1, kA_byte (d + 5) L, ca_ret, kA_digit (d + 5) L.1.1, ca_ret, ite0]
      by_cases q2 : xd (u k)
      · rw [if_pos q2]
      · rw [if_neg q2, kA_byte (d + 5) L, ca_ret, if_pos (by rcases hw with q | q | q; exact absurd q q1; exact absurd q q2; exact q)]
theorem kA_w99 (L : LexU u n h) {p m : Nat} (hm : h 157 377 0 = (m : Int)) (hm2 : m < 1202) (hp : p < n) (hx : xs (u p)) (B : Bd h (we u n p - p) (fun i => u (p + i))) :
    ∃ h', c_113_99 (d + 8) ((we u n p : Nat) : Int) 378 (m : Int) (if 12 < we u n p - p then 1 else 2) h = some (.inl (some (0, ((tok u n p).2.1 : Int))), h') ∧ Hp h' ∧ FrL (wrow m) h h' ∧ RowT u p (tok u n p) h' m ∧ ∃ k c, Bd h' k c := by
  have a1 := s0_378 L.1.1
  have a2 := s1_378 L.1.1
  have tn : ((378 : Int)).toNat = 378 := rfl
  have et8 : fi_et 1 8 = 8 := by decide
  have ht := L.1.1.2.2.1
  have hs : ∀ s : Int, s = 1 ∨ s = 2 → Hp (fi_upd h 8 378 m s) ∧ Fr (wrow m) h (fi_upd h 8 378 m s) ∧ Bd (fi_upd h 8 378 m s) (we u n p - p) (fun i => u (p + i)) := by
    intro s hs
    refine ⟨Hp.uB L.1 m (by decide) (by decide) (by omega), Fr.u m _ (Fr.rf _ _) (by decide) (by simp [wrow]), ?_⟩
    obtain ⟨b1, b2, b3, b4, b5, b6, b7, b8⟩ := B
    have z : ∀ f a i : Nat, a ≠ 378 → fi_upd h 8 378 m s f a i = h f a i := fun f a i q => fi_upd_ne _ _ _ _ _ (by omega)
    unfold Bd
    rw [z 145 384 0 (by omega), z 2 0 0 (by omega), z 0 _ 0 (by omega), z 1 _ 0 (by omega), z 146 384 0 (by omega), z 148 384 0 (by omega)]
    exact ⟨b1, b2, b3, b4, b5, b6, b7, fun i hi => by rw [z 8 _ i (by omega)]; exact b8 i hi⟩
  have e66 : ∀ s : Int, s = 1 ∨ s = 2 → c_113_99 (d + 8) ((we u n p : Nat) : Int) 378 (m : Int) s h = if fi_upd h 8 378 m s 8 378 m = 2 then
      ca_ (fj_run (d + 8) 140 (fi_upd h 8 378 m s) [(4, 384)]) 4
      (fun v4 h3 =>
      if v4 = 0 ∨ (fi_sup (h3 0 v4.toNat 0)).contains 131 = true then
      lt_ (fi_upd h3 12 383 m v4) fun h6 =>
      some (.inl (some (0, ((we u n p : Nat) : Int))), h6)
      else none)
      (fun q5 h3 => tx_ q5 h3) else some (.inl (some (0, ((we u n p : Nat) : Int))), fi_upd h 8 378 m s) := by
    intro s hs'
    have hm1 : fi_upd h 8 378 m s 157 377 0 = (m : Int) := by rw [fi_upd_ne _ _ _ _ _ (by omega)]; exact hm
    rw [e_113_99 (d + 8) _ _ _ _ L.1.1, tn, a1, et8, a2, if_pos ⟨by decide, by decide⟩, if_pos (by omega), wB_id (by omega) (by omega), if_pos (by rcases hs' with rfl | rfl <;> rfl)]
    repeat rewrite [lt_eq]
    rw [Int.toNat_natCast, hm1, if_pos (by omega), Int.toNat_natCast]
  by_cases q : 12 < we u n p - p
  · have e : tok u n p = (1, we u n p, 0) := by unfold tok; rw [if_neg (by omega), if_pos hx, if_pos q]
    obtain ⟨H1, F1, B1⟩ := hs 1 (Or.inl rfl)
    rw [if_pos q, e66 1 (Or.inl rfl), fi_upd_same, if_neg (by decide), e]
    exact ⟨_, rfl, H1, F1.l L.1 (by simp [wrow]), ⟨fi_upd_same _ _ _ _ _, fun z => by simp at z, fun z => by simp at z, fun z => by simp at z, fun z => by simp at z, fun z => by simp at z⟩, _, _, B1⟩
  · have e : tok u n p = (2, we u n p, 0) := by unfold tok; rw [if_neg (by omega), if_pos hx, if_neg q]
    obtain ⟨H1, F1, B1⟩ := hs 2 (Or.inr rfl)
    have s1 : fi_upd h 8 378 m 2 8 378 m = 2 := fi_upd_same _ _ _ _ _
    rw [if_neg q, e66 2 (Or.inr rfl), s1, if_pos rfl, e]
    generalize hX : fi_upd h 8 378 m 2 = h1 at *
    have ht1 := H1.1.2.2.1
    obtain ⟨h2, r1, H2, C2, v2, t2, F2, -, -⟩ := kA_toStr (d + 1) H1 B1 (by omega)
    have F2' : FrL (wrow m) h1 h2 := Fr.l H1 (F2.mono (fun _ _ _ z => z.elim)) (by simp [wrow])
    rw [r1, ca_ret, if_pos (Or.inr (by rw [C2.2.1]; rfl))]
    repeat rewrite [lt_eq]
    have H3 : Hp (fi_upd h2 12 383 m (h1 2 0 0 + 1)) := Hp.uR H2 m (by decide) (by decide) (by omega)
    have F3 : FrL (wrow m) h2 (fi_upd h2 12 383 m (h1 2 0 0 + 1)) := Fr.l H2 (Fr.u m _ (Fr.rf _ _) (by decide) (by simp [wrow])) (by simp [wrow])
    have o2 : ∀ f a i : Nat, 0 < a → (a : Int) ≤ h1 2 0 0 → h2 f a i = h1 f a i := fun f a i p q => F2.2 f a i p q (fun z => z)
    have z3 : ∀ f a i : Nat, a ≠ 383 → fi_upd h2 12 383 m (h1 2 0 0 + 1) f a i = h2 f a i := fun f a i q => fi_upd_ne _ _ _ _ _ (by omega)
    obtain ⟨b1, b2, b3, b4, b5, b6, b7, b8⟩ := B1
    refine ⟨_, rfl, H3, ((F1.l L.1 (by simp [wrow])).tr F2').tr F3, ⟨?_, fun z => by simp at z, fun z => by simp at z, fun z => by simp at z, fun z => by simp at z, fun _ => ?_⟩, we u n p - p, fun i => u (p + i), ?_⟩
    · rw [z3 8 378 m (by decide), o2 8 378 m (by decide) (by omega)]; exact s1
    · have q0 : StrN h2 (h1 2 0 0 + 1) (we u n p - p) (fun i => u (p + i)) := by
        refine ⟨C2, by omega, by rw [v2]; omega, ?_⟩
        rw [v2, o2 145 384 0 (by decide) (by omega)]; omega
      have := q0.l F3 (fun f x i hx _ _ q => by have := q.2; omega)
      rw [fi_upd_same]
      exact this
    · show Bd _ (we u n p - p) (fun i => u (p + i))
      unfold Bd
      rw [z3 145 384 0 (by omega), z3 2 0 0 (by omega), o2 145 384 0 (by decide) (by omega), z3 0 _ 0 (by omega), z3 1 _ 0 (by omega), z3 146 384 0 (by omega), z3 148 384 0 (by omega), o2 146 384 0 (by decide) (by omega), o2 148 384 0 (by decide) (by omega), o2 0 _ 0 (by omega) (by omega), o2 1 _ 0 (by omega) (by omega), t2]
      exact ⟨by omega, b2, b3, b4, b5, b6, b7, fun i hi => by rw [z3 8 _ i (by omega), o2 8 _ i (by omega) (by omega)]; exact b8 i hi⟩
/-- a token -/
theorem kA_token (L : LexU u n h) {p m : Nat} (hm : h 157 377 0 = (m : Int)) (hm2 : m < 1202) (hp : p < n) {k0 : Nat} {c0 : Nat → Int} (B0 : Bd h k0 c0) :
    ∃ h', fj_run (d + 9) 113 h [(4, 377), (0, (p : Int))] = some (.inl (some (0, ((tok u n p).2.1 : Int))), h') ∧ Hp h' ∧ FrL (wrow m) h h' ∧ RowT u p (tok u n p) h' m ∧ ∃ k c, Bd h' k c := by
  have hn := L.2.2.1
  have Bst : ∀ h' : fi_H, Fr (wrow m) h h' → ∃ k c, Bd h' k c := by
    intro h' F
    obtain ⟨b1, b2, b3, b4, b5, b6, b7, b8⟩ := B0
    have ht := L.1.1.2.2.1
    have z : ∀ f a i : Nat, 0 < a → (a : Int) ≤ h 2 0 0 → ¬ (378 ≤ a ∧ a ≤ 383) → h' f a i = h f a i := fun f a i p q r => F.2 f a i p q (fun y => by have := y.2; omega)
    refine ⟨k0, c0, ?_⟩
    unfold Bd
    rw [z 145 384 0 (by omega) (by omega) (by omega), z 0 _ 0 (by omega) (by omega) (by omega), z 1 _ 0 (by omega) (by omega) (by omega), z 146 384 0 (by omega) (by omega) (by omega), z 148 384 0 (by omega) (by omega) (by omega)]
    exact ⟨⟨b1.1, Int.le_trans b1.2 F.1⟩, b2, b3, b4, b5, b6, b7, fun i hi => by rw [z 8 _ i (by omega) (by omega) (by omega)]; exact b8 i hi⟩
  rw [m_113 (d + 8) p L.1.1, kA_byte (d + 7) L p, ca_ret, kA_small (d + 7) L.1.1, ca_ret, ite0]
  by_cases q1 : xs (u p)
  · rw [if_pos q1]
    obtain ⟨h1, e1, H1, B1, F1⟩ := kA_setl (d + 5) L.1 B0
    have L1 : LexU u n h1 := L.l B0 H1 (F1.l (R := fun _ _ _ => False)) ⟨fun q => q, fun _ q => q⟩
    obtain ⟨w1, w2, w3, w4⟩ := we_ok (u := u) (n := n) (n - p) p (by omega)
    obtain ⟨h2, e2, H2, B2, F2⟩ := kA_wordl (d + 2) (p := p) (by omega) (we u n p - p) p h1 L1 (by omega) (Nat.le_refl _) (by rw [Nat.sub_self]; exact B1 _)
    have L2 : LexU u n h2 := L1.l (B1 (fun _ => 0)) H2 (F2.l (R := fun _ _ _ => False)) ⟨fun q => q, fun _ q => q⟩
    have hm' : h2 157 377 0 = (m : Int) := by
      have ht := L.1.1.2.2.1
      rw [(F1.tr F2).1.2 157 377 0 (by decide) (by omega) (by intro z; have := B0.2.1; rcases z with z | ⟨z, -⟩ <;> exact absurd z (by decide))]; exact hm
    obtain ⟨h3, e3, H3, F3, R3, B3⟩ := kA_w99 d L2 hm' hm2 hp q1 B2
    refine ⟨h3, ?_, H3, ((F1.tr F2).l).tr F3, R3, B3⟩
    rw [e1, cv_ret, e2, hm']
    exact e3
  · rw [if_neg q1, kA_digit (d + 7) L.1.1, ca_ret, ite0]
    by_cases q2 : xd (u p)
    · rw [if_pos q2]
      obtain ⟨h', e1, H1, F1, R1⟩ := kA_digits (d + 4) L hm hm2 hp q2
      exact ⟨h', by rw [e1, ca_ret], H1, F1.l L.1 (by simp [wrow]), R1, Bst h' F1⟩
    · rw [if_neg q2, hm, if_pos (by omega), Int.toNat_natCast]
      have hrg := rB L.1 (f := 8) rfl 376 p
      rw [L.2.2.2.1 p hp] at hrg
      have H1 : Hp (fi_upd h 8 378 m 6) := Hp.uB L.1 m (by decide) (by decide) (by omega)
      have F1 : Fr (wrow m) h (fi_upd h 8 378 m 6) := Fr.u m _ (Fr.rf _ _) (by decide) (by simp [wrow])
      have hm1 : fi_upd h 8 378 m 6 157 377 0 = (m : Int) := by rw [fi_upd_ne _ _ _ _ _ (by omega)]; exact hm
      have s1 : fi_upd h 8 378 m 6 8 378 m = 6 := fi_upd_same _ _ _ _ _
      repeat rewrite [lt_eq]
      rw [hm1, if_pos (by omega), Int.toNat_natCast]
      have H2 : Hp (fi_upd (fi_upd h 8 378 m 6) 5 382 m (wC (u p))) := Hp.uC H1 m (by decide) (by decide) (wC_rg _)
      have F2 : Fr (wrow m) h (fi_upd (fi_upd h 8 378 m 6) 5 382 m (wC (u p))) := Fr.u m _ F1 (by decide) (by simp [wrow])
      have hm2' : fi_upd (fi_upd h 8 378 m 6) 5 382 m (wC (u p)) 157 377 0 = (m : Int) := by rw [fi_upd_ne _ _ _ _ _ (by omega)]; exact hm1
      have s2 : fi_upd (fi_upd h 8 378 m 6) 5 382 m (wC (u p)) 8 378 m = 6 := by rw [fi_upd_ne _ _ _ _ _ (by omega)]; exact s1
      have s3 : fi_upd (fi_upd h 8 378 m 6) 5 382 m (wC (u p)) 5 382 m = wC (u p) := fi_upd_same _ _ _ _ _
      generalize hX : fi_upd (fi_upd h 8 378 m 6) 5 382 m (wC (u p)) = h2 at *
      have L2 := L.st H2 F2 wrow_U
      have w1 : wI ((p : Int) + 1) = ((p + 1 : Nat) : Int) := by rw [wI_id (by omega) (by omega)]; omega
      have one : tok u n p = (6, p + 1, u p) → 0 ≤ u p → ∃ h', (some (.inl (some (0, wI ((p : Int) + 1))), h2) : fk_R) = some (.inl (some (0, ((tok u n p).2.1 : Int))), h') ∧ Hp h' ∧ FrL (wrow m) h h' ∧ RowT u p (tok u n p) h' m ∧ ∃ k c, Bd h' k c := by
        intro e q0
        refine ⟨h2, by rw [e, w1], H2, F2.l L.1 (by simp [wrow]), ?_, Bst h2 F2⟩
        rw [e]
        exact ⟨s2, fun z => by simp at z, fun z => by simp at z, fun z => by simp at z, fun _ => by rw [s3, wC_id q0 (by omega)], fun z => by simp at z⟩
      have et : ¬ (u p = 60 ∨ u p = 62) → sg (u p) → tok u n p = (6, p + 1, u p) := fun a b => by unfold tok; rw [if_neg (by omega), if_neg q1, if_neg q2, if_neg a, if_pos b]
      have two : u p = 60 ∨ u p = 62 → ∃ h', ca_ (fj_run (d + 8) 114 h2 [(4, 377), (0, wI ((p : Int) + 1))]) 0
                (fun v15 h14 =>
                if v15 = 61 then
                  if u p = 60 then
                    c_113_349 (d + 8) p 382 (h14 157 377 0) 108 h14
                  else
                    c_113_349 (d + 8) p 382 (h14 157 377 0) 103 h14
                else
                  some (.inl (some (0, wI ((p : Int) + 1))), h14))
                (fun q16 h14 => tx_ q16 h14) = some (.inl (some (0, ((tok u n p).2.1 : Int))), h') ∧ Hp h' ∧ FrL (wrow m) h h' ∧ RowT u p (tok u n p) h' m ∧ ∃ k c, Bd h' k c := by
        intro a
        rw [w1, kA_byte (d + 7) L2 (p + 1), ca_ret]
        by_cases a1 : u (p + 1) = 61
        · rw [if_pos a1, hm2']
          have e : tok u n p = (6, p + 2, if u p = 60 then 108 else 103) := by unfold tok; rw [if_neg (by omega), if_neg q1, if_neg q2, if_pos a, if_pos a1]
          have fin : ∀ s : Int, s = (if u p = 60 then 108 else 103) → ∃ h', c_113_349 (d + 8) p 382 (m : Int) s h2 = some (.inl (some (0, ((tok u n p).2.1 : Int))), h') ∧ Hp h' ∧ FrL (wrow m) h h' ∧ RowT u p (tok u n p) h' m ∧ ∃ k c, Bd h' k c := by
            intro s hs
            have hs2 : 0 ≤ s ∧ s < 65536 := by rw [hs]; split <;> omega
            have tn : ((382 : Int)).toNat = 382 := rfl
            have F3 : Fr (wrow m) h (fi_upd h2 5 382 m s) := Fr.u m _ F2 (by decide) (by simp [wrow])
            refine ⟨fi_upd h2 5 382 m s, ?_, Hp.uC H2 m (by decide) (by decide) hs2, F3.l L.1 (by simp [wrow]), ?_, Bst _ F3⟩
            · rw [e_113_349 (d + 8) _ _ _ _ H2.1, tn, s0_382 H2.1, s1_382 H2.1, if_pos ⟨by decide, rfl⟩, if_pos (by omega), if_pos (by simp [fi_rg]; omega)]
              repeat rewrite [lt_eq]
              rw [Int.toNat_natCast, wI_id (by omega) (by omega), e]
              rfl
            · rw [e]
              exact ⟨by rw [fi_upd_ne _ _ _ _ _ (by omega)]; exact s2, fun z => by simp at z, fun z => by simp at z, fun z => by simp at z, fun _ => by rw [fi_upd_same]; exact hs, fun z => by simp at z⟩
          by_cases a2 : u p = 60
          · rw [if_pos a2]; exact fin 108 (by rw [if_pos a2])
          · rw [if_neg a2]; exact fin 103 (by rw [if_neg a2])
        · rw [if_neg a1]
          have t := one (by unfold tok; rw [if_neg (by omega), if_neg q1, if_neg q2, if_pos a, if_neg a1]) (by omega)
          rw [w1] at t
          exact t
      by_cases c35 : u p = 35
      · rw [if_pos c35]; exact one (et (by omega) (by omega)) (by omega)
      rw [if_neg c35]
      by_cases c37 : u p = 37
      · rw [if_pos c37]; exact one (et (by omega) (by omega)) (by omega)
      rw [if_neg c37]
      by_cases c40 : u p = 40
      · rw [if_pos c40]; exact one (et (by omega) (by omega)) (by omega)
      rw [if_neg c40]
      by_cases c41 : u p = 41
      · rw [if_pos c41]; exact one (et (by omega) (by omega)) (by omega)
      rw [if_neg c41]
      by_cases c42 : u p = 42
      · rw [if_pos c42]; exact one (et (by omega) (by omega)) (by omega)
      rw [if_neg c42]
      by_cases c43 : u p = 43
      · rw [if_pos c43]; exact one (et (by omega) (by omega)) (by omega)
      rw [if_neg c43]
      by_cases c44 : u p = 44
      · rw [if_pos c44]; exact one (et (by omega) (by omega)) (by omega)
      rw [if_neg c44]
      by_cases c45 : u p = 45
      · rw [if_pos c45]; exact one (et (by omega) (by omega)) (by omega)
      rw [if_neg c45]
      by_cases c47 : u p = 47
      · rw [if_pos c47]; exact one (et (by omega) (by omega)) (by omega)
      rw [if_neg c47]
      by_cases c58 : u p = 58
      · rw [if_pos c58]; exact one (et (by omega) (by omega)) (by omega)
      rw [if_neg c58]
      by_cases c59 : u p = 59
      · rw [if_pos c59]; exact one (et (by omega) (by omega)) (by omega)
      rw [if_neg c59]
      by_cases c60 : u p = 60
      · rw [if_pos c60]; exact two (by omega)
      rw [if_neg c60]
      by_cases c61 : u p = 61
      · rw [if_pos c61]; exact one (et (by omega) (by omega)) (by omega)
      rw [if_neg c61]
      by_cases c62 : u p = 62
      · rw [if_pos c62]; exact two (by omega)
      rw [if_neg c62]
      by_cases c123 : u p = 123
      · rw [if_pos c123]; exact one (et (by omega) (by omega)) (by omega)
      rw [if_neg c123]
      by_cases c125 : u p = 125
      · rw [if_pos c125]; exact one (et (by omega) (by omega)) (by omega)
      rw [if_neg c125]
      rw [hm2', if_pos (by omega), Int.toNat_natCast, w1]
      have e : tok u n p = (1, p + 1, 0) := by unfold tok; rw [if_neg (by omega), if_neg q1, if_neg q2, if_neg (by omega), if_neg (by omega)]
      have F3 : Fr (wrow m) h (fi_upd h2 8 378 m 1) := Fr.u m _ F2 (by decide) (by simp [wrow])
      refine ⟨fi_upd h2 8 378 m 1, by rw [e], Hp.uB H2 m (by decide) (by decide) (by omega), F3.l L.1 (by simp [wrow]), ?_, Bst _ F3⟩
      rw [e]
      exact ⟨fi_upd_same _ _ _ _ _, fun z => by simp at z, fun z => by simp at z, fun z => by simp at z, fun z => by simp at z, fun z => by simp at z⟩
end LEXB
end

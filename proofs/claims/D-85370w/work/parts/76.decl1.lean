section
/-! reading: a declaration, from its word up to the colon -/
set_option maxRecDepth 100000
/-- what follows the colon -/
noncomputable def tlA (d : Nat) (x1 x2 w : Int) (h : fi_H) : fk_R :=
  if x2 = 0 then c_161_143 d x1 x2 w h else ca_ (fj_run d 162 h [(4, 377), (4, 201)]) 0 (fun v24 h23 => if v24 = 0 then ca_ (fj_run d 162 h23 [(4, 377), (4, 199)]) 0 (fun v27 h26 => if v27 = 0 then ca_ (fj_run d 164 h26 [(4, 377), (0, 1)]) 4 (fun v h => if v ≠ 0 then tx_ v.toNat h else none) (fun q h => tx_ q h) else c_161_143 d x1 x2 w h26) (fun q h => tx_ q h) else c_161_143 d x1 x2 w h23) (fun q h => tx_ q h)
noncomputable def tlB (d : Nat) (s : Int) (m : Nat) (h7 : fi_H) : fk_R :=
  if s = 2 then ca_ (fj_run d 499 h7 [(4, 602), (0, 5)]) 0 (fun v10 h9 => if v10 = 0 then ca_ (fj_run d 499 h9 [(4, 602), (0, 4)]) 0 (fun v13 h12 => if v13 = 0 then c_498_117 d (m : Int) 602 0 h12 else c_498_112 d (m : Int) 602 h12) (fun q h => tx_ q h) else c_498_112 d (m : Int) 602 h9) (fun q h => tx_ q h)
  else ca_ (fj_run d 507 h7 [(4, 602)]) 0 (fun v16 h15 => lt_ (fi_upd h15 10 611 m v16) fun h18 => cv_ (fj_run d 509 h18 [(4, 602), (0, (m : Int))]) (fun h19 => c_498_153 d h19) (fun q h => tx_ q h)) (fun q h => tx_ q h)
section DECL1
variable {u : Nat → Int} {n M i m m0 : Nat} {a b a0 b0 : fi_H} {dA dB : Nat}
theorem VE.rows {a' b' : fi_H} (p : VE a b a' b') (HB : Hp b) : ∀ f x k : Nat, 604 ≤ x → x ≤ 714 → b' f x k = b f x k := fun f x k x1 x2 => p.2.2 f x k (by omega) (by have := HB.1.2.2.1; omega) (by simp only [wVB, wTB, wvB]; omega)
theorem VE.cellA {a' b' : fi_H} (p : VE a b a' b') (HA : Hp a) : ∀ f x k : Nat, 0 < x → x ≤ 714 → f ≠ 319 → f ≠ 320 → x ≠ 304 → ¬ (x = 377 ∧ (f = 158 ∨ f = 159 ∨ (167 ≤ f ∧ f ≤ 169))) → a' f x k = a f x k := fun f x k x1 x2 f1 f2 h1 h2 => p.1.2 f x k x1 (by have := HA.1.2.2.1; omega) (by simp only [wVA, wTA, wvA]; omega)
theorem VE.b413 {a' b' : fi_H} (p : VE a b a' b') (HB : Hp b) : b' 413 602 0 = b 413 602 0 := p.2.2 413 602 0 (by decide) (by have := HB.1.2.2.1; omega) (by simp only [wVB, wTB, wvB]; omega)
theorem NE.names {a' b' : fi_H} (p : NE m a b a' b') (HA : Hp a) (HB : Hp b) (N : NmR a b m) : NmR a' b' m :=
  N.f HA HB p.1 p.2 (fun k hk => by simp only [wNA, wVA, wTA, wvA]; omega) (by simp only [wNA, wVA, wTA, wvA]; omega) (fun f x i h1 _ f1 f2 => by simp only [wNA, wVA, wTA, wvA]; omega) (fun f x i hf h1 _ => by simp only [wNA, wVA, wTA, wvA]; omega) (fun f x k h1 h2 hk => by simp only [wNB, wVB, wTB, wvB]; omega)
theorem NE.mono {a' b' : fi_H} (p : NE m a b a' b') (h : m0 ≤ m) : NE m0 a b a' b' :=
  ⟨p.1.mono (fun f x i q => q.elim Or.inl (fun q => Or.inr (q.elim (fun q => Or.inl ⟨q.1, q.2.1, by omega⟩) Or.inr))), p.2.mono (fun f x i q => q.elim Or.inl (fun q => Or.inr (q.elim (fun q => Or.inl ⟨q.1, q.2.1, by omega⟩) Or.inr)))⟩
theorem PS.mw {b' : fi_H} (q : PS u n M i a b) (HB : Hp b') {V : Nat → Nat → Nat → Prop} (G : Fr V b b') (h : ∀ f x i : Nat, V f x i → (608 ≤ x ∧ x ≤ 616) ∨ (f = 413 ∧ x = 602)) : PS u n M i a b' ∧ b' 427 602 0 = b 427 602 0 :=
  ⟨q.st q.ha HB (Fr.rf (fun _ _ _ => False) _) G (fun _ _ _ _ _ _ _ => id) (fun _ _ _ _ => id) ⟨id, id⟩ (fun f f1 f2 z => by have := h _ _ _ z; omega) ⟨fun z => by have := h _ _ _ z; omega, fun k z => by have := h _ _ _ z; omega⟩, G.2 427 602 0 (by decide) (by have := q.hb.1.2.2.1; omega) (fun z => by have := h _ _ _ z; omega)⟩
theorem t_decl1 (q : PS u n M i a b) (V : NE m0 a0 b0 a b) (hm0 : m0 ≤ m) (N : NmR a b m) (h1 : 0 ≤ a 160 377 0 ∧ a 215 303 0 + a 160 377 0 = (m : Int)) (hmB : b 413 602 0 = (m : Int)) (hk : tk u n i = 2) (hA : 10 ≤ dA) (hB : 16 ≤ dB) {x1 x2 s : Int} (hs : 0 ≤ s ∧ s ≤ 2) {P : Int → fi_H → Int → fi_H → Prop} {KA : fi_H → fk_R}
    (k : ∀ (a' b' : fi_H) (j : Nat), i < j → i + 1 < M → PS u n M j a' b' → NE m0 a0 b0 a' b' → NmR a' b' m → (0 ≤ a' 160 377 0 ∧ a' 215 303 0 + a' 160 377 0 = (m : Int)) → b' 413 602 0 = (m : Int) + 1 → m < 40 →
      (tk u n (i + 1) = 2 ∧ Nml (lw u n (i + 1)) (cw u n (i + 1)) ∧ b' 11 608 m = pk (cw u n (i + 1)) (if lw u n (i + 1) < 6 then lw u n (i + 1) else 6) ∧ b' 11 609 m = pk (fun j => cw u n (i + 1) (6 + j)) (lw u n (i + 1) - 6)) → (b' 10 610 m = s ∧ b' 10 612 m = 0 ∧ b' 10 613 m = 0 ∧ b' 4 614 m = 0) → b' 427 602 0 = b 427 602 0 →
      Bo 304 9 9 (cv_ (tlA dA x1 x2 (a' 12 383 (i + 1)) a') KA (fun q h => tx_ q h)) (tlB dB s m b') P (WrN m0 a0 b0)) :
    Bo 304 9 9 (cv_ (c_161_38 dA x1 x2 a) KA (fun q h => tx_ q h)) (c_498_73 dB s b) P (WrN m0 a0 b0) := by
  obtain ⟨e, rfl⟩ : ∃ e, dB = e + 1 := ⟨dB - 1, by omega⟩
  rw [e_161_38 dA x1 x2 q.ha.1, e_498_73 (e + 1) s q.hb.1, cv_cv]
  refine Bo.cvcv (t_take q (by omega) (by omega) ⟨by omega, by omega⟩) (fun _ a1 _ b1 HA1 HB1 w => ?_) (fun a' b' HA HB w => Bo.tx HA HB (WrN.ofE V w))
  obtain ⟨P1, T1, c1⟩ := w
  obtain ⟨a2, e2, P2, F2⟩ := t_isName P1 (dA := dA) (by omega)
  have V2 : VE a b a2 b1 := T1.v.tr (TkE.ofA F2)
  have N2 : NmR a2 b1 m := V2.names q.ha q.hb N
  have W2 : NE m0 a0 b0 a2 b1 := V.tr V2.ne
  have hi2 := P2.2.2.2.2.1
  have hp2 := P2.ple
  have c215 : a2 215 303 0 = a 215 303 0 := V2.cellA q.ha 215 303 0 (by decide) (by decide) (by decide) (by decide) (by decide) (by decide)
  have c160 : a2 160 377 0 = a 160 377 0 := V2.cellA q.ha 160 377 0 (by decide) (by decide) (by decide) (by decide) (by decide) (by decide)
  have c413 : b1 413 602 0 = (m : Int) := (V2.b413 q.hb).trans hmB
  have hsum : wI (a2 215 303 0 + a2 160 377 0) = (m : Int) := by have := N.1; rw [c215, c160, h1.2, wI_id (by omega) (by omega)]
  have hm40 := N.1
  obtain ⟨r, hrA, hrB, hrr⟩ : ∃ r : Int, (tk u n (i + 1) = 2 → fj_run dA 181 a2 [(4, 377), (4, a2 12 383 (i + 1))] = some (.inl (some (0, r)), a2)) ∧ (tk u n (i + 1) = 2 → fj_run e 504 b1 [(4, 602)] = some (.inl (some (0, r)), b1)) ∧ (r = -1 ∨ (0 ≤ r ∧ r < (m : Int))) := by
    by_cases z : tk u n (i + 1) = 2
    · obtain ⟨r, x1, x2, x3⟩ := t_nameOf P2 (dA := dA) (dB := e) (by omega) (by omega) z N2 (by rw [c215, c160]; exact h1.2) c413
      exact ⟨r, fun _ => x1, fun _ => x2, x3⟩
    · exact ⟨-1, fun w => absurd w z, fun w => absurd w z, Or.inl rfl⟩
  rw [cv_ca, e2, ca_ret, ite0, kB_new P2 (d := e) (by omega) hrB c413 hm40]
  have thr : ∀ k : Int, 0 ≤ k → k < 100 → Bo 304 9 9 (some (.inr 304, wra a2 k (pl u n (i + 1)))) (some (.inr 603, wrb b1 k (pl u n (i + 1)))) P (WrN m0 a0 b0) := fun k k1 k2 => n_wr P2.ha P2.hb W2 (by omega) (by omega)
  by_cases z : tk u n (i + 1) = 2 ∧ kw u n (i + 1) = -1
  · rw [if_pos z, if_pos z, P2.at, if_pos (by omega : (0 : Int) ≤ ((i + 1 : Nat) : Int) ∧ ((i + 1 : Nat) : Int) < 1202), Int.toNat_natCast, hrA z.1, cv_ca, ca_ret]
    by_cases zr : r = -1
    · rw [if_pos zr, if_pos zr, hsum]
      by_cases zm : m < 40
      · rw [if_neg (by omega : ¬ (m : Int) = 40), if_pos zm, cv_cv, ca_cv]
        have HB3 : Hp (nwr b1 m) := nwr_hp P2.hb
        have GB3 : Fr (wnr m) b1 (nwr b1 m) := nwr_fr
        obtain ⟨v1, v2, v3, v4, v5⟩ := nwr_v (b := b1) (m := m)
        obtain ⟨P3, c3⟩ := P2.mw HB3 GB3 (fun f x i w => Or.inl w.2)
        have k413 : nwr b1 m 413 602 0 = (m : Int) := by rw [GB3.2 413 602 0 (by decide) (by have := P2.hb.1.2.2.1; omega) (by omega)]; exact c413
        have L3 : NE m a b a2 (nwr b1 m) := V2.ne.tr ⟨Fr.rf _ _, GB3.mono (fun f x i w => Or.inr (Or.inl ⟨w.2.1, w.2.2, by omega⟩))⟩
        generalize nwr b1 m = b3 at *
        refine Bo.cvcv (t_take P3 (by omega) (by omega) ⟨by omega, by omega⟩) (fun _ a4 _ b4 HA4 HB4 w => ?_) (fun a' b' HA HB w => Bo.tx HA HB (WrN.ofE (V.tr (L3.mono hm0)) w))
        obtain ⟨P4, T4, c4⟩ := w
        have L4 : NE m a b a4 b4 := L3.tr T4.v.ne
        have j413 : b4 413 602 0 = (m : Int) := (T4.v.b413 HB3).trans k413
        rw [lt_eq, j413, wI_id (by omega) (by omega), cv_cv, ca_cv]
        have HB5 : Hp (fi_upd b4 413 602 0 ((m : Int) + 1)) := Hp.uI HB4 0 (by decide) (by decide) (by omega)
        have GB5 : Fr (fun f x _ => f = 413 ∧ x = 602) b4 (fi_upd b4 413 602 0 ((m : Int) + 1)) := Fr.u 0 _ (Fr.rf _ _) (by decide) ⟨rfl, rfl⟩
        have i413 : fi_upd b4 413 602 0 ((m : Int) + 1) 413 602 0 = (m : Int) + 1 := fi_upd_same _ _ _ _ _
        have o5 : ∀ f x, 604 ≤ x → fi_upd b4 413 602 0 ((m : Int) + 1) f x m = b4 f x m := fun f x hx => fi_upd_ne _ _ _ _ _ (by omega)
        obtain ⟨P5, c5⟩ := P4.mw HB5 GB5 (fun f x i w => Or.inr w)
        have L5 : NE m a b a4 (fi_upd b4 413 602 0 ((m : Int) + 1)) := L4.tr ⟨Fr.rf _ _, GB5.mono (fun f x i w => Or.inr (Or.inr w))⟩
        generalize fi_upd b4 413 602 0 ((m : Int) + 1) = b5 at *
        refine Bo.cvcv (t_need P5 (by omega) (by omega) (by decide)) (fun _ a6 _ b6 HA6 HB6 w => ?_) (fun a' b' HA HB w => Bo.tx HA HB (WrN.ofE (V.tr (L5.mono hm0)) w))
        obtain ⟨P6, T6, c6, -⟩ := w
        have L6 : NE m a b a6 b6 := L5.tr T6.v.ne
        have h413 : b6 413 602 0 = (m : Int) + 1 := (T6.v.b413 HB5).trans i413
        rw [ca_ret, if_pos (by omega : (0 : Int) ≤ (m : Int) ∧ (m : Int) < 41), Int.toNat_natCast, lt_eq]
        have HB7 : Hp (fi_upd b6 10 610 m s) := Hp.uI HB6 m (by decide) (by decide) (by omega)
        have GB7 : Fr (wnr m) b6 (fi_upd b6 10 610 m s) := Fr.u m _ (Fr.rf _ _) (by decide) ⟨rfl, by decide, by decide⟩
        obtain ⟨P7, c7⟩ := P6.mw HB7 GB7 (fun f x i w => Or.inl w.2)
        have L7 : NE m a b a6 (fi_upd b6 10 610 m s) := L6.tr ⟨Fr.rf _ _, GB7.mono (fun f x i w => Or.inr (Or.inl ⟨w.2.1, w.2.2, by omega⟩))⟩
        have o7 : ∀ f x, 604 ≤ x → x ≤ 714 → x ≠ 610 → fi_upd b6 10 610 m s f x m = b3 f x m := fun f x h1 h2 h3 => by rw [fi_upd_ne _ _ _ _ _ (by omega), T6.v.rows HB5 f x m h1 h2, o5 f x h1, T4.v.rows HB3 f x m h1 h2]
        have s7 : fi_upd b6 10 610 m s 10 610 m = s := fi_upd_same _ _ _ _ _
        have g413 : fi_upd b6 10 610 m s 413 602 0 = (m : Int) + 1 := by rw [fi_upd_ne _ _ _ _ _ (by omega)]; exact h413
        have hw : a6 12 383 (i + 1) = a2 12 383 (i + 1) := by rw [T6.v.cellA P5.ha 12 383 (i + 1) (by decide) (by decide) (by decide) (by decide) (by decide) (by decide), T4.v.cellA P3.ha 12 383 (i + 1) (by decide) (by decide) (by decide) (by decide) (by decide) (by decide)]
        have d215 : a6 215 303 0 = a2 215 303 0 := by rw [T6.v.cellA P5.ha 215 303 0 (by decide) (by decide) (by decide) (by decide) (by decide) (by decide), T4.v.cellA P3.ha 215 303 0 (by decide) (by decide) (by decide) (by decide) (by decide) (by decide)]
        have d160 : a6 160 377 0 = a2 160 377 0 := by rw [T6.v.cellA P5.ha 160 377 0 (by decide) (by decide) (by decide) (by decide) (by decide) (by decide), T4.v.cellA P3.ha 160 377 0 (by decide) (by decide) (by decide) (by decide) (by decide) (by decide)]
        have tw := P2.tb.2.2.2.2.1 z.1
        have b401 : b1 401 602 0 = pk (fun j => cw u n (i + 1) (6 + j)) (lw u n (i + 1) - 6) := by
          rw [tw.2.2.2]
          refine pk_cong _ (fun j _ => ?_)
          show u (pl u n (i + 1) + 6 + j) = u (pl u n (i + 1) + (6 + j))
          rw [show pl u n (i + 1) + 6 + j = pl u n (i + 1) + (6 + j) by omega]
        have res := k a6 (fi_upd b6 10 610 m s) (i + 1 + 1 + 1) (by omega) hi2.1 P7 (V.tr (L7.mono hm0)) (L7.names q.ha q.hb N) ⟨by rw [d160, c160]; exact h1.1, by rw [d215, d160, c215, c160]; exact h1.2⟩ g413 zm ⟨z.1, P2.nml z.1 z.2, by rw [o7 11 608 (by decide) (by decide) (by decide), v1]; exact tw.2.2.1, by rw [o7 11 609 (by decide) (by decide) (by decide), v2]; exact b401⟩ ⟨s7, by rw [o7 10 612 (by decide) (by decide) (by decide), v3], by rw [o7 10 613 (by decide) (by decide) (by decide), v4], by rw [o7 4 614 (by decide) (by decide) (by decide), v5]⟩ (by rw [c7, c6, c5, c4, c3, c1])
        rw [hw] at res
        exact res
      · rw [if_pos (by omega : (m : Int) = 40), if_neg zm, kA_thr P2 (by omega) (by omega), cv_thr, tx_304 (wra_hp P2.ha (by omega) (by omega)), ca_thr, tx_603 (wrb_hp P2.hb (by omega) (by omega))]
        exact thr 4 (by omega) (by omega)
    · rw [if_neg zr, if_neg zr, kA_thr P2 (by omega) (by omega), cv_thr, tx_304 (wra_hp P2.ha (by omega) (by omega)), ca_thr, tx_603 (wrb_hp P2.hb (by omega) (by omega))]
      exact thr 2 (by omega) (by omega)
  · rw [if_neg z, if_neg z, kA_thr P2 (by omega) (by omega), cv_thr, tx_304 (wra_hp P2.ha (by omega) (by omega)), ca_thr, tx_603 (wrb_hp P2.hb (by omega) (by omega))]
    exact thr 1 (by omega) (by omega)
end DECL1
end

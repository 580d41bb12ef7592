section
/-! reading: a declaration from the colon on -/
set_option maxRecDepth 100000
section DECL5
variable {u : Nat → Int} {n M i m m0 : Nat} {a b a0 b0 : fi_H} {dA dB : Nat}
theorem DE.ne {r : Int} {a' b' a1 b1 : fi_H} (V : NE m0 a0 b0 a1 b1) (D : DE r m a1 b1 a' b') (hr : a0 2 0 0 < r) (hm0 : m0 ≤ m) : NE m0 a0 b0 a' b' :=
  ⟨V.1.on D.1 (fun f x i h0 hx z => z.elim Or.inl (fun z => by omega)), V.2.tr (D.2.mono (fun f x i z => z.elim Or.inl (fun z => Or.inr (Or.inl (by omega)))))⟩
theorem t_decl2 (q : PS u n M i a b) (V : NE m0 a0 b0 a b) (hm0 : m0 ≤ m) (N : NmR a b m) (h1 : 0 ≤ a 160 377 0 ∧ a 215 303 0 + a 160 377 0 = (m : Int)) (h413 : b 413 602 0 = (m : Int) + 1) (hm : m < 40) (h0 : 0 ≤ a 215 303 0) {j0 : Nat} (hj0 : j0 < M)
    (hn : tk u n j0 = 2 ∧ Nml (lw u n j0) (cw u n j0) ∧ b 11 608 m = pk (cw u n j0) (if lw u n j0 < 6 then lw u n j0 else 6) ∧ b 11 609 m = pk (fun j => cw u n j0 (6 + j)) (lw u n j0 - 6)) {s : Int} (hrow : b 10 610 m = s ∧ b 10 612 m = 0 ∧ b 10 613 m = 0 ∧ b 4 614 m = 0) (hs : s = 0 ∨ s = 1 ∨ s = 2) (hA : 15 ≤ dA) (hB : 21 ≤ dB) {P : Int → fi_H → Int → fi_H → Prop} {KA : fi_H → fk_R}
    (k : ∀ (a' b' : fi_H) (j : Nat), i < j → PS u n M j a' b' → NE m0 a0 b0 a' b' → NmR a' b' (m + 1) → (0 ≤ a' 160 377 0 ∧ a' 215 303 0 + a' 160 377 0 = ((m + 1 : Nat) : Int)) → b' 413 602 0 = ((m + 1 : Nat) : Int) → b' 427 602 0 = b 427 602 0 → a' 215 303 0 = a 215 303 0 → Bo 304 9 9 (KA a') (c_498_0 dB b') P (WrN m0 a0 b0)) :
    Bo 304 9 9 (cv_ (tlA dA (if s = 1 then 1 else 0) (if s = 2 then 1 else 0) (a 12 383 j0) a) KA (fun q h => tx_ q h)) (tlB dB s m b) P (WrN m0 a0 b0) := by
  have tn : ((602 : Int)).toNat = 602 := rfl
  have vt : fi_vt 348 129 = some 500 := rfl
  have hp := q.ple
  unfold tlA tlB
  by_cases s2 : s = 2
  · subst s2
    rw [if_neg (by decide : ¬ (2 : Int) = 1), if_pos (rfl : (2 : Int) = 2), if_pos (rfl : (2 : Int) = 2), if_neg (by decide : ¬ (1 : Int) = 0), t_isWordA q (by omega) (li_w5 q.ha), ca_ret, ite0, t_isWordB q (by omega) (by decide), ca_ret, ite0]
    have good : tk u n i = 2 ∧ (kw u n i = 4 ∨ kw u n i = 5) → Bo 304 9 9 (cv_ (c_161_143 dA 0 1 (a 12 383 j0) a) KA (fun q h => tx_ q h)) (c_498_112 dB (m : Int) 602 b) P (WrN m0 a0 b0) := by
      intro hw
      rw [e_498_112 dB _ _ q.hb.1, e_498_117 dB _ _ _ q.hb.1, tn, s0_602 q.hb.1, vt, dv_s, kB_need1 q.hb (by omega) (by decide), cv_ret]
      refine t_made q V hm0 N h1 h413 hj0 hn.1 (by omega) (by omega) (Or.inl rfl) (Or.inr rfl) (fun a6 b6 r κ P6 V6 N6 k1 k215 k413 c6 o6 r1 r2 r3 r4 r5 r6 r7 r8 r9 hκ hκ2 hra L6 => ?_)
      have HB7 : Hp (fi_upd b6 10 611 m κ) := Hp.uI P6.hb m (by decide) (by decide) (by omega)
      have GB7 : Fr (wnr m) b6 (fi_upd b6 10 611 m κ) := Fr.u m _ (Fr.rf _ _) (by decide) ⟨rfl, by decide, by decide⟩
      obtain ⟨P7, c7⟩ := P6.mw HB7 GB7 (fun f x i w => Or.inl w.2)
      have o7 : ∀ f x, 604 ≤ x → x ≤ 714 → x ≠ 611 → fi_upd b6 10 611 m κ f x m = b f x m := fun f x x1 x2 x3 => by rw [fi_upd_ne _ _ _ _ _ (by omega)]; exact o6 f x x1 x2
      have s7 : fi_upd b6 10 611 m κ 10 611 m = κ := fi_upd_same _ _ _ _ _
      have g413 : fi_upd b6 10 611 m κ 413 602 0 = (m : Int) + 1 := by rw [fi_upd_ne _ _ _ _ _ (by omega)]; exact k413
      have L7 : NE m a b a6 (fi_upd b6 10 611 m κ) := L6.tr ⟨Fr.rf _ _, GB7.mono (fun f x i w => Or.inr (Or.inl ⟨w.2.1, w.2.2, by omega⟩))⟩
      rw [if_neg (by decide : ¬ (1 : Int) = 0), if_pos (by omega : (0 : Int) ≤ (m : Int) ∧ (m : Int) < 41), Int.toNat_natCast, lt_eq]
      generalize fi_upd b6 10 611 m κ = b7 at *
      have T7 : NmT a6 b7 r m := by
        refine ⟨r1, r2, ⟨_, _, r3, hn.2.1, ?_, ?_⟩, ?_, ?_, fun _ => ?_, fun z => ?_, ?_, ?_⟩
        · rw [o7 11 608 (by omega) (by omega) (by omega)]; exact hn.2.2.1
        · rw [o7 11 609 (by omega) (by omega) (by omega)]; exact hn.2.2.2
        · rw [s7, r6]; exact ⟨hκ.1, hκ.2, rfl⟩
        · rw [o7 10 610 (by omega) (by omega) (by omega), hrow.1, r4, r5, r9]; exact ⟨by decide, by decide, rfl, rfl, rfl⟩
        · rw [s7]; omega
        · rw [o7 10 610 (by omega) (by omega) (by omega), hrow.1] at z; omega
        · rw [o7 10 612 (by omega) (by omega) (by omega), hrow.2.1, r7]; exact ⟨by decide, by decide, rfl, fun z => absurd rfl z⟩
        · rw [o7 4 614 (by omega) (by omega) (by omega), hrow.2.2.2, r8]; exact ⟨rfl, fun z => by omega⟩
      exact t_decl3 P7 (V.tr (L7.mono hm0)) hm0 (L7.names q.ha q.hb N) T7 k1 hm g413 (by rw [k215]; exact h0) (by omega) (by omega) (fun a' b' j hj w1 w2 w3 w4 w5 w6 w7 => k a' b' j (by omega) w1 w2 w3 w4 w5 (by rw [w6, c7, c6]) (by rw [w7, k215]))
    by_cases z5 : tk u n i = 2 ∧ kw u n i = 5
    · rw [if_pos ((t_word (w := 5) (by decide)).mpr z5), if_pos z5]
      exact good ⟨z5.1, Or.inr z5.2⟩
    · rw [if_neg (fun y => z5 ((t_word (w := 5) (by decide)).mp y)), if_neg z5, t_isWordA q (by omega) (li_w4 q.ha), ca_ret, ite0, t_isWordB q (by omega) (by decide), ca_ret, ite0]
      by_cases z4 : tk u n i = 2 ∧ kw u n i = 4
      · rw [if_pos ((t_word (w := 4) (by decide)).mpr z4), if_pos z4]
        exact good ⟨z4.1, Or.inl z4.2⟩
      · rw [if_neg (fun y => z4 ((t_word (w := 4) (by decide)).mp y)), if_neg z4, kA_thr q (by omega) (by omega), cv_thr, tx_304 (wra_hp q.ha (by omega) (by omega)), e_498_117 dB _ _ _ q.hb.1, tn, s0_602 q.hb.1, vt, dv_s, q.tb.1, kB_need0 q.hb (by omega) (by omega) (by omega), cv_thr, tx_603 (wrb_hp q.hb (by omega) (by omega))]
        exact n_wr q.ha q.hb V (by omega) (by omega)
  · rw [if_neg s2, if_neg s2, if_pos (rfl : (0 : Int) = 0)]
    refine t_made q V hm0 N h1 h413 hj0 hn.1 (by omega) (by omega) (by split <;> omega) (Or.inl rfl) (fun a6 b6 r κ P6 V6 N6 k1 k215 k413 c6 o6 r1 r2 r3 r4 r5 r6 r7 r8 r9 hκ hκ2 hra L6 => ?_)
    have HB7 : Hp (fi_upd b6 10 611 m κ) := Hp.uI P6.hb m (by decide) (by decide) (by omega)
    have GB7 : Fr (wnr m) b6 (fi_upd b6 10 611 m κ) := Fr.u m _ (Fr.rf _ _) (by decide) ⟨rfl, by decide, by decide⟩
    obtain ⟨P7, c7⟩ := P6.mw HB7 GB7 (fun f x i w => Or.inl w.2)
    have o7 : ∀ f x, 604 ≤ x → x ≤ 714 → x ≠ 611 → fi_upd b6 10 611 m κ f x m = b f x m := fun f x x1 x2 x3 => by rw [fi_upd_ne _ _ _ _ _ (by omega)]; exact o6 f x x1 x2
    have s7 : fi_upd b6 10 611 m κ 10 611 m = κ := fi_upd_same _ _ _ _ _
    have g413 : fi_upd b6 10 611 m κ 413 602 0 = (m : Int) + 1 := by rw [fi_upd_ne _ _ _ _ _ (by omega)]; exact k413
    have L7 : NE m a b a6 (fi_upd b6 10 611 m κ) := L6.tr ⟨Fr.rf _ _, GB7.mono (fun f x i w => Or.inr (Or.inl ⟨w.2.1, w.2.2, by omega⟩))⟩
    rw [if_pos (rfl : (0 : Int) = 0), lt_eq, cv_cv]
    generalize fi_upd b6 10 611 m κ = b7 at *
    have Th7 : Thg a6 b7 r m s κ := ⟨r1, r2, r4, r6, by rw [o7 10 610 (by omega) (by omega) (by omega)]; exact hrow.1, s7, hm, by omega, hκ⟩
    have hra0 : a0 2 0 0 < r := by have := V.1.1; omega
    refine Bo.cvcv (d_mode P7 Th7 r7 (by omega) (by omega)) (fun _ a8 _ b8 HA8 HB8 w => ?_) (fun a' b' HA HB w => Bo.tx HA HB ⟨w.1, DE.ne (V.tr (L7.mono hm0)) w.2 hra0 hm0⟩)
    obtain ⟨⟨j, hj, P8⟩, D8, c8, w4, w5, w6, w7, w8⟩ := w
    have L8 : NE m a b a8 b8 := DE.ne L7 D8 hra (Nat.le_refl _)
    have ta := P7.ha.1.2.2.1
    have tb := P7.hb.1.2.2.1
    have c145 : a8 145 384 0 = a6 145 384 0 := D8.1.2 145 384 0 (by decide) (by omega) (by simp only [wDA, wVA, wTA, wvA, wr]; omega)
    have c160 : a8 160 377 0 = a6 160 377 0 := D8.1.2 160 377 0 (by decide) (by omega) (by simp only [wDA, wVA, wTA, wvA, wr]; omega)
    have c215 : a8 215 303 0 = a6 215 303 0 := D8.1.2 215 303 0 (by decide) (by omega) (by simp only [wDA, wVA, wTA, wvA, wr]; omega)
    have d413 : b8 413 602 0 = (m : Int) + 1 := by rw [D8.2.2 413 602 0 (by decide) (by omega) (by simp only [wDB, wVB, wTB, wvB, wm]; omega)]; exact g413
    have key : ∀ x : Nat, (x : Int) = r → a6 0 x 0 = 124 := fun x hx => by rw [← r2, ← hx, Int.toNat_natCast]
    have S8 : StrN a8 (a8 321 r.toNat 0) (lw u n j0) (cw u n j0) := by
      rw [w5 321 (by omega)]
      exact r3.f D8.1 c145 (fun f x i hx hc f1 f2 z => by
        rcases z with z | z
        · simp only [wVA, wTA, wvA] at z; omega
        · have := key x z.1; omega)
    have T8 : NmT a8 b8 r m := by
      refine ⟨⟨r1.1, by have := D8.1.1; omega⟩, by rw [w5 0 (by omega)]; exact r2, ⟨_, _, S8, hn.2.1, ?_, ?_⟩, ?_, ?_, fun z => ?_, fun z => ?_, ?_, ?_⟩
      · rw [w6 11 608 (by omega) (by omega) (by omega), o7 11 608 (by omega) (by omega) (by omega)]; exact hn.2.2.1
      · rw [w6 11 609 (by omega) (by omega) (by omega), o7 11 609 (by omega) (by omega) (by omega)]; exact hn.2.2.2
      · rw [w6 10 611 (by omega) (by omega) (by omega), s7, w5 324 (by omega), r6]; exact ⟨hκ.1, hκ.2, rfl⟩
      · rw [w5 322 (by omega), w5 323 (by omega), r4, r5]
        rcases w4 with ⟨p1, p2⟩ | ⟨p1, p2, p3, p4⟩
        · rw [p1, p2, r9, if_neg s2, if_neg (by omega : ¬ s = 3)]; exact ⟨by omega, by omega, rfl, rfl, rfl⟩
        · rw [p1, p4, p2]; exact ⟨by decide, by decide, rfl, rfl, rfl⟩
      · exfalso
        rcases w4 with ⟨p1, p2⟩ | ⟨p1, p2, p3, p4⟩ <;> omega
      · rw [w6 10 611 (by omega) (by omega) (by omega), s7]
        rcases w4 with ⟨p1, p2⟩ | ⟨p1, p2, p3, p4⟩ <;> omega
      · rcases w8 with ⟨p1, p2, p3, p4⟩ | ⟨-, p1, p2, p3, p4, p5, p6, p7, p8⟩
        · rw [p3, o7 10 612 (by omega) (by omega) (by omega), hrow.2.1, p1, r7]; exact ⟨by decide, by decide, rfl, fun z => absurd rfl z⟩
        · refine ⟨by omega, p4, p5, fun _ => ⟨?_, ?_, p6, p7, p8⟩⟩
          · rcases w4 with ⟨g1, g2⟩ | ⟨g1, g2, g3, g4⟩ <;> omega
          · rw [w6 10 611 (by omega) (by omega) (by omega), s7]; exact p2
      · rcases w7 with ⟨p1, p2⟩ | ⟨p1, p2, p3, p4, p5⟩
        · rw [p2, o7 4 614 (by omega) (by omega) (by omega), hrow.2.2.2, p1, r8]; exact ⟨rfl, fun z => by omega⟩
        · rw [w6 10 611 (by omega) (by omega) (by omega), s7, p1, p2]; exact ⟨rfl, fun _ => ⟨p3, p4, p5⟩⟩
    exact t_decl3 P8 (V.tr (L8.mono hm0)) hm0 (L8.names q.ha q.hb N) T8 (by rw [c160, c215]; exact k1) hm d413 (by rw [c215, k215]; exact h0) (by omega) (by omega) (fun a' b' j' hj' w1 w2 w3 w4 w5 w6 w7 => k a' b' j' (by omega) w1 w2 w3 w4 w5 (by rw [w6, c8, c7, c6]) (by rw [w7, c215, k215]))
end DECL5
end

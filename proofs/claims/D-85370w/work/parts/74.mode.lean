section
/-! reading: a name's mode, and what follows it -/
set_option maxRecDepth 100000
section MODE
variable {u : Nat → Int} {n M i m : Nat} {a b : fi_H} {r s κ : Int} {dA dB : Nat}
theorem TkE.ofA {a' : fi_H} (F : Fr wTA a a') : VE a b a' b := ⟨F.mono (fun _ _ _ q => Or.inl q), Fr.rf _ _⟩
/-- the tail of a declaration, its mode read: from a2, b2 on -/
theorem d_tail {a2 b2 : fi_H} {md : Prop} (q : PS u n M i a b) (D : DE r m a b a2 b2) (c2 : b2 427 602 0 = b 427 602 0) {j0 : Nat} (hj0 : i ≤ j0) (P2 : PS u n M j0 a2 b2) (T2 : Thg a2 b2 r m s κ) (hA : 12 ≤ dA) (hB : 18 ≤ dB)
    (e : ∀ f, (f = 0 ∨ (321 ≤ f ∧ f ≤ 324) ∨ (327 ≤ f ∧ f ≤ 330)) → a2 f r.toNat 0 = a f r.toNat 0) (eb : ∀ f x : Nat, (608 ≤ x ∧ x ≤ 611) ∨ 614 ≤ x → x ≤ 616 → b2 f x m = b f x m)
    (k : (a2 325 r.toNat 0 = a 325 r.toNat 0 ∧ a2 326 r.toNat 0 = a 326 r.toNat 0 ∧ b2 10 612 m = b 10 612 m ∧ b2 10 613 m = b 10 613 m) ∨ (md ∧ s = 1 ∧ κ = 2 ∧ 1 ≤ b2 10 612 m ∧ b2 10 612 m ≤ 4 ∧ a2 325 r.toNat 0 = 10 + b2 10 612 m ∧ a2 326 r.toNat 0 = b2 10 613 m ∧ 1 ≤ b2 10 613 m ∧ b2 10 613 m ≤ 999999999)) :
    Bo 304 9 9 (c_186_58 dA r a2) (c_509_93 dB (m : Int) b2) (AdP u n M i r m s κ a b md) (WrD r m a b) := by
  refine (d_else P2 T2 hA hB).imp (fun _ a6 _ b6 _ _ w => ?_) (fun a6 b6 _ _ w => ⟨w.1, D.tr w.2⟩)
  obtain ⟨⟨j', w1, w1'⟩, w2, w3, w4, w5, w6, w7, w8⟩ := w
  have w8 := w8.resolve_right (fun z => z.1)
  refine ⟨⟨j', by omega, w1'⟩, D.tr w2, w3.trans c2, ?_, fun f hf => by rw [w5 f hf, e f (by omega)], fun f x h1 h2 h3 => by rw [w6 f x h1 h2 h3, eb f x (by omega) (by omega)], ?_, ?_⟩
  · rcases w4 with w4 | w4
    · exact Or.inl ⟨w4.1, by rw [w4.2, e 330 (by omega)]⟩
    · exact Or.inr w4
  · rcases w7 with w7 | w7
    · exact Or.inl ⟨by rw [w7.1, e 329 (by omega)], by rw [w7.2, eb 4 614 (by omega) (by omega)]⟩
    · exact Or.inr w7
  · rw [w8.1, w8.2.1, w8.2.2.1, w8.2.2.2]; exact k
theorem d_mode (q : PS u n M i a b) (T : Thg a b r m s κ) (h10 : a 325 r.toNat 0 = 10) (hA : 13 ≤ dA) (hB : 19 ≤ dB) :
    Bo 304 9 9 (fj_run dA 186 a [(4, 377), (4, r)]) (fj_run dB 509 b [(4, 602), (0, (m : Int))]) (AdP u n M i r m s κ a b True) (WrD r m a b) := by
  obtain ⟨d, rfl⟩ : ∃ e, dA = e + 1 := ⟨dA - 1, by omega⟩
  obtain ⟨e, rfl⟩ : ∃ e, dB = e + 1 := ⟨dB - 1, by omega⟩
  have tn : ((602 : Int)).toNat = 602 := rfl
  have vt : fi_vt 348 129 = some 500 := rfl
  have hp := q.ple
  have sB := t_sortB q
  have tr := tk_rg (u := u) (n := n) i
  have kr := kw_rg (u := u) (n := n) i
  have hm : m < 40 := T.2.2.2.2.2.2.1
  obtain ⟨a1, P1, F1, e1⟩ := kA_mode q (dA := d) (by omega)
  have V1 : VE a b a1 b := TkE.ofA F1
  have T1 := T.v V1 q.hb
  obtain ⟨eo, -⟩ := V1.thing (r := r) (m := m) q.hb T.1
  obtain ⟨t1, t2, t3, t4, t5, t6, t7, t8, t9⟩ := T1
  have hr2 : 302 < r := by omega
  have mr : 0 ≤ mdw u n i ∧ mdw u n i ≤ 4 := by unfold mdw; split <;> omega
  have HA2 : Hp (fi_upd a1 325 r.toNat 0 (10 + mdw u n i)) := P1.ha.dr t1.1 t2 (by decide) (show 0 ≤ _ ∧ _ by have := P1.ha.1.2.2.1; omega)
  have FA2 : Fr (wr r) a1 (fi_upd a1 325 r.toNat 0 (10 + mdw u n i)) := (Fr.rf _ _).dr t1.1 (by omega) _
  have x1 : fi_upd a1 325 r.toNat 0 (10 + mdw u n i) 325 r.toNat 0 = 10 + mdw u n i := fi_upd_same _ _ _ _ _
  have x2 : ∀ f, f ≠ 325 → fi_upd a1 325 r.toNat 0 (10 + mdw u n i) f r.toNat 0 = a1 f r.toNat 0 := fun f hf => fi_upd_ne _ _ _ _ _ (by omega)
  rw [m_186 d r q.ha.1, e1, ca_ret, if_pos t2, if_pos hr2, lt_eq, m_509 e _ q.hb.1]
  have hr3 : 714 < r ∧ r ≤ fi_upd a1 325 r.toNat 0 (10 + mdw u n i) 2 0 0 := ⟨t1.1, by have := FA2.1; omega⟩
  generalize fi_upd a1 325 r.toNat 0 (10 + mdw u n i) = a2 at *
  rw [x1, x2 322 (by decide), x2 324 (by decide), t3, t4]
  by_cases z : tk u n i = 2 ∧ 10 ≤ kw u n i ∧ kw u n i ≤ 13
  · have hmd : mdw u n i = kw u n i - 9 := by unfold mdw; rw [if_pos z]
    rw [if_neg (by omega : ¬ tk u n i = 0), if_neg (by omega : ¬ tk u n i = 1), if_pos z.1, if_neg (by omega)] at sB
    have b395 : b 395 602 0 = kw u n i := (q.tb.2.2.2.2.1 z.1).1
    obtain ⟨e, rfl⟩ : ∃ k, e = k + 1 := ⟨e - 1, by omega⟩
    obtain ⟨P2, c2⟩ := P1.dw t1 t2 HA2 q.hb FA2 (Fr.rf (wm m) _)
    rw [if_neg (by omega : ¬ 10 + mdw u n i = 10), if_pos sB, b395, wI_id (by omega) (by omega), kB_in e q.hb.1 (by omega) (by omega) (by omega), ca_ret, if_pos z.2, if_neg (by decide : ¬ (1 : Int) = 0), if_pos (by omega : (0 : Int) ≤ (m : Int) ∧ (m : Int) < 41), Int.toNat_natCast, t5, t6]
    have badA : c_186_35 d a2 = some (.inr 304, wra a2 5 (pl u n i)) := by rw [e_186_35 d HA2.1]; exact kA_thr P2 (by omega) (by omega)
    have badB : c_509_50 (e + 1) (m : Int) 602 b = some (.inr 603, wrb b 5 (pl u n i)) := by
      rw [e_509_50 (e + 1) _ _ q.hb.1, e_509_51 (e + 1) _ _ _ q.hb.1, tn, s0_602 q.hb.1, vt, dv_s, q.tb.1, kB_need0 q.hb (by omega) (by omega) (by omega), cv_thr, tx_603 (wrb_hp q.hb (by omega) (by omega))]
    have D2 : DE r m a b a2 b := V1.d.tr (DE.w FA2 (Fr.rf _ _))
    have thr : ∀ (P : Int → fi_H → Int → fi_H → Prop), Bo 304 9 9 (some (.inr 304, wra a2 5 (pl u n i))) (some (.inr 603, wrb b 5 (pl u n i))) P (WrD r m a b) := fun P => (v_wr HA2 q.hb (VE.rf _ _) (by omega) (by omega)).imp (fun _ _ _ _ _ _ w => w) (fun _ _ _ _ w => WrD.of D2 w)
    by_cases s1 : s = 1
    · by_cases k2 : κ = 2
      · rw [if_pos s1, if_neg (by decide : ¬ (1 : Int) = 0), if_pos (by omega : 2 + κ = 4), if_pos s1, if_pos k2, e_509_51 (e + 1) _ _ _ q.hb.1, tn, s0_602 q.hb.1, vt, dv_s, kB_need1 q.hb (by omega) (by decide), cv_ret, if_pos (by omega : (0 : Int) ≤ (m : Int) ∧ (m : Int) < 41), Int.toNat_natCast, b395, wI_id (x := kw u n i - 10) (by omega) (by omega), wI_id (by omega) (by omega), lt_eq]
        have HB2 : Hp (fi_upd b 10 612 m (kw u n i - 10 + 1)) := Hp.uI q.hb m (by decide) (by decide) (by omega)
        have GB2 : Fr (wm m) b (fi_upd b 10 612 m (kw u n i - 10 + 1)) := (Fr.rf _ _).dm 10 (by omega) _
        have y1 : fi_upd b 10 612 m (kw u n i - 10 + 1) 10 612 m = kw u n i - 10 + 1 := fi_upd_same _ _ _ _ _
        have y2 : ∀ f x, x ≠ 612 → fi_upd b 10 612 m (kw u n i - 10 + 1) f x m = b f x m := fun f x hx => fi_upd_ne _ _ _ _ _ (by omega)
        generalize fi_upd b 10 612 m (kw u n i - 10 + 1) = b2 at *
        obtain ⟨P2, c2⟩ := P1.dw t1 t2 HA2 HB2 FA2 GB2
        have D2 : DE r m a b a2 b2 := V1.d.tr (DE.w FA2 GB2)
        refine Bo.cvcv (t_take P2 (by omega) (by omega) ⟨by omega, by omega⟩) (fun _ a3 _ b3 HA3 HB3 w => ?_) (fun a' b' HA HB w => Bo.tx HA HB (WrD.ofE D2 w))
        obtain ⟨P3, W3, c3⟩ := w
        refine Bo.caca (t_number P3 (by omega) (by omega) (by omega) (by omega)) (by decide) (by decide) (fun x a4 y b4 HA4 HB4 w => ?_) (fun a' b' HA HB w => Bo.tx HA HB (WrD.ofE (D2.tr W3.v.d) w))
        obtain ⟨rfl, hx, P4, W4, c4, -⟩ := w
        have V4 : VE a2 b2 a4 b4 := W3.v.tr W4.v
        obtain ⟨eo4, ebo4⟩ := V4.thing (r := r) (m := m) HB2 hr3
        have hr4 : 714 < r ∧ r ≤ a4 2 0 0 := ⟨hr3.1, by have := V4.1.1; omega⟩
        have hc4 : a4 0 r.toNat 0 = 124 := by rw [eo4 0 (by omega), x2 0 (by decide)]; exact t2
        rw [if_pos hr2, lt_eq, lt_eq, wI_id (by omega) (by omega)]
        have HA5 : Hp (fi_upd a4 326 r.toNat 0 x) := HA4.dr hr4.1 hc4 (by decide) (show -9223372036854775808 ≤ x ∧ x < 9223372036854775808 by omega)
        have FA5 : Fr (wr r) a4 (fi_upd a4 326 r.toNat 0 x) := (Fr.rf _ _).dr hr4.1 (by omega) _
        have HB5 : Hp (fi_upd b4 10 613 m x) := Hp.uI HB4 m (by decide) (by decide) (by omega)
        have GB5 : Fr (wm m) b4 (fi_upd b4 10 613 m x) := (Fr.rf _ _).dm 10 (by omega) _
        have z1 : fi_upd a4 326 r.toNat 0 x 326 r.toNat 0 = x := fi_upd_same _ _ _ _ _
        have z2 : ∀ f, f ≠ 326 → fi_upd a4 326 r.toNat 0 x f r.toNat 0 = a4 f r.toNat 0 := fun f hf => fi_upd_ne _ _ _ _ _ (by omega)
        have z3 : fi_upd b4 10 613 m x 10 613 m = x := fi_upd_same _ _ _ _ _
        have z4 : ∀ f k, k ≠ 613 → fi_upd b4 10 613 m x f k m = b4 f k m := fun f k hk => fi_upd_ne _ _ _ _ _ (by omega)
        obtain ⟨P5, c5⟩ := P4.dw hr4 hc4 HA5 HB5 FA5 GB5
        generalize fi_upd a4 326 r.toNat 0 x = a5 at *
        generalize fi_upd b4 10 613 m x = b5 at *
        have D5 : DE r m a b a5 b5 := (D2.tr V4.d).tr (DE.w FA5 GB5)
        have eA : ∀ f, (f = 0 ∨ 321 ≤ f) → f ≠ 325 → f ≠ 326 → a5 f r.toNat 0 = a1 f r.toNat 0 := fun f h1 h2 h3 => by rw [z2 f h3, eo4 f h1, x2 f h2]
        have eB : ∀ f k, 604 ≤ k → k ≤ 714 → k ≠ 612 → k ≠ 613 → b5 f k m = b f k m := fun f k h1 h2 h3 h4 => by rw [z4 f k h4, ebo4 f k h1 h2, y2 f k h3]
        refine d_tail q D5 (by rw [c5, c4, c3, c2]) (j0 := i + 1 + 1) (by omega) P5 ⟨⟨hr4.1, by have := FA5.1; omega⟩, by rw [z2 0 (by decide)]; exact hc4, by rw [eA 322 (by omega) (by omega) (by omega)]; exact t3, by rw [eA 324 (by omega) (by omega) (by omega)]; exact t4, by rw [eB 10 610 (by omega) (by omega) (by omega) (by omega)]; exact t5, by rw [eB 10 611 (by omega) (by omega) (by omega) (by omega)]; exact t6, t7, t8, t9⟩ (by omega) (by omega) (fun f hf => by rw [eA f (by omega) (by omega) (by omega), eo f (by omega)]) (fun f k h1 h2 => eB f k (by omega) (by omega) (by omega) (by omega)) (Or.inr ⟨trivial, s1, k2, ?_⟩)
        have q612 : b5 10 612 m = kw u n i - 10 + 1 := by rw [z4 10 612 (by omega), ebo4 10 612 (by omega) (by omega)]; exact y1
        have q325 : a5 325 r.toNat 0 = 10 + mdw u n i := by rw [z2 325 (by omega), eo4 325 (by omega)]; exact x1
        rw [q612, q325, z1, z3, hmd]
        omega
      · rw [if_pos s1, if_neg (by decide : ¬ (1 : Int) = 0), if_neg (by omega : ¬ 2 + κ = 4), if_pos s1, if_neg k2, badA, badB]; exact thr _
    · rw [if_neg s1, if_pos (rfl : (0 : Int) = 0), if_neg s1, badA, badB]; exact thr _
  · have hmd : mdw u n i = 0 := by unfold mdw; rw [if_neg z]
    obtain ⟨P2, c2⟩ := P1.dw t1 t2 HA2 q.hb FA2 (Fr.rf (wm m) _)
    have eB : (if b 394 602 0 = 2 then ca_ (fj_run e 508 b [(1, wI (b 395 602 0)), (1, 10), (1, 13)]) 0 (fun v2 h1 => if v2 = 0 then c_509_93 e (m : Int) h1 else if 0 ≤ (m : Int) ∧ (m : Int) < 41 then (if h1 10 610 ((m : Int)).toNat = 1 then (if h1 10 611 ((m : Int)).toNat = 2 then c_509_51 e (m : Int) 602 1 h1 else c_509_50 e (m : Int) 602 h1) else c_509_50 e (m : Int) 602 h1) else none) (fun q h => tx_ q h) else c_509_93 e (m : Int) b) = c_509_93 e (m : Int) b := by
      by_cases y : b 394 602 0 = 2
      · have z2 : tk u n i = 2 := by
          by_cases w : tk u n i = 2
          · exact w
          · rw [if_neg w] at sB; (repeat' split at sB) <;> omega
        have b395 : b 395 602 0 = kw u n i := (q.tb.2.2.2.2.1 z2).1
        obtain ⟨e, rfl⟩ : ∃ k, e = k + 1 := ⟨e - 1, by omega⟩
        rw [if_pos y, b395, wI_id (by omega) (by omega), kB_in e q.hb.1 (by omega) (by omega) (by omega), ca_ret, if_neg (fun w => z ⟨z2, w⟩), if_pos rfl]
      · rw [if_neg y]
    rw [eB, if_pos (by omega : 10 + mdw u n i = 10)]
    refine d_tail q (V1.d.tr (DE.w FA2 (Fr.rf _ _))) c2 (j0 := i) (Nat.le_refl _) P2 ⟨hr3, by rw [x2 0 (by decide)]; exact t2, by rw [x2 322 (by decide)]; exact t3, by rw [x2 324 (by decide)]; exact t4, t5, t6, t7, t8, t9⟩ (by omega) (by omega) (fun f hf => by rw [x2 f (by omega), eo f (by omega)]) (fun f x _ _ => rfl) (Or.inl ⟨by rw [x1, h10, hmd]; rfl, by rw [x2 326 (by decide), eo 326 (by omega)], rfl, rfl⟩)
end MODE
end

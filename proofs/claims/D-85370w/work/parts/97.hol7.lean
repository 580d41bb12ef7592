section
/-! reading: holidays by weekdays; the loop over a tape -/
set_option maxRecDepth 100000
section HOL7
variable {u : Nat → Int} {n M : Nat} {a0 b0 : fi_H} {dA dB w : Nat}
/-- the first or the last weekday of a month -/
theorem t_holwk {i k : Nat} {a b : fi_H} (hw : w = 307 ∨ w = 308) (hA : 14 ≤ dA) (hB : 18 ≤ dB) (q : PS u n M i a b) (z2 : tk u n i = 2 ∧ (kw u n i = 40 ∨ kw u n i = 41)) (hk : k < 20) (R : HRw w k a b) (V : HE w a0 b0 a b) (h211 : a 211 303 0 = (w : Int))
    (ih : ∀ (j : Nat) a' b', i < j → PS u n M j a' b' → a' 211 303 0 = (w : Int) → HRw w (k + 1) a' b' → HE w a0 b0 a' b' → Bo 304 0 9 (c_198_2 dA ((k + 1 : Nat) : Int) a') (c_522_2 dB ((k + 1 : Nat) : Int) b') (HolP w a0 b0) (HolE w a0 b0)) :
    Bo 304 0 9 (ca_ (fj_run dA 203 a [(4, 377)]) 4 (fun v h => c_198_151 dA (k : Int) (w : Int) (k : Int) v h) (fun q h => tx_ q h)) (c_522_102 dB (k : Int) 602 1 b) (HolP w a0 b0) (HolE w a0 b0) := by
  obtain ⟨d, rfl⟩ : ∃ e, dA = e + 4 := ⟨dA - 4, by omega⟩
  obtain ⟨e, rfl⟩ : ∃ e', dB = e' + 4 := ⟨dB - 4, by omega⟩
  have sB := t_sortB q
  rw [if_neg (by omega), if_neg (by omega), if_pos z2.1, if_neg (by omega)] at sB
  have w21 : wI (21 + (k : Int)) = ((21 + k : Nat) : Int) := by rw [wI_id (by omega) (by omega)]; omega
  have i1 : (0 : Int) ≤ ((21 + k : Nat) : Int) ∧ ((21 + k : Nat) : Int) < 42 := by omega
  have n59 : ¬ (tk u n i = 2 ∧ kw u n i = ((59 : Nat) : Int)) := by omega
  have c604 : b 0 604 0 = 10 := s0_604 q.hb.1
  have l604 : b 1 604 0 = 42 := s1_604 q.hb.1
  -- the model's sort: 2 the first, 3 the last
  have eB : ∃ s : Int, (s = 2 ∨ s = 3) ∧ (if tk u n i = 2 ∧ kw u n i = ((41 : Nat) : Int) then (1 : Int) else 0) = s - 2 ∧ c_522_102 (e + 4) (k : Int) 602 1 b = c_522_334 (e + 4) (k : Int) ((21 + k : Nat) : Int) 604 ((21 + k : Nat) : Int) s b := by
    have eB0 : c_522_102 (e + 4) (k : Int) 602 1 b = if tk u n i = 2 ∧ kw u n i = 40 then c_522_334 (e + 4) (k : Int) ((21 + k : Nat) : Int) 604 ((21 + k : Nat) : Int) 2 b else c_522_334 (e + 4) (k : Int) ((21 + k : Nat) : Int) 604 ((21 + k : Nat) : Int) 3 b := by
      rw [e_522_102 _ _ _ _ q.hb.1, nb1 q (by omega), sB, if_neg (by decide), show ((59 : Int)) = ((59 : Nat) : Int) from rfl, t_takes0 q (by omega) n59, ca_ret, if_pos rfl, t_isWordB q (by omega) (by decide), ca_ret, ite0, w21]
    rcases z2.2 with y | y
    · exact ⟨2, Or.inl rfl, by rw [if_neg (by omega)]; rfl, by rw [eB0, if_pos ⟨z2.1, y⟩]⟩
    · exact ⟨3, Or.inr rfl, by rw [if_pos ⟨z2.1, by omega⟩]; rfl, by rw [eB0, if_neg (by omega)]⟩
  obtain ⟨s, hs, hv2, eB⟩ := eB
  have H1 : Hp (fi_upd b 10 604 (21 + k) s) := Hp.uI q.hb _ (by decide) (by decide) (by omega)
  have F1 : Fr (fun _ x i => 604 ≤ x ∧ x ≤ 606 ∧ i = 21 + k) b (fi_upd b 10 604 (21 + k) s) := Fr.u _ _ (Fr.rf _ _) (by decide) ⟨by decide, by decide, rfl⟩
  have v1 : fi_upd b 10 604 (21 + k) s 10 604 (21 + k) = s := fi_upd_same _ _ _ _ _
  have P1 := q.bw H1 F1 (fun f x i z => by omega)
  have V1 := V.b F1
  have R1 := R.b hw q.ha q.hb F1
  rw [eB, e_522_334 _ _ _ _ _ _ q.hb.1, show ((604 : Int)).toNat = 604 from rfl, if_pos ⟨by decide, c604⟩, l604, if_pos i1, lt_eq, Int.toNat_natCast, m_203 (d + 3) q.ha.1, t_isA q (by omega) (w := 41) (by decide) (li_w41 q.ha), ca_ret, hv2, ca_cv]
  generalize fi_upd b 10 604 (21 + k) s = b1 at *
  refine Bo.cvcv (t_take P1 (by omega) (by omega) ⟨by omega, by omega⟩) (fun _ a2 _ b2 HA2 HB2 z => ?_) (fun a2 b2 HA2 HB2 z => Bo.tx HA2 HB2 (hE_ _ _ z.1 (V1.tr (HE.t z.2))))
  obtain ⟨P2, T2, -⟩ := z
  have V2 := V1.tr (HE.t (w := w) T2)
  have R2 := R1.t hw P1.ha P1.hb T2
  have ta1 := P1.ha.1.2.2.1
  have tb1 := P1.hb.1.2.2.1
  have g2 : a2 211 303 0 = (w : Int) := by rw [T2.1.2 211 303 0 (by decide) (by omega) (by simp only [wTA]; omega)]; exact h211
  have u2 : b2 10 604 (21 + k) = s := by rw [T2.2.2 10 604 _ (by decide) (by omega) (by simp only [wTB]; omega)]; exact v1
  have sB2 := t_sortB P2
  have hk2 := kw_rg (u := u) (n := n) (i + 1)
  have tr2 := tk_rg (u := u) (n := n) (i + 1)
  obtain ⟨a3, P3, F3, e3⟩ := kA_week P2 (dA := d + 3) (by omega)
  have T3 : TkE a2 b2 a3 b2 := ⟨F3, Fr.rf _ _⟩
  have V3 := V2.tr (HE.t (w := w) T3)
  have R3 := R2.t hw P2.ha P2.hb T3
  have ta2 := P2.ha.1.2.2.1
  have g3 : a3 211 303 0 = (w : Int) := by rw [F3.2 211 303 0 (by decide) (by omega) (by simp only [wTA]; omega)]; exact g2
  rw [ca_ca, e3]
  by_cases c1 : tk u n (i + 1) = 2 ∧ 62 ≤ kw u n (i + 1) ∧ kw u n (i + 1) ≤ 68
  · rw [if_neg (by omega), if_neg (by omega), if_pos c1.1, if_neg (by omega)] at sB2
    have hwt := t_what P2 c1.1
    rw [if_pos c1, ca_ret, sB2, if_pos (by decide), hwt, wI_id (by omega) (by omega)]
    obtain ⟨e, rfl⟩ : ∃ e', e = e' + 1 := ⟨e - 1, by omega⟩
    rw [kB_in (e + 4) P2.hb.1 (by omega) (by omega) (by omega), ca_ret, ite0, if_pos (by omega), e_522_370 _ _ _ _ _ P3.hb.1, nb1 P3 (by omega), if_pos i1, hwt, wI_id (by omega) (by omega), lt_eq, Int.toNat_natCast, ca_cv]
    have H4 : Hp (fi_upd b2 10 605 (21 + k) (kw u n (i + 1) - 62)) := Hp.uI P3.hb _ (by decide) (by decide) (by omega)
    have F4 : Fr (fun _ x i => 604 ≤ x ∧ x ≤ 606 ∧ i = 21 + k) b2 (fi_upd b2 10 605 (21 + k) (kw u n (i + 1) - 62)) := Fr.u _ _ (Fr.rf _ _) (by decide) ⟨by decide, by decide, rfl⟩
    have y1 : fi_upd b2 10 605 (21 + k) (kw u n (i + 1) - 62) 10 605 (21 + k) = kw u n (i + 1) - 62 := fi_upd_same _ _ _ _ _
    have y2 : fi_upd b2 10 605 (21 + k) (kw u n (i + 1) - 62) 10 604 (21 + k) = s := by rw [fi_upd_ne _ _ _ _ _ (by omega)]; exact u2
    have P4 := P3.bw H4 F4 (fun f x i z => by omega)
    have V4 := V3.b F4
    have R4 := R3.b hw P3.ha P3.hb F4
    generalize fi_upd b2 10 605 (21 + k) (kw u n (i + 1) - 62) = b4 at *
    generalize hwd : kw u n (i + 1) - 62 = wd at *
    refine Bo.cvcv (t_take P4 (by omega) (by omega) ⟨by omega, by omega⟩) (fun _ a5 _ b5 HA5 HB5 z => ?_) (fun a5 b5 HA5 HB5 z => Bo.tx HA5 HB5 (hE_ _ _ z.1 (V4.tr (HE.t z.2))))
    obtain ⟨P5, T5, -⟩ := z
    have V5 := V4.tr (HE.t (w := w) T5)
    have R5 := R4.t hw P4.ha P4.hb T5
    rw [ca_cv]
    refine Bo.cvcv (t_needWord P5 (by omega) (by omega) (w := 30) (by decide) (li_w30 P5.ha)) (fun _ a6 _ b6 HA6 HB6 z => ?_) (fun a6 b6 HA6 HB6 z => Bo.tx HA6 HB6 (hE_ _ _ z.1 (V5.tr (HE.t z.2))))
    obtain ⟨P6, T6, -⟩ := z
    have V6 := V5.tr (HE.t (w := w) T6)
    have R6 := R5.t hw P5.ha P5.hb T6
    have ta4 := P4.ha.1.2.2.1
    have tb4 := P4.hb.1.2.2.1
    have ta5 := P5.ha.1.2.2.1
    have tb5 := P5.hb.1.2.2.1
    have g6 : a6 211 303 0 = (w : Int) := by
      rw [T6.1.2 211 303 0 (by decide) (by omega) (by simp only [wTA]; omega), T5.1.2 211 303 0 (by decide) (by omega) (by simp only [wTA]; omega)]; exact g3
    have u6 : ∀ y : Nat, 604 ≤ y → y ≤ 606 → b6 10 y (21 + k) = b4 10 y (21 + k) := fun y h1 h2 => by
      rw [T6.2.2 10 y _ (by omega) (by omega) (by simp only [wTB]; omega), T5.2.2 10 y _ (by omega) (by omega) (by simp only [wTB]; omega)]
    -- the new object, ahead of the month's number
    have N := NW.new P6.ha 127 3 (by decide)
    have hcls := N.cl
    have hz : ∀ f : Nat, 100 ≤ f → fi_new a6 127 3 0 f (a6 2 0 0 + 1).toNat 0 = 0 := fun f hf => N.g hf
    have hr := N.rg
    have ht := N.2.2.1
    have P7 := P6.an N.hp (N.fr _)
    have V7 : HE w a0 b0 (fi_new a6 127 3 0) b6 := V6.tr ⟨N.fr _, Fr.rf _ _⟩
    have R7 := R6.nw hw P6.ha P6.hb (N.fr (fun _ _ _ => False))
    have R6l := R6.lt
    have g7 : fi_new a6 127 3 0 211 303 0 = (w : Int) := by rw [N.o 211 0 (by have := P6.ha.1.2.2.1; omega)]; exact g6
    have l7 : ∀ j, fi_new a6 127 3 0 12 w j = a6 12 w j := fun j => N.o 12 j (by have := P6.ha.1.2.2.1; omega)
    rw [nw_eq, ca_ca]
    generalize fi_new a6 127 3 0 = a7 at *
    generalize hrr : a6 2 0 0 + 1 = r at *
    refine Bo.caca (t_number P7 (by omega) (by omega) (by omega) (by omega)) (by decide) (by decide) (fun x a8 y b8 HA8 HB8 z => ?_) (fun a8 b8 HA8 HB8 z => Bo.tx HA8 HB8 (hE_ _ _ z.1 (V7.tr (HE.t z.2))))
    obtain ⟨rfl, hx, P8, T8, -, -⟩ := z
    have V8 := V7.tr (HE.t (w := w) T8)
    have R8 := R7.t hw P7.ha P7.hb T8
    have ta7 := P7.ha.1.2.2.1
    have tb7 := P7.hb.1.2.2.1
    have g8 : a8 211 303 0 = (w : Int) := by rw [T8.1.2 211 303 0 (by decide) (by omega) (by simp only [wTA]; omega)]; exact g7
    have gf : ∀ f, f ≠ 319 → f ≠ 320 → a8 f r.toNat 0 = a7 f r.toNat 0 := fun f h1 h2 => T8.1.2 f _ 0 (by omega) (by omega) (by simp only [wTA]; omega)
    have c8 : a8 0 r.toNat 0 = 127 := by rw [gf 0 (by decide) (by decide)]; exact hcls
    have t8 := T8.1.1
    have hs2 : s - 2 = 0 ∨ s - 2 = 1 := by omega
    obtain ⟨a9, e9, H9, F9, x9, y9, z9⟩ := kA_wkd (d := d + 1) (r := r) (x := s - 2) (y := wd) (z := x) P8.ha (by omega) c8 (by rw [gf 334 (by decide) (by decide)]; exact hz 334 (by decide)) (by rw [gf 335 (by decide) (by decide)]; exact hz 335 (by decide)) (by rw [gf 336 (by decide) (by decide)]; exact hz 336 (by decide)) hs2 (by omega) (by omega)
    have P9 := P8.ro (r := r) (c := 127) (by omega) c8 (by decide) (by decide) H9 F9
    have V9 : HE w a0 b0 a9 b8 := ⟨V8.1.on F9 (fun f x i h1 h2 z => by have := V6.1.1; omega), V8.2⟩
    have l8 : ∀ j, a8 12 w j = a6 12 w j := fun j => by rw [T8.1.2 12 w j (by omega) (by omega) (by simp only [wTA]; omega)]; exact l7 j
    have R9 := R8.r hw P8.ha (by omega) (fun j hj => by rw [l8]; have := R6l j hj; omega) F9
    have u8 : ∀ y : Nat, 604 ≤ y → y ≤ 606 → b8 10 y (21 + k) = b4 10 y (21 + k) := fun y h1 h2 => by
      rw [T8.2.2 10 y _ (by omega) (by omega) (by simp only [wTB]; omega)]; exact u6 y h1 h2
    have H10 : Hp (fi_upd b8 10 606 (21 + k) x) := Hp.uI P8.hb _ (by decide) (by decide) (by omega)
    have F10 : Fr (fun _ x i => 604 ≤ x ∧ x ≤ 606 ∧ i = 21 + k) b8 (fi_upd b8 10 606 (21 + k) x) := Fr.u _ _ (Fr.rf _ _) (by decide) ⟨by decide, by decide, rfl⟩
    have w1 : fi_upd b8 10 606 (21 + k) x 10 604 (21 + k) = s := by rw [fi_upd_ne _ _ _ _ _ (by omega), u8 604 (by decide) (by decide)]; exact y2
    have w2 : fi_upd b8 10 606 (21 + k) x 10 605 (21 + k) = wd := by rw [fi_upd_ne _ _ _ _ _ (by omega), u8 605 (by decide) (by decide)]; exact y1
    rw [wI_id (x := x) (by omega) (by omega), lt_eq, e9, cv_ret, ca_ret]
    refine t_holt (s := s) (x := wd) (y := x) hw hk (by omega) (by omega) (P9.bw H10 F10 (fun f x i z => by omega)) ⟨⟨by omega, by have := F9.1; omega⟩, Or.inr (Or.inr ⟨hs, by rw [F9.2 0 r.toNat 0 (by omega) (by omega) (by omega)]; exact c8, x9, y9, z9⟩)⟩ w1 w2 (fi_upd_same _ _ _ _ _) (R9.b hw P9.ha P9.hb F10) (V9.b F10) ?_ hE_ (fun a' b' p1 p2 p3 p4 => ih _ a' b' (by omega) p1 p2 p3 p4)
    rw [F9.2 211 303 0 (by decide) (by have := P8.ha.1.2.2.1; omega) (by omega)]; exact g8
  · rw [if_neg c1, ca_thr, tx_304 (wra_hp P3.ha (by have := P3.ple; omega) (by have := P3.ple; omega))]
    have bad : c_522_369 (e + 4) (k : Int) ((21 + k : Nat) : Int) 602 b2 = some (.inr 603, wrb b2 1 (pl u n (i + 1))) := by
      rw [e_522_369 _ _ _ _ P3.hb.1, e_522_370 _ _ _ _ _ P3.hb.1, nb0 P3 (by omega) (by omega)]
    by_cases c2 : b2 394 602 0 = 2
    · have c3 : tk u n (i + 1) = 2 := by
        rw [sB2] at c2
        (repeat' split at c2) <;> omega
      have hwt := t_what P2 c3
      obtain ⟨e, rfl⟩ : ∃ e', e = e' + 1 := ⟨e - 1, by omega⟩
      rw [if_pos c2, hwt, wI_id (by omega) (by omega), kB_in (e + 4) P2.hb.1 (by omega) (by omega) (by omega), ca_ret, ite0, if_neg (by omega), bad]
      exact h_wr P3 V3 hE_ (by omega)
    · rw [if_neg c2, bad]
      exact h_wr P3 V3 hE_ (by omega)
/-- all holidays of a tape -/
theorem t_hols (hw : w = 307 ∨ w = 308) (hA : 14 ≤ dA) (hB : 18 ≤ dB) : ∀ (left i k : Nat) (a b : fi_H), i + left = 1201 → PS u n M i a b → k ≤ 20 → HRw w k a b → HE w a0 b0 a b → a 211 303 0 = (w : Int) →
    Bo 304 0 9 (c_198_2 dA (k : Int) a) (c_522_2 dB (k : Int) b) (HolP w a0 b0) (HolE w a0 b0) := by
  intro left
  induction left using Nat.strongRecOn with
  | ind left IH =>
    intro i k a b hl q hk R V h211
    have hi := q.2.2.2.2.1
    have sB := t_sortB q
    have tr := tk_rg (u := u) (n := n) i
    have ih : ∀ (j : Nat) a' b', i < j → PS u n M j a' b' → a' 211 303 0 = (w : Int) → k < 20 → HRw w (k + 1) a' b' → HE w a0 b0 a' b' → Bo 304 0 9 (c_198_2 dA ((k + 1 : Nat) : Int) a') (c_522_2 dB ((k + 1 : Nat) : Int) b') (HolP w a0 b0) (HolE w a0 b0) := fun j a' b' hj p1 p2 p3 p4 p5 => by
      have := p1.2.2.2.2.1
      exact IH (1201 - j) (by omega) j (k + 1) a' b' (by omega) p1 (by omega) p4 p5 p2
    rw [e_198_2 dA _ q.ha.1, q.at, if_pos (by omega), Int.toNat_natCast, q.sort, e_522_2 dB _ q.hb.1]
    by_cases z0 : tk u n i = 0
    · rw [if_pos z0] at sB
      rw [if_pos (by omega), if_pos sB]
      exact t_hole q hw hk R V h211
    have b7 : ¬ b 394 602 0 = 7 := by rw [sB]; (repeat' split) <;> omega
    rw [if_neg (by omega : ¬ (tk u n i : Int) = 0), if_neg b7]
    by_cases z3 : tk u n i = 3
    · rw [if_neg (by omega), if_neg (by omega), if_neg (by omega), z3] at sB
      have sB3 : b 394 602 0 = 3 := sB
      obtain ⟨n1, n2⟩ := tok_num (u := u) (n := n) (i := i) q.2.1.2.2.2.2.1 z3
      have bw : b 399 602 0 = (tok u n (pl u n i)).2.2 := (q.tb.2.2.2.2.2.1 z3).2
      have aw : a 10 380 i = (tok u n (pl u n i)).2.2 := q.row.1.2.1 z3
      obtain ⟨d, rfl⟩ : ∃ e, dA = e + 1 := ⟨dA - 1, by omega⟩
      obtain ⟨e, rfl⟩ : ∃ e', dB = e' + 1 := ⟨dB - 1, by omega⟩
      rw [if_pos (by omega), if_pos sB3, e_198_32 _ _ _ q.ha.1, if_neg (by decide), e_198_70 _ _ _ q.ha.1, if_neg (by decide), q.at, if_pos (by omega), Int.toNat_natCast, aw, wI_id (by omega) (by omega), kA_in d q.ha.1 (by omega) (by omega) (by omega), ca_ret, ite0, e_522_46 _ _ q.hb.1, e_522_51 _ _ _ q.hb.1, nc1 q (by omega) (by decide), if_pos sB3, bw, kB_in e q.hb.1 (by omega) (by omega) (by omega), ca_ret]
      by_cases y : 1 ≤ (tok u n (pl u n i)).2.2 ∧ (tok u n (pl u n i)).2.2 ≤ 31
      · rw [if_pos y, if_pos y, nc1 q (by omega) (by decide), e_198_100 _ _ _ q.ha.1, e_522_90 _ _ q.hb.1]
        by_cases k20 : k < 20
        · rw [if_neg (by omega), if_neg (by decide), if_pos (by omega)]
          exact t_holf hw (by omega) (by omega) q z3 k20 R V h211 (fun j a' b' h1 h2 h3 h4 h5 => ih j a' b' h1 h2 h3 k20 h4 h5)
        · rw [if_pos (by omega), if_neg (by omega), kA_thr q (by omega) (by omega), e_522_102 _ _ _ _ q.hb.1, nb0 q (by omega) (by omega)]
          exact h_wr q V hE_ (by omega)
      · rw [if_neg y, if_neg y, kA_thr q (by omega) (by omega), nc0 q (by omega) (by omega)]
        exact h_wr q V hE_ (by omega)
    · have b3 : ¬ b 394 602 0 = 3 := by rw [sB]; (repeat' split) <;> omega
      rw [if_neg (by omega : ¬ (tk u n i : Int) = 3), if_neg b3, e_198_32 _ _ _ q.ha.1, if_pos rfl, t_isK q (by omega) 59 (w := 59) rfl (by decide) (li_w59 q.ha), ca_ret, t_isWordB q (by omega) (by decide), ca_ret, t_isK q (by omega) 40 (w := 40) rfl (by decide) (li_w40 q.ha), ca_ret, t_isK q (by omega) 41 (w := 41) rfl (by decide) (li_w41 q.ha), ca_ret, t_isWordB q (by omega) (by decide), ca_ret, t_isWordB q (by omega) (by decide), ca_ret, kA_thr q (by omega) (by omega)]
      have go : (tk u n i = 2 ∧ (kw u n i = 59 ∨ kw u n i = 40 ∨ kw u n i = 41)) → Bo 304 0 9 (c_198_70 dA (k : Int) 0 a) (c_522_46 dB (k : Int) b) (HolP w a0 b0) (HolE w a0 b0) := fun z => by
        rw [e_198_70 _ _ _ q.ha.1, if_pos rfl, e_198_100 _ _ _ q.ha.1, e_522_46 _ _ q.hb.1, e_522_51 _ _ _ q.hb.1, nc1 q (by omega) (by decide), if_neg b3, e_522_90 _ _ q.hb.1]
        by_cases k20 : k < 20
        · rw [if_neg (by omega), if_pos rfl, if_pos (by omega), t_isK q (by omega) 59 (w := 59) rfl (by decide) (li_w59 q.ha), ca_ret, h211]
          by_cases y : kw u n i = 59
          · rw [if_pos (⟨z.1, y⟩ : tk u n i = 2 ∧ kw u n i = 59), if_neg (by decide)]
            exact t_holea hw (by omega) (by omega) q ⟨z.1, y⟩ k20 R V h211 (fun j a' b' h1 h2 h3 h4 h5 => ih j a' b' h1 h2 h3 k20 h4 h5)
          · rw [if_neg (by omega : ¬ (tk u n i = 2 ∧ kw u n i = 59)), if_pos rfl]
            exact t_holwk hw (by omega) (by omega) q ⟨z.1, by omega⟩ k20 R V h211 (fun j a' b' h1 h2 h3 h4 h5 => ih j a' b' h1 h2 h3 k20 h4 h5)
        · rw [if_pos (by omega), if_neg (by omega), kA_thr q (by omega) (by omega), e_522_102 _ _ _ _ q.hb.1, nb0 q (by omega) (by omega)]
          exact h_wr q V hE_ (by omega)
      by_cases y1 : tk u n i = 2 ∧ kw u n i = 59
      · rw [if_pos y1, if_neg (by decide), if_neg (by decide)]
        exact go ⟨y1.1, Or.inl y1.2⟩
      · rw [if_neg y1, if_pos rfl, if_pos rfl]
        by_cases y2 : tk u n i = 2 ∧ kw u n i = 40
        · rw [if_pos y2, if_neg (by decide), if_neg (by decide)]
          exact go ⟨y2.1, Or.inr (Or.inl y2.2)⟩
        · rw [if_neg y2, if_pos rfl, if_pos rfl]
          by_cases y3 : tk u n i = 2 ∧ kw u n i = 41
          · rw [if_pos y3, if_neg (by decide), if_neg (by decide)]
            exact go ⟨y3.1, Or.inr (Or.inr y3.2)⟩
          · rw [if_neg y3, if_pos rfl, if_pos rfl, e_522_51 _ _ _ q.hb.1, nc0 q (by omega) (by omega)]
            exact h_wr q V hE_ (by omega)
end HOL7
end

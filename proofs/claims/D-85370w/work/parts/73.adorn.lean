section
/-! reading: what follows a name's kind -/
set_option maxRecDepth 100000
theorem cv_tx {q : Nat} {h : fi_H} {K : fi_H → fk_R} : cv_ (tx_ q h) K (fun q h => tx_ q h) = tx_ q h := by
  unfold tx_
  split
  · rename_i z
    show tx_ q h = _
    unfold tx_
    rw [if_pos z]
  · rfl
theorem cv_ca {t : Nat} {r : fk_R} {k : Int → fi_H → fk_R} {K : fi_H → fk_R} : cv_ (ca_ r t k (fun q h => tx_ q h)) K (fun q h => tx_ q h) = ca_ r t (fun v h => cv_ (k v h) K (fun q h => tx_ q h)) (fun q h => tx_ q h) := by
  unfold ca_
  split
  · split <;> rfl
  · rfl
  · exact cv_tx
  · rfl
theorem cst_A {r190 : fk_R} {r191 : fi_H → fk_R} {TH K : fi_H → fk_R} {BODY : Int → fi_H → fk_R} : cv_ (ca_ r190 0 (fun v6 h5 => ca_ (r191 h5) 0 (fun v9 h8 => if v9 = 0 then TH h8 else BODY v6 h8) (fun q h => tx_ q h)) (fun q h => tx_ q h)) K (fun q h => tx_ q h) = ca_ r190 0 (fun v6 h5 => ca_ (r191 h5) 0 (fun v9 h8 => if v9 = 0 then cv_ (TH h8) K (fun q h => tx_ q h) else cv_ (BODY v6 h8) K (fun q h => tx_ q h)) (fun q h => tx_ q h)) (fun q h => tx_ q h) := by
  rw [cv_ca]
  congr 1
  funext v6 h5
  rw [cv_ca]
  congr 1
  funext v9 h8
  split <;> rfl
abbrev wr (r : Int) (f x _i : Nat) : Prop := (x : Int) = r ∧ 325 ≤ f ∧ f ≤ 330
abbrev wm (m : Nat) (_f x i : Nat) : Prop := i = m ∧ (x = 610 ∨ (612 ≤ x ∧ x ≤ 616))
abbrev wDA (r : Int) (f x i : Nat) : Prop := wVA f x i ∨ wr r f x i
abbrev wDB (m : Nat) (f x i : Nat) : Prop := wVB f x i ∨ wm m f x i
def DE (r : Int) (m : Nat) (a b a' b' : fi_H) : Prop := Fr (wDA r) a a' ∧ Fr (wDB m) b b'
def WrD (r : Int) (m : Nat) (a b a' b' : fi_H) : Prop := Wr a' b' ∧ DE r m a b a' b'
section ADORN
variable {u : Nat → Int} {n M i m : Nat} {a b a0 b0 : fi_H} {r s κ : Int} {dA dB : Nat}
theorem DE.rf : DE r m a b a b := ⟨Fr.rf _ _, Fr.rf _ _⟩
theorem DE.tr {a b a1 b1 a2 b2 : fi_H} (p : DE r m a b a1 b1) (q : DE r m a1 b1 a2 b2) : DE r m a b a2 b2 := ⟨p.1.tr q.1, p.2.tr q.2⟩
theorem VE.d {a' b' : fi_H} (p : VE a b a' b') : DE r m a b a' b' := ⟨p.1.mono (fun _ _ _ q => Or.inl q), p.2.mono (fun _ _ _ q => Or.inl q)⟩
theorem DE.w {a' b' : fi_H} (F : Fr (wr r) a a') (G : Fr (wm m) b b') : DE r m a b a' b' := ⟨F.mono (fun _ _ _ q => Or.inr q), G.mono (fun _ _ _ q => Or.inr q)⟩
theorem WrD.of {a' b' : fi_H} (p : DE r m a0 b0 a b) (q : WrV a b a' b') : WrD r m a0 b0 a' b' := ⟨q.1, p.tr q.2.d⟩
theorem WrD.ofE {a' b' : fi_H} (p : DE r m a0 b0 a b) (q : WrE a b a' b') : WrD r m a0 b0 a' b' := ⟨q.1, p.tr q.2.v.d⟩
/-- the thing that is being declared -/
def Thg (a b : fi_H) (r : Int) (m : Nat) (s κ : Int) : Prop := (714 < r ∧ r ≤ a 2 0 0) ∧ a 0 r.toNat 0 = 124 ∧ a 322 r.toNat 0 = (if s = 1 then 1 else 0) ∧ a 324 r.toNat 0 = 2 + κ ∧ b 10 610 m = s ∧ b 10 611 m = κ ∧ m < 40 ∧ (s = 0 ∨ s = 1) ∧ (0 ≤ κ ∧ κ ≤ 7)
/-- what values leave of it -/
theorem VE.thing {a' b' : fi_H} (p : VE a b a' b') (HB : Hp b) (hr : 714 < r ∧ r ≤ a 2 0 0) : (∀ f, (f = 0 ∨ 321 ≤ f) → a' f r.toNat 0 = a f r.toNat 0) ∧ (∀ f x : Nat, 604 ≤ x → x ≤ 714 → b' f x m = b f x m) := by
  have tb := HB.1.2.2.1
  exact ⟨fun f hf => p.1.2 f _ 0 (by omega) (by omega) (by simp only [wVA, wTA, wvA]; omega), fun f x x1 x2 => p.2.2 f x m (by omega) (by omega) (by simp only [wVB, wTB, wvB]; omega)⟩
theorem Thg.v {a' b' : fi_H} (T : Thg a b r m s κ) (p : VE a b a' b') (HB : Hp b) : Thg a' b' r m s κ := by
  obtain ⟨t1, t2, t3, t4, t5, t6, t7⟩ := T
  obtain ⟨e, eb⟩ := p.thing (r := r) (m := m) HB t1
  have ht := p.1.1
  exact ⟨⟨t1.1, by omega⟩, by rw [e 0 (by omega)]; exact t2, by rw [e 322 (by omega)]; exact t3, by rw [e 324 (by omega)]; exact t4, by rw [eb 10 610 (by omega) (by omega)]; exact t5, by rw [eb 10 611 (by omega) (by omega)]; exact t6, t7⟩
theorem PS.dw {a' b' : fi_H} (q : PS u n M i a b) (hr : 714 < r ∧ r ≤ a 2 0 0) (hc : a 0 r.toNat 0 = 124) (HA : Hp a') (HB : Hp b') (F : Fr (wr r) a a') (G : Fr (wm m) b b') : PS u n M i a' b' ∧ b' 427 602 0 = b 427 602 0 := by
  have key : ∀ x : Nat, (x : Int) = r → a 0 x 0 = 124 := fun x hx => by rw [← hc, ← hx, Int.toNat_natCast]
  refine ⟨q.f HA HB F G (fun f x i x1 x2 _ _ z => by omega) (fun f x i x1 x2 _ _ z => ?_) (fun x i x1 x2 => ⟨fun z => ?_, fun z => ?_⟩) ⟨by omega, by omega⟩ (fun f _ _ z => by omega) ⟨by omega, fun k z => by omega⟩, G.2 427 602 0 (by decide) (by have := q.hb.1.2.2.1; omega) (by omega)⟩
  · have := key x z.1; omega
  · have := key x z.1; omega
  · have := key x z.1; omega
theorem Hp.dr (H : Hp a) (hr : 714 < r) (hc : a 0 r.toNat 0 = 124) {f : Nat} {v : Int} (hf : (4 ≤ f ∧ fj_fin f = false)) (hv : nt_ (a 2 0 0) (fr_ty f) v) : Hp (fi_upd a f r.toNat 0 v) := Hp.ud H 0 (by omega) (by rw [hc]; decide) hf.1 hf.2 hv
theorem Fr.dr {a1 : fi_H} (F : Fr (wr r) a a1) (hr : 714 < r) {f : Nat} (hf : 325 ≤ f ∧ f ≤ 330) (v : Int) : Fr (wr r) a (fi_upd a1 f r.toNat 0 v) := Fr.u 0 _ F (by omega) ⟨by omega, hf⟩
theorem Fr.dm {b1 : fi_H} (G : Fr (wm m) b b1) (f : Nat) {x : Nat} (hx : x = 610 ∨ (612 ≤ x ∧ x ≤ 616)) (v : Int) : Fr (wm m) b (fi_upd b1 f x m v) := Fr.u m _ G (by omega) ⟨rfl, hx⟩
/-- joins -/
theorem d_joins (q : PS u n M i a b) (T : Thg a b r m s κ) (hA : 6 ≤ dA) (hB : 13 ≤ dB) :
    Bo 304 9 9 (c_186_72 dA r a) (c_509_162 dB (m : Int) b) (fun _ a' _ b' => (∃ j, i ≤ j ∧ PS u n M j a' b') ∧ DE r m a b a' b' ∧ b' 427 602 0 = b 427 602 0 ∧
      ((b' 10 610 m = s ∧ a' 330 r.toNat 0 = a 330 r.toNat 0) ∨ (b' 10 610 m = 3 ∧ s = 0 ∧ κ = 7 ∧ a' 330 r.toNat 0 = 1)) ∧ (∀ f, (f = 0 ∨ 321 ≤ f) → f ≠ 330 → a' f r.toNat 0 = a f r.toNat 0) ∧ (∀ f x : Nat, 608 ≤ x → x ≤ 616 → x ≠ 610 → b' f x m = b f x m)) (WrD r m a b) := by
  obtain ⟨t1, t2, t3, t4, t5, t6, t7, t8, t9⟩ := T
  have tn : ((602 : Int)).toNat = 602 := rfl
  have vt : fi_vt 348 129 = some 500 := rfl
  have hp := q.ple
  rw [e_186_72 dA r q.ha.1, t_isWordA q (by omega) (li_w69 q.ha), ca_ret, ite0, e_509_162 dB _ q.hb.1, t_isWordB q (by omega) (by decide), ca_ret, ite0]
  by_cases z : tk u n i = 2 ∧ kw u n i = 69
  · rw [if_pos ((t_word (w := 69) (by decide)).mpr z), if_pos z, if_pos t2, if_pos (by omega : (0 : Int) ≤ (m : Int) ∧ (m : Int) < 41), Int.toNat_natCast, t3, t4, t5, t6]
    have good : s = 0 → κ = 7 → Bo 304 9 9 (lt_ (fi_upd a 330 r.toNat 0 1) fun h5 => cv_ (fj_run dA 166 h5 [(4, 377)]) (fun h6 => some (.inl none, h6)) (fun q h => tx_ q h)) (c_509_197 dB (m : Int) 602 1 b) (fun _ a' _ b' => (∃ j, i ≤ j ∧ PS u n M j a' b') ∧ DE r m a b a' b' ∧ b' 427 602 0 = b 427 602 0 ∧
      ((b' 10 610 m = s ∧ a' 330 r.toNat 0 = a 330 r.toNat 0) ∨ (b' 10 610 m = 3 ∧ s = 0 ∧ κ = 7 ∧ a' 330 r.toNat 0 = 1)) ∧ (∀ f, (f = 0 ∨ 321 ≤ f) → f ≠ 330 → a' f r.toNat 0 = a f r.toNat 0) ∧ (∀ f x : Nat, 608 ≤ x → x ≤ 616 → x ≠ 610 → b' f x m = b f x m)) (WrD r m a b) := by
      intro s0 k7
      have HA1 : Hp (fi_upd a 330 r.toNat 0 1) := q.ha.dr t1.1 t2 (by decide) (Or.inr rfl)
      have FA1 : Fr (wr r) a (fi_upd a 330 r.toNat 0 1) := (Fr.rf _ _).dr t1.1 (by omega) _
      have HB1 : Hp (fi_upd b 10 610 m 3) := Hp.uI q.hb m (by decide) (by decide) (by omega)
      have FB1 : Fr (wm m) b (fi_upd b 10 610 m 3) := (Fr.rf _ _).dm 10 (Or.inl rfl) _
      obtain ⟨P1, c1⟩ := q.dw t1 t2 HA1 HB1 FA1 FB1
      rw [lt_eq, e_509_197 dB _ _ _ q.hb.1, tn, s0_602 q.hb.1, vt, dv_s, kB_need1 q.hb (by omega) (by decide), cv_ret, if_pos (by omega : (0 : Int) ≤ (m : Int) ∧ (m : Int) < 41), Int.toNat_natCast, lt_eq]
      have x1 : fi_upd a 330 r.toNat 0 1 330 r.toNat 0 = 1 := fi_upd_same _ _ _ _ _
      have x2 : ∀ f, f ≠ 330 → fi_upd a 330 r.toNat 0 1 f r.toNat 0 = a f r.toNat 0 := fun f hf => fi_upd_ne _ _ _ _ _ (by omega)
      have y1 : fi_upd b 10 610 m 3 10 610 m = 3 := fi_upd_same _ _ _ _ _
      have y2 : ∀ f x, x ≠ 610 → fi_upd b 10 610 m 3 f x m = b f x m := fun f x hx => fi_upd_ne _ _ _ _ _ (by omega)
      have hr1 : 714 < r ∧ r ≤ fi_upd a 330 r.toNat 0 1 2 0 0 := by rw [fi_upd_ne _ _ _ _ _ (by omega)]; exact t1
      generalize fi_upd a 330 r.toNat 0 1 = a1 at *
      generalize fi_upd b 10 610 m 3 = b1 at *
      refine Bo.cvcv (t_take P1 (by omega) (by omega) ⟨by omega, by omega⟩) (fun _ a' _ b' HA HB w => ?_) (fun a' b' HA HB w => Bo.tx HA HB (WrD.ofE (DE.w FA1 FB1) w))
      obtain ⟨w1, w2, w3⟩ := w
      obtain ⟨e, eb⟩ := w2.v.thing (r := r) (m := m) HB1 hr1
      refine Bo.vv HA HB ⟨⟨i + 1, by omega, w1⟩, (DE.w FA1 FB1).tr w2.v.d, w3.trans c1, Or.inr ⟨by rw [eb 10 610 (by omega) (by omega)]; exact y1, s0, k7, by rw [e 330 (by omega)]; exact x1⟩, fun f hf h3 => by rw [e f hf]; exact x2 f h3, fun f x h1 h2 h3 => by rw [eb f x (by omega) (by omega)]; exact y2 f x h3⟩
    have badA : c_186_100 dA a = some (.inr 304, wra a 5 (pl u n i)) := by rw [e_186_100 dA q.ha.1]; exact kA_thr q (by omega) (by omega)
    have badB : c_509_196 dB (m : Int) 602 b = some (.inr 603, wrb b 5 (pl u n i)) := by
      rw [e_509_196 dB _ _ q.hb.1, e_509_197 dB _ _ _ q.hb.1, tn, s0_602 q.hb.1, vt, dv_s, q.tb.1, kB_need0 q.hb (by omega) (by omega) (by omega), cv_thr, tx_603 (wrb_hp q.hb (by omega) (by omega))]
    have thr : ∀ (P : Int → fi_H → Int → fi_H → Prop), Bo 304 9 9 (some (.inr 304, wra a 5 (pl u n i))) (some (.inr 603, wrb b 5 (pl u n i))) P (WrD r m a b) := fun P => (v_wr q.ha q.hb (VE.rf _ _) (by omega) (by omega)).imp (fun _ _ _ _ _ _ w => w) (fun _ _ _ _ w => WrD.of DE.rf w)
    rcases t8 with rfl | rfl
    · rw [if_neg (by decide : ¬ (0 : Int) = 1), if_pos (rfl : (0 : Int) = 0), if_pos (rfl : (0 : Int) = 0)]
      by_cases k7 : κ = 7
      · rw [if_pos (by omega : 2 + κ = 9), if_pos (by omega : (302 : Int) < r), if_pos k7]; exact good rfl k7
      · rw [if_neg (by omega : ¬ 2 + κ = 9), if_neg k7, badA, badB]; exact thr _
    · rw [if_pos (rfl : (1 : Int) = 1), if_neg (by decide : ¬ (1 : Int) = 0), if_neg (by decide : ¬ (1 : Int) = 0), badA, badB]
      exact thr _
  · rw [if_neg (fun y => z ((t_word (w := 69) (by decide)).mp y)), if_neg z]
    exact Bo.vv q.ha q.hb ⟨⟨i, Nat.le_refl _, q⟩, DE.rf, rfl, Or.inl ⟨t5, rfl⟩, fun _ _ _ => rfl, fun _ _ _ _ _ => rfl⟩
/-- what stands at the end of a declaration's tail -/
abbrev AdP (u : Nat → Int) (n M i : Nat) (r : Int) (m : Nat) (s κ : Int) (a b : fi_H) (md : Prop) : Int → fi_H → Int → fi_H → Prop := fun _ a' _ b' => (∃ j, i ≤ j ∧ PS u n M j a' b') ∧ DE r m a b a' b' ∧ b' 427 602 0 = b 427 602 0 ∧
      ((b' 10 610 m = s ∧ a' 330 r.toNat 0 = a 330 r.toNat 0) ∨ (b' 10 610 m = 3 ∧ s = 0 ∧ κ = 7 ∧ a' 330 r.toNat 0 = 1)) ∧ (∀ f, (f = 0 ∨ (321 ≤ f ∧ f ≤ 324)) → a' f r.toNat 0 = a f r.toNat 0) ∧ (∀ f x : Nat, 608 ≤ x → x ≤ 611 → x ≠ 610 → b' f x m = b f x m) ∧
      ((a' 329 r.toNat 0 = a 329 r.toNat 0 ∧ b' 4 614 m = b 4 614 m) ∨ (a' 329 r.toNat 0 = 1 ∧ b' 4 614 m = 1 ∧ a' 327 r.toNat 0 = b' 11 615 m ∧ a' 328 r.toNat 0 = b' 11 616 m ∧ Vok κ (b' 11 615 m) (b' 11 616 m))) ∧
      ((a' 325 r.toNat 0 = a 325 r.toNat 0 ∧ a' 326 r.toNat 0 = a 326 r.toNat 0 ∧ b' 10 612 m = b 10 612 m ∧ b' 10 613 m = b 10 613 m) ∨ (md ∧ s = 1 ∧ κ = 2 ∧ 1 ≤ b' 10 612 m ∧ b' 10 612 m ≤ 4 ∧ a' 325 r.toNat 0 = 10 + b' 10 612 m ∧ a' 326 r.toNat 0 = b' 10 613 m ∧ 1 ≤ b' 10 613 m ∧ b' 10 613 m ≤ 999999999))
theorem kB_takes (q : PS u n M i a b) (hB : 1 ≤ dB) {w : Int} (hw : 0 ≤ w) : fj_run (dB + 1) 511 b [(4, 602), (0, w)] = if tk u n i = 2 ∧ kw u n i = w then cv_ (fj_run dB 502 b [(4, 602)]) (fun h => some (.inl (some (0, 1)), h)) (fun q h => tx_ q h) else some (.inl (some (0, 0)), b) := by
  rw [m_511 dB _ q.hb.1, t_isWordB q hB hw, ca_ret]
  by_cases z : tk u n i = 2 ∧ kw u n i = w
  · rw [if_pos z, if_pos z, if_neg (by decide)]
    rfl
  · rw [if_neg z, if_neg z, if_pos rfl, if_pos (Or.inl rfl)]
/-- else -/
theorem d_else (q : PS u n M i a b) (T : Thg a b r m s κ) (hA : 12 ≤ dA) (hB : 18 ≤ dB) :
    Bo 304 9 9 (c_186_58 dA r a) (c_509_93 dB (m : Int) b) (AdP u n M i r m s κ a b False) (WrD r m a b) := by
  have T' := T
  obtain ⟨t1, t2, t3, t4, t5, t6, t7, t8, t9⟩ := T
  obtain ⟨d, rfl⟩ : ∃ e, dA = e + 1 := ⟨dA - 1, by omega⟩
  obtain ⟨e, rfl⟩ : ∃ e, dB = e + 1 := ⟨dB - 1, by omega⟩
  have tn : ((602 : Int)).toNat = 602 := rfl
  have vt : fi_vt 348 129 = some 500 := rfl
  have hp := q.ple
  rw [e_186_58 (d + 1) r q.ha.1, t_isWordA q (by omega) (li_w14 q.ha), ca_ret, ite0, e_509_93 (e + 1) _ q.hb.1, kB_takes q (by omega) (by decide)]
  by_cases z : tk u n i = 2 ∧ kw u n i = 14
  · rw [if_pos ((t_word (w := 14) (by decide)).mpr z), if_pos z, m_189 d r q.ha.1]
    obtain ⟨a1, b1, HA, HB, ⟨x, y, e1, e2, P1, T1, c1⟩ | ⟨e1, e2, W⟩⟩ := t_take q (dA := d) (dB := e) (by omega) (by omega) ⟨by omega, by omega⟩
    · have hi1 := P1.2.2.2.2.1
      have e1 : fj_run d 166 a [(4, 377)] = some (.inl none, a1) := e1
      have e2 : fj_run e 502 b [(4, 602)] = some (.inl none, b1) := e2
      have Th1 := T'.v T1.v q.hb
      rw [e1, e2, cv_ret, cv_ret, P1.at, if_pos (by omega), Int.toNat_natCast, P1.row.2, cst_A, ca_ret, if_neg (by decide : ¬ (1 : Int) = 0)]
      refine t_const P1 (dA := d) (dB := e + 1) (by omega) (by omega) (fun a' b' w => WrD.of T1.v.d w) (fun h8 r' e' H' => by rw [e', cv_thr, tx_304 H']) (fun v a' b' j hv hj P2 V2 c2 L2 => ?_)
      have V3 : VE a b a' b' := T1.v.tr V2
      have Th2 := T'.v V3 q.hb
      obtain ⟨u1, u2, u3, u4, u5, u6, u7, u8, u9⟩ := Th2
      obtain ⟨l1, l2, l3, l4, l5⟩ := L2
      obtain ⟨eo, ebo⟩ := V3.thing (r := r) (m := m) q.hb t1
      have hp1 := P1.ple
      have p396 := P1.tb.1
      have r168 := rJ P2.ha (f := 168) rfl 377 0
      have r169 := rJ P2.ha (f := 169) rfl 377 0
      have r415 := rJ P2.hb (f := 415) rfl 602 0
      have r416 := rJ P2.hb (f := 416) rfl 602 0
      have hr2 : 302 < r := by omega
      rw [if_pos u2, if_pos (by omega : (0 : Int) ≤ (m : Int) ∧ (m : Int) < 41), Int.toNat_natCast, u4, u6, l1, p396]
      by_cases zk : b' 414 602 0 = κ
      · rw [if_pos (by omega : 2 + b' 414 602 0 = 2 + κ), if_pos hr2, lt_eq, if_pos zk, e_509_130 (e + 1) _ _ _ _ P2.hb.1, tn, s0_602 P2.hb.1, vt, dv_s, kB_need1 P2.hb (by omega) (by decide), cv_ret, if_pos (by omega : (0 : Int) ≤ (m : Int) ∧ (m : Int) < 41), Int.toNat_natCast, lt_eq, lt_eq, lt_eq]
        -- the model's three writes
        have HB1 : Hp (fi_upd b' 4 614 m 1) := Hp.uZ P2.hb m (by decide) (by decide) (Or.inr rfl)
        have o415 : fi_upd b' 4 614 m 1 415 602 0 = b' 415 602 0 := fi_upd_ne _ _ _ _ _ (by omega)
        rw [o415]
        have HB2 : Hp (fi_upd (fi_upd b' 4 614 m 1) 11 615 m (b' 415 602 0)) := Hp.uJ HB1 m (by decide) (by decide) r415
        have o416 : fi_upd (fi_upd b' 4 614 m 1) 11 615 m (b' 415 602 0) 416 602 0 = b' 416 602 0 := by rw [fi_upd_ne _ _ _ _ _ (by omega), fi_upd_ne _ _ _ _ _ (by omega)]
        rw [o416]
        have HB3 : Hp (fi_upd (fi_upd (fi_upd b' 4 614 m 1) 11 615 m (b' 415 602 0)) 11 616 m (b' 416 602 0)) := Hp.uJ HB2 m (by decide) (by decide) r416
        have GB : Fr (wm m) b' (fi_upd (fi_upd (fi_upd b' 4 614 m 1) 11 615 m (b' 415 602 0)) 11 616 m (b' 416 602 0)) := (((Fr.rf _ _).dm 4 (by omega) _).dm 11 (by omega) _).dm 11 (by omega) _
        have y1 : fi_upd (fi_upd (fi_upd b' 4 614 m 1) 11 615 m (b' 415 602 0)) 11 616 m (b' 416 602 0) 4 614 m = 1 := by rw [fi_upd_ne _ _ _ _ _ (by omega), fi_upd_ne _ _ _ _ _ (by omega), fi_upd_same]
        have y2 : fi_upd (fi_upd (fi_upd b' 4 614 m 1) 11 615 m (b' 415 602 0)) 11 616 m (b' 416 602 0) 11 615 m = b' 415 602 0 := by rw [fi_upd_ne _ _ _ _ _ (by omega), fi_upd_same]
        have y3 : fi_upd (fi_upd (fi_upd b' 4 614 m 1) 11 615 m (b' 415 602 0)) 11 616 m (b' 416 602 0) 11 616 m = b' 416 602 0 := fi_upd_same _ _ _ _ _
        have y4 : ∀ f x, 604 ≤ x → x ≤ 613 → fi_upd (fi_upd (fi_upd b' 4 614 m 1) 11 615 m (b' 415 602 0)) 11 616 m (b' 416 602 0) f x m = b' f x m := fun f x h1 h2 => by rw [fi_upd_ne _ _ _ _ _ (by omega), fi_upd_ne _ _ _ _ _ (by omega), fi_upd_ne _ _ _ _ _ (by omega)]
        generalize fi_upd (fi_upd (fi_upd b' 4 614 m 1) 11 615 m (b' 415 602 0)) 11 616 m (b' 416 602 0) = b5 at *
        -- the class's
        have HA1 : Hp (fi_upd a' 329 r.toNat 0 1) := P2.ha.dr u1.1 u2 (by decide) (Or.inr rfl)
        have FA1 : Fr (wr r) a' (fi_upd a' 329 r.toNat 0 1) := (Fr.rf _ _).dr u1.1 (by omega) _
        have fin : cv_ (if v = 0 then c_189_75 d r v r (fi_upd a' 329 r.toNat 0 1 168 377 0) (fi_upd a' 329 r.toNat 0 1) else c_189_75 d r v r (wJ (-(fi_upd a' 329 r.toNat 0 1 168 377 0))) (fi_upd a' 329 r.toNat 0 1)) (fun h4 => c_186_72 (d + 1) r h4) (fun q h => tx_ q h) = c_186_72 (d + 1) r (fi_upd (fi_upd (fi_upd a' 329 r.toNat 0 1) 327 r.toNat 0 (b' 415 602 0)) 328 r.toNat 0 (b' 416 602 0)) ∧ Hp (fi_upd (fi_upd (fi_upd a' 329 r.toNat 0 1) 327 r.toNat 0 (b' 415 602 0)) 328 r.toNat 0 (b' 416 602 0)) := by
          have n168 : fi_upd a' 329 r.toNat 0 1 168 377 0 = a' 168 377 0 := fi_upd_ne _ _ _ _ _ (by omega)
          have n0 : fi_upd a' 329 r.toNat 0 1 0 r.toNat 0 = 124 := by rw [fi_upd_ne _ _ _ _ _ (by omega)]; exact u2
          have HA2 : Hp (fi_upd (fi_upd a' 329 r.toNat 0 1) 327 r.toNat 0 (b' 415 602 0)) := HA1.dr u1.1 n0 (by decide) r415
          have n02 : fi_upd (fi_upd a' 329 r.toNat 0 1) 327 r.toNat 0 (b' 415 602 0) 0 r.toNat 0 = 124 := by rw [fi_upd_ne _ _ _ _ _ (by omega)]; exact n0
          have n169 : fi_upd (fi_upd a' 329 r.toNat 0 1) 327 r.toNat 0 (b' 415 602 0) 169 377 0 = a' 169 377 0 := by rw [fi_upd_ne _ _ _ _ _ (by omega), fi_upd_ne _ _ _ _ _ (by omega)]
          have n324 : fi_upd (fi_upd a' 329 r.toNat 0 1) 327 r.toNat 0 (b' 415 602 0) 324 r.toNat 0 = 2 + κ := by rw [fi_upd_ne _ _ _ _ _ (by omega), fi_upd_ne _ _ _ _ _ (by omega)]; exact u4
          refine ⟨?_, HA2.dr u1.1 n02 (by decide) r416⟩
          have e105 : ∀ t : Int, t = b' 416 602 0 → c_189_105 d r t (fi_upd (fi_upd a' 329 r.toNat 0 1) 327 r.toNat 0 (b' 415 602 0)) = some (.inl none, fi_upd (fi_upd (fi_upd a' 329 r.toNat 0 1) 327 r.toNat 0 (b' 415 602 0)) 328 r.toNat 0 (b' 416 602 0)) := fun t ht => by
            rw [e_189_105 d _ _ HA2.1, n02, if_pos rfl, if_pos hr2, lt_eq, ht]
          have e75 : ∀ t : Int, t = b' 415 602 0 → c_189_75 d r v r t (fi_upd a' 329 r.toNat 0 1) = some (.inl none, fi_upd (fi_upd (fi_upd a' 329 r.toNat 0 1) 327 r.toNat 0 (b' 415 602 0)) 328 r.toNat 0 (b' 416 602 0)) := fun t ht => by
            rw [e_189_75 d _ _ _ _ HA1.1, n0, if_pos rfl, if_pos hr2, lt_eq, ht]
            by_cases v0 : v = 0
            · rw [if_pos v0, e_189_101 d _ HA2.1, n169]
              exact e105 _ (by rw [l3, if_pos v0])
            · rw [if_neg v0, n02, if_pos rfl, n324]
              by_cases k5 : κ = 5
              · rw [if_pos (by omega : 2 + κ = 7), n169]
                have h3 : b' 416 602 0 = -(a' 169 377 0) := by rw [l3, if_neg v0, if_pos (by omega)]
                exact e105 _ (by rw [h3, wJ_id (by omega) (by omega)])
              · rw [if_neg (by omega : ¬ 2 + κ = 7), e_189_101 d _ HA2.1, n169]
                exact e105 _ (by rw [l3, if_neg v0, if_neg (by omega)])
          rw [n168]
          by_cases v0 : v = 0
          · rw [if_pos v0, e75 _ (by rw [l2, if_pos v0]), cv_ret]
          · have h2 : b' 415 602 0 = -(a' 168 377 0) := by rw [l2, if_neg v0]
            rw [if_neg v0, e75 _ (by rw [h2, wJ_id (by omega) (by omega)]), cv_ret]
        obtain ⟨f1, HA5⟩ := fin
        have FA5 : Fr (wr r) a' (fi_upd (fi_upd (fi_upd a' 329 r.toNat 0 1) 327 r.toNat 0 (b' 415 602 0)) 328 r.toNat 0 (b' 416 602 0)) := (FA1.dr u1.1 (by omega) _).dr u1.1 (by omega) _
        rw [f1]
        have x1 : fi_upd (fi_upd (fi_upd a' 329 r.toNat 0 1) 327 r.toNat 0 (b' 415 602 0)) 328 r.toNat 0 (b' 416 602 0) 329 r.toNat 0 = 1 := by rw [fi_upd_ne _ _ _ _ _ (by omega), fi_upd_ne _ _ _ _ _ (by omega), fi_upd_same]
        have x2 : fi_upd (fi_upd (fi_upd a' 329 r.toNat 0 1) 327 r.toNat 0 (b' 415 602 0)) 328 r.toNat 0 (b' 416 602 0) 327 r.toNat 0 = b' 415 602 0 := by rw [fi_upd_ne _ _ _ _ _ (by omega), fi_upd_same]
        have x3 : fi_upd (fi_upd (fi_upd a' 329 r.toNat 0 1) 327 r.toNat 0 (b' 415 602 0)) 328 r.toNat 0 (b' 416 602 0) 328 r.toNat 0 = b' 416 602 0 := fi_upd_same _ _ _ _ _
        have x4 : ∀ f, f ≠ 327 → f ≠ 328 → f ≠ 329 → fi_upd (fi_upd (fi_upd a' 329 r.toNat 0 1) 327 r.toNat 0 (b' 415 602 0)) 328 r.toNat 0 (b' 416 602 0) f r.toNat 0 = a' f r.toNat 0 := fun f h1 h2 h3 => by rw [fi_upd_ne _ _ _ _ _ (by omega), fi_upd_ne _ _ _ _ _ (by omega), fi_upd_ne _ _ _ _ _ (by omega)]
        generalize fi_upd (fi_upd (fi_upd a' 329 r.toNat 0 1) 327 r.toNat 0 (b' 415 602 0)) 328 r.toNat 0 (b' 416 602 0) = a5 at *
        obtain ⟨P5, c5⟩ := P2.dw u1 u2 HA5 HB3 FA5 GB
        have Th5 : Thg a5 b5 r m s κ := ⟨⟨u1.1, by have := FA5.1; omega⟩, by rw [x4 0 (by omega) (by omega) (by omega)]; exact u2, by rw [x4 322 (by omega) (by omega) (by omega)]; exact u3, by rw [x4 324 (by omega) (by omega) (by omega)]; exact u4, by rw [y4 10 610 (by omega) (by omega)]; exact u5, by rw [y4 10 611 (by omega) (by omega)]; exact u6, u7, u8, u9⟩
        have D5 : DE r m a b a5 b5 := V3.d.tr (DE.w FA5 GB)
        refine (d_joins P5 Th5 (by omega) (by omega)).imp (fun _ a6 _ b6 _ _ w => ?_) (fun a6 b6 _ _ w => ⟨w.1, D5.tr w.2⟩)
        obtain ⟨⟨j', w1, w1'⟩, w2, w3, w4, w5, w6⟩ := w
        refine ⟨⟨j', by omega, w1'⟩, D5.tr w2, by rw [w3, c5, c2, c1], ?_, fun f hf => by rw [w5 f (by omega) (by omega), x4 f (by omega) (by omega) (by omega), eo f (by omega)], fun f x h1 h2 h3 => by rw [w6 f x h1 (by omega) h3, y4 f x (by omega) (by omega), ebo f x (by omega) (by omega)], Or.inr ⟨by rw [w5 329 (by omega) (by omega), x1], by rw [w6 4 614 (by omega) (by omega) (by omega), y1], by rw [w5 327 (by omega) (by omega), x2, w6 11 615 (by omega) (by omega) (by omega), y2], by rw [w5 328 (by omega) (by omega), x3, w6 11 616 (by omega) (by omega) (by omega), y3], ?_⟩, Or.inl ⟨by rw [w5 325 (by omega) (by omega), x4 325 (by omega) (by omega) (by omega), eo 325 (by omega)], by rw [w5 326 (by omega) (by omega), x4 326 (by omega) (by omega) (by omega), eo 326 (by omega)], by rw [w6 10 612 (by omega) (by omega) (by omega), y4 10 612 (by omega) (by omega), ebo 10 612 (by omega) (by omega)], by rw [w6 10 613 (by omega) (by omega) (by omega), y4 10 613 (by omega) (by omega), ebo 10 613 (by omega) (by omega)]⟩⟩
        · rcases w4 with w4 | w4
          · exact Or.inl ⟨w4.1, by rw [w4.2, x4 330 (by omega) (by omega) (by omega), eo 330 (by omega)]⟩
          · exact Or.inr w4
        · rw [w6 11 615 (by omega) (by omega) (by omega), w6 11 616 (by omega) (by omega) (by omega), y2, y3, ← zk]; exact l5
      · rw [if_neg (by omega : ¬ 2 + b' 414 602 0 = 2 + κ), if_neg zk, kA_wrong P2.ha (by omega) (by omega) (by omega), cv_thr, tx_304 (wra_hp P2.ha (by omega) (by omega)), e_509_130 (e + 1) _ _ _ _ P2.hb.1, tn, s0_602 P2.hb.1, vt, dv_s, kB_need0 P2.hb (by omega) (by omega) (by omega), cv_thr, tx_603 (wrb_hp P2.hb (by omega) (by omega))]
        exact (v_wr P2.ha P2.hb (VE.rf _ _) (by omega) (by omega)).imp (fun _ _ _ _ _ _ w => w) (fun _ _ _ _ w => WrD.of V3.d w)
    · rw [e1, e2, cv_thr, cv_thr, tx_304 HA, tx_603 HB, cv_thr, ca_thr, tx_304 HA, tx_603 HB]
      exact Bo.thr HA HB (WrD.ofE DE.rf W)
  · rw [if_neg (fun y => z ((t_word (w := 14) (by decide)).mp y)), if_neg z, ca_ret, if_pos (rfl : (0 : Int) = 0)]
    refine (d_joins q T' (by omega) (by omega)).imp (fun _ a' _ b' _ _ w => ?_) (fun _ _ _ _ w => w)
    obtain ⟨w1, w2, w3, w4, w5, w6⟩ := w
    exact ⟨w1, w2, w3, w4, fun f hf => w5 f (by omega) (by omega), fun f x h1 h2 h3 => w6 f x h1 (by omega) h3, Or.inl ⟨w5 329 (by omega) (by omega), w6 4 614 (by omega) (by omega) (by omega)⟩, Or.inl ⟨w5 325 (by omega) (by omega), w5 326 (by omega) (by omega), w6 10 612 (by omega) (by omega) (by omega), w6 10 613 (by omega) (by omega) (by omega)⟩⟩
end ADORN
end

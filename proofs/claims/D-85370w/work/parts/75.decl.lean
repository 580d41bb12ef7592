section
/-! reading: a declaration of a name, up to its kind -/
set_option maxRecDepth 100000
theorem cv_cv {r : fk_R} {k K : fi_H → fk_R} : cv_ (cv_ r k (fun q h => tx_ q h)) K (fun q h => tx_ q h) = cv_ r (fun h => cv_ (k h) K (fun q h => tx_ q h)) (fun q h => tx_ q h) := by
  show cv_ (cv_ r k (fun q h => tx_ q h)) K (fun q h => tx_ q h) = _
  unfold cv_
  rcases r with _ | ⟨(_ | v) | q, h⟩
  · rfl
  · rfl
  · rfl
  · exact cv_tx
theorem ca_tx {q : Nat} {h : fi_H} {t : Nat} {K : Int → fi_H → fk_R} : ca_ (tx_ q h) t K (fun q h => tx_ q h) = tx_ q h := by
  unfold tx_
  split
  · rename_i z
    rw [ca_thr]
    rw [if_pos z]
  · rfl
theorem ca_cv {t : Nat} {r : fk_R} {k : fi_H → fk_R} {K : Int → fi_H → fk_R} : ca_ (cv_ r k (fun q h => tx_ q h)) t K (fun q h => tx_ q h) = cv_ r (fun h => ca_ (k h) t K (fun q h => tx_ q h)) (fun q h => tx_ q h) := by
  rcases r with _ | ⟨(_ | v) | q, h⟩
  · rfl
  · rfl
  · rfl
  · exact ca_tx
abbrev wNA (m0 : Nat) (f x i : Nat) : Prop := wVA f x i ∨ (f = 12 ∧ x = 320 ∧ m0 ≤ i) ∨ (f = 160 ∧ x = 377)
abbrev wNB (m0 : Nat) (f x i : Nat) : Prop := wVB f x i ∨ (608 ≤ x ∧ x ≤ 616 ∧ m0 ≤ i) ∨ (f = 413 ∧ x = 602)
def NE (m0 : Nat) (a b a' b' : fi_H) : Prop := Fr (wNA m0) a a' ∧ Fr (wNB m0) b b'
def WrN (m0 : Nat) (a b a' b' : fi_H) : Prop := Wr a' b' ∧ NE m0 a b a' b'
section DECL
variable {u : Nat → Int} {n M i m m0 : Nat} {a b a0 b0 : fi_H} {dA dB : Nat}
theorem NE.rf : NE m0 a b a b := ⟨Fr.rf _ _, Fr.rf _ _⟩
theorem NE.tr {a b a1 b1 a2 b2 : fi_H} (p : NE m0 a b a1 b1) (q : NE m0 a1 b1 a2 b2) : NE m0 a b a2 b2 := ⟨p.1.tr q.1, p.2.tr q.2⟩
theorem VE.ne {a' b' : fi_H} (p : VE a b a' b') : NE m0 a b a' b' := ⟨p.1.mono (fun _ _ _ q => Or.inl q), p.2.mono (fun _ _ _ q => Or.inl q)⟩
theorem WrN.ofE {a' b' : fi_H} (p : NE m0 a0 b0 a b) (q : WrE a b a' b') : WrN m0 a0 b0 a' b' := ⟨q.1, p.tr q.2.v.ne⟩
theorem n_wr {TA TB : Nat} {P : Int → fi_H → Int → fi_H → Prop} (HA : Hp a) (HB : Hp b) (V : NE m0 a0 b0 a b) {k p : Int} (hk : 0 ≤ k ∧ k < 100) (hp : 0 ≤ p ∧ p ≤ 4000) : Bo 304 TA TB (some (.inr 304, wra a k p)) (some (.inr 603, wrb b k p)) P (WrN m0 a0 b0) :=
  (v_wr HA HB (VE.rf _ _) hk hp).imp (fun _ _ _ _ _ _ w => w) (fun _ _ _ _ w => ⟨w.1, V.tr w.2.ne⟩)
/-- names stay as tokens and values are read -/
theorem VE.names {a' b' : fi_H} (p : VE a b a' b') (HA : Hp a) (HB : Hp b) (N : NmR a b m) : NmR a' b' m :=
  N.f HA HB p.1 p.2 (fun k _ => by simp only [wVA, wTA, wvA]; omega) (by simp only [wVA, wTA, wvA]; omega) (fun f x i h1 _ f1 f2 => by simp only [wVA, wTA, wvA]; omega) (fun f x i hf h1 _ => by simp only [wVA, wTA, wvA]; omega) (fun f x k h1 h2 _ => by simp only [wVB, wTB, wvB]; omega)
theorem tok_nm (hu : ∀ k, n ≤ k → u k = 0) (h : tk u n i = 2) : 1 ≤ lw u n i ∧ lw u n i ≤ 12 ∧ xs (cw u n i 0) := by
  have hp := pl_le hu i
  show 1 ≤ (tok u n (pl u n i)).2.1 - pl u n i ∧ (tok u n (pl u n i)).2.1 - pl u n i ≤ 12 ∧ xs (u (pl u n i + 0))
  unfold tk at h
  generalize pl u n i = p at *
  unfold tok at h ⊢
  split at h
  · simp at h
  · rename_i z0
    rw [if_neg z0]
    split at h
    · rename_i z1
      rw [if_pos z1]
      obtain ⟨w1, w2, w3, w4⟩ := we_ok (u := u) (n := n) (n - p) p (by omega)
      have : p < we u n p := by
        by_cases z : we u n p = p
        · exact absurd (Or.inl (by rw [z]; exact z1)) (w4 (by omega))
        · omega
      simp only at h
      split at h
      · simp at h
      · exact ⟨by show 1 ≤ we u n p - p; omega, by show we u n p - p ≤ 12; omega, by rw [Nat.add_zero]; exact z1⟩
    · split at h
      · split at h
        · simp at h
        · split at h
          · simp at h
          · split at h <;> simp at h
      · split at h
        · split at h <;> simp at h
        · split at h <;> simp at h
theorem PS.nml (q : PS u n M i a b) (h : tk u n i = 2) (hk : kw u n i = -1) : Nml (lw u n i) (cw u n i) :=
  have t := tok_nm (u := u) (n := n) (i := i) q.2.1.2.2.2.2.1 h
  ⟨⟨t.1, t.2.1⟩, cw_rg q.2.1.2.2.2.2.1 h, t.2.2, hk⟩
/-- the model notes a new name in row m -/
def nwr (b : fi_H) (m : Nat) : fi_H := fi_upd (fi_upd (fi_upd (fi_upd (fi_upd b 11 608 m (b 400 602 0)) 11 609 m (b 401 602 0)) 10 612 m 0) 10 613 m 0) 4 614 m 0
abbrev wnr (m : Nat) (_f x i : Nat) : Prop := i = m ∧ 608 ≤ x ∧ x ≤ 616
theorem nwr_hp (H : Hp b) : Hp (nwr b m) := by
  have r4 := rJ H (f := 400) rfl 602 0
  have r5 := rJ H (f := 401) rfl 602 0
  exact Hp.uZ (Hp.uI (Hp.uI (Hp.uJ (Hp.uJ H m (by decide) (by decide) r4) m (by decide) (by decide) r5) m (by decide) (by decide) (by omega)) m (by decide) (by decide) (by omega)) m (by decide) (by decide) (Or.inl rfl)
theorem nwr_fr : Fr (wnr m) b (nwr b m) := Fr.u m _ (Fr.u m _ (Fr.u m _ (Fr.u m _ (Fr.u m _ (Fr.rf _ _) (by decide) ⟨rfl, by decide, by decide⟩) (by decide) ⟨rfl, by decide, by decide⟩) (by decide) ⟨rfl, by decide, by decide⟩) (by decide) ⟨rfl, by decide, by decide⟩) (by decide) ⟨rfl, by decide, by decide⟩
theorem nwr_v : nwr b m 11 608 m = b 400 602 0 ∧ nwr b m 11 609 m = b 401 602 0 ∧ nwr b m 10 612 m = 0 ∧ nwr b m 10 613 m = 0 ∧ nwr b m 4 614 m = 0 := by simp [nwr, fi_upd]
theorem kB_new (q : PS u n M i a b) {d : Nat} (hd : 3 ≤ d) {r : Int} (hr : tk u n i = 2 → fj_run d 504 b [(4, 602)] = some (.inl (some (0, r)), b)) (hm : b 413 602 0 = (m : Int)) (hm2 : m ≤ 40) :
    fj_run (d + 1) 503 b [(4, 602)] = if tk u n i = 2 ∧ kw u n i = -1 then (if r = -1 then (if m < 40 then cv_ (fj_run d 502 (nwr b m) [(4, 602)]) (fun h1 => lt_ (fi_upd h1 413 602 0 (wI (h1 413 602 0 + 1))) fun h4 => cv_ (fj_run d 505 h4 [(4, 602), (0, 58)]) (fun h5 => some (.inl (some (0, (m : Int))), h5)) (fun q h => tx_ q h)) (fun q h => tx_ q h) else some (.inr 603, wrb b 4 (pl u n i))) else some (.inr 603, wrb b 2 (pl u n i))) else some (.inr 603, wrb b 1 (pl u n i)) := by
  have tn : ((602 : Int)).toNat = 602 := rfl
  have vt : fi_vt 348 129 = some 500 := rfl
  have hp := q.ple
  have sB := t_sortB q
  have H := q.hb
  rw [m_503 d H.1]
  by_cases z : tk u n i = 2 ∧ kw u n i = -1
  · rw [if_neg (by omega : ¬ tk u n i = 0), if_neg (by omega : ¬ tk u n i = 1), if_pos z.1, if_pos z.2] at sB
    rw [if_pos sB, if_pos z, e_503_14 d _ _ H.1, tn, s0_602 H.1, vt, dv_s, kB_need1 H (by omega) (by decide), cv_ret, hr z.1, ca_ret]
    by_cases zr : r = -1
    · rw [if_pos zr, if_pos zr, e_503_36 d _ _ H.1, tn, s0_602 H.1, vt, dv_s, kB_need1 H (by omega) (by decide), cv_ret, hm]
      by_cases zm : m < 40
      · rw [if_pos (by omega : (m : Int) < 40), if_pos zm, e_503_59 d _ _ H.1, tn, s0_602 H.1, vt, dv_s, kB_need1 H (by omega) (by decide), cv_ret, hm, if_pos (by omega : (0 : Int) ≤ (m : Int) ∧ (m : Int) < 41), Int.toNat_natCast, lt_eq, lt_eq, lt_eq, lt_eq, lt_eq, fi_upd_ne b 11 608 m _ (f' := 401) (by omega)]
        show c_503_113 d (m : Int) (nwr b m) = _
        rw [e_503_113 d _ (nwr_hp H).1]
      · rw [if_neg (by omega : ¬ (m : Int) < 40), if_neg zm, e_503_59 d _ _ H.1, tn, s0_602 H.1, vt, dv_s, q.tb.1, kB_need0 H (by omega) (by omega) (by omega), cv_thr, tx_603 (wrb_hp H (by omega) (by omega))]
    · rw [if_neg zr, if_neg zr, e_503_36 d _ _ H.1, tn, s0_602 H.1, vt, dv_s, q.tb.1, kB_need0 H (by omega) (by omega) (by omega), cv_thr, tx_603 (wrb_hp H (by omega) (by omega))]
  · have : ¬ b 394 602 0 = 1 := by
      rw [sB]
      intro w
      have tr := tk_rg (u := u) (n := n) i
      have kr := kw_rg (u := u) (n := n) i
      (repeat' split at w) <;> omega
    rw [if_neg this, if_neg z, e_503_14 d _ _ H.1, tn, s0_602 H.1, vt, dv_s, q.tb.1, kB_need0 H (by omega) (by omega) (by omega), cv_thr, tx_603 (wrb_hp H (by omega) (by omega))]
end DECL
end

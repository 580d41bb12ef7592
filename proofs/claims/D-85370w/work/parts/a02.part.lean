section
/-! reading expressions: a part is made on both sides -/
set_option maxRecDepth 100000
/-- row p of the model's parts -/
def rowp (b : fi_H) (p : Nat) (o κ x y z g : Int) : fi_H :=
  fi_upd (fi_upd (fi_upd (fi_upd (fi_upd (fi_upd (fi_upd (fi_upd (fi_upd b 10 617 p o) 10 618 p κ) 10 619 p x) 10 620 p y) 10 621 p z) 10 622 p g) 11 623 p 0) 11 624 p 0) 426 602 0 ((p : Int) + 1)
abbrev i32 (x : Int) : Prop := -2147483648 ≤ x ∧ x < 2147483648
/-- the height of a row, 0 of none -/
def hig (b : fi_H) (x : Int) : Int := if x = -1 then 0 else b 10 622 x.toNat
section PART
variable {a b : fi_H} {p m : Nat} {o κ x y z g : Int} {d : Nat}
theorem rowp_hp (H : Hp b) (hp : p < 9000) (h1 : i32 o) (h2 : i32 κ) (h3 : i32 x) (h4 : i32 y) (h5 : i32 z) (h6 : i32 g) : Hp (rowp b p o κ x y z g) :=
  Hp.uI (Hp.uJ (Hp.uJ (Hp.uI (Hp.uI (Hp.uI (Hp.uI (Hp.uI (Hp.uI H p (by decide) (by decide) h1) p (by decide) (by decide) h2) p (by decide) (by decide) h3) p (by decide) (by decide) h4) p (by decide) (by decide) h5) p (by decide) (by decide) h6) p (by decide) (by decide) (by omega)) p (by decide) (by decide) (by omega)) 0 (by decide) (by decide) (by omega)
theorem rowp_v : rowp b p o κ x y z g 10 617 p = o ∧ rowp b p o κ x y z g 10 618 p = κ ∧ rowp b p o κ x y z g 10 619 p = x ∧ rowp b p o κ x y z g 10 620 p = y ∧ rowp b p o κ x y z g 10 621 p = z ∧ rowp b p o κ x y z g 10 622 p = g ∧ rowp b p o κ x y z g 11 623 p = 0 ∧ rowp b p o κ x y z g 11 624 p = 0 ∧ rowp b p o κ x y z g 426 602 0 = (p : Int) + 1 := by
  simp [rowp, fi_upd]
theorem rowp_fr : Fr (fun f x i => (617 ≤ x ∧ x ≤ 624 ∧ i = p) ∨ (f = 426 ∧ x = 602)) b (rowp b p o κ x y z g) := by
  unfold rowp
  exact Fr.u 0 _ (Fr.u p _ (Fr.u p _ (Fr.u p _ (Fr.u p _ (Fr.u p _ (Fr.u p _ (Fr.u p _ (Fr.u p _ (Fr.rf _ _) (by decide) (by omega)) (by decide) (by omega)) (by decide) (by omega)) (by decide) (by omega)) (by decide) (by omega)) (by decide) (by omega)) (by decide) (by omega)) (by decide) (by omega)) (by decide) (by omega)
theorem kB_high (H : Hp b) (hx : x = -1 ∨ (0 ≤ x ∧ x < 9300)) : fj_run (d + 1) 547 b [(4, 602), (0, x)] = some (.inl (some (0, hig b x)), b) := by
  rw [m_547 d x H.1]
  unfold hig
  by_cases e : x = -1
  · rw [if_pos e, if_pos e]
  · rw [if_neg e, if_neg e, if_pos (by omega)]
theorem kB_part (H : Hp b) (ho : i32 o) (hk2 : i32 κ) (hp : b 426 602 0 = (p : Int) ∧ p ≤ 8000) {pl : Int} (hpl : 0 ≤ pl ∧ pl ≤ 4000) (hx : x = -1 ∨ (0 ≤ x ∧ x < 9300)) (hy : y = -1 ∨ (0 ≤ y ∧ y < 9300)) (hz : z = -1 ∨ (0 ≤ z ∧ z < 9300)) (gx : 0 ≤ hig b x ∧ hig b x ≤ 16) (gy : 0 ≤ hig b y ∧ hig b y ≤ 16) (gz : 0 ≤ hig b z ∧ hig b z ≤ 16) :
    fj_run (d + 3) 546 b [(4, 602), (0, o), (0, pl), (0, κ), (0, x), (0, y), (0, z)] = if κ = -1 then some (.inr 603, wrb b 5 pl) else if 16 < max (max (hig b x) (hig b y)) (hig b z) + 1 ∨ p = 8000 then some (.inr 603, wrb b 6 pl) else some (.inl (some (0, (p : Int))), rowp b p o κ x y z (max (max (hig b x) (hig b y)) (hig b z) + 1)) := by
  have tn : ((602 : Int)).toNat = 602 := rfl
  have vt : fi_vt 348 129 = some 500 := rfl
  have hp0 := hp.1
  rw [m_546 (d + 2) o pl κ x y z H.1]
  by_cases hκ : κ = -1
  · rw [if_pos hκ, if_pos hκ, e_546_11 _ _ _ _ _ _ _ _ _ H.1, tn, s0_602 H.1, vt, dv_s, kB_need0 H (by omega) (by omega) hpl, cv_thr, tx_603 (wrb_hp H (by omega) (by omega))]
  · rw [if_neg hκ, if_neg hκ, e_546_11 _ _ _ _ _ _ _ _ _ H.1, tn, s0_602 H.1, vt, dv_s, kB_need1 H (by omega) (by decide), cv_ret, kB_high H hx, ca_ret, kB_high H hy, ca_ret]
    have e46 : ∀ s : Int, s = max (hig b x) (hig b y) → c_546_46 (d + 2) o pl κ x y z s b = if 16 < max (max (hig b x) (hig b y)) (hig b z) + 1 ∨ p = 8000 then some (.inr 603, wrb b 6 pl) else some (.inl (some (0, (p : Int))), rowp b p o κ x y z (max (max (hig b x) (hig b y)) (hig b z) + 1)) := by
      intro s hs
      have e71 : ∀ t : Int, t = max s (hig b z) → c_546_71 (d + 2) o pl κ x y z 1 t b = if 16 < max (max (hig b x) (hig b y)) (hig b z) + 1 ∨ p = 8000 then some (.inr 603, wrb b 6 pl) else some (.inl (some (0, (p : Int))), rowp b p o κ x y z (max (max (hig b x) (hig b y)) (hig b z) + 1)) := by
        intro t ht
        rw [← hs, ← ht]
        have ht2 : 0 ≤ t ∧ t ≤ 16 := by omega
        have bad : c_546_96 (d + 2) o pl κ x y z (1 + t) 602 b = some (.inr 603, wrb b 6 pl) := by
          rw [e_546_96 _ _ _ _ _ _ _ _ _ H.1, e_546_97 _ _ _ _ _ _ _ _ _ _ H.1, tn, s0_602 H.1, vt, dv_s, kB_need0 H (by omega) (by omega) hpl, cv_thr, tx_603 (wrb_hp H (by omega) (by omega))]
        rw [e_546_71 _ _ _ _ _ _ _ _ _ H.1, wI_id (by omega) (by omega)]
        by_cases q1 : 16 < t + 1
        · rw [if_pos (by omega), if_pos (Or.inl q1), bad]
        · rw [if_neg (by omega)]
          by_cases q2 : p = 8000
          · rw [if_neg (by omega), if_pos (Or.inr q2), bad]
          · rw [if_pos (by omega), if_neg (by omega), e_546_97 _ _ _ _ _ _ _ _ _ _ H.1, tn, s0_602 H.1, vt, dv_s, kB_need1 H (by omega) (by decide), cv_ret, hp0, if_pos (by omega), lt_eq, lt_eq, lt_eq, lt_eq, lt_eq, lt_eq, Int.toNat_natCast]
            have H6 : Hp (fi_upd (fi_upd (fi_upd (fi_upd (fi_upd (fi_upd b 10 617 p o) 10 618 p κ) 10 619 p x) 10 620 p y) 10 621 p z) 10 622 p (1 + t)) := by
              exact Hp.uI (Hp.uI (Hp.uI (Hp.uI (Hp.uI (Hp.uI H p (by decide) (by decide) ho) p (by decide) (by decide) hk2) p (by decide) (by decide) (by omega)) p (by decide) (by decide) (by omega)) p (by decide) (by decide) (by omega)) p (by decide) (by decide) (by omega)
            rw [e_546_161 _ _ H6.1, if_pos (by omega), lt_eq, lt_eq, lt_eq, Int.toNat_natCast]
            have e9 : fi_upd (fi_upd (fi_upd (fi_upd (fi_upd (fi_upd (fi_upd (fi_upd b 10 617 p o) 10 618 p κ) 10 619 p x) 10 620 p y) 10 621 p z) 10 622 p (1 + t)) 11 623 p 0) 11 624 p 0 426 602 0 = (p : Int) := by
              rw [fi_upd_ne _ _ _ _ _ (by omega), fi_upd_ne _ _ _ _ _ (by omega), fi_upd_ne _ _ _ _ _ (by omega), fi_upd_ne _ _ _ _ _ (by omega), fi_upd_ne _ _ _ _ _ (by omega), fi_upd_ne _ _ _ _ _ (by omega), fi_upd_ne _ _ _ _ _ (by omega), fi_upd_ne _ _ _ _ _ (by omega)]
              exact hp0
            rw [e9, wI_id (by omega) (by omega), show (1 + t : Int) = t + 1 by omega]
            rfl
      rw [e_546_46 _ _ _ _ _ _ _ _ H.1, kB_high H hz, ca_ret]
      by_cases q : s < hig b z
      · rw [if_pos q, kB_high H hz, ca_ret]
        exact e71 _ (by omega)
      · rw [if_neg q]
        exact e71 _ (by omega)
    by_cases q : hig b y < hig b x
    · rw [if_pos q, kB_high H hx, ca_ret]; exact e46 _ (by omega)
    · rw [if_neg q, kB_high H hy, ca_ret]; exact e46 _ (by omega)
theorem kA_made (H : Hp a) (hp : a 231 303 0 + a 162 377 0 = (p : Int) ∧ p ≤ 8000) {pl : Int} (hpl : 0 ≤ pl ∧ pl ≤ 4000) : fj_run (d + 2) 243 a [(4, 377), (0, g), (0, pl)] = if 16 < g ∨ p = 8000 then some (.inr 304, wra a 6 pl) else some (.inl none, fi_upd a 162 377 0 (wI (a 162 377 0 + 1))) := by
  rw [m_243 (d + 1) g pl H.1, hp.1, wI_id (by omega) (by omega), e_243_24 _ _ H.1, kA_wrong H (by omega) (by omega) hpl]
  by_cases q1 : 16 < g
  · rw [if_pos q1, if_pos (Or.inl q1)]
  · rw [if_neg q1]
    by_cases q2 : p = 8000
    · rw [if_pos (by omega), if_pos (Or.inr q2)]
    · rw [if_neg (by omega), if_neg (by omega), lt_eq]
end PART
end

section
/-! reading expressions: leaves are made -/
set_option maxRecDepth 100000
/-- the row of a leaf -/
def lfrow (b : fi_H) (p : Nat) (o κ v w t : Int) : fi_H := fi_upd (fi_upd (fi_upd (rowp b p o κ (-1) (-1) (-1) 1) 11 623 p v) 11 624 p w) 10 619 p t
abbrev i64 (x : Int) : Prop := -9223372036854775808 ≤ x ∧ x < 9223372036854775808
section LEAF
variable {u : Nat → Int} {n M i m p : Nat} {a b h h1 : fi_H} {dA dB d : Nat} {o κ v w t r : Int} {L : Nat → Int}
theorem upd_id {g : fi_H} {f x i : Nat} {v : Int} (e : g f x i = v) : fi_upd g f x i v = g := by
  funext f' x' i'
  unfold fi_upd
  split
  · rename_i z; obtain ⟨rfl, rfl, rfl⟩ := z; exact e.symm
  · rfl
theorem lfrow_hp (H : Hp b) (hp : p < 9000) (h1 : i32 o) (h2 : i32 κ) (h3 : i64 v) (h4 : i64 w) (h5 : i32 t) : Hp (lfrow b p o κ v w t) :=
  Hp.uI (Hp.uJ (Hp.uJ (rowp_hp H hp h1 h2 ⟨by omega, by omega⟩ ⟨by omega, by omega⟩ ⟨by omega, by omega⟩ ⟨by omega, by omega⟩) p (by decide) (by decide) h3) p (by decide) (by decide) h4) p (by decide) (by decide) h5
theorem lfrow_v : lfrow b p o κ v w t 10 617 p = o ∧ lfrow b p o κ v w t 10 618 p = κ ∧ lfrow b p o κ v w t 10 619 p = t ∧ lfrow b p o κ v w t 10 620 p = -1 ∧ lfrow b p o κ v w t 10 621 p = -1 ∧ lfrow b p o κ v w t 10 622 p = 1 ∧ lfrow b p o κ v w t 11 623 p = v ∧ lfrow b p o κ v w t 11 624 p = w ∧ lfrow b p o κ v w t 426 602 0 = (p : Int) + 1 := by
  simp [lfrow, rowp, fi_upd]
theorem lfrow_fr : Fr (fun f x i => (617 ≤ x ∧ x ≤ 624 ∧ i = p) ∨ (f = 426 ∧ x = 602)) b (lfrow b p o κ v w t) := by
  unfold lfrow
  exact Fr.u p _ (Fr.u p _ (Fr.u p _ rowp_fr (by decide) (by omega)) (by decide) (by omega)) (by decide) (by omega)
theorem lfrow_s : fi_upd (lfrow b p o κ v w t) 10 619 p t = lfrow b p o κ v w t := by
  unfold lfrow
  funext f x i
  unfold fi_upd
  (repeat' split) <;> rfl
theorem lfrow_t {t' : Int} : fi_upd (lfrow b p o κ v w t) 10 619 p t' = lfrow b p o κ v w t' := by
  unfold lfrow
  funext f x i
  simp only [fi_upd]
  (repeat' split) <;> first | rfl | (exfalso; omega)
theorem kB_leaf (H : Hp b) (ho : i32 o) (hk : 0 ≤ κ ∧ κ ≤ 7) (hv : i64 v) (hw : i64 w) (hp : b 426 602 0 = (p : Int) ∧ p ≤ 8000) {pl : Int} (hpl : 0 ≤ pl ∧ pl ≤ 4000) :
    fj_run (d + 4) 545 b [(4, 602), (0, o), (0, pl), (0, κ), (1, v), (1, w)] = if p = 8000 then some (.inr 603, wrb b 6 pl) else some (.inl (some (0, (p : Int))), lfrow b p o κ v w (-1)) := by
  rw [m_545 (d + 3) o pl κ v w H.1, kB_part H ho ⟨by omega, by omega⟩ hp hpl (Or.inl rfl) (Or.inl rfl) (Or.inl rfl) (by rw [hig_n]; omega) (by rw [hig_n]; omega) (by rw [hig_n]; omega), hig_n, if_neg (by omega), show max (max (0 : Int) 0) 0 + 1 = 1 from rfl]
  by_cases z : p = 8000
  · rw [if_pos (Or.inr z), if_pos z, ca_thr, tx_603 (wrb_hp H (by omega) (by omega))]
  · rw [if_neg (by omega), if_neg z, ca_ret, if_pos (by omega), lt_eq, lt_eq, Int.toNat_natCast]
    have e : fi_upd (fi_upd (rowp b p o κ (-1) (-1) (-1) 1) 11 623 p v) 11 624 p w = lfrow b p o κ v w (-1) := by
      unfold lfrow
      refine (upd_id ?_).symm
      rw [fi_upd_ne _ _ _ _ _ (by omega), fi_upd_ne _ _ _ _ _ (by omega)]
      exact rowp_v.2.2.1
    rw [e]
/-- a leaf on both sides; K: what the class does behind the count -/
theorem t_lf (q : XS u n M i m p a b) (ho : i32 o) (hk : 0 ≤ κ ∧ κ ≤ 7) (hv : i64 v) (hw : i64 w) (ht : i32 t) {pl : Int} (hpl : 0 ≤ pl ∧ pl ≤ 4000) (hA : 8 ≤ dA) (hB : 4 ≤ dB) (hrow : o ≠ 18 ∨ κ ≠ 3 → t = -1)
    {KA : fi_H → fk_R} {KB : Int → fi_H → fk_R}
    (hKA : p < 8000 → ∀ a1, Hp a1 → Fr (fun f x _ => f = 162 ∧ x = 377) a a1 → ∃ a2 r c s L, KA a1 = some (.inl (some (4, r)), a2) ∧ NW a1 r c s L a2 ∧ ∀ b2, XE p a b a2 b2 → b2 10 617 p = o → b2 10 618 p = κ → b2 10 619 p = t → b2 10 622 p = 1 → b2 11 623 p = v → b2 11 624 p = w → PLf a2 b2 m r p)
    (hKB : p < 8000 → KB (p : Int) (lfrow b p o κ v w (-1)) = some (.inl (some (0, (p : Int))), lfrow b p o κ v w t)) :
    Bo 304 4 0 (cv_ (fj_run dA 243 a [(4, 377), (0, 1), (0, pl)]) KA (fun q h => tx_ q h)) (ca_ (fj_run dB 545 b [(4, 602), (0, o), (0, pl), (0, κ), (1, v), (1, w)]) 0 KB (fun q h => tx_ q h)) (XPm u n M i m p p a b) (WrX p a b) := by
  obtain ⟨d, rfl⟩ : ∃ e, dA = e + 8 := ⟨dA - 8, by omega⟩
  obtain ⟨e, rfl⟩ : ∃ e', dB = e' + 4 := ⟨dB - 4, by omega⟩
  have hpp := q.2.2.2.2
  rw [kA_made (d := d + 6) (p := p) q.1.ha ⟨hpp.1, hpp.2.2.1⟩ hpl, kB_leaf (d := e) (p := p) q.1.hb ho hk hv hw ⟨hpp.2.1, hpp.2.2.1⟩ hpl]
  by_cases z : p = 8000
  · rw [if_pos (Or.inr z), if_pos z, cv_thr, tx_304 (wra_hp q.1.ha (by omega) (by omega)), ca_thr, tx_603 (wrb_hp q.1.hb (by omega) (by omega))]
    exact x_wr q.1.ha q.1.hb XE.rf (by omega) hpl
  · have r162 := rI q.1.ha (f := 162) rfl 377 0
    have H1 := q.n162 (by omega)
    have F1 : Fr (fun f x _ => f = 162 ∧ x = 377) a (fi_upd a 162 377 0 (a 162 377 0 + 1)) := Fr.u 0 _ (Fr.rf _ _) (by decide) ⟨rfl, rfl⟩
    have v1 : fi_upd a 162 377 0 (a 162 377 0 + 1) 162 377 0 = a 162 377 0 + 1 := fi_upd_same _ _ _ _ _
    rw [if_neg (by omega), if_neg z, cv_ret, ca_ret, wI_id (by omega) (by omega), hKB (by omega)]
    generalize fi_upd a 162 377 0 (a 162 377 0 + 1) = a1 at *
    obtain ⟨a2, r, c, s, L, e1, N, hP⟩ := hKA (by omega) a1 H1 F1
    rw [e1]
    have H2 := lfrow_hp (b := b) (p := p) (o := o) (κ := κ) (v := v) (w := w) (t := t) q.1.hb (by omega) ho ⟨by omega, by omega⟩ hv hw ht
    have G2 := lfrow_fr (b := b) (p := p) (o := o) (κ := κ) (v := v) (w := w) (t := t)
    obtain ⟨v617, v618, v619, v620, v621, v622, v623, v624, v426⟩ := lfrow_v (b := b) (p := p) (o := o) (κ := κ) (v := v) (w := w) (t := t)
    generalize lfrow b p o κ v w t = b2 at *
    have FA2 := F1.tr (N.fr _)
    obtain ⟨X2, V2, c427⟩ := q.mk (by omega) N.hp FA2 (by rw [N.o 162 0 (by have := H1.1.2.2.1; omega)]; exact v1) H2 G2 v426
    exact Bo.ret (by decide) (by decide) N.hp H2 ⟨rfl, X2, V2, c427, by omega, by omega, Or.inl ⟨hP b2 V2 v617 v618 v619 v622 v623 v624, v622, v620, v621, fun z => by rw [v619]; exact hrow (by rw [v617, v618] at z; exact z)⟩⟩
/-- the constructors of leaves -/
theorem kA_Const (q : NW h r 103 7 (fun _ => 0) h1) (hk : 0 ≤ κ ∧ κ ≤ 7) (hv : i64 v) (hw : i64 w) :
    ∃ h2 L, fj_run (d + 3) 244 h1 [(4, r), (4, 303), (4, 2 + κ), (1, v), (1, w)] = some (.inl none, h2) ∧ NW h r 103 7 L h2 ∧ L 340 = 2 + κ ∧ L 341 = 1 ∧ L 337 = v ∧ L 338 = w := by
  have hr := q.rg
  have t1 := q.2.2.1
  have n1 := q.set (by decide) (f := 339) (v := 303) (by decide) rfl (show (0 : Int) ≤ 303 ∧ (303 : Int) ≤ h1 2 0 0 by omega)
  have z0 : h1 339 r.toNat 0 = 0 := q.g (f := 339) (by decide)
  rw [m_244 (d + 2) r 303 _ v w q.hp.1 q.cl, if_pos hr.1, if_pos z0, lt_eq]
  obtain ⟨h4, e4, n4⟩ := kA_Part n1 (d := d) (by decide) ⟨rfl, rfl, rfl⟩ ⟨rfl, rfl, rfl⟩ (κ := 2 + κ) (g := 1) (by omega) (by omega)
  have n5 := n4.set (by decide) (f := 337) (v := v) (by decide) rfl (show i64 v from hv)
  have n6 := n5.set (by decide) (f := 338) (v := w) (by decide) rfl (show i64 w from hw)
  have z4 : h4 337 r.toNat 0 = 0 := n4.g (f := 337) (by decide)
  have z5 : fi_upd h4 337 r.toNat 0 v 338 r.toNat 0 = 0 := n5.g (f := 338) (by decide)
  rw [e4, cv_ret, if_pos hr.1, if_pos z4, lt_eq, if_pos hr.1, if_pos z5, lt_eq]
  exact ⟨_, _, rfl, n6, rfl, rfl, rfl, rfl⟩
/-- Named's constructor -/
theorem kA_Named {c : Int} (q : NW h r c 7 L h1) (hc : 100 ≤ c ∧ c < 134) (hi : fi_in c 340 = true ∧ fi_in c 341 = true ∧ fi_in c 343 = true ∧ fi_in c 347 = true ∧ fi_in c 348 = true) (z : L 340 = 0 ∧ L 341 = 0 ∧ L 343 = 0 ∧ L 347 = 0 ∧ L 348 = 0) (hk : 0 ≤ κ ∧ κ ≤ 9) (hv : i32 v) :
    ∃ h2, fj_run (d + 3) 250 h1 [(4, r), (4, 303), (4, κ), (0, v)] = some (.inl none, h2) ∧ NW h r c 7 (up (up (up (up (up L 348 303) 343 303) 340 κ) 341 1) 347 v) h2 := by
  have hr := q.rg
  have t1 := q.2.2.1
  have hne : c ≠ 0 := by omega
  have n1 := q.set hne (f := 348) (v := 303) (by decide) z.2.2.2.2 (show (0 : Int) ≤ 303 ∧ (303 : Int) ≤ h1 2 0 0 by omega)
  have c1 := n1.cl
  rw [m_250 (d + 2) r 303 κ v q.hp.1 q.cl hne, q.cl, if_pos ⟨hr.1, hi.2.2.2.2, hc.2⟩, if_pos (fun _ => by rw [q.g (by decide)]; exact z.2.2.2.2), lt_eq, c1, if_pos hc]
  obtain ⟨h4, e4, n4⟩ := kA_Part n1 (d := d) hc ⟨hi.1, hi.2.1, hi.2.2.1⟩ ⟨(up_n _ _ (by decide)).trans z.1, (up_n _ _ (by decide)).trans z.2.1, (up_n _ _ (by decide)).trans z.2.2.1⟩ (κ := κ) (g := 1) hk (by omega)
  have c4 := n4.cl
  have z4 : h4 347 r.toNat 0 = 0 := by
    rw [n4.g (by decide), up_n _ _ (by decide), up_n _ _ (by decide), up_n _ _ (by decide), up_n _ _ (by decide)]; exact z.2.2.2.1
  have n5 := n4.set hne (f := 347) (v := v) (by decide) (by rw [up_n _ _ (by decide), up_n _ _ (by decide), up_n _ _ (by decide), up_n _ _ (by decide)]; exact z.2.2.2.1) (show i32 v from hv)
  rw [e4, cv_ret, c4, if_pos ⟨hr.1, hi.2.2.2.1, hc.2⟩, if_pos (fun _ => z4), lt_eq]
  exact ⟨_, rfl, n5⟩
theorem kA_Has (q : NW h r 109 7 (fun _ => 0) h1) (hv : i32 v) :
    ∃ h2 L, fj_run (d + 4) 249 h1 [(4, r), (4, 303), (0, v)] = some (.inl none, h2) ∧ NW h r 109 7 L h2 ∧ L 340 = 2 ∧ L 341 = 1 ∧ L 347 = v := by
  have hr := q.rg
  have t1 := q.2.2.1
  have n1 := q.set (by decide) (f := 346) (v := 303) (by decide) rfl (show (0 : Int) ≤ 303 ∧ (303 : Int) ≤ h1 2 0 0 by omega)
  have z0 : h1 346 r.toNat 0 = 0 := q.g (f := 346) (by decide)
  rw [m_249 (d + 3) r 303 v q.hp.1 q.cl, if_pos hr.1, if_pos z0, lt_eq]
  obtain ⟨h4, e4, n4⟩ := kA_Named n1 (d := d) (by decide) ⟨rfl, rfl, rfl, rfl, rfl⟩ ⟨rfl, rfl, rfl, rfl, rfl⟩ (κ := 2) (by omega) hv
  rw [e4, cv_ret]
  exact ⟨_, _, rfl, n4, rfl, rfl, rfl⟩
theorem kA_Nmd {c f : Nat} (hcf : (c = 123 ∧ f = 364) ∨ (c = 106 ∧ f = 365)) {k : Nat} (hk : k < 40) (q : NW h r (c : Int) 7 (fun _ => 0) h1) (h124 : 714 < h 12 320 k ∧ h 12 320 k ≤ h 2 0 0 ∧ h 0 (h 12 320 k).toNat 0 = 124) (hκ : h 324 (h 12 320 k).toNat 0 = 2 + κ ∧ 0 ≤ κ ∧ κ ≤ 7) :
    ∃ h2 L, fj_run (d + 4) (if c = 123 then 288 else 289) h1 [(4, r), (4, 303), (0, (k : Int))] = some (.inl none, h2) ∧ NW h r (c : Int) 7 L h2 ∧ L 340 = 2 + κ ∧ L 341 = 1 ∧ L 347 = (k : Int) := by
  have hr := q.rg
  have t1 := q.2.2.1
  have ht := q.2.1
  rcases hcf with ⟨rfl, rfl⟩ | ⟨rfl, rfl⟩
  · have n1 := q.set (by decide) (f := 364) (v := 303) (by decide) rfl (show (0 : Int) ≤ 303 ∧ (303 : Int) ≤ h1 2 0 0 by omega)
    have z0 : h1 364 r.toNat 0 = 0 := q.g (f := 364) (by decide)
    rw [if_pos rfl, m_288 (d + 3) r 303 _ q.hp.1 q.cl, if_pos hr.1, if_pos z0, lt_eq]
    have H1 := n1.hp.1
    obtain ⟨h4, e4, n4⟩ := kA_Named n1 (d := d) (κ := 2 + κ) (by decide) ⟨rfl, rfl, rfl, rfl, rfl⟩ ⟨rfl, rfl, rfl, rfl, rfl⟩ (by omega) (v := (k : Int)) ⟨by omega, by omega⟩
    have t2 := n1.2.2.1
    rw [show ((303 : Int)).toNat = 303 from rfl, if_pos (s0_303 H1), sf_214_303 H1, show ((320 : Int)).toNat = 320 from rfl, s0_320 H1, s1_320 H1, if_pos (by omega), Int.toNat_natCast, n1.o 12 k (by omega), n1.o 0 0 (by omega), if_pos h124.2.2, n1.o 324 0 (by omega), hκ.1, e4, cv_ret]
    exact ⟨_, _, rfl, n4, rfl, rfl, rfl⟩
  · have n1 := q.set (by decide) (f := 365) (v := 303) (by decide) rfl (show (0 : Int) ≤ 303 ∧ (303 : Int) ≤ h1 2 0 0 by omega)
    have z0 : h1 365 r.toNat 0 = 0 := q.g (f := 365) (by decide)
    rw [if_neg (by decide), m_289 (d + 3) r 303 _ q.hp.1 q.cl, if_pos hr.1, if_pos z0, lt_eq]
    have H1 := n1.hp.1
    obtain ⟨h4, e4, n4⟩ := kA_Named n1 (d := d) (κ := 2 + κ) (by decide) ⟨rfl, rfl, rfl, rfl, rfl⟩ ⟨rfl, rfl, rfl, rfl, rfl⟩ (by omega) (v := (k : Int)) ⟨by omega, by omega⟩
    have t2 := n1.2.2.1
    rw [show ((303 : Int)).toNat = 303 from rfl, if_pos (s0_303 H1), sf_214_303 H1, show ((320 : Int)).toNat = 320 from rfl, s0_320 H1, s1_320 H1, if_pos (by omega), Int.toNat_natCast, n1.o 12 k (by omega), n1.o 0 0 (by omega), if_pos h124.2.2, n1.o 324 0 (by omega), hκ.1, e4, cv_ret]
    exact ⟨_, _, rfl, n4, rfl, rfl, rfl⟩
end LEAF
end

section
/-! reading expressions: constants -/
set_option maxRecDepth 100000
section CST
variable {u : Nat → Int} {n M i j m p : Nat} {a b a1 b1 a2 b2 h h1 : fi_H} {dA dB d : Nat} {o κ v w t r c s : Int} {L : Nat → Int}
theorem PC.mk (N : NW h r c s L a2) (e340 : L 340 = 2 + κ) (e341 : L 341 = 1) (hk : 0 ≤ κ ∧ κ ≤ 7) (g1 : b2 10 617 p = o) (g2 : b2 10 618 p = κ) (g3 : b2 10 622 p = 1) : PC a2 b2 r p c o := by
  have hr := N.rg
  have ht := N.2.2.1
  exact ⟨⟨hr.2, by omega⟩, N.cl, g1, ⟨by omega, by omega, by rw [N.g (by decide), e340, g2]⟩, ⟨by rw [N.g (by decide), e341, g3], by omega, by omega⟩⟩
theorem XPm.xo {x y : Int} {a' b' : fi_H} (hij : i < j) (V : XE p a b a1 b1) (c427 : b1 427 602 0 = b 427 602 0) (z : XPm u n M j m p p a1 b1 x a' y b') : XPo u n M i m p a b x a' y b' :=
  ⟨j, p + 1, p, hij, Nat.le_refl _, Nat.lt_succ_self _, z.1, z.2.1, V.tr z.2.2.1, z.2.2.2.1.trans c427, z.2.2.2.2⟩
/-- the value read becomes a part -/
theorem t_cst (q : XS u n M i m p a b) (e1 : a 167 377 0 = 2 + κ) (e2 : a 168 377 0 = v) (e3 : a 169 377 0 = w) (hk : 0 ≤ κ ∧ κ ≤ 5) (hV : Vok κ v w) (hv : 0 ≤ v ∧ v ≤ 99999999999) (hw : 0 ≤ w ∧ w ≤ 1000000) (ht : i32 t) (ht3 : κ = 3 → ∃ y : Int, t = -2 - y ∧ 0 ≤ y ∧ y ≤ 10000 ∧ 100 * v = y * w) (ht1 : κ ≠ 3 → t = -1) {pl : Int} (hpl : 0 ≤ pl ∧ pl ≤ 4000) (hA : 8 ≤ dA) (hB : 4 ≤ dB)
    {KB : Int → fi_H → fk_R} (hKB : p < 8000 → KB (p : Int) (lfrow b p 18 κ v w (-1)) = some (.inl (some (0, (p : Int))), lfrow b p 18 κ v w t)) :
    Bo 304 4 0 (cv_ (fj_run dA 243 a [(4, 377), (0, 1), (0, pl)]) (fun h16 => nw_ h16 103 7 0 fun r19 h20 => cv_ (fj_run dA 244 h20 [(4, r19), (4, 303), (4, h20 167 377 0), (1, h20 168 377 0), (1, h20 169 377 0)]) (fun h21 => some (.inl (some (4, r19)), h21)) (fun q h => tx_ q h)) (fun q h => tx_ q h))
      (ca_ (fj_run dB 545 b [(4, 602), (0, 18), (0, pl), (0, κ), (1, v), (1, w)]) 0 KB (fun q h => tx_ q h)) (XPm u n M i m p p a b) (WrX p a b) := by
  refine t_lf q (t := t) ⟨by omega, by omega⟩ (by omega) ⟨by omega, by omega⟩ ⟨by omega, by omega⟩ ht hpl hA hB (fun z => ht1 (by omega)) (fun _ a1 H1 F1 => ?_) hKB
  obtain ⟨d, rfl⟩ : ∃ e, dA = e + 3 := ⟨dA - 3, by omega⟩
  have N := NW.new H1 103 7 (by decide)
  have tp := H1.1.2.2.1
  have ta := q.1.ha.1.2.2.1
  have g : ∀ f : Nat, 167 ≤ f → f ≤ 169 → fi_new a1 103 7 0 f 377 0 = a f 377 0 := fun f f1 f2 => by rw [N.o f 0 (by omega), F1.2 f 377 0 (by decide) (by omega) (by omega)]
  obtain ⟨h2, L, E, N2, l1, l2, l3, l4⟩ := kA_Const (d := d) N (κ := κ) (v := v) (w := w) (by omega) ⟨by omega, by omega⟩ ⟨by omega, by omega⟩
  refine ⟨h2, a1 2 0 0 + 1, 103, 7, L, ?_, N2, fun b2 V2 g1 g2 g3 g4 g5 g6 => ?_⟩
  · rw [nw_eq, g 167 (by decide) (by decide), g 168 (by decide) (by decide), g 169 (by decide) (by decide), e1, e2, e3, E, cv_ret]
  · refine Or.inl ⟨PC.mk N2 l1 l2 (by omega) g1 g2 g4, by rw [N2.g (by decide), l3, g5], by rw [N2.g (by decide), l4, g6], by omega, by rw [g2, g5, g6]; exact hV, by omega, by omega, by omega, fun z => ?_⟩
    obtain ⟨y, y1, y2, y3, y4⟩ := ht3 (by omega)
    exact ⟨y, by rw [g3, y1], y2, y3, by rw [g5, g6]; exact y4⟩
theorem vu_100 {N : Int} (h0 : 0 ≤ N) : 100 * vu1 1 N = N * vu2 1 N := by
  obtain ⟨g1, g2, ⟨x, hx⟩, ⟨y, hy⟩⟩ := gcd100 h0
  unfold vu1 vu2
  rw [if_pos rfl, if_pos rfl]
  generalize (Int.gcd N 100 : Int) = g at *
  have e1 : N / g = x := by rw [hx, Int.mul_ediv_cancel_left _ (by omega)]
  have e2 : 100 / g = y := by rw [hy, Int.mul_ediv_cancel_left _ (by omega)]
  rw [e1, e2, hx, hy, Int.mul_assoc, Int.mul_assoc, Int.mul_comm x y]
/-- what is kept for 240's single() behind a value -/
noncomputable abbrev KAv (d : Nat) (pl : Int) : fi_H → fk_R := fun h5 => cv_ (fj_run d 243 h5 [(4, 377), (0, 1), (0, pl)]) (fun h16 => nw_ h16 103 7 0 fun r19 h20 => cv_ (fj_run d 244 h20 [(4, r19), (4, 303), (4, h20 167 377 0), (1, h20 168 377 0), (1, h20 169 377 0)]) (fun h21 => some (.inl (some (4, r19)), h21)) (fun q h => tx_ q h)) (fun q h => tx_ q h)
/-- a number with its unit -/
theorem t_s3 (X : XS u n M i m p a b) (z : tk u n i = 3) (hA : 12 ≤ dA) (hB : 16 ≤ dB) {KA : Int → fi_H → fk_R} (hKA : ∀ h5, KA 1 h5 = KAv dA (pl u n i) h5) {KB : Int → fi_H → fk_R} (hKB : ∀ h4 (r : Nat), r < 8000 → KB (r : Int) h4 = if h4 414 602 0 = 3 then lt_ (fi_upd h4 10 619 r (wI ((-2) - (wI (h4 417 602 0))))) fun h7 => some (.inl (some (0, (r : Int))), h7) else some (.inl (some (0, (r : Int))), h4)) :
    Bo 304 4 0 (ca_ (fj_run dA 191 a [(4, 377)]) 0 KA (fun q h => tx_ q h)) (cv_ (fj_run dB 513 b [(4, 602)]) (fun h1 => ca_ (fj_run dB 545 h1 [(4, 602), (0, 18), (0, (pl u n i : Int)), (0, h1 414 602 0), (1, h1 415 602 0), (1, h1 416 602 0)]) 0 KB (fun q h => tx_ q h)) (fun q h => tx_ q h)) (XPo u n M i m p a b) (WrX p a b) := by
  obtain ⟨d, rfl⟩ : ∃ e, dA = e + 1 := ⟨dA - 1, by omega⟩
  have hp := X.1.ple
  obtain ⟨n1, n2⟩ := tok_num (u := u) (n := n) (i := i) X.1.2.1.2.2.2.2.1 z
  have H0 : Hp (fi_upd a 169 377 0 0) := X.1.ha.k168 (Or.inr rfl) (by omega)
  have F0 : Fr wvA a (fi_upd a 169 377 0 0) := (Fr.rf _ _).wv (by omega) 0
  obtain ⟨P0, -⟩ := X.1.vl H0 X.1.hb F0 (Fr.rf _ _)
  have V0 : VE a b (fi_upd a 169 377 0 0) b := VE.w F0 (Fr.rf _ _)
  rw [kA_isv X.1 (by omega), if_pos z, ca_cv]
  generalize fi_upd a 169 377 0 0 = a0 at *
  refine Bo.cvcv (t_figure P0 (by omega) (by omega) z) (fun x a1 y b1 HA1 HB1 w => ?_) (fun a1 b1 HA1 HB1 w => Bo.tx HA1 HB1 (WrX.ofV V0.x w))
  obtain ⟨⟨j, hj, P1⟩, V1, c1, ⟨L1, L2, L3, L4, L5⟩, k1, n0, r3, n3⟩ := w
  have X1 := X.v P1 (V0.tr V1)
  rw [ca_ret, hKA]
  have hb : (0 ≤ b1 415 602 0 ∧ b1 415 602 0 ≤ 99999999999) ∧ b1 416 602 0 ≤ 1000000 := by
    obtain ⟨-, v1, -, v3, -, v5, -⟩ := L5
    rcases k1 with k1 | k1 | k1
    · have := v1 k1; omega
    · have := v3 k1; omega
    · have := v5 k1; omega
  have tb := P1.hb.1.2.2.1
  have lf : ∀ f : Nat, 414 ≤ f → f ≤ 417 → lfrow b1 p 18 (b1 414 602 0) (b1 415 602 0) (b1 416 602 0) (-1) f 602 0 = b1 f 602 0 := fun f f1 f2 => lfrow_fr.2 f 602 0 (by decide) (by omega) (by omega)
  refine (t_cst X1 (t := if b1 414 602 0 = 3 then -2 - b1 417 602 0 else -1) L1 L2 L3 (by omega) L5 hb.1 ⟨n3, hb.2⟩ ?_ (fun z3 => ?_) (fun z3 => if_neg z3) (by omega) (by omega) (by omega) (fun hp8 => ?_)).imp (fun _ _ _ _ _ _ w => XPm.xo hj (V0.tr V1).x c1 w) (fun _ _ _ _ w => WrX.tr (V0.tr V1).x w (Nat.le_refl _))
  · by_cases z3 : b1 414 602 0 = 3
    · have := r3 ⟨z, z3⟩; rw [if_pos z3]; exact ⟨by omega, by omega⟩
    · rw [if_neg z3]; exact ⟨by omega, by omega⟩
  · obtain ⟨r1, r2, r4, r5⟩ := r3 ⟨z, z3⟩
    exact ⟨b1 417 602 0, if_pos z3, by omega, by omega, by rw [r2, r4, r1]; exact vu_100 n1⟩
  · rw [hKB _ _ hp8, lf 414 (by decide) (by decide), lf 417 (by decide) (by decide)]
    by_cases z3 : b1 414 602 0 = 3
    · have := r3 ⟨z, z3⟩
      rw [if_pos z3, if_pos z3, lt_eq, wI_id (x := b1 417 602 0) (by omega) (by omega), wI_id (by omega) (by omega), lfrow_t]
    · rw [if_neg z3, if_neg z3]
/-- money -/
theorem t_s4 (X : XS u n M i m p a b) (z : tk u n i = 4) (hA : 12 ≤ dA) (hB : 16 ≤ dB) {KA : Int → fi_H → fk_R} (hKA : ∀ h5, KA 1 h5 = KAv dA (pl u n i) h5) {KB : Int → fi_H → fk_R} (hKB : ∀ h4 (r : Nat), KB (r : Int) h4 = some (.inl (some (0, (r : Int))), h4)) {x : Int} (hx : x = (tok u n (pl u n i)).2.2) :
    Bo 304 4 0 (ca_ (fj_run dA 191 a [(4, 377)]) 0 KA (fun q h => tx_ q h)) (cv_ (fj_run dB 502 b [(4, 602)]) (fun h1 => ca_ (fj_run dB 545 h1 [(4, 602), (0, 18), (0, (pl u n i : Int)), (0, 2), (1, x), (1, 0)]) 0 KB (fun q h => tx_ q h)) (fun q h => tx_ q h)) (XPo u n M i m p a b) (WrX p a b) := by
  obtain ⟨d, rfl⟩ : ∃ e, dA = e + 1 := ⟨dA - 1, by omega⟩
  have hp := X.1.ple
  obtain ⟨n1, n2⟩ := tok_mon (u := u) (n := n) (i := i) X.1.2.1.2.2.2.2.1 z
  rw [kA_isv X.1 (by omega), if_neg (by omega), if_pos z, ca_cv, ← hx]
  rw [← hx] at n1 n2
  have H0 : Hp (fi_upd (fi_upd (fi_upd a 169 377 0 0) 167 377 0 4) 168 377 0 x) := ((X.1.ha.k168 (Or.inr rfl) (by omega)).k167 (by omega)).k168 (Or.inl rfl) (by omega)
  have F0 : Fr wvA a (fi_upd (fi_upd (fi_upd a 169 377 0 0) 167 377 0 4) 168 377 0 x) := (((Fr.rf _ _).wv (by omega) 0).wv (by omega) 4).wv (by omega) x
  obtain ⟨P0, -⟩ := X.1.vl H0 X.1.hb F0 (Fr.rf _ _)
  have V0 : VE a b (fi_upd (fi_upd (fi_upd a 169 377 0 0) 167 377 0 4) 168 377 0 x) b := VE.w F0 (Fr.rf _ _)
  have y167 : fi_upd (fi_upd (fi_upd a 169 377 0 0) 167 377 0 4) 168 377 0 x 167 377 0 = 4 := by simp [fi_upd]
  have y168 : fi_upd (fi_upd (fi_upd a 169 377 0 0) 167 377 0 4) 168 377 0 x 168 377 0 = x := by simp [fi_upd]
  have y169 : fi_upd (fi_upd (fi_upd a 169 377 0 0) 167 377 0 4) 168 377 0 x 169 377 0 = 0 := by simp [fi_upd]
  generalize fi_upd (fi_upd (fi_upd a 169 377 0 0) 167 377 0 4) 168 377 0 x = a0 at *
  refine Bo.cvcv (t_take P0 (by omega) (by omega) ⟨by omega, by omega⟩) (fun _ a1 _ b1 HA1 HB1 w => ?_) (fun a1 b1 HA1 HB1 w => Bo.tx HA1 HB1 (WrX.ofE V0.x w))
  obtain ⟨P1, T1, c1⟩ := w
  have V1 := V0.tr T1.v
  have X1 := X.v P1 V1
  have ta := P0.ha.1.2.2.1
  have g : ∀ f : Nat, 167 ≤ f → f ≤ 169 → a1 f 377 0 = a0 f 377 0 := fun f f1 f2 => T1.1.2 f 377 0 (by decide) (by omega) (by simp only [wTA]; omega)
  rw [ca_ret, hKA]
  refine (t_cst X1 (κ := 2) (v := x) (w := 0) (t := -1) (by rw [g 167 (by decide) (by decide), y167]; rfl) (by rw [g 168 (by decide) (by decide), y168]) (by rw [g 169 (by decide) (by decide), y169]) (by omega) ?_ ⟨n1, n2⟩ (by omega) ⟨by omega, by omega⟩ (fun z3 => by omega) (fun _ => rfl) (by omega) (by omega) (by omega) (fun hp8 => hKB _ _)).imp (fun _ _ _ _ _ _ w => XPm.xo (by omega) V1.x c1 w) (fun _ _ _ _ w => WrX.tr V1.x w (Nat.le_refl _))
  refine ⟨fun z => by omega, fun z => by omega, fun _ => by omega, fun z => by omega, fun z => by omega, fun z => by omega, fun z => by omega, fun z => by omega⟩
/-- a date -/
theorem t_s5 (X : XS u n M i m p a b) (z : tk u n i = 5) (hA : 12 ≤ dA) (hB : 16 ≤ dB) {KA : Int → fi_H → fk_R} (hKA : ∀ h5, KA 1 h5 = KAv dA (pl u n i) h5) {KB : Int → fi_H → fk_R} (hKB : ∀ h4 (r : Nat), KB (r : Int) h4 = some (.inl (some (0, (r : Int))), h4)) :
    Bo 304 4 0 (ca_ (fj_run dA 191 a [(4, 377)]) 0 KA (fun q h => tx_ q h)) (ca_ (fj_run dB 515 b [(4, 602)]) 1 (fun v h1 => ca_ (fj_run dB 545 h1 [(4, 602), (0, 18), (0, (pl u n i : Int)), (0, 4), (1, v), (1, 0)]) 0 KB (fun q h => tx_ q h)) (fun q h => tx_ q h)) (XPo u n M i m p a b) (WrX p a b) := by
  obtain ⟨d, rfl⟩ : ∃ e, dA = e + 1 := ⟨dA - 1, by omega⟩
  have hp := X.1.ple
  rw [kA_isv X.1 (by omega), if_neg (by omega), if_neg (by omega), if_pos z, ca_ca]
  have H0 : Hp (fi_upd (fi_upd a 169 377 0 0) 167 377 0 6) := (X.1.ha.k168 (Or.inr rfl) (by omega)).k167 (by omega)
  have F0 : Fr wvA a (fi_upd (fi_upd a 169 377 0 0) 167 377 0 6) := ((Fr.rf _ _).wv (by omega) 0).wv (by omega) 6
  obtain ⟨P0, -⟩ := X.1.vl H0 X.1.hb F0 (Fr.rf _ _)
  have V0 : VE a b (fi_upd (fi_upd a 169 377 0 0) 167 377 0 6) b := VE.w F0 (Fr.rf _ _)
  have y167 : fi_upd (fi_upd a 169 377 0 0) 167 377 0 6 167 377 0 = 6 := by simp [fi_upd]
  have y169 : fi_upd (fi_upd a 169 377 0 0) 167 377 0 6 169 377 0 = 0 := by simp [fi_upd]
  generalize fi_upd (fi_upd a 169 377 0 0) 167 377 0 6 = a0 at *
  refine Bo.caca (t_date P0 (by omega) (by omega) z) (by decide) (by decide) (fun x a1 y b1 HA1 HB1 w => ?_) (fun a1 b1 HA1 HB1 w => Bo.tx HA1 HB1 (WrX.ofE V0.x w))
  obtain ⟨rfl, hx, -, P1, T1, c1⟩ := w
  rw [ca_ret, hKA, wI_id (by omega) (by omega)]
  have H2 : Hp (fi_upd a1 168 377 0 x) := HA1.k168 (Or.inl rfl) (by omega)
  have F2 : Fr wvA a1 (fi_upd a1 168 377 0 x) := (Fr.rf _ _).wv (by omega) x
  obtain ⟨P2, -⟩ := P1.vl H2 HB1 F2 (Fr.rf _ _)
  have V2 : VE a b (fi_upd a1 168 377 0 x) b1 := (V0.tr T1.v).tr (VE.w F2 (Fr.rf _ _))
  have X2 := X.v P2 V2
  have ta := P0.ha.1.2.2.1
  have g : ∀ f : Nat, 167 ≤ f → f ≤ 169 → a1 f 377 0 = a0 f 377 0 := fun f f1 f2 => T1.1.2 f 377 0 (by decide) (by omega) (by simp only [wTA]; omega)
  have x167 : fi_upd a1 168 377 0 x 167 377 0 = 6 := by rw [fi_upd_ne _ _ _ _ _ (by omega), g 167 (by decide) (by decide), y167]
  have x168 : fi_upd a1 168 377 0 x 168 377 0 = x := fi_upd_same _ _ _ _ _
  have x169 : fi_upd a1 168 377 0 x 169 377 0 = 0 := by rw [fi_upd_ne _ _ _ _ _ (by omega), g 169 (by decide) (by decide), y169]
  generalize fi_upd a1 168 377 0 x = a2 at *
  refine (t_cst X2 (κ := 4) (v := x) (w := 0) (t := -1) x167 x168 x169 (by omega) ?_ (by omega) (by omega) ⟨by omega, by omega⟩ (fun z3 => by omega) (fun _ => rfl) (by omega) (by omega) (by omega) (fun hp8 => hKB _ _)).imp (fun _ _ _ _ _ _ w => XPm.xo (by omega) V2.x c1 w) (fun _ _ _ _ w => WrX.tr V2.x w (Nat.le_refl _))
  refine ⟨fun z => by omega, fun z => by omega, fun z => by omega, fun z => by omega, fun _ => by omega, fun z => by omega, fun z => by omega, fun z => by omega⟩
/-- yes, no -/
theorem t_sT (X : XS u n M i m p a b) (z : kT u n i) (hA : 12 ≤ dA) (hB : 16 ≤ dB) {KA : Int → fi_H → fk_R} (hKA : ∀ h5, KA 1 h5 = KAv dA (pl u n i) h5) {KB : Int → fi_H → fk_R} (hKB : ∀ h4 (r : Nat), KB (r : Int) h4 = some (.inl (some (0, (r : Int))), h4)) {x : Int} (hx : x = if kw u n i = 18 then 1 else 0) :
    Bo 304 4 0 (ca_ (fj_run dA 191 a [(4, 377)]) 0 KA (fun q h => tx_ q h)) (cv_ (fj_run dB 502 b [(4, 602)]) (fun h1 => ca_ (fj_run dB 545 h1 [(4, 602), (0, 18), (0, (pl u n i : Int)), (0, 0), (1, x), (1, 0)]) 0 KB (fun q h => tx_ q h)) (fun q h => tx_ q h)) (XPo u n M i m p a b) (WrX p a b) := by
  obtain ⟨d, rfl⟩ : ∃ e, dA = e + 1 := ⟨dA - 1, by omega⟩
  have hp := X.1.ple
  have z2 : tk u n i = 2 := z.1
  have n1 : x = 0 ∨ x = 1 := by rw [hx]; split <;> simp
  rw [kA_isv X.1 (by omega), if_neg (by omega), if_neg (by omega), if_neg (by omega), if_pos z, ca_cv, ← hx]
  have H0 : Hp (fi_upd (fi_upd (fi_upd a 169 377 0 0) 167 377 0 2) 168 377 0 x) := ((X.1.ha.k168 (Or.inr rfl) (by omega)).k167 (by omega)).k168 (Or.inl rfl) (by omega)
  have F0 : Fr wvA a (fi_upd (fi_upd (fi_upd a 169 377 0 0) 167 377 0 2) 168 377 0 x) := (((Fr.rf _ _).wv (by omega) 0).wv (by omega) 2).wv (by omega) x
  obtain ⟨P0, -⟩ := X.1.vl H0 X.1.hb F0 (Fr.rf _ _)
  have V0 : VE a b (fi_upd (fi_upd (fi_upd a 169 377 0 0) 167 377 0 2) 168 377 0 x) b := VE.w F0 (Fr.rf _ _)
  have y167 : fi_upd (fi_upd (fi_upd a 169 377 0 0) 167 377 0 2) 168 377 0 x 167 377 0 = 2 := by simp [fi_upd]
  have y168 : fi_upd (fi_upd (fi_upd a 169 377 0 0) 167 377 0 2) 168 377 0 x 168 377 0 = x := by simp [fi_upd]
  have y169 : fi_upd (fi_upd (fi_upd a 169 377 0 0) 167 377 0 2) 168 377 0 x 169 377 0 = 0 := by simp [fi_upd]
  generalize fi_upd (fi_upd (fi_upd a 169 377 0 0) 167 377 0 2) 168 377 0 x = a0 at *
  refine Bo.cvcv (t_take P0 (by omega) (by omega) ⟨by omega, by omega⟩) (fun _ a1 _ b1 HA1 HB1 w => ?_) (fun a1 b1 HA1 HB1 w => Bo.tx HA1 HB1 (WrX.ofE V0.x w))
  obtain ⟨P1, T1, c1⟩ := w
  have V1 := V0.tr T1.v
  have X1 := X.v P1 V1
  have ta := P0.ha.1.2.2.1
  have g : ∀ f : Nat, 167 ≤ f → f ≤ 169 → a1 f 377 0 = a0 f 377 0 := fun f f1 f2 => T1.1.2 f 377 0 (by decide) (by omega) (by simp only [wTA]; omega)
  rw [ca_ret, hKA]
  refine (t_cst X1 (κ := 0) (v := x) (w := 0) (t := -1) (by rw [g 167 (by decide) (by decide), y167]; rfl) (by rw [g 168 (by decide) (by decide), y168]) (by rw [g 169 (by decide) (by decide), y169]) (by omega) ?_ (by omega) (by omega) ⟨by omega, by omega⟩ (fun z3 => by omega) (fun _ => rfl) (by omega) (by omega) (by omega) (fun hp8 => hKB _ _)).imp (fun _ _ _ _ _ _ w => XPm.xo (by omega) V1.x c1 w) (fun _ _ _ _ w => WrX.tr V1.x w (Nat.le_refl _))
  refine ⟨fun _ => ⟨n1, rfl⟩, fun z => by omega, fun z => by omega, fun z => by omega, fun z => by omega, fun z => by omega, fun z => by omega, fun z => by omega⟩
end CST
end

section
/-! reading expressions: day, self, state -/
set_option maxRecDepth 100000
section PLN
variable {u : Nat → Int} {n M i m p : Nat} {a b a0 b0 h h1 : fi_H} {dA dB d : Nat} {r x2 : Int} {l : Nat} {c : Nat → Int}
theorem StrN.nw {cc s : Int} {L : Nat → Int} (S : StrN h x2 l c) (N : NW h r cc s L h1) (t : 714 ≤ h 2 0 0) : StrN h1 x2 l c :=
  S.f (N.fr (fun _ _ _ => False)) (N.o 145 0 (by omega)) (fun _ _ _ _ _ _ _ w => w)
theorem kA_Plain (q : NW h r 114 6 (fun _ => 0) h1) (t : 714 ≤ h 2 0 0) (S : StrN h x2 l c) {w : Nat} (hw : 31 ≤ w ∧ w ≤ 33) (E : kwd l c = (w : Int)) :
    ∃ h2 L, fj_run (d + 4) 246 h1 [(4, r), (4, 303), (4, x2)] = some (.inl none, h2) ∧ NW h r 114 6 L h2 ∧ L 340 = (if w = 31 then 6 else 9) ∧ L 341 = 1 ∧ L 344 = x2 := by
  have hr := q.rg
  have t1 := q.2.2.1
  have ht := q.2.1
  have n1 := q.set (by decide) (f := 345) (v := 303) (by decide) rfl (show (0 : Int) ≤ 303 ∧ (303 : Int) ≤ h1 2 0 0 by omega)
  have z0 : h1 345 r.toNat 0 = 0 := q.g (f := 345) (by decide)
  have S3 := S.nw n1 t
  have Sx := S.1.1
  have go : ∀ κ : Int, 0 ≤ κ ∧ κ ≤ 9 → ∃ h2 L, c_246_25 (d + 3) r x2 r 303 κ (fi_upd h1 345 r.toNat 0 303) = some (.inl none, h2) ∧ NW h r 114 6 L h2 ∧ L 340 = κ ∧ L 341 = 1 ∧ L 344 = x2 := by
    intro κ hκ
    obtain ⟨h4, e4, n4⟩ := kA_Part n1 (d := d + 1) (by decide) ⟨rfl, rfl, rfl⟩ ⟨rfl, rfl, rfl⟩ (κ := κ) (g := 1) hκ (by omega)
    have t4 := n4.2.2.1
    have n5 := n4.set (by decide) (f := 344) (v := x2) (by decide) rfl (show (0 : Int) ≤ x2 ∧ x2 ≤ _ by omega)
    have z4 : h4 344 r.toNat 0 = 0 := n4.g (f := 344) (by decide)
    rw [e_246_25 _ _ _ _ _ _ n1.hp.1 n1.cl, n1.cl, if_pos (by decide), e4, cv_ret, if_pos hr.1, if_pos z4, lt_eq]
    exact ⟨_, _, rfl, n5, rfl, rfl, rfl⟩
  rw [m_246 (d + 3) r 303 x2 q.hp.1 q.cl, if_pos hr.1, if_pos z0, lt_eq, S3.1.2.1, show fi_vt 216 131 = some 64 from rfl, dv_s, kS_eq d n1.hp S3.1 (li_w31 n1.hp).1, ca_ret, ite0]
  have k31 : eqS l c (WL.getD 31 []).length (fun i => (WL.getD 31 []).getD i 0) = true ↔ kwd l c = ((31 : Nat) : Int) := kwd_iff (by decide)
  by_cases y : w = 31
  · rw [if_pos (k31.mpr (by rw [E, y])), if_pos y]
    exact go 6 (by omega)
  · rw [if_neg (fun x => by have := k31.mp x; omega), if_neg y]
    exact go 9 (by omega)
theorem t_s19 (X : XS u n M i m p a b) {w : Nat} (hw : 31 ≤ w ∧ w ≤ 33) (z : tk u n i = 2 ∧ kw u n i = (w : Int)) {pp : Int} (hpp : 0 ≤ pp ∧ pp ≤ 4000) (hA : 18 ≤ dA) (hB : 18 ≤ dB) {o κ : Int} (ho : o = (w : Int) - 12) (hκ : κ = if w = 31 then 4 else 7) {KB : Int → fi_H → fk_R} (hKB : ∀ h4 (r : Nat), KB (r : Int) h4 = some (.inl (some (0, (r : Int))), h4)) :
    Bo 304 4 0 (c_240_532 dA pp (a 12 383 i) a)
      (cv_ (fj_run dB 502 b [(4, 602)]) (fun h5 => ca_ (fj_run dB 545 h5 [(4, 602), (0, o), (0, pp), (0, κ), (1, 0), (1, 0)]) 0 KB (fun q h => tx_ q h)) (fun q h => tx_ q h)) (XPo u n M i m p a b) (WrX p a b) := by
  have kk : 0 ≤ κ ∧ κ ≤ 7 := by rw [hκ]; split <;> omega
  have S := X.1.row.1.2.2.2.2.2 z.1
  rw [e_240_532 _ _ _ X.1.ha.1]
  refine Bo.cvcv (t_take X.1 (by omega) (by omega) ⟨by omega, by omega⟩) (fun _ a3 _ b3 HA3 HB3 w2 => ?_) (fun a3 b3 HA3 HB3 w2 => Bo.tx HA3 HB3 (WrX.ofE XE.rf w2))
  obtain ⟨P3, T3, c3⟩ := w2
  have V3 := T3.v
  have X3 := X.v P3 V3
  have S3 := (T3.v.x (p0 := p)).str X.1.ha S
  refine (t_lf X3 (o := o) (κ := κ) (v := 0) (w := 0) (t := -1) ⟨by omega, by omega⟩ kk ⟨by omega, by omega⟩ ⟨by omega, by omega⟩ ⟨by omega, by omega⟩ hpp (by omega) (by omega) (fun _ => rfl) (fun _ a5 H5 F5 => ?_) (fun _ => hKB _ _)).imp (fun _ _ _ _ _ _ w => XPm.xo (by omega) V3.x c3 w) (fun _ _ _ _ w => WrX.tr V3.x w (Nat.le_refl _))
  obtain ⟨d, rfl⟩ : ∃ e, dA = e + 4 := ⟨dA - 4, by omega⟩
  have t5 := H5.1.2.2.1
  have S5 : StrN a5 (a 12 383 i) _ _ := S3.f F5 (F5.2 145 384 0 (by decide) (by have := P3.ha.1.2.2.1; omega) (by omega)) (fun f x i h1 _ f1 f2 w => by omega)
  have N := NW.new H5 114 6 (by decide)
  obtain ⟨h2, L, E, N2, l1, l2, l3⟩ := kA_Plain (d := d) N t5 S5 (w := w) hw z.2
  refine ⟨h2, a5 2 0 0 + 1, 114, 6, L, by rw [nw_eq, E, cv_ret], N2, fun b6 V6 g1 g2 g3 g4' g5 g6 => ?_⟩
  refine Or.inr (Or.inl ⟨⟨w, hw.1, hw.2, ?_, by rw [g2, hκ], _, _, ?_, kwd_iff (by omega) |>.mpr z.2⟩, g5, g6⟩)
  · have e : L 340 = 2 + κ := by rw [l1, hκ]; split <;> rfl
    rw [← ho]
    exact PC.mk N2 e l2 kk g1 g2 g4'
  · rw [N2.g (by decide), l3]
    exact S5.nw N2 t5
end PLN
end

section
/-! reading expressions: a part over one part, with a value in its row -/
set_option maxRecDepth 100000
section MK1
variable {u : Nat → Int} {n M i m p : Nat} {a b h h1 : fi_H} {dA dB d : Nat} {r : Int}
theorem t_mk1 (q : XS u n M i m p a b) {lo : Nat} {x : Int} {q1 : Nat} {o κ v : Int} (ho : i32 o) (hk : 0 ≤ κ ∧ κ ≤ 7) (hv : i64 v) (c1 : PR 16 a b m lo x q1) (hq : q1 < p) (hA : 9 ≤ dA) (hB : 3 ≤ dB) {pl : Int} (hpl : 0 ≤ pl ∧ pl ≤ 4000)
    {KA : fi_H → fk_R} {KB : Int → fi_H → fk_R}
    (hKA : p < 8000 → b 10 622 q1 ≤ 15 → ∀ a1, Hp a1 → Fr (fun f x _ => f = 162 ∧ x = 377) a a1 → Prt a1 x (b 10 618 q1) (b 10 622 q1) → ∃ a2 r c s L, KA a1 = some (.inl (some (4, r)), a2) ∧ NW a1 r c s L a2 ∧ ∀ b2, XE p a b a2 b2 → b2 10 617 p = o → b2 10 618 p = κ → b2 10 619 p = (q1 : Int) → b2 10 620 p = -1 → b2 10 621 p = -1 → b2 10 622 p = b2 10 622 q1 + 1 → b2 11 623 p = v → b2 11 624 p = 0 → b2 10 618 q1 = b 10 618 q1 → b2 10 622 q1 = b 10 622 q1 → PR 15 a2 b2 m lo x q1 → PR 16 a2 b2 m lo r p)
    (hKB : ∀ h, KB (p : Int) h = some (.inl (some (0, (p : Int))), fi_upd h 11 623 p v)) :
    Bo 304 4 0 (cv_ (fj_run dA 243 a [(4, 377), (0, b 10 622 q1 + 1), (0, pl)]) KA (fun q h => tx_ q h)) (ca_ (fj_run dB 546 b [(4, 602), (0, o), (0, pl), (0, κ), (0, (q1 : Int)), (0, -1), (0, -1)]) 0 KB (fun q h => tx_ q h)) (XPm u n M i m p lo a b) (WrX p a b) := by
  obtain ⟨d, rfl⟩ : ∃ e, dA = e + 5 := ⟨dA - 5, by omega⟩
  obtain ⟨e, rfl⟩ : ∃ e', dB = e' + 3 := ⟨dB - 3, by omega⟩
  have l1 := c1.lo
  have P1 := c1.prt
  have g1 := P1.2.2.2.2.2.2.1
  have hpp := q.2.2.2.2
  have hm : max (max (b 10 622 q1) 0) 0 + 1 = b 10 622 q1 + 1 := by omega
  rw [kB_part (d := e) (p := p) q.1.hb ho ⟨by omega, by omega⟩ ⟨hpp.2.1, hpp.2.2.1⟩ hpl (Or.inr (by omega)) (Or.inl rfl) (Or.inl rfl) (by rw [hig_q]; omega) (by rw [hig_n]; omega) (by rw [hig_n]; omega), hig_q, hig_n, if_neg (by omega), hm, kA_made (d := d + 3) (p := p) q.1.ha ⟨hpp.1, hpp.2.2.1⟩ hpl]
  by_cases w : 16 < b 10 622 q1 + 1 ∨ p = 8000
  · rw [if_pos w, if_pos w, cv_thr, tx_304 (wra_hp q.1.ha (by omega) (by omega)), ca_thr, tx_603 (wrb_hp q.1.hb (by omega) (by omega))]
    exact x_wr q.1.ha q.1.hb XE.rf (by omega) hpl
  · have r162 := rI q.1.ha (f := 162) rfl 377 0
    have H1 := q.n162 (by omega)
    have F1 : Fr (fun f x _ => f = 162 ∧ x = 377) a (fi_upd a 162 377 0 (a 162 377 0 + 1)) := Fr.u 0 _ (Fr.rf _ _) (by decide) ⟨rfl, rfl⟩
    have v1 : fi_upd a 162 377 0 (a 162 377 0 + 1) 162 377 0 = a 162 377 0 + 1 := fi_upd_same _ _ _ _ _
    rw [if_neg w, if_neg w, cv_ret, ca_ret, wI_id (by omega) (by omega), hKB]
    have p1 : Prt (fi_upd a 162 377 0 (a 162 377 0 + 1)) x (b 10 618 q1) (b 10 622 q1) := P1.o F1.1 (fun f hf => F1.2 f _ 0 (by have := P1.1; omega) (by have := P1.1; omega) (by omega))
    generalize fi_upd a 162 377 0 (a 162 377 0 + 1) = a1 at *
    obtain ⟨a2, r, c, s, L, e1, N, hP⟩ := hKA (by omega) (by omega) a1 H1 F1 p1
    rw [e1]
    have H0 := rowp_hp (b := b) (p := p) (o := o) (κ := κ) (x := (q1 : Int)) (y := -1) (z := -1) (g := b 10 622 q1 + 1) q.1.hb (by omega) ho ⟨by omega, by omega⟩ ⟨by omega, by omega⟩ ⟨by omega, by omega⟩ ⟨by omega, by omega⟩ ⟨by omega, by omega⟩
    have H2 := Hp.uJ (v := v) (f := 11) (a := 623) H0 p (by decide) (by decide) hv
    have G2 := Fr.u (f := 11) (a := 623) p v (rowp_fr (b := b) (p := p) (o := o) (κ := κ) (x := (q1 : Int)) (y := -1) (z := -1) (g := b 10 622 q1 + 1)) (by decide) (by omega)
    obtain ⟨v617, v618, v619, v620, v621, v622, v623, v624, v426⟩ := rowp_v (b := b) (p := p) (o := o) (κ := κ) (x := (q1 : Int)) (y := -1) (z := -1) (g := b 10 622 q1 + 1)
    generalize rowp b p o κ (q1 : Int) (-1) (-1) (b 10 622 q1 + 1) = b1 at *
    have w623 : fi_upd b1 11 623 p v 11 623 p = v := fi_upd_same _ _ _ _ _
    have ne : ∀ f y k, ¬ (f = 11 ∧ y = 623) → fi_upd b1 11 623 p v f y k = b1 f y k := fun f y k z => fi_upd_ne _ _ _ _ _ (by omega)
    rw [← ne 10 617 p (by omega)] at v617
    rw [← ne 10 618 p (by omega)] at v618
    rw [← ne 10 619 p (by omega)] at v619
    rw [← ne 10 620 p (by omega)] at v620
    rw [← ne 10 621 p (by omega)] at v621
    rw [← ne 10 622 p (by omega)] at v622
    rw [← ne 11 624 p (by omega)] at v624
    rw [← ne 426 602 0 (by omega)] at v426
    generalize fi_upd b1 11 623 p v = b2 at *
    have FA2 := F1.tr (N.fr _)
    obtain ⟨X2, V2, c427⟩ := q.mk (by omega) N.hp FA2 (by rw [N.o 162 0 (by have := H1.1.2.2.1; omega)]; exact v1) H2 G2 v426
    have r618 := V2.row q.1.hb (f := 10) hq (x := 618) (by decide)
    have r622 := V2.row q.1.hb (f := 10) hq (x := 622) (by decide)
    exact Bo.ret (by decide) (by decide) N.hp H2 ⟨rfl, X2, V2, c427, hP b2 V2 v617 v618 v619 v620 v621 (by rw [v622, r622]) w623 v624 r618 r622 (((V2.pr q.1.ha q.1.hb c1 hq).hi).le (k' := 15) (by rw [r622]; omega))⟩
end MK1
end

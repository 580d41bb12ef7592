section
/-! reading expressions: a part over days -/
set_option maxRecDepth 100000
section MON
variable {u : Nat → Int} {n M i m p : Nat} {a b h h1 : fi_H} {dA dB d : Nat} {r : Int}
theorem kA_Months (q : NW h r 111 8 (fun _ => 0) h1) {x1 x2 x3 k1 k2 k3 g1 g2 g3 : Int} (p1 : Prt h x1 k1 g1) (p2 : Prt h x2 k2 g2) (p3 : Prt h x3 k3 g3) :
    ∃ h2 L, fj_run (d + 5) 253 h1 [(4, r), (4, 303), (4, x1), (4, x2), (4, x3)] = some (.inl none, h2) ∧ NW h r 111 8 L h2 ∧ L 340 = 2 + k1 ∧ L 341 = max g1 (max g2 g3) + 1 ∧ L 349 = x1 ∧ L 350 = x2 ∧ L 351 = x3 := by
  have hr := q.rg
  have t1 := q.2.2.1
  have ht := q.2.1
  have n1 := q.set (by decide) (f := 352) (v := 303) (by decide) rfl (show (0 : Int) ≤ 303 ∧ (303 : Int) ≤ h1 2 0 0 by omega)
  have z0 : h1 352 r.toNat 0 = 0 := q.g (f := 352) (by decide)
  rw [m_253 (d + 4) r 303 x1 x2 x3 q.hp.1 q.cl, if_pos hr.1, if_pos z0, lt_eq]
  generalize fi_upd h1 352 r.toNat 0 303 = h3 at *
  have P1 := p1.nw n1
  have P2 := p2.nw n1
  have P3 := p3.nw n1
  have a1 := P1.2.2.2.2.2
  have a2 := P2.2.2.2.2.2
  have a3 := P3.2.2.2.2.2
  rw [if_pos P1.2.1, if_pos P1.2.2.1, if_pos P2.2.2.1, if_pos P3.2.2.1, P1.2.2.2.1, P1.2.2.2.2.1, P2.2.2.2.2.1, P3.2.2.2.2.1, max6 n1.hp.1, ca_ret, max6 n1.hp.1, ca_ret, wI_id (by omega) (by omega)]
  obtain ⟨h4, e4, n4⟩ := kA_Part n1 (d := d + 2) (by decide) ⟨rfl, rfl, rfl⟩ ⟨rfl, rfl, rfl⟩ (κ := 2 + k1) (g := max g1 (max g2 g3) + 1) (by omega) (by omega)
  have t4 := n4.2.2.1
  have b1 := p1.1
  have b2 := p2.1
  have b3 := p3.1
  have n5 := n4.set (by decide) (f := 349) (v := x1) (by decide) rfl (show (0 : Int) ≤ x1 ∧ x1 ≤ _ by omega)
  have t5 := n5.2.2.1
  have n6 := n5.set (by decide) (f := 350) (v := x2) (by decide) rfl (show (0 : Int) ≤ x2 ∧ x2 ≤ _ by omega)
  have t6 := n6.2.2.1
  have n7 := n6.set (by decide) (f := 351) (v := x3) (by decide) rfl (show (0 : Int) ≤ x3 ∧ x3 ≤ _ by omega)
  have z4 : h4 349 r.toNat 0 = 0 := n4.g (f := 349) (by decide)
  have z5 : fi_upd h4 349 r.toNat 0 x1 350 r.toNat 0 = 0 := n5.g (f := 350) (by decide)
  have z6 : fi_upd (fi_upd h4 349 r.toNat 0 x1) 350 r.toNat 0 x2 351 r.toNat 0 = 0 := n6.g (f := 351) (by decide)
  rw [e4, cv_ret, if_pos hr.1, if_pos z4, lt_eq, if_pos hr.1, if_pos z5, lt_eq, if_pos hr.1, if_pos z6, lt_eq]
  exact ⟨_, _, rfl, n7, rfl, rfl, rfl, rfl, rfl⟩
/-- three parts become one, on both sides -/
theorem t_mk3 (q : XS u n M i m p a b) {lo : Nat} {x1 x2 x3 : Int} {q1 q2 q3 : Nat} (c1 : PR 16 a b m lo x1 q1) (c2 : PR 16 a b m (q1 + 1) x2 q2) (c3 : PR 16 a b m (q2 + 1) x3 q3) (hq : q3 < p) (hA : 9 ≤ dA) (hB : 3 ≤ dB) {pl : Int} (hpl : 0 ≤ pl ∧ pl ≤ 4000) (hκ : isSm (b 10 618 q1) ∧ b 10 618 q2 = 4 ∧ b 10 618 q3 = 4) :
    Bo 304 4 0 (cv_ (fj_run dA 243 a [(4, 377), (0, max (b 10 622 q1) (max (b 10 622 q2) (b 10 622 q3)) + 1), (0, pl)]) (fun h35 => nw_ h35 111 8 0 fun r38 h39 => cv_ (fj_run dA 253 h39 [(4, r38), (4, 303), (4, x1), (4, x2), (4, x3)]) (fun h40 => some (.inl (some (4, r38)), h40)) (fun q h => tx_ q h)) (fun q h => tx_ q h))
      (fj_run dB 546 b [(4, 602), (0, 24), (0, pl), (0, b 10 618 q1), (0, (q1 : Int)), (0, (q2 : Int)), (0, (q3 : Int))]) (XPm u n M i m p lo a b) (WrX p a b) := by
  obtain ⟨d, rfl⟩ : ∃ e, dA = e + 5 := ⟨dA - 5, by omega⟩
  obtain ⟨e, rfl⟩ : ∃ e', dB = e' + 3 := ⟨dB - 3, by omega⟩
  have l1 := c1.lo
  have l2 := c2.lo
  have l3 := c3.lo
  have P1 := c1.prt
  have P2 := c2.prt
  have P3 := c3.prt
  have g1 := P1.2.2.2.2.2.2.1
  have g2 := P2.2.2.2.2.2.2.1
  have g3 := P3.2.2.2.2.2.2.1
  have k1 := P1.2.2.2.2.2.1
  have hpp := q.2.2.2.2
  have hm : max (max (b 10 622 q1) (b 10 622 q2)) (b 10 622 q3) + 1 = max (b 10 622 q1) (max (b 10 622 q2) (b 10 622 q3)) + 1 := by omega
  rw [kB_part (d := e) (p := p) q.1.hb ⟨by omega, by omega⟩ ⟨by omega, by omega⟩ ⟨hpp.2.1, hpp.2.2.1⟩ hpl (Or.inr (by omega)) (Or.inr (by omega)) (Or.inr (by omega)) (by rw [hig_q]; omega) (by rw [hig_q]; omega) (by rw [hig_q]; omega), hig_q, hig_q, hig_q, if_neg (by omega), hm, kA_made (d := d + 3) (p := p) q.1.ha ⟨hpp.1, hpp.2.2.1⟩ hpl]
  by_cases w : 16 < max (b 10 622 q1) (max (b 10 622 q2) (b 10 622 q3)) + 1 ∨ p = 8000
  · rw [if_pos w, if_pos w, cv_thr, tx_304 (wra_hp q.1.ha (by omega) (by omega))]
    exact x_wr q.1.ha q.1.hb XE.rf (by omega) hpl
  · have r162 := rI q.1.ha (f := 162) rfl 377 0
    have H1 := q.n162 (by omega)
    have F1 : Fr (fun f x _ => f = 162 ∧ x = 377) a (fi_upd a 162 377 0 (a 162 377 0 + 1)) := Fr.u 0 _ (Fr.rf _ _) (by decide) ⟨rfl, rfl⟩
    have v1 : fi_upd a 162 377 0 (a 162 377 0 + 1) 162 377 0 = a 162 377 0 + 1 := fi_upd_same _ _ _ _ _
    rw [if_neg w, if_neg w, cv_ret, wI_id (by omega) (by omega), nw_eq]
    have po : ∀ {x k g : Int}, Prt a x k g → Prt (fi_upd a 162 377 0 (a 162 377 0 + 1)) x k g := fun z => z.o F1.1 (fun f hf => F1.2 f _ 0 (by have := z.1; omega) (by have := z.1; omega) (by omega))
    have p1 := po P1
    have p2 := po P2
    have p3 := po P3
    clear po
    generalize fi_upd a 162 377 0 (a 162 377 0 + 1) = a1 at *
    have N := NW.new H1 111 8 (by decide)
    obtain ⟨a2, L, e2, N2, L1, L2, L3, L4, L5⟩ := kA_Months N (d := d) p1 p2 p3
    have hcl := N2.cl
    have hg := fun (f : Nat) (hf : 100 ≤ f) => N2.g (f := f) hf
    have hr := N2.rg
    have ht := N2.2.2.1
    rw [e2, cv_ret]
    generalize a1 2 0 0 + 1 = r at *
    have H2 := rowp_hp (b := b) (p := p) (o := 24) (κ := b 10 618 q1) (x := (q1 : Int)) (y := (q2 : Int)) (z := (q3 : Int)) (g := max (b 10 622 q1) (max (b 10 622 q2) (b 10 622 q3)) + 1) q.1.hb (by omega) ⟨by omega, by omega⟩ ⟨by omega, by omega⟩ ⟨by omega, by omega⟩ ⟨by omega, by omega⟩ ⟨by omega, by omega⟩ ⟨by omega, by omega⟩
    have G2 := rowp_fr (b := b) (p := p) (o := 24) (κ := b 10 618 q1) (x := (q1 : Int)) (y := (q2 : Int)) (z := (q3 : Int)) (g := max (b 10 622 q1) (max (b 10 622 q2) (b 10 622 q3)) + 1)
    obtain ⟨v617, v618, v619, v620, v621, v622, v623, v624, v426⟩ := rowp_v (b := b) (p := p) (o := 24) (κ := b 10 618 q1) (x := (q1 : Int)) (y := (q2 : Int)) (z := (q3 : Int)) (g := max (b 10 622 q1) (max (b 10 622 q2) (b 10 622 q3)) + 1)
    generalize rowp b p 24 (b 10 618 q1) (q1 : Int) (q2 : Int) (q3 : Int) (max (b 10 622 q1) (max (b 10 622 q2) (b 10 622 q3)) + 1) = b2 at *
    have FA2 := F1.tr (N2.fr _)
    obtain ⟨X2, V2, c427⟩ := q.mk (by omega) N2.hp FA2 (by rw [N2.o 162 0 (by have := H1.1.2.2.1; omega)]; exact v1) H2 G2 v426
    refine Bo.ret (by decide) (by decide) N2.hp H2 ⟨rfl, X2, V2, c427, ?_⟩
    have dd : ∀ {lo' : Nat} {x' : Int} {s : Nat}, PR 16 a b m lo' x' s → s < p → b 10 622 s ≤ 15 → PR 15 a2 b2 m lo' x' s := fun z hz hs => ((V2.pr q.1.ha q.1.hb z hz).hi).le (k' := 15) (by rw [V2.row q.1.hb hz (by decide)]; omega)
    have rw8 : ∀ s : Nat, s < p → b2 10 618 s = b 10 618 s ∧ b2 10 622 s = b 10 622 s := fun s hs => ⟨V2.row q.1.hb hs (by decide), V2.row q.1.hb hs (by decide)⟩
    refine ⟨by omega, by omega, Or.inr (Or.inr (Or.inr (Or.inr (Or.inr (Or.inr ⟨q1, q2, q3, ⟨⟨hr.2, by omega⟩, hcl, v617, ⟨by rw [v618]; omega, by rw [v618]; omega, by rw [v618, hg 340 (by decide), L1]⟩, ⟨by rw [v622, hg 341 (by decide), L2], by rw [v622]; omega, by rw [v622]; omega⟩⟩, ?_, ?_, ?_, hq, v619, v620, v621, v623, v624, ?_, ?_, ?_, ?_, ?_⟩)))))⟩
    · rw [hg 349 (by decide), L3]; exact dd c1 (by omega) (by omega)
    · rw [hg 350 (by decide), L4]; exact dd c2 (by omega) (by omega)
    · rw [hg 351 (by decide), L5]; exact dd c3 (by omega) (by omega)
    · rw [v618, (rw8 q1 (by omega)).1]
    · rw [(rw8 q1 (by omega)).1]; exact hκ.1
    · rw [(rw8 q2 (by omega)).1]; exact hκ.2.1
    · rw [(rw8 q3 (by omega)).1]; exact hκ.2.2
    · rw [v622, (rw8 q1 (by omega)).2, (rw8 q2 (by omega)).2, (rw8 q3 (by omega)).2]
end MON
end

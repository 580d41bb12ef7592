section
/-! reading expressions: two parts under a sign, on both sides -/
set_option maxRecDepth 100000
abbrev XPm (u : Nat → Int) (n M i m p lo : Nat) (a b : fi_H) : Int → fi_H → Int → fi_H → Prop := fun x a' y b' => y = (p : Int) ∧ XS u n M i m (p + 1) a' b' ∧ XE p a b a' b' ∧ b' 427 602 0 = b 427 602 0 ∧ PR 16 a' b' m lo x p
section MK2
variable {u : Nat → Int} {n M i m p : Nat} {a b a2 b2 : fi_H} {dA dB d : Nat} {r : Int}
theorem XS.mk (q : XS u n M i m p a b) (hp : p < 8000) (HA : Hp a2) (F : Fr (fun f x _ => f = 162 ∧ x = 377) a a2) (h162 : a2 162 377 0 = a 162 377 0 + 1) (HB : Hp b2) (G : Fr (fun f x i => (617 ≤ x ∧ x ≤ 624 ∧ i = p) ∨ (f = 426 ∧ x = 602)) b b2) (h426 : b2 426 602 0 = (p : Int) + 1) :
    XS u n M i m (p + 1) a2 b2 ∧ XE p a b a2 b2 ∧ b2 427 602 0 = b 427 602 0 := by
  obtain ⟨q1, q2, q3, q4, q5, q6, q7⟩ := q
  have ta := q1.ha.1.2.2.1
  have tb := q1.hb.1.2.2.1
  refine ⟨⟨q1.st HA HB F G (fun f x i _ _ _ _ z => by omega) (fun f x i _ z => by omega) ⟨by omega, by omega⟩ (fun f _ _ z => by omega) ⟨by omega, fun k z => by omega⟩, ?_, ?_, ?_, ?_, h426, by omega, by rw [F.2 231 303 0 (by decide) (by omega) (by omega)]; exact q7.2⟩, ⟨F.mono (fun f x i z => Or.inr z), G.mono (fun f x i z => by rcases z with z | z; exact Or.inr (Or.inr ⟨z.1, z.2.1, by omega⟩); exact Or.inr (Or.inl z))⟩, G.2 427 602 0 (by decide) (by omega) (by omega)⟩
  · exact q2.f q1.ha q1.hb F G (fun k _ => by omega) (by omega) (fun f x i h1 _ f1 f2 => by omega) (fun f x i hf h1 _ => by omega) (fun f x k h1 h2 _ => by omega)
  · rw [F.2 215 303 0 (by decide) (by omega) (by omega), F.2 160 377 0 (by decide) (by omega) (by omega)]; exact q3
  · rw [G.2 413 602 0 (by decide) (by omega) (by omega)]; exact q4
  · rw [F.2 231 303 0 (by decide) (by omega) (by omega), h162]; omega
theorem XS.n162 (q : XS u n M i m p a b) (h0 : p < 8000) : Hp (fi_upd a 162 377 0 (a 162 377 0 + 1)) := by
  have := rI q.1.ha (f := 162) rfl 377 0
  have := q.2.2.2.2
  exact Hp.uI q.1.ha 0 (by decide) (by decide) (by omega)
theorem hig_q (b : fi_H) (q : Nat) : hig b (q : Int) = b 10 622 q := by unfold hig; rw [if_neg (by omega), Int.toNat_natCast]
theorem hig_n (b : fi_H) : hig b (-1) = 0 := rfl
theorem kTwo_rg {o k l : Int} (hk : 0 ≤ k ∧ k ≤ 7) (hl : 0 ≤ l ∧ l ≤ 7) : kTwo o k l = -1 ∨ (0 ≤ kTwo o k l ∧ kTwo o k l ≤ 7) := by
  unfold kTwo
  (repeat' split) <;> omega
theorem t_mk2 (q : XS u n M i m p a b) {lo : Nat} {x1 x2 : Int} {q1 q2 : Nat} {o : Int} (ho : 1 ≤ o ∧ o ≤ 17 ∧ o ≠ 3 ∧ o ≠ 15) (c1 : PR 16 a b m lo x1 q1) (c2 : PR 16 a b m (q1 + 1) x2 q2) (hq : q2 < p) (hA : 8 ≤ dA) (hB : 3 ≤ dB) {pl : Int} (hpl : 0 ≤ pl ∧ pl ≤ 4000) :
    Bo 304 4 0 (fj_run dA 290 a [(4, 377), (4, 15 + sgn o), (4, x1), (4, x2), (0, pl)]) (fj_run dB 546 b [(4, 602), (0, o), (0, pl), (0, kTwo o (b 10 618 q1) (b 10 618 q2)), (0, (q1 : Int)), (0, (q2 : Int)), (0, -1)]) (XPm u n M i m p lo a b) (WrX p a b) := by
  obtain ⟨d, rfl⟩ : ∃ e, dA = e + 8 := ⟨dA - 8, by omega⟩
  obtain ⟨e, rfl⟩ : ∃ e', dB = e' + 3 := ⟨dB - 3, by omega⟩
  have l1 := c1.lo
  have l2 := c2.lo
  have P1 := c1.prt
  have P2 := c2.prt
  have hs : 0 ≤ sgn o ∧ sgn o ≤ 14 := by unfold sgn; (repeat' split) <;> omega
  obtain ⟨s1, s2⟩ := sg_cl q.1.ha.1 hs
  have g1 := P1.2.2.2.2.2.2.1
  have g2 := P2.2.2.2.2.2.2.1
  have k1 := P1.2.2.2.2.2.1
  have k2 := P2.2.2.2.2.2.1
  have hrg := kTwo_rg (o := o) k1 k2
  have hpp := q.2.2.2.2
  rw [m_290 (d + 7) _ x1 x2 pl q.1.ha.1, if_pos P1.2.1, if_pos P2.2.1, s1, show fi_vt 233 167 = some 291 from rfl, dv_s, P1.2.2.2.1, P2.2.2.2.1, kA_gives (d := d + 4) q.1.ha.1 ho k1 k2, ca_ret, kB_part (d := e) (p := p) q.1.hb ⟨by omega, by omega⟩ ⟨by omega, by omega⟩ ⟨hpp.2.1, hpp.2.2.1⟩ hpl (Or.inr (by omega)) (Or.inr (by omega)) (Or.inl rfl) (by rw [hig_q]; omega) (by rw [hig_q]; omega) (by rw [hig_n]; omega), hig_q, hig_q, hig_n, kA_wrong q.1.ha (by omega) (by omega) hpl]
  generalize hκ : kTwo o (b 10 618 q1) (b 10 618 q2) = κ at *
  by_cases z : κ = -1
  · rw [if_pos z, if_pos rfl, if_pos z]
    exact x_wr q.1.ha q.1.hb XE.rf (by omega) hpl
  · rw [if_neg z, if_neg (by omega), if_pos P1.2.2.1, if_pos P2.2.2.1, P1.2.2.2.2.1, P2.2.2.2.2.1, max6 q.1.ha.1, ca_ret, wI_id (by omega) (by omega), kA_made (d := d + 5) (p := p) q.1.ha ⟨hpp.1, hpp.2.2.1⟩ hpl, if_neg z]
    have hm : max (max (b 10 622 q1) (b 10 622 q2)) 0 + 1 = max (b 10 622 q1) (b 10 622 q2) + 1 := by omega
    rw [hm]
    by_cases w : 16 < max (b 10 622 q1) (b 10 622 q2) + 1 ∨ p = 8000
    · rw [if_pos w, if_pos w, cv_thr, tx_304 (wra_hp q.1.ha (by omega) (by omega))]
      exact x_wr q.1.ha q.1.hb XE.rf (by omega) hpl
    · have r162 := rI q.1.ha (f := 162) rfl 377 0
      have H1 := q.n162 (by omega)
      have F1 : Fr (fun f x _ => f = 162 ∧ x = 377) a (fi_upd a 162 377 0 (a 162 377 0 + 1)) := Fr.u 0 _ (Fr.rf _ _) (by decide) ⟨rfl, rfl⟩
      have v1 : fi_upd a 162 377 0 (a 162 377 0 + 1) 162 377 0 = a 162 377 0 + 1 := fi_upd_same _ _ _ _ _
      rw [if_neg w, if_neg w, cv_ret, wI_id (by omega) (by omega), nw_eq]
      have p1 : Prt (fi_upd a 162 377 0 (a 162 377 0 + 1)) x1 (b 10 618 q1) (b 10 622 q1) := P1.o F1.1 (fun f hf => F1.2 f _ 0 (by have := P1.1; omega) (by have := P1.1; omega) (by omega))
      have p2 : Prt (fi_upd a 162 377 0 (a 162 377 0 + 1)) x2 (b 10 618 q2) (b 10 622 q2) := P2.o F1.1 (fun f hf => F1.2 f _ 0 (by have := P2.1; omega) (by have := P2.1; omega) (by omega))
      generalize fi_upd a 162 377 0 (a 162 377 0 + 1) = a1 at *
      have N := NW.new H1 125 8 (by decide)
      obtain ⟨a2, e2, N2⟩ := kA_Two N (d := d + 2) ho p1 p2 (by rw [hκ]; exact z) (by rw [hκ]; omega)
      rw [hκ] at N2
      have hcl := N2.cl
      have hg := fun (f : Nat) (hf : 100 ≤ f) => N2.g (f := f) hf
      have hr := N2.rg
      have ht := N2.2.2.1
      rw [e2, cv_ret]
      generalize a1 2 0 0 + 1 = r at *
      have H2 := rowp_hp (b := b) (p := p) (o := o) (κ := κ) (x := (q1 : Int)) (y := (q2 : Int)) (z := -1) (g := max (b 10 622 q1) (b 10 622 q2) + 1) q.1.hb (by omega) ⟨by omega, by omega⟩ ⟨by omega, by omega⟩ ⟨by omega, by omega⟩ ⟨by omega, by omega⟩ ⟨by omega, by omega⟩ ⟨by omega, by omega⟩
      have G2 := rowp_fr (b := b) (p := p) (o := o) (κ := κ) (x := (q1 : Int)) (y := (q2 : Int)) (z := -1) (g := max (b 10 622 q1) (b 10 622 q2) + 1)
      obtain ⟨v617, v618, v619, v620, v621, v622, v623, v624, v426⟩ := rowp_v (b := b) (p := p) (o := o) (κ := κ) (x := (q1 : Int)) (y := (q2 : Int)) (z := -1) (g := max (b 10 622 q1) (b 10 622 q2) + 1)
      generalize rowp b p o κ (q1 : Int) (q2 : Int) (-1) (max (b 10 622 q1) (b 10 622 q2) + 1) = b2 at *
      have FA2 := F1.tr (N2.fr _)
      obtain ⟨X2, V2, c427⟩ := q.mk (by omega) N2.hp FA2 (by rw [N2.o 162 0 (by have := H1.1.2.2.1; omega)]; exact v1) H2 G2 v426
      refine Bo.ret (by decide) (by decide) N2.hp H2 ⟨rfl, X2, V2, c427, ?_⟩
      have d1 := ((V2.pr q.1.ha q.1.hb c1 (by omega)).hi).le (k' := 15) (by rw [V2.row q.1.hb (by omega) (by decide)]; omega)
      have d2 := ((V2.pr q.1.ha q.1.hb c2 (by omega)).hi).le (k' := 15) (by rw [V2.row q.1.hb (by omega) (by decide)]; omega)
      refine ⟨by omega, by omega, Or.inr (Or.inr (Or.inl ⟨o, q1, q2, ⟨⟨hr.2, by omega⟩, hcl, v617, ⟨by rw [v618]; omega, by rw [v618]; omega, by rw [v618]; exact hg 340 (by decide)⟩, ⟨by rw [v622]; exact hg 341 (by decide), by rw [v622]; omega, by rw [v622]; omega⟩⟩, ho, hg 366 (by decide), ?_, ?_, hq, v619, v620, v621, v623, v624, ?_, ?_⟩))⟩
      · rw [show a2 367 r.toNat 0 = x1 from hg 367 (by decide)]; exact d1
      · rw [show a2 368 r.toNat 0 = x2 from hg 368 (by decide)]; exact d2
      · rw [v618, V2.row q.1.hb (by omega) (by decide), V2.row q.1.hb (by omega) (by decide)]; exact hκ.symm
      · rw [v622, V2.row q.1.hb (by omega) (by decide), V2.row q.1.hb (by omega) (by decide)]
end MK2
end

section
/-! reading expressions: one part turned -/
set_option maxRecDepth 100000
/-- a parser's promise at token i: the class's method MA, the model's MB -/
abbrev XPo (u : Nat → Int) (n M i m p : Nat) (a b : fi_H) : Int → fi_H → Int → fi_H → Prop := fun x a' y b' => ∃ j p' r : Nat, i < j ∧ p ≤ r ∧ r < p' ∧ y = (r : Int) ∧ XS u n M j m p' a' b' ∧ XE p a b a' b' ∧ b' 427 602 0 = b 427 602 0 ∧ PR 16 a' b' m p x r
def RF (MA MB c : Nat) (u : Nat → Int) (n M i : Nat) : Prop := ∀ (m p : Nat) (a b : fi_H) (dA dB : Nat), XS u n M i m p a b → 20 * (40 - (b 427 602 0).toNat) + c ≤ dA → 20 * (40 - (b 427 602 0).toNat) + c ≤ dB →
  Bo 304 4 0 (fj_run dA MA a [(4, 377)]) (fj_run dB MB b [(4, 602)]) (XPo u n M i m p a b) (WrX p a b)
section ONE
variable {u : Nat → Int} {n M i m p : Nat} {a b h h1 : fi_H} {dA dB d : Nat} {r : Int}
theorem kA_One (q : NW h r 112 6 (fun _ => 0) h1) {x k g : Int} (p1 : Prt h x k g) :
    ∃ h2, fj_run (d + 4) 296 h1 [(4, r), (4, 303), (4, x)] = some (.inl none, h2) ∧ NW h r 112 6 (up (up (up (up (up (fun _ => 0) 371 303) 343 303) 340 (2 + k)) 341 (g + 1)) 370 x) h2 := by
  have hr := q.rg
  have t1 := q.2.2.1
  have n1 := q.set (by decide) (f := 371) (v := 303) (by decide) rfl (show (0 : Int) ≤ 303 ∧ (303 : Int) ≤ h1 2 0 0 by omega)
  have z0 : h1 371 r.toNat 0 = 0 := q.g (f := 371) (by decide)
  rw [m_296 (d + 3) r 303 x q.hp.1 q.cl, if_pos hr.1, if_pos z0, lt_eq]
  generalize fi_upd h1 371 r.toNat 0 303 = h3 at *
  have P1 := p1.nw n1
  have kk := P1.2.2.2.2.2
  rw [if_pos P1.2.1, if_pos P1.2.2.1, P1.2.2.2.1, P1.2.2.2.2.1, wI_id (by omega) (by omega)]
  obtain ⟨h4, e4, n4⟩ := kA_Part n1 (d := d + 1) (by decide) ⟨rfl, rfl, rfl⟩ ⟨rfl, rfl, rfl⟩ (κ := 2 + k) (g := g + 1) (by omega) (by omega)
  have t4 := n4.2.2.1
  have b1 := p1.1
  have ht := q.2.1
  have n5 := n4.set (by decide) (f := 370) (v := x) (by decide) rfl (show (0 : Int) ≤ x ∧ x ≤ _ by omega)
  have z4 : h4 370 r.toNat 0 = 0 := n4.g (f := 370) (by decide)
  refine ⟨_, ?_, n5⟩
  rw [e4, cv_ret, if_pos hr.1, if_pos z4, lt_eq]
/-- the class's one(), the model's part(): s 1 for 'not' (o 3), 0 for '-' (o 15) -/
theorem t_one (q : XS u n M i m p a b) {lo : Nat} {x : Int} {q1 : Nat} {s o : Int} (hs : (s = 1 ∧ o = 3) ∨ (s = 0 ∧ o = 15)) (c1 : PR 16 a b m lo x q1) (hq : q1 < p) (hA : 8 ≤ dA) (hB : 3 ≤ dB) {pl : Int} (hpl : 0 ≤ pl ∧ pl ≤ 4000) :
    Bo 304 4 0 (fj_run dA 295 a [(4, 377), (4, x), (0, s), (0, pl)]) (fj_run dB 546 b [(4, 602), (0, o), (0, pl), (0, if (o = 3 ∧ b 10 618 q1 = 0) ∨ (o = 15 ∧ (isSm (b 10 618 q1) ∨ b 10 618 q1 = 5)) then b 10 618 q1 else -1), (0, (q1 : Int)), (0, -1), (0, -1)]) (XPm u n M i m p lo a b) (WrX p a b) := by
  obtain ⟨d, rfl⟩ : ∃ e, dA = e + 8 := ⟨dA - 8, by omega⟩
  obtain ⟨e, rfl⟩ : ∃ e', dB = e' + 3 := ⟨dB - 3, by omega⟩
  have l1 := c1.lo
  have P1 := c1.prt
  have g1 := P1.2.2.2.2.2.2.1
  have k1 := P1.2.2.2.2.2.1
  have hpp := q.2.2.2.2
  have eA : fj_run (d + 8) 295 a [(4, 377), (4, x), (0, s), (0, pl)] = if (o = 3 ∧ b 10 618 q1 = 0) ∨ (o = 15 ∧ (isSm (b 10 618 q1) ∨ b 10 618 q1 = 5)) then c_295_47 (d + 7) x pl a else some (.inr 304, wra a 5 pl) := by
    have e37 : c_295_37 (d + 7) pl a = some (.inr 304, wra a 5 pl) := by rw [e_295_37 _ _ q.1.ha.1, kA_wrong q.1.ha (by omega) (by omega) hpl]
    rw [m_295 (d + 7) x s pl q.1.ha.1]
    rcases hs with ⟨rfl, rfl⟩ | ⟨rfl, rfl⟩
    · rw [if_neg (by decide), if_pos P1.2.1, P1.2.2.2.1, e37]
      by_cases z : b 10 618 q1 = 0
      · rw [if_pos (by omega), if_pos (Or.inl ⟨rfl, z⟩)]
      · rw [if_neg (by omega), if_neg (by omega)]
    · rw [if_pos rfl, if_pos P1.2.1, P1.2.2.2.1, kd_cl q.1.ha.1 (by omega), show fi_vt 311 159 = some 252 from rfl, dv_s, kA_sum (d := d + 6) q.1.ha.1 k1, ca_ret, ite0, if_pos P1.2.1, P1.2.2.2.1, e37]
      by_cases z : isSm (b 10 618 q1)
      · rw [if_pos z, if_pos (Or.inr ⟨rfl, Or.inl z⟩)]
      · rw [if_neg z]
        by_cases z5 : b 10 618 q1 = 5
        · rw [if_pos (by omega), if_pos (Or.inr ⟨rfl, Or.inr z5⟩)]
        · rw [if_neg (by omega), if_neg (by omega)]
  have hκr : i32 (if (o = 3 ∧ b 10 618 q1 = 0) ∨ (o = 15 ∧ (isSm (b 10 618 q1) ∨ b 10 618 q1 = 5)) then b 10 618 q1 else -1) := by split <;> exact ⟨by omega, by omega⟩
  rw [eA, kB_part (d := e) (p := p) q.1.hb ⟨by omega, by omega⟩ hκr ⟨hpp.2.1, hpp.2.2.1⟩ hpl (Or.inr (by omega)) (Or.inl rfl) (Or.inl rfl) (by rw [hig_q]; omega) (by rw [hig_n]; omega) (by rw [hig_n]; omega), hig_q, hig_n]
  by_cases z : (o = 3 ∧ b 10 618 q1 = 0) ∨ (o = 15 ∧ (isSm (b 10 618 q1) ∨ b 10 618 q1 = 5))
  · rw [if_pos z, if_pos z, if_neg (by omega), e_295_47 _ _ _ q.1.ha.1, if_pos P1.2.2.1, P1.2.2.2.2.1, wI_id (by omega) (by omega), kA_made (d := d + 5) (p := p) q.1.ha ⟨hpp.1, hpp.2.2.1⟩ hpl]
    have hm : max (max (b 10 622 q1) 0) 0 + 1 = b 10 622 q1 + 1 := by omega
    rw [hm]
    by_cases w : 16 < b 10 622 q1 + 1 ∨ p = 8000
    · rw [if_pos w, if_pos w, cv_thr, tx_304 (wra_hp q.1.ha (by omega) (by omega))]
      exact x_wr q.1.ha q.1.hb XE.rf (by omega) hpl
    · have r162 := rI q.1.ha (f := 162) rfl 377 0
      have H1 := q.n162 (by omega)
      have F1 : Fr (fun f x _ => f = 162 ∧ x = 377) a (fi_upd a 162 377 0 (a 162 377 0 + 1)) := Fr.u 0 _ (Fr.rf _ _) (by decide) ⟨rfl, rfl⟩
      have v1 : fi_upd a 162 377 0 (a 162 377 0 + 1) 162 377 0 = a 162 377 0 + 1 := fi_upd_same _ _ _ _ _
      rw [if_neg w, if_neg w, cv_ret, wI_id (by omega) (by omega), nw_eq]
      have p1 : Prt (fi_upd a 162 377 0 (a 162 377 0 + 1)) x (b 10 618 q1) (b 10 622 q1) := P1.o F1.1 (fun f hf => F1.2 f _ 0 (by have := P1.1; omega) (by have := P1.1; omega) (by omega))
      generalize fi_upd a 162 377 0 (a 162 377 0 + 1) = a1 at *
      have N := NW.new H1 112 6 (by decide)
      obtain ⟨a2, e2, N2⟩ := kA_One N (d := d + 3) p1
      have hcl := N2.cl
      have hg := fun (f : Nat) (hf : 100 ≤ f) => N2.g (f := f) hf
      have hr := N2.rg
      have ht := N2.2.2.1
      rw [e2, cv_ret]
      generalize a1 2 0 0 + 1 = r at *
      have H2 := rowp_hp (b := b) (p := p) (o := o) (κ := b 10 618 q1) (x := (q1 : Int)) (y := -1) (z := -1) (g := b 10 622 q1 + 1) q.1.hb (by omega) ⟨by omega, by omega⟩ ⟨by omega, by omega⟩ ⟨by omega, by omega⟩ ⟨by omega, by omega⟩ ⟨by omega, by omega⟩ ⟨by omega, by omega⟩
      have G2 := rowp_fr (b := b) (p := p) (o := o) (κ := b 10 618 q1) (x := (q1 : Int)) (y := -1) (z := -1) (g := b 10 622 q1 + 1)
      obtain ⟨v617, v618, v619, v620, v621, v622, v623, v624, v426⟩ := rowp_v (b := b) (p := p) (o := o) (κ := b 10 618 q1) (x := (q1 : Int)) (y := -1) (z := -1) (g := b 10 622 q1 + 1)
      generalize rowp b p o (b 10 618 q1) (q1 : Int) (-1) (-1) (b 10 622 q1 + 1) = b2 at *
      have FA2 := F1.tr (N2.fr _)
      obtain ⟨X2, V2, c427⟩ := q.mk (by omega) N2.hp FA2 (by rw [N2.o 162 0 (by have := H1.1.2.2.1; omega)]; exact v1) H2 G2 v426
      refine Bo.ret (by decide) (by decide) N2.hp H2 ⟨rfl, X2, V2, c427, ?_⟩
      have d1 := ((V2.pr q.1.ha q.1.hb c1 (by omega)).hi).le (k' := 15) (by rw [V2.row q.1.hb (by omega) (by decide)]; omega)
      refine ⟨by omega, by omega, Or.inr (Or.inl ⟨o, q1, ⟨⟨hr.2, by omega⟩, hcl, v617, ⟨by rw [v618]; omega, by rw [v618]; omega, by rw [v618]; exact hg 340 (by decide)⟩, ⟨by rw [v622]; exact hg 341 (by decide), by rw [v622]; omega, by rw [v622]; omega⟩⟩, by omega, ?_, hq, v619, v620, v621, v623, v624, ?_, ?_, ?_, ?_⟩)⟩
      · rw [show a2 370 r.toNat 0 = x from hg 370 (by decide)]; exact d1
      · rw [v618, V2.row q.1.hb (by omega) (by decide)]
      · rw [v618]; omega
      · rw [v618]; intro z15; rcases z with z | z
        · omega
        · exact z.2
      · rw [v622, V2.row q.1.hb (by omega) (by decide)]
  · rw [if_neg z, if_neg z, if_pos rfl]
    exact x_wr q.1.ha q.1.hb XE.rf (by omega) hpl
end ONE
end

section
/-! reading expressions: has; names; day, self, state -/
set_option maxRecDepth 100000
section HAS
variable {u : Nat → Int} {n M i m p : Nat} {a b a0 b0 : fi_H} {dA dB d : Nat}
/-- a parenthesis must open -/
theorem t_nopn (q : PS u n M i a b) (hA : 5 ≤ dA) (hB : 15 ≤ dB) {TA TB : Nat} {P : Int → fi_H → Int → fi_H → Prop} {E : fi_H → fi_H → Prop} {KA KB : fi_H → fk_R} (hE : ∀ a' b', WrE a b a' b' → E a' b')
    (k : ∀ a' b', PS u n M (i + 1) a' b' → TkE a b a' b' → b' 427 602 0 = b 427 602 0 + 1 → b 427 602 0 < 40 → Bo 304 TA TB (KA a') (KB b') P E) :
    Bo 304 TA TB (cv_ (fj_run dA 248 a [(4, 377)]) KA (fun q h => tx_ q h)) (cv_ (fj_run dB 548 b [(4, 602)]) KB (fun q h => tx_ q h)) P E := by
  obtain ⟨d, rfl⟩ : ∃ e, dA = e + 1 := ⟨dA - 1, by omega⟩
  obtain ⟨e, rfl⟩ : ∃ e', dB = e' + 1 := ⟨dB - 1, by omega⟩
  have hp := q.ple
  rw [m_248 d q.ha.1, t_isSignA q (by omega) 40, ca_ret, ite0, m_548 e q.hb.1, t_sgB q (by omega) (by decide), ca_ret]
  by_cases z : tk u n i = 6 ∧ (tok u n (pl u n i)).2.2 = 40
  · rw [if_pos z, if_pos z, nc1 q (by omega) (by decide), cv_cv, cv_cv]
    have := t_opn q (dA := d) (dB := e) (by omega) (by omega) ⟨by omega, by omega⟩ hE k
    refine Eq.mp ?_ this
    congr 1
    congr 1
    funext h7
    rw [cv_cv]
    congr 1
  · rw [if_neg z, if_neg z, nc0 q (by omega) (by omega), cv_thr, tx_603 (wrb_hp q.hb (by omega) (by omega)), kA_thr q (by omega) (by omega), cv_thr, tx_304 (wra_hp q.ha (by omega) (by omega))]
    exact (t_wrong q (by omega)).imp (fun _ _ _ _ _ _ w => w) (fun a' b' _ _ w => hE a' b' w)
/-- a parenthesis must close -/
theorem t_clos (q : PS u n M i a b) (h1 : 1 ≤ b 427 602 0) (hA : 5 ≤ dA) (hB : 15 ≤ dB) {TA TB : Nat} {P : Int → fi_H → Int → fi_H → Prop} {E : fi_H → fi_H → Prop} {KA KB : fi_H → fk_R} (hE : ∀ a' b', WrE a b a' b' → E a' b')
    (k : ∀ a' b', PS u n M (i + 1) a' b' → TkE a b a' b' → b' 427 602 0 = b 427 602 0 - 1 → Bo 304 TA TB (KA a') (KB b') P E) :
    Bo 304 TA TB (cv_ (fj_run dA 242 a [(4, 377)]) KA (fun q h => tx_ q h)) (cv_ (fj_run dB 550 b [(4, 602)]) KB (fun q h => tx_ q h)) P E := by
  obtain ⟨d, rfl⟩ : ∃ e, dA = e + 1 := ⟨dA - 1, by omega⟩
  obtain ⟨e, rfl⟩ : ∃ e', dB = e' + 1 := ⟨dB - 1, by omega⟩
  rw [m_242 d q.ha.1, m_550 e q.hb.1, cv_cv, cv_cv]
  refine Bo.cvcv (t_need q (by omega) (by omega) (c := 41) (by decide)) (fun _ a1 _ b1 HA1 HB1 w => ?_) (fun a1 b1 HA1 HB1 w => Bo.tx HA1 HB1 (hE _ _ w))
  obtain ⟨P1, T1, c1, -⟩ := w
  have op := P1.op
  rw [lt_eq, lt_eq, cv_ret, cv_ret, op.1, wI_id (by omega) (by omega)]
  have Q := P1.o (v := b1 427 602 0 - 1) (by omega)
  have T := o_tk (a := a1) (b := b1) (b1 427 602 0 - 1)
  have v1 : fi_upd b1 427 602 0 (b1 427 602 0 - 1) 427 602 0 = b1 427 602 0 - 1 := fi_upd_same _ _ _ _ _
  exact k _ _ Q (T1.tr T) (by rw [v1, c1])
theorem XPo.tr {x y : Int} {a1 b1 a' b' : fi_H} {i1 : Nat} (h : i ≤ i1) (V : XE p a b a1 b1) (c : b1 427 602 0 = b 427 602 0) (z : XPo u n M i1 m p a1 b1 x a' y b') : XPo u n M i m p a b x a' y b' := by
  obtain ⟨j, p', r, z1, z2, z3, z4, z5, z6, z7, z8⟩ := z
  exact ⟨j, p', r, by omega, z2, z3, z4, z5, V.tr z6, z7.trans c, z8⟩
/-- has(fact) -/
theorem t_s23 (X : XS u n M i m p a b) (hk : tk u n i ≠ 0 ∧ tk u n i ≠ 1) {pp : Int} (hpp : 0 ≤ pp ∧ pp ≤ 4000) (hA : 18 ≤ dA) (hB : 18 ≤ dB) {KB : Int → fi_H → fk_R} (hKB : ∀ h4 (r : Nat), KB (r : Int) h4 = some (.inl (some (0, (r : Int))), h4)) :
    Bo 304 4 0 (fj_run (dA + 1) 247 a [(4, 377), (0, pp)])
      (cv_ (fj_run dB 502 b [(4, 602)]) (fun h26 => cv_ (fj_run dB 548 h26 [(4, 602)]) (fun h29 => ca_ (fj_run dB 551 h29 [(4, 602), (0, 0)]) 0 (fun v33 h32 => cv_ (fj_run dB 550 h32 [(4, 602)]) (fun h35 => ca_ (fj_run dB 545 h35 [(4, 602), (0, 23), (0, pp), (0, 0), (1, wI v33), (1, 0)]) 0 KB (fun q h => tx_ q h)) (fun q h => tx_ q h)) (fun q h => tx_ q h)) (fun q h => tx_ q h)) (fun q h => tx_ q h)) (XPo u n M i m p a b) (WrX p a b) := by
  rw [m_247 dA pp X.1.ha.1]
  refine Bo.cvcv (t_take X.1 (by omega) (by omega) hk) (fun _ a1 _ b1 HA1 HB1 w => ?_) (fun a1 b1 HA1 HB1 w => Bo.tx HA1 HB1 (WrX.ofE XE.rf w))
  obtain ⟨P1, T1, c1⟩ := w
  refine t_nopn P1 (by omega) (by omega) (fun a' b' w => WrX.ofE T1.v.x w) (fun a2 b2 P2 T2 c2 l2 => ?_)
  have V2 := (T1.tr T2).v
  have X2 := X.v P2 V2
  refine t_fn X2 (x1 := 0) (by omega) (by omega) (fun a' b' w => WrX.ofV V2.x w) (KA := fun v8 h10 => cv_ (fj_run dA 242 h10 [(4, 377)]) (fun h13 => cv_ (fj_run dA 243 h13 [(4, 377), (0, 1), (0, pp)]) (fun h16 => nw_ h16 109 7 0 fun r19 h20 => cv_ (fj_run dA 249 h20 [(4, r19), (4, 303), (0, v8)]) (fun h21 => some (.inl (some (4, r19)), h21)) (fun q h => tx_ q h)) (fun q h => tx_ q h)) (fun q h => tx_ q h)) (fun k a' _ _ _ => by rw [if_pos (Or.inl rfl)]) (fun a3 b3 k hk3 X3 V3 c3 g610 _ => ?_)
  have op := X.1.op
  refine t_clos X3.1 (by omega) (by omega) (by omega) (fun a' b' w => WrX.ofE (V2.tr V3).x w) (fun a4 b4 P4 T4 c4 => ?_)
  have V4 := (V2.tr V3).tr T4.v
  have X4 := X3.v P4 T4.v
  have hm := X3.2.1.1
  have tb := X3.1.hb.1.2.2.1
  have g4 : b4 10 610 k = b3 10 610 k := T4.2.2 10 610 k (by decide) (by omega) (by simp only [wTB]; omega)
  rw [wI_id (x := (k : Int)) (by omega) (by omega)]
  refine (t_lf X4 (o := 23) (κ := 0) (v := (k : Int)) (w := 0) (t := -1) ⟨by omega, by omega⟩ (by omega) ⟨by omega, by omega⟩ ⟨by omega, by omega⟩ ⟨by omega, by omega⟩ hpp (by omega) (by omega) (fun _ => rfl) (fun _ a5 H5 F5 => ?_) (fun _ => hKB _ _)).imp (fun _ _ _ _ _ _ w => XPm.xo (by omega) V4.x (by omega) w) (fun _ _ _ _ w => WrX.tr V4.x w (Nat.le_refl _))
  obtain ⟨d, rfl⟩ : ∃ e, dA = e + 4 := ⟨dA - 4, by omega⟩
  have N := NW.new H5 109 7 (by decide)
  obtain ⟨h2, L, E, N2, l1, l2, l3⟩ := kA_Has (d := d) N (v := (k : Int)) ⟨by omega, by omega⟩
  refine ⟨h2, a5 2 0 0 + 1, 109, 7, L, by rw [nw_eq, E, cv_ret], N2, fun b6 V6 g1 g2 g3 g4' g5 g6 => ?_⟩
  have t4 := P4.hb.1.2.2.1
  refine Or.inr (Or.inr (Or.inr ⟨k, hk3, g5, g6, by rw [N2.g (by decide), l3], g2, PC.mk N2 (κ := 0) l1 l2 (by omega) g1 g2 g4', ?_⟩))
  rw [V6.2.2 10 610 k (by decide) (by omega) (by simp only [wXB, wVB, wTB, wvB]; omega), g4]; exact g610
end HAS
end

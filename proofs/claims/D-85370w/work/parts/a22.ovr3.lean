section
/-! reading expressions: over(a, b, c) -/
set_option maxRecDepth 100000
section OV3
variable {u : Nat → Int} {n M i m p p0 : Nat} {a b a0 b0 : fi_H} {dA dB d : Nat}
theorem t_s24 (X : XS u n M i m p a b) (hk : tk u n i ≠ 0 ∧ tk u n i ≠ 1) {pp : Int} (hpp : 0 ≤ pp ∧ pp ≤ 4000) {c : Nat} (hc : c ≤ 36) (R : ∀ i', i < i' → RF 231 535 c u n M i') (hA : 20 * (40 - (b 427 602 0).toNat) + 17 ≤ dA) (hB : 20 * (40 - (b 427 602 0).toNat) + 17 ≤ dB) :
    Bo 304 4 0 (fj_run (dA + 1) 251 a [(4, 377), (0, pp)]) (fj_run (dB + 1) 553 b [(4, 602), (0, pp)]) (XPo u n M i m p a b) (WrX p a b) := by
  have op := X.1.op
  rw [m_251 dA pp X.1.ha.1, m_553 dB pp X.1.hb.1]
  refine t_wop X hk (by omega) (by omega) (fun a2 b2 X2 V2 o2 l2 => ?_)
  refine t_arg X2 V2 (Nat.le_refl _) (R (i + 2) (by omega)) (by omega) (by omega) (fun x1 q1 j1 p1 a3 b3 hj1 h1 h1' X3 V3 W3 o3 c1 => ?_)
  refine t_com X3 V3 (by decide) (by omega) (by omega) (fun a4 b4 X4 V4 W4 o4 => ?_)
  have c1 := W4.pr X3.1.ha X3.1.hb c1 (by omega)
  refine t_arg X4 V4 (by omega) (R (j1 + 1) (by omega)) (by omega) (by omega) (fun x2 q2 j2 p2 a5 b5 hj2 h2 h2' X5 V5 W5 o5 c2 => ?_)
  have c1 := W5.pr X4.1.ha X4.1.hb c1 (by omega)
  refine t_com X5 V5 (by decide) (by omega) (by omega) (fun a6 b6 X6 V6 W6 o6 => ?_)
  have c1 := W6.pr X5.1.ha X5.1.hb c1 (by omega)
  have c2 := W6.pr X5.1.ha X5.1.hb c2 (by omega)
  refine t_arg X6 V6 (by omega) (R (j2 + 1) (by omega)) (by omega) (by omega) (fun x3 q3 j3 p3 a7 b7 hj3 h3 h3' X7 V7 W7 o7 c3 => ?_)
  have c1 := W7.pr X6.1.ha X6.1.hb c1 (by omega)
  have c2 := W7.pr X6.1.ha X6.1.hb c2 (by omega)
  refine t_clo X7 V7 (by omega) (by omega) (by omega) (fun a8 b8 X8 V8 W8 o8 => ?_)
  have c1 := W8.pr X7.1.ha X7.1.hb c1 (by omega)
  have c2 := W8.pr X7.1.ha X7.1.hb c2 (by omega)
  have c3 := W8.pr X7.1.ha X7.1.hb c3 (by omega)
  refine (t_s24e X8 c1 (PR.low (by omega) _ _ _ c2) (PR.low (by omega) _ _ _ c3) (by omega) hpp (by omega) (by omega)).imp (fun x a' y b' _ _ w => ?_) (fun _ _ _ _ w => WrX.tr V8 w (by omega))
  obtain ⟨w1, w2, w3, w4, w5⟩ := w
  exact ⟨j3 + 1, p3 + 1, p3, by omega, by omega, by omega, w1, w2, V8.tr (w3.mono (by omega)), by omega, w5⟩
end OV3
end

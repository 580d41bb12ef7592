section
/-! reading expressions: parentheses -/
set_option maxRecDepth 100000
section PAR
variable {u : Nat → Int} {n M i m p : Nat} {a b a0 b0 : fi_H} {dA dB d : Nat}
theorem t_par (X : XS u n M i m p a b) (z : tk u n i = 6 ∧ (tok u n (pl u n i)).2.2 = 40) {c : Nat} (hc : c ≤ 38) (R : RF 231 535 c u n M (i + 1)) (hA : 20 * (40 - (b 427 602 0).toNat) + 18 ≤ dA) (hB : 20 * (40 - (b 427 602 0).toNat) + 18 ≤ dB) :
    Bo 304 4 0 (cv_ (fj_run dA 241 a [(4, 377)]) (fun h24 => ca_ (fj_run dA 231 h24 [(4, 377)]) 4 (fun v28 h27 => cv_ (fj_run dA 242 h27 [(4, 377)]) (fun h30 => some (.inl (some (4, v28)), h30)) (fun q h => tx_ q h)) (fun q h => tx_ q h)) (fun q h => tx_ q h))
      (cv_ (fj_run dB 548 b [(4, 602)]) (fun h28 => ca_ (fj_run dB 535 h28 [(4, 602)]) 0 (fun v32 h31 => cv_ (fj_run dB 550 h31 [(4, 602)]) (fun h34 => some (.inl (some (0, v32)), h34)) (fun q h => tx_ q h)) (fun q h => tx_ q h)) (fun q h => tx_ q h)) (XPo u n M i m p a b) (WrX p a b) := by
  have op := X.1.op
  obtain ⟨e, rfl⟩ : ∃ e', dB = e' + 1 := ⟨dB - 1, by omega⟩
  rw [m_548 e X.1.hb.1, t_sgB X.1 (by omega) (by decide), if_pos z, ca_ret, nc1 X.1 (by omega) (by decide), cv_cv]
  have := t_opn X.1 (dA := dA) (dB := e) (by omega) (by omega) ⟨by omega, by omega⟩ (TA := 4) (TB := 0) (P := XPo u n M i m p a b) (E := WrX p a b) (KA := (fun h24 => ca_ (fj_run dA 231 h24 [(4, 377)]) 4 (fun v28 h27 => cv_ (fj_run dA 242 h27 [(4, 377)]) (fun h30 => some (.inl (some (4, v28)), h30)) (fun q h => tx_ q h)) (fun q h => tx_ q h))) (KB := (fun h28 => ca_ (fj_run (e + 1) 535 h28 [(4, 602)]) 0 (fun v32 h31 => cv_ (fj_run (e + 1) 550 h31 [(4, 602)]) (fun h34 => some (.inl (some (0, v32)), h34)) (fun q h => tx_ q h)) (fun q h => tx_ q h))) (fun a' b' w => WrX.ofE XE.rf w) (fun a2 b2 P2 T2 c2 l2 => ?_)
  · refine Eq.mp ?_ this
    congr 1
    congr 1
    funext h7
    rw [cv_cv]
    congr 1
  have X2 := X.v P2 T2.v
  refine Bo.caca (R m p a2 b2 dA (e + 1) X2 (by omega) (by omega)) (by decide) (by decide) (fun x a3 y b3 HA3 HB3 w => ?_) (fun a3 b3 HA3 HB3 w => Bo.tx HA3 HB3 (w.tr T2.v.x (Nat.le_refl _)))
  obtain ⟨j, p', r, hj, h1, h2, rfl, X3, V3, c3, q3⟩ := w
  refine t_clos X3.1 (by omega) (by omega) (by omega) (fun a' b' w => WrX.ofE (T2.v.x.tr V3) w) (fun a4 b4 P4 T4 c4 => ?_)
  have X4 := X3.v P4 T4.v
  exact Bo.ret (by decide) (by decide) P4.ha P4.hb ⟨j + 1, p', r, by omega, h1, h2, rfl, X4, (T2.v.x.tr V3).tr T4.v.x, by omega, (T4.v.x (p0 := p')).pr X3.1.ha X3.1.hb q3 (by omega)⟩
end PAR
end

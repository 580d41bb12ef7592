section
/-! reading expressions: functions' words; a name as a part -/
set_option maxRecDepth 100000
section NMP
variable {u : Nat → Int} {n M i m p : Nat} {a b a0 b0 : fi_H} {dA dB d : Nat}
/-- the class's function of a word, 0 if none -/
def fnx (u : Nat → Int) (n i : Nat) : Int := if kw u n i = 6 then 40 else if kw u n i = 8 then 50 else if 10 ≤ kw u n i ∧ kw u n i ≤ 13 then kw u n i + 26 else if 34 ≤ kw u n i ∧ kw u n i ≤ 39 then kw u n i - 4 else if 40 ≤ kw u n i ∧ kw u n i ≤ 48 then kw u n i + 1 else if 49 ≤ kw u n i ∧ kw u n i ≤ 51 then kw u n i + 2 else 0
theorem t_180 (q : PS u n M i a b) (hA : 8 ≤ dA) (z : tk u n i = 2) : ∃ a', fj_run dA 180 a [(4, a 12 383 i)] = some (.inl (some (4, fnx u n i)), a') ∧ PS u n M i a' b ∧ Fr wTA a a' := by
  obtain ⟨d, rfl⟩ : ∃ e, dA = e + 6 := ⟨dA - 6, by omega⟩
  have hi := q.2.2.2.2.1
  have S := q.row.1.2.2.2.2.2 z
  have Q := q.2.2.1.2.1 i hi.1 z
  have hc := cw_rg (u := u) (n := n) (i := i) q.2.1.2.2.2.2.1 z
  obtain ⟨a1, e1, H1, F1, Q1⟩ := kA_told d q.ha S.1 Q (by have := S.2.1; omega) (fun j hj => ⟨by have := (hc j hj).1; show 0 ≤ u (pl u n i + j); omega, (hc j hj).2.1⟩)
  obtain ⟨P1, T1⟩ := q.hash hi.1 z H1 F1 Q1
  refine ⟨a1, ?_, P1, T1⟩
  have sk := sidx_kw (t := tb_180) (by decide +kernel) (by decide +kernel) (k := lw u n i) (c := cw u n i)
  have sk : sidx tb_180 ((tok u n (pl u n i)).2.1 - pl u n i) (fun j => u (pl u n i + j)) = if kw u n i = -1 then -1 else sidw tb_180 (kw u n i).toNat := sk
  have r := kw_rg (u := u) (n := n) i
  have e : (if sidx tb_180 ((tok u n (pl u n i)).2.1 - pl u n i) (fun j => u (pl u n i + j)) = -1 then 0 else 30 + sidx tb_180 ((tok u n (pl u n i)).2.1 - pl u n i) (fun j => u (pl u n i + j))) = fnx u n i := by
    rw [sk]
    unfold fnx
    by_cases w : kw u n i = -1
    · rw [if_pos w]; (repeat' split) <;> omega
    · rw [if_neg w, of_decide_eq_true (List.all_eq_true.mp sw180 (kw u n i).toNat (List.mem_range.mpr (by omega)))]
      (repeat' split) <;> omega
  rw [e1, e]
/-- a name -/
theorem t_s22 (X : XS u n M i m p a b) (z : tk u n i = 2 ∧ kw u n i = -1) {pp : Int} (hpp : 0 ≤ pp ∧ pp ≤ 4000) (hA : 18 ≤ dA) (hB : 18 ≤ dB) :
    Bo 304 4 0 (c_240_628 dA pp (a 12 383 i) a)
      (ca_ (fj_run dB 504 b [(4, 602)]) 0 (fun v22 h21 => if v22 = (-1) then c_544_146 dB pp v22 602 h21 else if 0 ≤ v22 ∧ v22 < 41 then if h21 10 610 v22.toNat = 2 then c_544_146 dB pp v22 602 h21 else c_544_147 dB pp v22 602 1 h21 else none) (fun q h => tx_ q h)) (XPo u n M i m p a b) (WrX p a b) := by
  have hp := X.1.ple
  obtain ⟨a1, e1, P1, F1⟩ := t_180 X.1 (dA := dA) (by omega) z.1
  have V1 : VE a b a1 b := ⟨F1.mono (fun _ _ _ q => Or.inl q), Fr.rf _ _⟩
  have X1 := X.v P1 V1
  have f0 : fnx u n i = 0 := by unfold fnx; (repeat' split) <;> omega
  obtain ⟨a2, P2, V2', c⟩ := t_211 X1 (dA := dA) (dB := dB) (by omega) (by omega)
  have V2 := V1.tr V2'
  have X2 := X1.v P2 V2'
  rw [e_240_628 _ _ _ X.1.ha.1, e1, f0, ca_ret, if_pos rfl]
  have bad : ∀ v, c_544_146 dB pp v 602 b = some (.inr 603, wrb b 2 (pl u n i)) := fun v => by
    rw [e_544_146 _ _ _ _ X.1.hb.1, e_544_147 _ _ _ _ _ X.1.hb.1, nb0 X.1 (by omega) (by omega)]
  rcases c with ⟨z', -⟩ | ⟨-, ⟨e2, e3⟩ | ⟨k, hk, e2, e3⟩⟩
  · exact absurd z z'
  · rw [e2, e3, ca_ret, if_pos rfl, bad, ca_thr, tx_304 (wra_hp P2.ha (by omega) (by omega))]
    exact x_wr P2.ha P2.hb V2.x (by omega) (by omega)
  · have hm := X2.2.1.1
    have NK := X2.2.1.2 k hk
    obtain ⟨⟨n0, n0'⟩, n2, n3, n4, ⟨g1, g2, g3, g4, g5⟩, n6⟩ := X2.2.1.2 k hk
    rw [e2, e3, ca_ret, ca_ret, if_neg (by omega : ¬ (k : Int) = -1), if_pos (by omega : 0 ≤ (k : Int) ∧ (k : Int) < 40), if_pos (by omega : 0 ≤ (k : Int) ∧ (k : Int) < 41), Int.toNat_natCast, if_pos n2, g4, bad]
    by_cases w : b 10 610 k = 2
    · rw [if_pos w, if_pos w, if_neg (by decide), kA_thr P2 (by omega) (by omega)]
      exact x_wr P2.ha P2.hb V2.x (by omega) (by omega)
    · rw [if_neg w, if_neg w, if_pos rfl, e_544_147 _ _ _ _ _ X.1.hb.1, nb1 X.1 (by omega)]
      refine Bo.cvcv (t_take P2 (by omega) (by omega) ⟨by omega, by omega⟩) (fun _ a3 _ b3 HA3 HB3 w2 => ?_) (fun a3 b3 HA3 HB3 w2 => Bo.tx HA3 HB3 (WrX.ofE V2.x w2))
      obtain ⟨P3, T3, c3⟩ := w2
      have V3 := V2.tr T3.v
      have X3 := X2.v P3 T3.v
      have tb := P2.hb.1.2.2.1
      have tk2 : 714 ≤ a3 2 0 0 := P3.ha.1.2.2.1
      have tb3 := P3.hb.1.2.2.1
      have gb : ∀ x : Nat, x = 610 ∨ x = 611 → b3 10 x k = b 10 x k := fun x hx => T3.2.2 10 x k (by omega) (by omega) (by simp only [wTB]; omega)
      have NK3 := X3.2.1.2 k hk
      obtain ⟨⟨o0, o0'⟩, o2, o3, ⟨o4, o4', o4''⟩, ⟨r1, r2, r3, r4, r5⟩, o6⟩ := X3.2.1.2 k hk
      rw [if_pos (by omega : 0 ≤ (k : Int) ∧ (k : Int) < 41), Int.toNat_natCast, wI_id (x := (k : Int)) (by omega) (by omega)]
      have same : ∀ a5, Fr (fun f x _ => f = 162 ∧ x = 377) a3 a5 → a5 12 320 k = a3 12 320 k ∧ ∀ f : Nat, a5 f (a3 12 320 k).toNat 0 = a3 f (a3 12 320 k).toNat 0 := fun a5 F5 => ⟨F5.2 12 320 k (by decide) (by omega) (by omega), fun f => F5.2 f _ 0 (by omega) (by omega) (by omega)⟩
      refine (t_lf X3 (o := 22) (κ := b3 10 611 k) (v := (k : Int)) (w := 0) (t := -1) ⟨by omega, by omega⟩ ⟨o4, o4'⟩ ⟨by omega, by omega⟩ ⟨by omega, by omega⟩ ⟨by omega, by omega⟩ hpp (by omega) (by omega) (fun _ => rfl) (fun _ a5 H5 F5 => ?_) (fun _ => rfl)).imp (fun _ _ _ _ _ _ w => XPm.xo (by omega) V3.x c3 w) (fun _ _ _ _ w => WrX.tr V3.x w (Nat.le_refl _))
      obtain ⟨d, rfl⟩ : ∃ e, dA = e + 4 := ⟨dA - 4, by omega⟩
      obtain ⟨s1, s2⟩ := same a5 F5
      have t5 := F5.1
      rw [s1, if_pos (by rw [s2]; exact o2), s2 322, r3]
      by_cases y : b3 10 610 k = 1
      · rw [if_pos y, if_neg (by decide)]
        have N := NW.new H5 123 7 (by decide)
        obtain ⟨h2, L, E, N2, l1, l2, l3⟩ := kA_Nmd (d := d) (c := 123) (f := 364) (Or.inl ⟨rfl, rfl⟩) (k := k) (by omega) (κ := b3 10 611 k) N ⟨by rw [s1]; exact o0, by rw [s1]; omega, by rw [s1, s2]; exact o2⟩ ⟨by rw [s1, s2]; exact o4'', o4, o4'⟩
        refine ⟨h2, a5 2 0 0 + 1, 123, 7, L, by rw [nw_eq]; rw [if_pos rfl] at E; rw [E, cv_ret], N2, fun b6 V6 g1 g2 g3 g4' g5 g6 => ?_⟩
        have e6 : ∀ x : Nat, x = 610 ∨ x = 611 → b6 10 x k = b3 10 x k := fun x hx => V6.2.2 10 x k (by omega) (by omega) (by simp only [wXB, wVB, wTB, wvB]; omega)
        exact Or.inr (Or.inr (Or.inl ⟨k, hk, g5, g6, by rw [N2.g (by decide), l3], by rw [g2, e6 611 (by omega)], Or.inl ⟨PC.mk N2 l1 l2 ⟨o4, o4'⟩ g1 g2 g4', by rw [e6 610 (by omega)]; exact y⟩⟩))
      · rw [if_neg y, if_pos rfl]
        have N := NW.new H5 106 7 (by decide)
        obtain ⟨h2, L, E, N2, l1, l2, l3⟩ := kA_Nmd (d := d) (c := 106) (f := 365) (Or.inr ⟨rfl, rfl⟩) (k := k) (by omega) (κ := b3 10 611 k) N ⟨by rw [s1]; exact o0, by rw [s1]; omega, by rw [s1, s2]; exact o2⟩ ⟨by rw [s1, s2]; exact o4'', o4, o4'⟩
        refine ⟨h2, a5 2 0 0 + 1, 106, 7, L, by rw [nw_eq]; rw [if_neg (by decide)] at E; rw [E, cv_ret], N2, fun b6 V6 g1 g2 g3 g4' g5 g6 => ?_⟩
        have e6 : ∀ x : Nat, x = 610 ∨ x = 611 → b6 10 x k = b3 10 x k := fun x hx => V6.2.2 10 x k (by omega) (by omega) (by simp only [wXB, wVB, wTB, wvB]; omega)
        refine Or.inr (Or.inr (Or.inl ⟨k, hk, g5, g6, by rw [N2.g (by decide), l3], by rw [g2, e6 611 (by omega)], Or.inr ⟨PC.mk N2 l1 l2 ⟨o4, o4'⟩ g1 g2 g4', ?_⟩⟩))
        rw [e6 610 (by omega)]
        rw [gb 610 (by omega)] at y ⊢
        omega
end NMP
end

section
/-! reading: a constant with its sign; a kind -/
set_option maxRecDepth 100000
section CONST3
variable {u : Nat → Int} {n M i : Nat} {a b : fi_H} {dA dB : Nat}
theorem t_const (q : PS u n M i a b) (hA : 10 ≤ dA) (hB : 16 ≤ dB) {TA TB : Nat} {P : Int → fi_H → Int → fi_H → Prop} {E : fi_H → fi_H → Prop} (hE : ∀ a' b', WrV a b a' b' → E a' b') {KA : Int → fi_H → fk_R} {KB : fi_H → fk_R} {TH : fi_H → fk_R} (hT : ∀ h8 r, ca_ (fj_run dA 164 h8 [(4, 377), (0, 1)]) 4 (fun v h => if v ≠ 0 then tx_ v.toNat h else none) (fun q h => tx_ q h) = some (.inr 304, r) → Hp r → TH h8 = some (.inr 304, r))
    (k : ∀ (v : Int) (a' b' : fi_H) (j : Nat), (v = 0 ∨ v = 1) → i < j → PS u n M j a' b' → VE a b a' b' → b' 427 602 0 = b 427 602 0 → ValS v a' b' → Bo 304 TA TB (KA v a') (KB b') P E) :
    Bo 304 TA TB (ca_ (fj_run dA 190 a [(4, 377)]) 0 (fun v6 h5 => ca_ (fj_run dA 191 h5 [(4, 377)]) 0 (fun v9 h8 => if v9 = 0 then TH h8 else KA v6 h8) (fun q h => tx_ q h)) (fun q h => tx_ q h)) (cv_ (fj_run dB 512 b [(4, 602)]) KB (fun q h => tx_ q h)) P E := by
  obtain ⟨d, rfl⟩ : ∃ e, dA = e + 1 := ⟨dA - 1, by omega⟩
  obtain ⟨e, rfl⟩ : ∃ e, dB = e + 1 := ⟨dB - 1, by omega⟩
  have hp := q.ple
  have tn : ((602 : Int)).toNat = 602 := rfl
  have vt : fi_vt 348 129 = some 500 := rfl
  rw [m_190 d q.ha.1, t_isSignA q (by omega) 45, ca_ret, m_512 e q.hb.1, t_isSignB q (by omega) 45, ca_ret]
  by_cases z : tk u n i = 6 ∧ (tok u n (pl u n i)).2.2 = 45
  · have z2 : tk u n i = 6 ∧ bsg (tok u n (pl u n i)).2.2 = 45 := ⟨z.1, by rw [z.2]; rfl⟩
    rw [if_pos z, if_pos z2, if_neg (by decide : ¬ (1 : Int) = 0), if_neg (by decide : ¬ (1 : Int) = 0)]
    obtain ⟨a1, b1, HA, HB, ⟨x, y, e1, e2, P1, T1, c1⟩ | ⟨e1, e2, W⟩⟩ := t_take q (dA := d) (dB := e) (by omega) (by omega) ⟨by omega, by omega⟩
    · have hi1 := P1.2.2.2.2.1
      have sB := t_sortB P1
      have tr := tk_rg (u := u) (n := n) (i + 1)
      have e1 : fj_run d 166 a [(4, 377)] = some (.inl none, a1) := e1
      have e2 : fj_run e 502 b [(4, 602)] = some (.inl none, b1) := e2
      rw [e1, e2, cv_ret, cv_ret, P1.at, if_pos (by omega), Int.toNat_natCast, P1.sort]
      by_cases z3 : tk u n (i + 1) = 3 ∨ tk u n (i + 1) = 4
      · have e3 : (if (tk u n (i + 1) : Int) = 3 then (some (.inl (some (0, 1)), a1) : fk_R) else if (tk u n (i + 1) : Int) = 4 then some (.inl (some (0, 1)), a1) else ca_ (fj_run d 164 a1 [(4, 377), (0, 1)]) 4 (fun v h => if v ≠ 0 then tx_ v.toNat h else none) (fun q h => tx_ q h)) = some (.inl (some (0, 1)), a1) := by
          rcases z3 with z3 | z3
          · rw [if_pos (by omega)]
          · rw [if_neg (by omega), if_pos (by omega)]
        rw [e3, ca_ret]
        exact t_val P1 (by omega) (by omega) T1.v (Or.inr ⟨rfl, z3⟩) hE hT (fun a' b' j hj P2 V2 c2 L2 => k 1 a' b' j (Or.inr rfl) (by omega) P2 V2 (c2.trans c1) L2)
      · have b3 : b1 394 602 0 ≠ 3 := by rw [sB]; (repeat' split) <;> omega
        have b4 : b1 394 602 0 ≠ 4 := by rw [sB]; (repeat' split) <;> omega
        have hp1 := P1.ple
        rw [if_neg (by omega : ¬ (tk u n (i + 1) : Int) = 3), if_neg (by omega : ¬ (tk u n (i + 1) : Int) = 4), kA_thr P1 (by omega) (by omega), ca_thr, tx_304 (wra_hp P1.ha (by omega) (by omega)), e_512_15 e _ P1.hb.1, if_neg b3, if_neg b4, if_neg (by decide : ¬ (1 : Int) = 0), e_512_98 e _ _ P1.hb.1, e_512_99 e _ _ _ P1.hb.1, tn, s0_602 P1.hb.1, vt, dv_s, P1.tb.1, kB_need0 P1.hb (by omega) (by omega) (by omega), cv_thr, tx_603 (wrb_hp P1.hb (by omega) (by omega)), cv_thr, tx_603 (wrb_hp P1.hb (by omega) (by omega))]
        exact (v_wr P1.ha P1.hb T1.v (by omega) (by omega)).imp (fun _ _ _ _ _ _ w => w) (fun _ _ _ _ w => hE _ _ w)
    · rw [e1, e2, cv_thr, cv_thr, tx_304 HA, tx_603 HB, ca_thr, cv_thr, tx_304 HA, tx_603 HB]
      exact Bo.thr HA HB (hE _ _ (WrV.of (VE.rf _ _) W))
  · have z2 : ¬ (tk u n i = 6 ∧ bsg (tok u n (pl u n i)).2.2 = 45) := fun w => z ⟨w.1, (bsg_iff (by decide) (by decide) (by decide) (by have := tok_sg (u := u) (n := n) i w.1; omega)).mp w.2⟩
    rw [if_neg z, if_neg z2, if_pos (rfl : (0 : Int) = 0), if_pos (rfl : (0 : Int) = 0), ca_ret]
    exact t_val q (by omega) (by omega) (VE.rf _ _) (Or.inl rfl) hE hT (fun a' b' j hj P2 V2 c2 L2 => k 0 a' b' j (Or.inl rfl) hj P2 V2 c2 L2)
end CONST3
end

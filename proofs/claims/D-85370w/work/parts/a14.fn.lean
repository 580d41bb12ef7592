section
/-! reading expressions: names at hand, what opens and closes -/
set_option maxRecDepth 100000
section FNM
variable {u : Nat → Int} {n M i m p : Nat} {a b a0 b0 : fi_H} {dA dB d : Nat}
theorem WrV.w (V : VE a0 b0 a b) (HA : Hp a) (HB : Hp b) {TA TB : Nat} {P : Int → fi_H → Int → fi_H → Prop} {E : fi_H → fi_H → Prop} (hE : ∀ a' b', WrV a0 b0 a' b' → E a' b') {k p : Int} (hk : 0 ≤ k ∧ k < 100) (hp : 0 ≤ p ∧ p ≤ 4000) : Bo 304 TA TB (some (.inr 304, wra a k p)) (some (.inr 603, wrb b k p)) P E :=
  (v_wr HA HB V hk hp).imp (fun _ _ _ _ _ _ w => w) (fun _ _ _ _ w => hE _ _ w)
theorem kB_fact (HB : Hp b) {k : Nat} (hk : k < 41) : fj_run (d + 1) 552 b [(4, 602), (0, (k : Int))] = some (.inl (some (0, if b 10 610 k = 0 ∨ b 10 610 k = 3 then 1 else 0)), b) := by
  rw [m_552 d _ HB.1, if_pos (by omega), Int.toNat_natCast]
  by_cases z : b 10 610 k = 0
  · rw [if_pos z, if_pos (Or.inl z)]
  · rw [if_neg z]
    by_cases y : b 10 610 k = 3
    · rw [if_pos y, if_pos (Or.inr y)]
    · rw [if_neg y, if_neg (by omega)]
theorem kA_fact (HA : Hp a) {k : Nat} (N : NmK a b k) : fj_run (d + 1) 212 a [(4, a 12 320 k)] = some (.inl (some (0, if b 10 610 k = 0 ∨ b 10 610 k = 3 then 1 else 0)), a) := by
  obtain ⟨-, n2, -, -, ⟨g1, g2, g3, g4, g5⟩, -⟩ := N
  rw [m_212 d _ HA.1 n2, g3, g4]
  by_cases z : b 10 610 k = 1
  · rw [if_pos z, if_neg (by decide), if_neg (by omega)]
  · rw [if_neg z, if_pos rfl]
    by_cases y : b 10 610 k = 2
    · rw [if_pos y, if_neg (by decide), if_neg (by omega)]
    · rw [if_neg y, if_pos rfl, if_pos (by omega)]
theorem t_211 (X : XS u n M i m p a b) (hA : 12 ≤ dA) (hB : 1 ≤ dB) : ∃ a', PS u n M i a' b ∧ VE a b a' b ∧ ((¬ (tk u n i = 2 ∧ kw u n i = -1) ∧ fj_run dA 211 a [(4, 377)] = some (.inr 304, wra a' 1 (pl u n i))) ∨ ((tk u n i = 2 ∧ kw u n i = -1) ∧ ((fj_run dB 504 b [(4, 602)] = some (.inl (some (0, -1)), b) ∧ fj_run dA 211 a [(4, 377)] = some (.inr 304, wra a' 2 (pl u n i))) ∨ (∃ k : Nat, k < m ∧ fj_run dB 504 b [(4, 602)] = some (.inl (some (0, (k : Int))), b) ∧ fj_run dA 211 a [(4, 377)] = some (.inl (some (0, (k : Int))), a'))))) := by
  obtain ⟨d, rfl⟩ : ∃ e, dA = e + 1 := ⟨dA - 1, by omega⟩
  obtain ⟨a', e1, P1, F1⟩ := t_isName X.1 (dA := d) (by omega)
  have hi := P1.2.2.2.2.1
  have V1 : VE a b a' b := ⟨F1.mono (fun _ _ _ q => Or.inl q), Fr.rf _ _⟩
  have X1 := X.v P1 V1
  refine ⟨a', P1, V1, ?_⟩
  rw [m_211 d X.1.ha.1, e1, ca_ret, ite0]
  by_cases z : tk u n i = 2 ∧ kw u n i = -1
  · refine Or.inr ⟨z, ?_⟩
    obtain ⟨r, r1, r2, r3⟩ := t_nameOf P1 (dA := d) (dB := dB) (by omega) hB z.1 X1.2.1 X1.2.2.1 X1.2.2.2.1
    rw [if_pos z, P1.at, if_pos (by omega), Int.toNat_natCast, r1, ca_ret]
    rcases r3 with rfl | r3
    · refine Or.inl ⟨r2, ?_⟩
      rw [if_pos rfl, kA_thr P1 (by omega) (by omega)]
    · obtain ⟨k, rfl⟩ : ∃ k : Nat, r = (k : Int) := ⟨r.toNat, by omega⟩
      refine Or.inr ⟨k, by omega, r2, ?_⟩
      rw [if_neg (by omega)]
  · refine Or.inl ⟨z, ?_⟩
    rw [if_neg z, kA_thr P1 (by omega) (by omega)]
/-- the name of a fact, gone over -/
theorem t_fn (X : XS u n M i m p a b) (hA : 14 ≤ dA) (hB : 15 ≤ dB) {x1 : Int} {TA TB : Nat} {P : Int → fi_H → Int → fi_H → Prop} {E : fi_H → fi_H → Prop} (hE : ∀ a' b', WrV a b a' b' → E a' b') {KA : Int → fi_H → fk_R} {KA0 KB : Int → fi_H → fk_R}
    (hK : ∀ (k : Nat) (a' : fi_H), k < m → PS u n M i a' b → NmR a' b m → KA0 (k : Int) a' = if x1 = 0 ∨ b 10 611 k = 7 then cv_ (fj_run dA 166 a' [(4, 377)]) (fun h => KA (k : Int) h) (fun q h => tx_ q h) else some (.inr 304, wra a' 2 (pl u n i)))
    (go : ∀ (a' b' : fi_H) (k : Nat), k < m → XS u n M (i + 1) m p a' b' → VE a b a' b' → b' 427 602 0 = b 427 602 0 → (b' 10 610 k = 0 ∨ b' 10 610 k = 3) → (x1 = 0 ∨ b' 10 611 k = 7) → Bo 304 TA TB (KA (k : Int) a') (KB (k : Int) b') P E) :
    Bo 304 TA TB (ca_ (fj_run dA 210 a [(4, 377)]) 0 KA0 (fun q h => tx_ q h)) (ca_ (fj_run dB 551 b [(4, 602), (0, x1)]) 0 KB (fun q h => tx_ q h)) P E := by
  obtain ⟨d, rfl⟩ : ∃ e, dA = e + 1 := ⟨dA - 1, by omega⟩
  obtain ⟨e, rfl⟩ : ∃ e', dB = e' + 2 := ⟨dB - 2, by omega⟩
  have hp := X.1.ple
  have sB := t_sortB X.1
  have kr := kw_rg (u := u) (n := n) i
  obtain ⟨a1, P1, V1, c⟩ := t_211 X (dA := d) (dB := e + 1) (by omega) (by omega)
  have X1 := X.v P1 V1
  have tn : ((602 : Int)).toNat = 602 := rfl
  rw [m_210 d X.1.ha.1, m_551 (e + 1) x1 X.1.hb.1]
  rcases c with ⟨z, e1⟩ | ⟨z, c⟩
  · have n1 : ¬ b 394 602 0 = 1 := by
      rw [sB]; have := tk_rg (u := u) (n := n) i; (repeat' split) <;> omega
    rw [if_neg n1, e_551_14 _ _ _ _ X.1.hb.1, nb0 X.1 (by omega) (by omega), ca_thr, tx_603 (wrb_hp X.1.hb (by omega) (by omega)), e1, ca_thr, tx_304 (wra_hp P1.ha (by omega) (by omega)), ca_thr, tx_304 (wra_hp P1.ha (by omega) (by omega))]
    exact WrV.w V1 P1.ha P1.hb hE (by omega) (by omega)
  · have n1 : b 394 602 0 = 1 := by
      rw [sB, if_neg (by omega), if_neg (by omega), if_pos z.1, if_pos z.2]
    rw [if_pos n1, e_551_14 _ _ _ _ X.1.hb.1, nb1 X.1 (by omega)]
    have e60 : ∀ v : Int, c_551_60 (e + 1) v 602 b = some (.inr 603, wrb b 2 (pl u n i)) := fun v => by
      rw [e_551_60 _ _ _ X.1.hb.1, e_551_61 _ _ _ _ X.1.hb.1, nb0 X.1 (by omega) (by omega)]
    rcases c with ⟨e2, e1⟩ | ⟨k, hk, e2, e1⟩
    · rw [e2, ca_ret, if_pos rfl, e60, ca_thr, tx_603 (wrb_hp X.1.hb (by omega) (by omega)), e1, ca_thr, tx_304 (wra_hp P1.ha (by omega) (by omega)), ca_thr, tx_304 (wra_hp P1.ha (by omega) (by omega))]
      exact WrV.w V1 P1.ha P1.hb hE (by omega) (by omega)
    · have hm := X1.2.1.1
      have NK := X1.2.1.2 k hk
      obtain ⟨f, rfl⟩ : ∃ f, d = f + 1 := ⟨d - 1, by omega⟩
      rw [e2, ca_ret, if_neg (by omega), kB_fact X.1.hb (by omega), ca_ret, ite0, e1, ca_ret, if_pos (by omega), Int.toNat_natCast, NK.2.1, show fi_vt 177 124 = some 212 from rfl, dv_s, kA_fact P1.ha NK, ca_ret, ite0]
      by_cases w : b 10 610 k = 0 ∨ b 10 610 k = 3
      · rw [if_pos w, if_pos w, ca_ret, hK k a1 hk P1 X1.2.1]
        have e56 : c_551_56 (e + 1) (k : Int) 602 b = cv_ (fj_run (e + 1) 502 b [(4, 602)]) (fun h5 => some (.inl (some (0, (k : Int))), h5)) (fun q h => tx_ q h) := by
          rw [e_551_56 _ _ _ X.1.hb.1, e_551_61 _ _ _ _ X.1.hb.1, nb1 X.1 (by omega)]
        rw [e56, if_pos (by omega : 0 ≤ (k : Int) ∧ (k : Int) < 41), e60]
        by_cases y : x1 = 0 ∨ b 10 611 k = 7
        · have e9 : (if x1 = 0 then cv_ (fj_run (e + 1) 502 b [(4, 602)]) (fun h5 => some (.inl (some (0, (k : Int))), h5)) (fun q h => tx_ q h) else if b 10 611 k = 7 then cv_ (fj_run (e + 1) 502 b [(4, 602)]) (fun h5 => some (.inl (some (0, (k : Int))), h5)) (fun q h => tx_ q h) else some (.inr 603, wrb b 2 (pl u n i))) = cv_ (fj_run (e + 1) 502 b [(4, 602)]) (fun h5 => some (.inl (some (0, (k : Int))), h5)) (fun q h => tx_ q h) := by
            by_cases y0 : x1 = 0
            · rw [if_pos y0]
            · rw [if_neg y0, if_pos (by omega)]
          rw [if_pos y, e9, ca_cv]
          refine Bo.cvcv (t_take P1 (by omega) (by omega) ⟨by omega, by omega⟩) (fun _ a2 _ b2 HA2 HB2 w2 => ?_) (fun a2 b2 HA2 HB2 w2 => Bo.tx HA2 HB2 (hE _ _ (WrV.of V1 w2)))
          obtain ⟨P2, T2, c2⟩ := w2
          rw [ca_ret]
          have tb := P1.hb.1.2.2.1
          have g : ∀ x : Nat, x = 610 ∨ x = 611 → b2 10 x k = b 10 x k := fun x hx => T2.2.2 10 x k (by omega) (by omega) (by simp only [wTB]; omega)
          exact go a2 b2 k hk (X1.v P2 T2.v) (V1.tr T2.v) c2 (by rw [g 610 (by omega)]; exact w) (by rw [g 611 (by omega)]; exact y)
        · rw [if_neg y, if_neg (by omega), if_neg (by omega), ca_thr, tx_603 (wrb_hp X.1.hb (by omega) (by omega))]
          exact WrV.w V1 P1.ha P1.hb hE (by omega) (by omega)
      · rw [if_neg w, if_neg w, kA_thr P1 (by omega) (by omega), ca_thr, tx_304 (wra_hp P1.ha (by omega) (by omega)), e60, ca_thr, tx_603 (wrb_hp X.1.hb (by omega) (by omega))]
        exact WrV.w V1 P1.ha P1.hb hE (by omega) (by omega)
end FNM
end

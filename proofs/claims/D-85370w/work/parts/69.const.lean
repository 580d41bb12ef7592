section
/-! reading: a constant -/
set_option maxRecDepth 100000
section CONST
variable {u : Nat → Int} {n M i : Nat} {a b : fi_H} {dA dB : Nat}
theorem Hp.k167 (H : Hp a) {v : Int} (hv : 0 ≤ v ∧ v ≤ 9) : Hp (fi_upd a 167 377 0 v) := Hp.uR H 0 (by decide) (by decide) ⟨by omega, by have := H.1.2.2.1; omega⟩
theorem Hp.k168 (H : Hp a) {f : Nat} (hf : f = 168 ∨ f = 169) {v : Int} (hv : -9223372036854775808 ≤ v ∧ v < 9223372036854775808) : Hp (fi_upd a f 377 0 v) := by
  rcases hf with rfl | rfl <;> exact Hp.uJ H 0 (by decide) (by decide) hv
theorem Fr.wv {a0 : fi_H} (F : Fr wvA a0 a) {f : Nat} (hf : 167 ≤ f ∧ f ≤ 169) (v : Int) : Fr wvA a0 (fi_upd a f 377 0 v) := Fr.u 0 _ F (by decide) ⟨rfl, hf⟩
theorem Fr.wvb {b0 : fi_H} (F : Fr wvB b0 b) {f : Nat} (hf : 414 ≤ f ∧ f ≤ 417) (v : Int) : Fr wvB b0 (fi_upd b f 602 0 v) := Fr.u 0 _ F (by decide) ⟨rfl, hf⟩
abbrev kT (u : Nat → Int) (n i : Nat) : Prop := tk u n i = 2 ∧ (kw u n i = 18 ∨ kw u n i = 19)
/-- what isValue does, by the token at hand -/
theorem kA_isv (q : PS u n M i a b) {d : Nat} (hA : 7 ≤ d) : fj_run (d + 1) 191 a [(4, 377)] =
    if tk u n i = 3 then cv_ (fj_run d 192 (fi_upd a 169 377 0 0) [(4, 377)]) (fun h => some (.inl (some (0, 1)), h)) (fun q h => tx_ q h)
    else if tk u n i = 4 then cv_ (fj_run d 166 (fi_upd (fi_upd (fi_upd a 169 377 0 0) 167 377 0 4) 168 377 0 (tok u n (pl u n i)).2.2) [(4, 377)]) (fun h => some (.inl (some (0, 1)), h)) (fun q h => tx_ q h)
    else if tk u n i = 5 then ca_ (fj_run d 195 (fi_upd (fi_upd a 169 377 0 0) 167 377 0 6) [(4, 377)]) 0 (fun v h => some (.inl (some (0, 1)), fi_upd h 168 377 0 (wI v))) (fun q h => tx_ q h)
    else if kT u n i then cv_ (fj_run d 166 (fi_upd (fi_upd (fi_upd a 169 377 0 0) 167 377 0 2) 168 377 0 (if kw u n i = 18 then 1 else 0)) [(4, 377)]) (fun h => some (.inl (some (0, 1)), h)) (fun q h => tx_ q h)
    else some (.inl (some (0, 0)), fi_upd a 169 377 0 0) := by
  have hi := q.2.2.2.2.1
  have hM := q.2.2.1.2.2.1
  have tn : ((377 : Int)).toNat = 377 := rfl
  have H0 : Hp (fi_upd a 169 377 0 0) := q.ha.k168 (Or.inr rfl) (by omega)
  have F0 : Fr wvA a (fi_upd a 169 377 0 0) := (Fr.rf _ _).wv (by omega) 0
  obtain ⟨P0, -⟩ := q.vl H0 q.hb F0 (Fr.rf _ _)
  rw [m_191 d q.ha.1, lt_eq]
  generalize fi_upd a 169 377 0 0 = a0 at *
  rw [P0.at, if_pos (by omega), Int.toNat_natCast, P0.sort]
  by_cases z2 : tk u n i = 2
  · rw [if_pos (by omega : (tk u n i : Int) = 2), if_neg (by omega : ¬ tk u n i = 3), if_neg (by omega : ¬ tk u n i = 4), if_neg (by omega : ¬ tk u n i = 5)]
    have H1 : Hp (fi_upd a0 167 377 0 2) := H0.k167 (by omega)
    have F1 : Fr wvA a0 (fi_upd a0 167 377 0 2) := (Fr.rf _ _).wv (by omega) 2
    obtain ⟨P1, -⟩ := P0.vl H1 P0.hb F1 (Fr.rf _ _)
    have c115 := s0_377 H1.1
    have e116 : kw u n i = 18 ∨ kw u n i = 19 → c_191_116 d a0 = cv_ (fj_run d 166 (fi_upd (fi_upd a0 167 377 0 2) 168 377 0 (if kw u n i = 18 then 1 else 0)) [(4, 377)]) (fun h => some (.inl (some (0, 1)), h)) (fun q h => tx_ q h) := by
      intro hk
      rw [e_191_116 d H0.1, lt_eq, t_isWordA P1 (by omega) (li_w18 H1), ca_ret, ite0]
      by_cases z : kw u n i = 18
      · rw [if_pos ((t_word (w := 18) (by decide)).mpr ⟨z2, z⟩), e_191_139 d _ _ H1.1, tn, c115, if_pos rfl, if_pos (by decide), lt_eq, if_pos z]
      · rw [if_neg (fun y => z ((t_word (w := 18) (by decide)).mp y).2), e_191_139 d _ _ H1.1, tn, c115, if_pos rfl, if_pos (by decide), lt_eq, if_neg z]
    rw [t_isWordA P0 (by omega) (li_w18 H0), ca_ret, ite0]
    by_cases z : kw u n i = 18
    · rw [if_pos ((t_word (w := 18) (by decide)).mpr ⟨z2, z⟩), if_pos (⟨z2, Or.inl z⟩ : kT u n i)]
      exact e116 (Or.inl z)
    · rw [if_neg (fun y => z ((t_word (w := 18) (by decide)).mp y).2), t_isWordA P0 (by omega) (li_w19 H0), ca_ret, ite0]
      by_cases z' : kw u n i = 19
      · rw [if_pos ((t_word (w := 19) (by decide)).mpr ⟨z2, z'⟩), if_pos (⟨z2, Or.inr z'⟩ : kT u n i)]
        exact e116 (Or.inr z')
      · rw [if_neg (fun y => z' ((t_word (w := 19) (by decide)).mp y).2), if_neg (fun w : kT u n i => w.2.elim z z')]
  · rw [if_neg (by omega : ¬ (tk u n i : Int) = 2)]
    by_cases z3 : tk u n i = 3
    · rw [if_pos (by omega : (tk u n i : Int) = 3), if_pos z3]
    · rw [if_neg (by omega : ¬ (tk u n i : Int) = 3), if_neg z3]
      by_cases z4 : tk u n i = 4
      · have H1 : Hp (fi_upd a0 167 377 0 4) := H0.k167 (by omega)
        have F1 : Fr wvA a0 (fi_upd a0 167 377 0 4) := (Fr.rf _ _).wv (by omega) 4
        obtain ⟨P1, -⟩ := P0.vl H1 P0.hb F1 (Fr.rf _ _)
        rw [if_pos (by omega : (tk u n i : Int) = 4), if_pos z4, lt_eq, P1.at, if_pos (by omega), lt_eq, Int.toNat_natCast, P1.row.1.2.2.1 z4]
      · rw [if_neg (by omega : ¬ (tk u n i : Int) = 4), if_neg z4]
        by_cases z5 : tk u n i = 5
        · rw [if_pos (by omega : (tk u n i : Int) = 5), if_pos z5]
          rfl
        · rw [if_neg (by omega : ¬ (tk u n i : Int) = 5), if_neg z5, if_neg (fun w : kT u n i => z2 w.1)]
/-- the value, with its sign v -/
def ValS (v : Int) (a b : fi_H) : Prop := a 167 377 0 = 2 + b 414 602 0 ∧ b 415 602 0 = (if v = 0 then a 168 377 0 else -(a 168 377 0)) ∧ b 416 602 0 = (if v = 0 then a 169 377 0 else if b 414 602 0 = 5 then -(a 169 377 0) else a 169 377 0) ∧ (0 ≤ b 414 602 0 ∧ b 414 602 0 ≤ 7) ∧ Vok (b 414 602 0) (b 415 602 0) (b 416 602 0)
theorem Vok.ng {k x y : Int} (h : Vok k x y) (hk : k = 1 ∨ k = 2 ∨ k = 3 ∨ k = 5) (h1 : k = 1 → -2147483648 < x) : Vok k (-x) (if k = 5 then -y else y) := by
  obtain ⟨v0, v1, v2, v3, v4, v5, v6, v7⟩ := h
  rcases hk with rfl | rfl | rfl | rfl
  · have := v1 rfl; have := h1 rfl
    refine ⟨fun z => by omega, fun _ => by rw [if_neg (by decide)]; omega, fun z => by omega, fun z => by omega, fun z => by omega, fun z => by omega, fun z => by omega, fun z => by omega⟩
  · have := v2 rfl
    refine ⟨fun z => by omega, fun z => by omega, fun _ => by rw [if_neg (by decide)]; omega, fun z => by omega, fun z => by omega, fun z => by omega, fun z => by omega, fun z => by omega⟩
  · have := v3 rfl
    refine ⟨fun z => by omega, fun z => by omega, fun z => by omega, fun _ => ?_, fun z => by omega, fun z => by omega, fun z => by omega, fun z => by omega⟩
    rw [if_neg (by decide)]
    exact ⟨by omega, by omega, by omega, by omega, by rw [Int.neg_gcd]; exact this.2.2.2.2⟩
  · have := v5 rfl
    refine ⟨fun z => by omega, fun z => by omega, fun z => by omega, fun z => by omega, fun z => by omega, fun _ => by rw [if_pos rfl]; omega, fun z => by omega, fun z => by omega⟩
/-- the sign is laid upon the value -/
theorem kB_170 {d : Nat} (H : Hp b) {v : Int} (hv : v = 0 ∨ v = 1) (L : Val a b) (hk : v = 1 → b 414 602 0 = 1 ∨ b 414 602 0 = 2 ∨ b 414 602 0 = 3 ∨ b 414 602 0 = 5) (h0 : 0 ≤ b 415 602 0) :
    ∃ b', c_512_170 d v b = some (.inl none, b') ∧ Hp b' ∧ Fr wvB b b' ∧ ValS v a b' := by
  have tn : ((602 : Int)).toNat = 602 := rfl
  obtain ⟨l1, l2, l3, l4, l5⟩ := L
  rw [e_512_170 d v H.1]
  rcases hv with rfl | rfl
  · rw [if_pos rfl]
    exact ⟨b, rfl, H, Fr.rf _ _, l1, by rw [if_pos rfl]; exact l2.symm, by rw [if_pos rfl]; exact l3.symm, l4, l5⟩
  · have hk := hk rfl
    have r5 := rJ H (f := 415) rfl 602 0
    have r6 := rJ H (f := 416) rfl 602 0
    have y6 : b 414 602 0 = 5 → -65535 ≤ b 416 602 0 ∧ b 416 602 0 ≤ 65535 := fun z => by have := l5.2.2.2.2.2.1 z; omega
    have W := l5.ng hk (fun _ => by omega)
    have H1 : Hp (fi_upd b 415 602 0 (wJ (-(b 415 602 0)))) := Hp.uJ H 0 (by decide) (by decide) (wJ_rg _)
    have F1 : Fr wvB b (fi_upd b 415 602 0 (wJ (-(b 415 602 0)))) := (Fr.rf _ _).wvb (by omega) _
    have o414 : fi_upd b 415 602 0 (wJ (-(b 415 602 0))) 414 602 0 = b 414 602 0 := fi_upd_ne _ _ _ _ _ (by omega)
    have o416 : fi_upd b 415 602 0 (wJ (-(b 415 602 0))) 416 602 0 = b 416 602 0 := fi_upd_ne _ _ _ _ _ (by omega)
    have o415 : fi_upd b 415 602 0 (wJ (-(b 415 602 0))) 415 602 0 = -(b 415 602 0) := by rw [fi_upd_same, wJ_id (by omega) (by omega)]
    rw [if_neg (by decide), lt_eq]
    generalize fi_upd b 415 602 0 (wJ (-(b 415 602 0))) = b1 at *
    have fin : ∀ t : Int, t = (if b 414 602 0 = 5 then -(b 416 602 0) else b 416 602 0) → ∃ b', c_512_204 d 602 t b1 = some (.inl none, b') ∧ Hp b' ∧ Fr wvB b b' ∧ ValS 1 a b' := by
      intro t ht
      have ht2 : -9223372036854775808 ≤ t ∧ t < 9223372036854775808 := by
        by_cases z : b 414 602 0 = 5
        · have := y6 z; rw [ht, if_pos z]; omega
        · rw [ht, if_neg z]; omega
      refine ⟨_, by rw [e_512_204 d _ _ H1.1, tn, s0_602 H1.1, if_pos rfl, if_pos (by decide), lt_eq], Hp.uJ H1 0 (by decide) (by decide) ht2, F1.wvb (by omega) _, ?_⟩
      have p414 : fi_upd b1 416 602 0 t 414 602 0 = b 414 602 0 := by rw [fi_upd_ne _ _ _ _ _ (by omega)]; exact o414
      have p415 : fi_upd b1 416 602 0 t 415 602 0 = -(b 415 602 0) := by rw [fi_upd_ne _ _ _ _ _ (by omega)]; exact o415
      have p416 : fi_upd b1 416 602 0 t 416 602 0 = t := fi_upd_same _ _ _ _ _
      refine ⟨by rw [p414]; exact l1, by rw [p415, if_neg (by decide), l2], by rw [p416, p414, if_neg (by decide), l3]; exact ht, by rw [p414]; exact l4, ?_⟩
      rw [p414, p415, p416, ht]; exact W
    rw [o414, o416]
    by_cases z : b 414 602 0 = 5
    · have := y6 z
      rw [if_pos z, wJ_id (by omega) (by omega)]; exact fin _ (by rw [if_pos z])
    · rw [if_neg z]; exact fin _ (by rw [if_neg z])
end CONST
section CONST2
variable {u : Nat → Int} {n M i : Nat} {a b a0 b0 : fi_H} {dA dB : Nat}
/-- what money tells -/
theorem tok_mon (hu : ∀ k, n ≤ k → u k = 0) (h : tk u n i = 4) : 0 ≤ (tok u n (pl u n i)).2.2 ∧ (tok u n (pl u n i)).2.2 ≤ 99999999999 := by
  have hp := pl_le hu i
  unfold tk at h
  generalize pl u n i = p at *
  unfold tok at h ⊢
  split at h
  · simp at h
  · rename_i z0
    rw [if_neg z0]
    split at h
    · simp only at h; split at h <;> simp at h
    · rename_i z1
      rw [if_neg z1]
      split at h
      · rename_i z2
        rw [if_pos z2]
        split at h
        · simp at h
        · rename_i z3
          rw [if_neg z3]
          split at h
          · rename_i z4
            rw [if_pos z4]
            obtain ⟨d1, d2, d3, d4⟩ := de_ok (u := u) (n := n) (n - p) p (by omega)
            obtain ⟨f1, f2⟩ := fg_rg (u := u) (p := p) (de u n p - p) (fun j hj => d3 (p + j) (by omega) (by omega))
            have f3 : (10 : Int) ^ (de u n p - p) ≤ 10 ^ 9 := by
              have : (10 : Nat) ^ (de u n p - p) ≤ 10 ^ 9 := Nat.pow_le_pow_right (by decide) (by omega)
              exact_mod_cast this
            have f4 : (10 : Int) ^ 9 = 1000000000 := by decide
            have t1 := tw_rg z4.2.1 z4.2.2
            show 0 ≤ 100 * fg u p (de u n p - p) + tw u (de u n p + 1) ∧ 100 * fg u p (de u n p - p) + tw u (de u n p + 1) ≤ 99999999999
            omega
          · split at h <;> simp at h
      · split at h
        · split at h <;> simp at h
        · split at h <;> simp at h
/-- a value, its sign v read; both sides go on with KA, KB -/
theorem t_val (q : PS u n M i a b) (hA : 9 ≤ dA) (hB : 15 ≤ dB) (V : VE a0 b0 a b) {v : Int} (hv : v = 0 ∨ (v = 1 ∧ (tk u n i = 3 ∨ tk u n i = 4))) {TA TB : Nat} {P : Int → fi_H → Int → fi_H → Prop} {E : fi_H → fi_H → Prop} (hE : ∀ a' b', WrV a0 b0 a' b' → E a' b') {KA : fi_H → fk_R} {KB : fi_H → fk_R} {TH : fi_H → fk_R} (hT : ∀ h8 r, ca_ (fj_run dA 164 h8 [(4, 377), (0, 1)]) 4 (fun v h => if v ≠ 0 then tx_ v.toNat h else none) (fun q h => tx_ q h) = some (.inr 304, r) → Hp r → TH h8 = some (.inr 304, r))
    (k : ∀ (a' b' : fi_H) (j : Nat), i < j → PS u n M j a' b' → VE a0 b0 a' b' → b' 427 602 0 = b 427 602 0 → ValS v a' b' → Bo 304 TA TB (KA a') (KB b') P E) :
    Bo 304 TA TB (ca_ (fj_run dA 191 a [(4, 377)]) 0 (fun v9 h8 => if v9 = 0 then TH h8 else KA h8) (fun q h => tx_ q h)) (cv_ (c_512_15 dB v b) KB (fun q h => tx_ q h)) P E := by
  obtain ⟨d, rfl⟩ : ∃ e, dA = e + 1 := ⟨dA - 1, by omega⟩
  have hp := q.ple
  have tn : ((602 : Int)).toNat = 602 := rfl
  have vt : fi_vt 348 129 = some 500 := rfl
  have sB := t_sortB q
  have tr := tk_rg (u := u) (n := n) i
  have hv' : v = 0 ∨ v = 1 := by omega
  have HA0 : Hp (fi_upd a 169 377 0 0) := q.ha.k168 (Or.inr rfl) (by omega)
  have FA0 : Fr wvA a (fi_upd a 169 377 0 0) := (Fr.rf _ _).wv (by omega) 0
  obtain ⟨P0, -⟩ := q.vl HA0 q.hb FA0 (Fr.rf _ _)
  have V0 : VE a0 b0 (fi_upd a 169 377 0 0) b := V.tr (VE.w FA0 (Fr.rf _ _))
  have s169 : fi_upd a 169 377 0 0 169 377 0 = 0 := fi_upd_same _ _ _ _ _
  have fin : ∀ (a1 b1 : fi_H) (j : Nat), i < j → PS u n M j a1 b1 → VE a0 b0 a1 b1 → b1 427 602 0 = b 427 602 0 → Val a1 b1 → (v = 1 → b1 414 602 0 = 1 ∨ b1 414 602 0 = 2 ∨ b1 414 602 0 = 3 ∨ b1 414 602 0 = 5) → 0 ≤ b1 415 602 0 → Bo 304 TA TB (KA a1) (cv_ (c_512_170 dB v b1) KB (fun q h => tx_ q h)) P E := by
    intro a1 b1 j hj P1 V1 c1 L1 hk h0
    obtain ⟨b2, e2, H2, F2, L2⟩ := kB_170 (d := dB) P1.hb hv' L1 hk h0
    obtain ⟨P2, c2⟩ := P1.vl P1.ha H2 (Fr.rf _ _) F2
    rw [e2, cv_ret]
    exact k a1 b2 j hj P2 (V1.tr (VE.w (Fr.rf _ _) F2)) (c2.trans c1) L2
  rw [kA_isv q (d := d) (by omega), e_512_15 dB v q.hb.1]
  generalize hX : fi_upd a 169 377 0 0 = aa at *
  by_cases z3 : tk u n i = 3
  · rw [if_neg (by omega : ¬ tk u n i = 0), if_neg (by omega : ¬ tk u n i = 1), if_neg (by omega : ¬ tk u n i = 2)] at sB
    rw [if_pos z3, if_pos (by omega : b 394 602 0 = 3)]
    obtain ⟨a1, b1, HA, HB, ⟨x, y, e1, e2, ⟨j, hj, P1⟩, V1, c1, L1, k1, g1, -⟩ | ⟨e1, e2, W1, W2⟩⟩ := t_figure P0 (dA := d) (dB := dB) (by omega) (by omega) z3
    · rw [e1, e2]
      show Bo 304 TA TB (KA a1) (cv_ (c_512_170 dB v b1) KB (fun q h => tx_ q h)) P E
      exact fin a1 b1 j hj P1 (V0.tr V1) c1 L1 (fun _ => by omega) g1
    · rw [e1, e2, cv_thr, cv_thr, tx_304 HA, tx_603 HB, ca_thr, cv_thr, tx_304 HA, tx_603 HB]
      exact Bo.thr HA HB (hE _ _ ⟨W1, V0.tr W2⟩)
  · rw [if_neg z3]
    by_cases z4 : tk u n i = 4
    · rw [if_neg (by omega : ¬ tk u n i = 0), if_neg (by omega : ¬ tk u n i = 1), if_neg (by omega : ¬ tk u n i = 2)] at sB
      have cN := (q.tb.2.2.2.2.2.2.1 z4).2
      have nN := tok_mon (u := u) (n := n) (i := i) q.2.1.2.2.2.2.1 z4
      rw [if_pos z4, if_neg (by omega : ¬ b 394 602 0 = 3), if_pos (by omega : b 394 602 0 = 4), lt_eq, lt_eq, lt_eq, fi_upd_ne _ _ _ _ _ (by omega), cN]
      generalize (tok u n (pl u n i)).2.2 = N at *
      have HA2 : Hp (fi_upd (fi_upd aa 167 377 0 4) 168 377 0 N) := (HA0.k167 (by omega)).k168 (Or.inl rfl) (by omega)
      have FA2 : Fr wvA aa (fi_upd (fi_upd aa 167 377 0 4) 168 377 0 N) := ((Fr.rf _ _).wv (by omega) _).wv (by omega) _
      have HB2 : Hp (fi_upd (fi_upd (fi_upd b 414 602 0 2) 415 602 0 N) 416 602 0 0) := Hp.uJ (Hp.uJ (Hp.uI q.hb 0 (by decide) (by decide) (by omega)) 0 (by decide) (by decide) (by omega)) 0 (by decide) (by decide) (by omega)
      have FB2 : Fr wvB b (fi_upd (fi_upd (fi_upd b 414 602 0 2) 415 602 0 N) 416 602 0 0) := (((Fr.rf _ _).wvb (by omega) _).wvb (by omega) _).wvb (by omega) _
      have L2 : Val (fi_upd (fi_upd aa 167 377 0 4) 168 377 0 N) (fi_upd (fi_upd (fi_upd b 414 602 0 2) 415 602 0 N) 416 602 0 0) := by
        have y1 : fi_upd (fi_upd (fi_upd b 414 602 0 2) 415 602 0 N) 416 602 0 0 414 602 0 = 2 := by simp [fi_upd]
        have y2 : fi_upd (fi_upd (fi_upd b 414 602 0 2) 415 602 0 N) 416 602 0 0 415 602 0 = N := by simp [fi_upd]
        have y3 : fi_upd (fi_upd (fi_upd b 414 602 0 2) 415 602 0 N) 416 602 0 0 416 602 0 = 0 := by simp [fi_upd]
        have x1 : fi_upd (fi_upd aa 167 377 0 4) 168 377 0 N 167 377 0 = 4 := by simp [fi_upd]
        have x2 : fi_upd (fi_upd aa 167 377 0 4) 168 377 0 N 168 377 0 = N := by simp [fi_upd]
        have x3 : fi_upd (fi_upd aa 167 377 0 4) 168 377 0 N 169 377 0 = 0 := by simp [fi_upd, s169]
        unfold Val
        rw [y1, y2, y3, x1, x2, x3]
        exact ⟨rfl, rfl, rfl, by omega, fun z => by omega, fun z => by omega, fun _ => by omega, fun z => by omega, fun z => by omega, fun z => by omega, fun z => by omega, fun z => by omega⟩
      have y1 : fi_upd (fi_upd (fi_upd b 414 602 0 2) 415 602 0 N) 416 602 0 0 414 602 0 = 2 := by simp [fi_upd]
      have y2 : fi_upd (fi_upd (fi_upd b 414 602 0 2) 415 602 0 N) 416 602 0 0 415 602 0 = N := by simp [fi_upd]
      obtain ⟨P2, c2⟩ := P0.vl HA2 HB2 FA2 FB2
      have V2 := V0.tr (VE.w FA2 FB2)
      generalize fi_upd (fi_upd aa 167 377 0 4) 168 377 0 N = a2 at *
      generalize fi_upd (fi_upd (fi_upd b 414 602 0 2) 415 602 0 N) 416 602 0 0 = b2 at *
      obtain ⟨a1, b1, HA, HB, ⟨x, y, e1, e2, P1, T1, c1⟩ | ⟨e1, e2, W⟩⟩ := t_take P2 (dA := d) (dB := dB) (by omega) (by omega) ⟨by omega, by omega⟩
      · rw [e1, e2]
        show Bo 304 TA TB (KA a1) (cv_ (c_512_170 dB v b1) KB (fun q h => tx_ q h)) P E
        have ta := HA2.1.2.2.1
        have tb := HB2.1.2.2.1
        have oA : ∀ f, 167 ≤ f → f ≤ 169 → a1 f 377 0 = a2 f 377 0 := fun f f1 f2 => T1.1.2 f 377 0 (by decide) (by omega) (by simp only [wTA]; omega)
        have oB : ∀ f, 414 ≤ f → f ≤ 416 → b1 f 602 0 = b2 f 602 0 := fun f f1 f2 => T1.2.2 f 602 0 (by decide) (by omega) (by simp only [wTB]; omega)
        refine fin a1 b1 (i + 1) (by omega) P1 (V2.tr T1.v) (c1.trans c2) ?_ (fun _ => ?_) ?_
        · unfold Val
          rw [oA 167 (by decide) (by decide), oA 168 (by decide) (by decide), oA 169 (by decide) (by decide), oB 414 (by decide) (by decide), oB 415 (by decide) (by decide), oB 416 (by decide) (by decide)]
          exact L2
        · rw [oB 414 (by decide) (by decide), y1]; omega
        · rw [oB 415 (by decide) (by decide), y2]; exact nN.1
      · rw [e1, e2, cv_thr, cv_thr, tx_304 HA, tx_603 HB, ca_thr, cv_thr, tx_304 HA, tx_603 HB]
        exact Bo.thr HA HB (hE _ _ (WrV.of V2 W))
    · have hv0 : v = 0 := by omega
      subst hv0
      rw [if_neg z4, if_neg (by rw [sB]; (repeat' split) <;> omega : ¬ b 394 602 0 = 3), if_neg (by rw [sB]; (repeat' split) <;> omega : ¬ b 394 602 0 = 4), if_pos (rfl : (0 : Int) = 0)]
      by_cases z5 : tk u n i = 5
      · rw [if_neg (by omega : ¬ tk u n i = 0), if_neg (by omega : ¬ tk u n i = 1), if_neg (by omega : ¬ tk u n i = 2)] at sB
        rw [if_pos z5, if_pos (by omega : b 394 602 0 = 5), e_512_94 dB _ _ q.hb.1, e_512_99 dB _ _ _ q.hb.1, tn, s0_602 q.hb.1, vt, dv_s, kB_need1 q.hb (by omega) (by decide), cv_ret, if_pos (by omega : b 394 602 0 = 5), e_512_121 dB _ _ _ q.hb.1, tn, s0_602 q.hb.1, if_pos rfl, if_pos (by decide), lt_eq, lt_eq]
        have HA2 : Hp (fi_upd aa 167 377 0 6) := HA0.k167 (by omega)
        have FA2 : Fr wvA aa (fi_upd aa 167 377 0 6) := (Fr.rf _ _).wv (by omega) _
        have HB2 : Hp (fi_upd (fi_upd b 414 602 0 4) 416 602 0 0) := Hp.uJ (Hp.uI q.hb 0 (by decide) (by decide) (by omega)) 0 (by decide) (by decide) (by omega)
        have FB2 : Fr wvB b (fi_upd (fi_upd b 414 602 0 4) 416 602 0 0) := ((Fr.rf _ _).wvb (by omega) _).wvb (by omega) _
        have y0 : fi_upd (fi_upd b 414 602 0 4) 416 602 0 0 394 602 0 = 5 := by rw [fi_upd_ne _ _ _ _ _ (by omega), fi_upd_ne _ _ _ _ _ (by omega)]; omega
        have y1 : fi_upd (fi_upd b 414 602 0 4) 416 602 0 0 414 602 0 = 4 := by simp [fi_upd]
        have y3 : fi_upd (fi_upd b 414 602 0 4) 416 602 0 0 416 602 0 = 0 := by simp [fi_upd]
        have x1 : fi_upd aa 167 377 0 6 167 377 0 = 6 := fi_upd_same _ _ _ _ _
        have x3 : fi_upd aa 167 377 0 6 169 377 0 = 0 := by rw [fi_upd_ne _ _ _ _ _ (by omega)]; exact s169
        obtain ⟨P2, c2⟩ := P0.vl HA2 HB2 FA2 FB2
        have V2 := V0.tr (VE.w FA2 FB2)
        rw [if_pos y0]
        generalize fi_upd aa 167 377 0 6 = a2 at *
        generalize fi_upd (fi_upd b 414 602 0 4) 416 602 0 0 = b2 at *
        have ta := HA2.1.2.2.1
        have tb := HB2.1.2.2.1
        obtain ⟨a1, b1, HA, HB, ⟨x, y, e1, e2, rfl, hx, -, P1, T1, c1⟩ | ⟨e1, e2, W⟩⟩ := t_date P2 (dA := d) (dB := dB) (by omega) (by omega) z5
        · have oA : ∀ f, 167 ≤ f → f ≤ 169 → a1 f 377 0 = a2 f 377 0 := fun f f1 f2 => T1.1.2 f 377 0 (by decide) (by omega) (by simp only [wTA]; omega)
          have oB : ∀ f, 414 ≤ f → f ≤ 416 → b1 f 602 0 = b2 f 602 0 := fun f f1 f2 => T1.2.2 f 602 0 (by decide) (by omega) (by simp only [wTB]; omega)
          have HA3 : Hp (fi_upd a1 168 377 0 (wI x)) := HA.k168 (Or.inl rfl) (by rw [wI_id (by omega) (by omega)]; omega)
          have FA3 : Fr wvA a1 (fi_upd a1 168 377 0 (wI x)) := (Fr.rf _ _).wv (by omega) _
          have HB3 : Hp (fi_upd b1 415 602 0 x) := Hp.uJ HB 0 (by decide) (by decide) (by omega)
          have FB3 : Fr wvB b1 (fi_upd b1 415 602 0 x) := (Fr.rf _ _).wvb (by omega) _
          obtain ⟨P3, c3⟩ := P1.vl HA3 HB3 FA3 FB3
          rw [e1, e2]
          show Bo 304 TA TB (KA (fi_upd a1 168 377 0 (wI x))) (cv_ (c_512_170 dB 0 (fi_upd b1 415 602 0 x)) KB (fun q h => tx_ q h)) P E
          refine fin _ _ (i + 1) (by omega) P3 ((V2.tr T1.v).tr (VE.w FA3 FB3)) (c3.trans (c1.trans c2)) ?_ (fun z => by omega) ?_
          · unfold Val
            rw [fi_upd_ne a1 168 377 0 (wI x) (f' := 167) (by omega), fi_upd_same, fi_upd_ne a1 168 377 0 (wI x) (f' := 169) (by omega), fi_upd_ne b1 415 602 0 x (f' := 414) (by omega), fi_upd_same, fi_upd_ne b1 415 602 0 x (f' := 416) (by omega), oA 167 (by decide) (by decide), oA 169 (by decide) (by decide), oB 414 (by decide) (by decide), oB 416 (by decide) (by decide), x1, x3, y1, y3, wI_id (by omega) (by omega)]
            exact ⟨rfl, rfl, rfl, by omega, fun z => by omega, fun z => by omega, fun z => by omega, fun z => by omega, fun _ => by omega, fun z => by omega, fun z => by omega, fun z => by omega⟩
          · rw [fi_upd_same]; exact hx.1
        · rw [e1, e2, ca_thr, ca_thr, tx_304 HA, tx_603 HB, ca_thr, cv_thr, tx_304 HA, tx_603 HB]
          exact Bo.thr HA HB (hE _ _ (WrV.of V2 W))
      · have nb5 : ¬ b 394 602 0 = 5 := by rw [sB]; (repeat' split) <;> omega
        rw [if_neg z5, if_neg nb5, t_isWordB q (by omega) (by decide), ca_ret, ite0]
        by_cases zT : kT u n i
        · have e94 : c_512_94 dB 0 602 b = c_512_121 dB 0 602 0 b := by
            rw [e_512_94 dB _ _ q.hb.1, e_512_99 dB _ _ _ q.hb.1, tn, s0_602 q.hb.1, vt, dv_s, kB_need1 q.hb (by omega) (by decide), cv_ret, if_neg nb5]
          have eB : (if tk u n i = 2 ∧ kw u n i = 18 then c_512_94 dB 0 602 b else ca_ (fj_run dB 499 b [(4, 602), (0, 19)]) 0 (fun v14 h13 => if v14 = 0 then c_512_98 dB 0 602 h13 else c_512_94 dB 0 602 h13) (fun q h => tx_ q h)) = c_512_121 dB 0 602 0 b := by
            by_cases z : tk u n i = 2 ∧ kw u n i = 18
            · rw [if_pos z]; exact e94
            · rw [if_neg z, t_isWordB q (by omega) (by decide), ca_ret, ite0, if_pos (⟨zT.1, by have := zT.2; omega⟩ : tk u n i = 2 ∧ kw u n i = 19)]; exact e94
          rw [if_pos zT, eB, e_512_121 dB _ _ _ q.hb.1, tn, s0_602 q.hb.1, if_pos rfl, if_pos (by decide : (302 : Int) < 602), lt_eq, lt_eq]
          obtain ⟨t, ht⟩ : ∃ t : Int, t = if kw u n i = 18 then 1 else 0 := ⟨_, rfl⟩
          have ht2 : t = 0 ∨ t = 1 := by rw [ht]; split <;> omega
          have HB1 : Hp (fi_upd (fi_upd b 414 602 0 0) 416 602 0 0) := Hp.uJ (Hp.uI q.hb 0 (by decide) (by decide) (by omega)) 0 (by decide) (by decide) (by omega)
          have FB1 : Fr wvB b (fi_upd (fi_upd b 414 602 0 0) 416 602 0 0) := ((Fr.rf _ _).wvb (by omega) _).wvb (by omega) _
          obtain ⟨Pb, -⟩ := P0.vl HA0 HB1 (Fr.rf _ _) FB1
          have y0 : fi_upd (fi_upd b 414 602 0 0) 416 602 0 0 394 602 0 = b 394 602 0 := by rw [fi_upd_ne _ _ _ _ _ (by omega), fi_upd_ne _ _ _ _ _ (by omega)]
          have e121 : (if fi_upd (fi_upd b 414 602 0 0) 416 602 0 0 394 602 0 = 5 then ca_ (fj_run dB 515 (fi_upd (fi_upd b 414 602 0 0) 416 602 0 0) [(4, 602)]) 1 (fun v5 h4 => lt_ (fi_upd h4 415 602 0 v5) fun h7 => c_512_170 dB 0 h7) (fun q h => tx_ q h) else ca_ (fj_run dB 499 (fi_upd (fi_upd b 414 602 0 0) 416 602 0 0) [(4, 602), (0, 18)]) 0 (fun v9 h8 => if v9 = 0 then c_512_163 dB 0 602 0 h8 else c_512_163 dB 0 602 1 h8) (fun q h => tx_ q h)) = cv_ (fj_run dB 502 (fi_upd (fi_upd (fi_upd b 414 602 0 0) 416 602 0 0) 415 602 0 t) [(4, 602)]) (fun h3 => c_512_170 dB 0 h3) (fun q h => tx_ q h) := by
            rw [y0, if_neg nb5, t_isWordB Pb (by omega) (by decide), ca_ret, ite0, ht]
            by_cases z : kw u n i = 18
            · rw [if_pos ⟨zT.1, z⟩, if_pos z, e_512_163 dB _ _ _ HB1.1, tn, s0_602 HB1.1, if_pos rfl, if_pos (by decide), lt_eq]
            · rw [if_neg (fun y => z y.2), if_neg z, e_512_163 dB _ _ _ HB1.1, tn, s0_602 HB1.1, if_pos rfl, if_pos (by decide), lt_eq]
          rw [e121, ← ht]
          have HA2 : Hp (fi_upd (fi_upd aa 167 377 0 2) 168 377 0 t) := (HA0.k167 (by omega)).k168 (Or.inl rfl) (by omega)
          have FA2 : Fr wvA aa (fi_upd (fi_upd aa 167 377 0 2) 168 377 0 t) := ((Fr.rf _ _).wv (by omega) _).wv (by omega) _
          have HB2 : Hp (fi_upd (fi_upd (fi_upd b 414 602 0 0) 416 602 0 0) 415 602 0 t) := Hp.uJ HB1 0 (by decide) (by decide) (by omega)
          have FB2 : Fr wvB b (fi_upd (fi_upd (fi_upd b 414 602 0 0) 416 602 0 0) 415 602 0 t) := FB1.wvb (by omega) _
          have y1 : fi_upd (fi_upd (fi_upd b 414 602 0 0) 416 602 0 0) 415 602 0 t 414 602 0 = 0 := by simp [fi_upd]
          have y2 : fi_upd (fi_upd (fi_upd b 414 602 0 0) 416 602 0 0) 415 602 0 t 415 602 0 = t := by simp [fi_upd]
          have y3 : fi_upd (fi_upd (fi_upd b 414 602 0 0) 416 602 0 0) 415 602 0 t 416 602 0 = 0 := by simp [fi_upd]
          have x1 : fi_upd (fi_upd aa 167 377 0 2) 168 377 0 t 167 377 0 = 2 := by simp [fi_upd]
          have x2 : fi_upd (fi_upd aa 167 377 0 2) 168 377 0 t 168 377 0 = t := by simp [fi_upd]
          have x3 : fi_upd (fi_upd aa 167 377 0 2) 168 377 0 t 169 377 0 = 0 := by simp [fi_upd, s169]
          obtain ⟨P2, c2⟩ := P0.vl HA2 HB2 FA2 FB2
          have V2 := V0.tr (VE.w FA2 FB2)
          generalize fi_upd (fi_upd aa 167 377 0 2) 168 377 0 t = a2 at *
          generalize fi_upd (fi_upd (fi_upd b 414 602 0 0) 416 602 0 0) 415 602 0 t = b2 at *
          obtain ⟨a1, b1, HA, HB, ⟨x, y, e1, e2, P1, T1, c1⟩ | ⟨e1, e2, W⟩⟩ := t_take P2 (dA := d) (dB := dB) (by omega) (by omega) ⟨by have := zT.1; omega, by have := zT.1; omega⟩
          · rw [e1, e2]
            show Bo 304 TA TB (KA a1) (cv_ (c_512_170 dB 0 b1) KB (fun q h => tx_ q h)) P E
            have ta := HA2.1.2.2.1
            have tb := HB2.1.2.2.1
            have oA : ∀ f, 167 ≤ f → f ≤ 169 → a1 f 377 0 = a2 f 377 0 := fun f f1 f2 => T1.1.2 f 377 0 (by decide) (by omega) (by simp only [wTA]; omega)
            have oB : ∀ f, 414 ≤ f → f ≤ 416 → b1 f 602 0 = b2 f 602 0 := fun f f1 f2 => T1.2.2 f 602 0 (by decide) (by omega) (by simp only [wTB]; omega)
            refine fin a1 b1 (i + 1) (by omega) P1 (V2.tr T1.v) (c1.trans c2) ?_ (fun z => by omega) ?_
            · unfold Val
              rw [oA 167 (by decide) (by decide), oA 168 (by decide) (by decide), oA 169 (by decide) (by decide), oB 414 (by decide) (by decide), oB 415 (by decide) (by decide), oB 416 (by decide) (by decide), x1, x2, x3, y1, y2, y3]
              exact ⟨rfl, rfl, rfl, by omega, fun _ => by omega, fun z => by omega, fun z => by omega, fun z => by omega, fun z => by omega, fun z => by omega, fun z => by omega, fun z => by omega⟩
            · rw [oB 415 (by decide) (by decide), y2]; omega
          · rw [e1, e2, cv_thr, cv_thr, tx_304 HA, tx_603 HB, ca_thr, cv_thr, tx_304 HA, tx_603 HB]
            exact Bo.thr HA HB (hE _ _ (WrV.of V2 W))
        · rw [if_neg zT, if_neg (fun y => zT ⟨y.1, Or.inl y.2⟩ : ¬ (tk u n i = 2 ∧ kw u n i = 18)), t_isWordB q (by omega) (by decide), ca_ret, ca_ret, ite0, if_neg (fun y => zT ⟨y.1, Or.inr y.2⟩ : ¬ (tk u n i = 2 ∧ kw u n i = 19)), e_512_98 dB _ _ q.hb.1, e_512_99 dB _ _ _ q.hb.1, tn, s0_602 q.hb.1, vt, dv_s, q.tb.1, kB_need0 q.hb (by omega) (by omega) (by omega), cv_thr, tx_603 (wrb_hp q.hb (by omega) (by omega)), cv_thr, tx_603 (wrb_hp q.hb (by omega) (by omega)), if_pos (rfl : (0 : Int) = 0), hT _ _ (kA_thr P0 (by omega) (by omega)) (wra_hp HA0 (by omega) (by omega))]
          exact (v_wr HA0 q.hb V0 (by omega) (by omega)).imp (fun _ _ _ _ _ _ w => w) (fun _ _ _ _ w => hE _ _ w)
end CONST2
end

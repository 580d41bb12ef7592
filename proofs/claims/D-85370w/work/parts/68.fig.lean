section
/-! reading: a number with its unit -/
set_option maxRecDepth 100000
section FIG
variable {u : Nat → Int} {n M i : Nat} {a b : fi_H} {dA dB : Nat}
theorem kA_106 (H : Hp a) {d : Nat} {w N : Int} (hd : 1 ≤ d) (hw : 0 ≤ w ∧ w ≤ 4) (h0 : 0 ≤ N) (hN : N ≤ 999999999) :
    ∃ a', c_192_106 d w N a = some (.inl none, a') ∧ Hp a' ∧ Fr wvA a a' ∧ a' 167 377 0 = 2 + kdu w ∧ a' 168 377 0 = vu1 w N ∧ a' 169 377 0 = vu2 w N := by
  obtain ⟨g1, g2, g3, g4⟩ := gcd100 h0
  obtain ⟨d, rfl⟩ : ∃ e, d = e + 1 := ⟨d - 1, by omega⟩
  have tn : ((377 : Int)).toNat = 377 := rfl
  have H1 : Hp (fi_upd a 168 377 0 N) := Hp.uJ H 0 (by decide) (by decide) (by omega)
  have H2 : Hp (fi_upd (fi_upd a 168 377 0 N) 169 377 0 0) := Hp.uJ H1 0 (by decide) (by decide) (by omega)
  have H3 : Hp (fi_upd (fi_upd (fi_upd a 168 377 0 N) 169 377 0 0) 167 377 0 3) := Hp.uR H2 0 (by decide) (by decide) ⟨by omega, by have := H2.1.2.2.1; omega⟩
  have F3 : Fr wvA a (fi_upd (fi_upd (fi_upd a 168 377 0 N) 169 377 0 0) 167 377 0 3) := Fr.u 0 _ (Fr.u 0 _ (Fr.u 0 _ (Fr.rf _ _) (by decide) (by decide)) (by decide) (by decide)) (by decide) (by decide)
  rw [e_192_106 _ _ _ H.1, lt_eq, lt_eq, lt_eq]
  have v168 : fi_upd (fi_upd (fi_upd a 168 377 0 N) 169 377 0 0) 167 377 0 3 168 377 0 = N := by simp [fi_upd]
  have v169 : fi_upd (fi_upd (fi_upd a 168 377 0 N) 169 377 0 0) 167 377 0 3 169 377 0 = 0 := by simp [fi_upd]
  have v167 : fi_upd (fi_upd (fi_upd a 168 377 0 N) 169 377 0 0) 167 377 0 3 167 377 0 = 3 := by simp [fi_upd]
  generalize fi_upd (fi_upd (fi_upd a 168 377 0 N) 169 377 0 0) 167 377 0 3 = a3 at *
  have top3 := H3.1.2.2.1
  by_cases w1 : w = 1
  · subst w1
    have a1 : 0 ≤ N / (Int.gcd N 100 : Int) := Int.ediv_nonneg h0 (by omega)
    have a2 : N / (Int.gcd N 100 : Int) ≤ N := Int.ediv_le_self _ h0
    have b1 : 0 ≤ 100 / (Int.gcd N 100 : Int) := Int.ediv_nonneg (by decide) (by omega)
    have b2 : 100 / (Int.gcd N 100 : Int) ≤ 100 := Int.ediv_le_self _ (by decide)
    have H4 : Hp (fi_upd a3 167 377 0 5) := Hp.uR H3 0 (by decide) (by decide) ⟨by omega, by omega⟩
    have H5 : Hp (fi_upd (fi_upd a3 167 377 0 5) 168 377 0 (N / (Int.gcd N 100 : Int))) := Hp.uJ H4 0 (by decide) (by decide) (by omega)
    have H6 : Hp (fi_upd (fi_upd (fi_upd a3 167 377 0 5) 168 377 0 (N / (Int.gcd N 100 : Int))) 169 377 0 (100 / (Int.gcd N 100 : Int))) := Hp.uJ H5 0 (by decide) (by decide) (by omega)
    rw [if_pos rfl, kA_gcd d H3 ⟨h0, by omega⟩ (by decide), ca_ret, lt_eq, if_neg (by omega), lt_eq, if_neg (by omega), lt_eq, lq_nn (by omega) (by omega) (by omega) (by omega), lq_nn (by omega) (by omega) (by omega) (by omega)]
    refine ⟨_, rfl, H6, Fr.u 0 _ (Fr.u 0 _ (Fr.u 0 _ F3 (by decide) (by decide)) (by decide) (by decide)) (by decide) (by decide), ?_, ?_, ?_⟩
    · rw [fi_upd_ne _ _ _ _ _ (by omega), fi_upd_ne _ _ _ _ _ (by omega), fi_upd_same]; rfl
    · rw [fi_upd_ne _ _ _ _ _ (by omega), fi_upd_same]; rfl
    · rw [fi_upd_same]; rfl
  · rw [if_neg w1]
    by_cases w0 : w = 0
    · subst w0
      rw [if_pos rfl]
      exact ⟨_, rfl, H3, F3, v167, v168, v169⟩
    · have H4 : Hp (fi_upd a3 167 377 0 7) := Hp.uR H3 0 (by decide) (by decide) ⟨by omega, by omega⟩
      have F4 : Fr wvA a (fi_upd a3 167 377 0 7) := Fr.u 0 _ F3 (by decide) (by decide)
      have c4 : fi_upd a3 167 377 0 7 0 377 0 = 115 := s0_377 H4.1
      rw [if_neg w0, lt_eq]
      have kd : kdu w = 5 := by unfold kdu; rw [if_neg w0, if_neg w1]
      have fin : ∀ s : Int, s = vu1 w N → ∃ a', c_192_205 (d + 1) w N 377 s (fi_upd a3 167 377 0 7) = some (.inl none, a') ∧ Hp a' ∧ Fr wvA a a' ∧ a' 167 377 0 = 2 + kdu w ∧ a' 168 377 0 = vu1 w N ∧ a' 169 377 0 = vu2 w N := by
        intro s hs
        have hs2 : 0 ≤ s ∧ s ≤ 12 * N := by rw [hs]; unfold vu1; rw [if_neg w1]; (repeat' split) <;> omega
        have H5 : Hp (fi_upd (fi_upd a3 167 377 0 7) 168 377 0 s) := Hp.uJ H4 0 (by decide) (by decide) (by omega)
        have F5 : Fr wvA a (fi_upd (fi_upd a3 167 377 0 7) 168 377 0 s) := Fr.u 0 _ F4 (by decide) (by decide)
        have fin2 : ∀ t : Int, t = vu2 w N → 0 ≤ t ∧ t ≤ N → ∃ a', c_192_220 (d + 1) 377 t (fi_upd (fi_upd a3 167 377 0 7) 168 377 0 s) = some (.inl none, a') ∧ Hp a' ∧ Fr wvA a a' ∧ a' 167 377 0 = 2 + kdu w ∧ a' 168 377 0 = vu1 w N ∧ a' 169 377 0 = vu2 w N := by
          intro t ht ht2
          refine ⟨_, by rw [e_192_220 _ _ _ H5.1, tn, s0_377 H5.1, if_pos rfl, if_pos (by decide), lt_eq], Hp.uJ H5 0 (by decide) (by decide) (by omega), Fr.u 0 _ F5 (by decide) (by decide), ?_, ?_, ?_⟩
          · rw [fi_upd_ne _ _ _ _ _ (by omega), fi_upd_ne _ _ _ _ _ (by omega), fi_upd_same, kd]; rfl
          · rw [fi_upd_ne _ _ _ _ _ (by omega), fi_upd_same]; exact hs
          · rw [fi_upd_same]; exact ht
        rw [e_192_205 _ _ _ _ _ H4.1, tn, c4, if_pos rfl, if_pos (by decide), lt_eq]
        by_cases w2 : w = 2
        · rw [if_pos w2]; exact fin2 _ (by unfold vu2; rw [if_neg w1, if_pos w2]) (by omega)
        · rw [if_neg w2]; exact fin2 _ (by unfold vu2; rw [if_neg w1, if_neg w2]) (by omega)
      by_cases w2 : w = 2
      · rw [if_pos w2]; exact fin _ (by unfold vu1; rw [if_neg w1, if_pos w2])
      · rw [if_neg w2]
        by_cases w4 : w = 4
        · rw [if_pos w4, wJ_id (by omega) (by omega)]; exact fin _ (by unfold vu1; rw [if_neg w1, if_neg w2, if_pos w4])
        · rw [if_neg w4]; exact fin _ (by unfold vu1; rw [if_neg w1, if_neg w2, if_neg w4])
/-- the model's end, behind a unit that is a word -/
theorem kB_214 (H : Hp b) {d : Nat} {w N : Int} (hw : 2 ≤ w ∧ w ≤ 4) (h0 : 0 ≤ N) (hN : N ≤ 999999999) :
    ∃ b', (if 13 + w = 15 then c_513_214 d N (13 + w) 602 0 b else if 13 + w = 16 then c_513_214 d N (13 + w) 602 N b else c_513_214 d N (13 + w) 602 (wJ (12 * N)) b) = some (.inl none, b') ∧ Hp b' ∧ Fr wvB b b' ∧ b' 414 602 0 = b 414 602 0 ∧ b' 415 602 0 = vu1 w N ∧ b' 416 602 0 = vu2 w N := by
  have tn : ((602 : Int)).toNat = 602 := rfl
  have fin : ∀ s : Int, s = vu1 w N → ∃ b', c_513_214 d N (13 + w) 602 s b = some (.inl none, b') ∧ Hp b' ∧ Fr wvB b b' ∧ b' 414 602 0 = b 414 602 0 ∧ b' 415 602 0 = vu1 w N ∧ b' 416 602 0 = vu2 w N := by
    intro s hs
    have hs2 : 0 ≤ s ∧ s ≤ 12 * N := by rw [hs]; unfold vu1; rw [if_neg (by omega)]; (repeat' split) <;> omega
    have H5 : Hp (fi_upd b 415 602 0 s) := Hp.uJ H 0 (by decide) (by decide) (by omega)
    have F5 : Fr wvB b (fi_upd b 415 602 0 s) := Fr.u 0 _ (Fr.rf _ _) (by decide) (by decide)
    have fin2 : ∀ t : Int, t = vu2 w N → 0 ≤ t ∧ t ≤ N → ∃ b', c_513_230 d 602 t (fi_upd b 415 602 0 s) = some (.inl none, b') ∧ Hp b' ∧ Fr wvB b b' ∧ b' 414 602 0 = b 414 602 0 ∧ b' 415 602 0 = vu1 w N ∧ b' 416 602 0 = vu2 w N := by
      intro t ht ht2
      refine ⟨_, by rw [e_513_230 _ _ _ H5.1, tn, s0_602 H5.1, if_pos rfl, if_pos (by decide), lt_eq], Hp.uJ H5 0 (by decide) (by decide) (by omega), Fr.u 0 _ F5 (by decide) (by decide), ?_, ?_, ?_⟩
      · rw [fi_upd_ne _ _ _ _ _ (by omega), fi_upd_ne _ _ _ _ _ (by omega)]
      · rw [fi_upd_ne _ _ _ _ _ (by omega), fi_upd_same]; exact hs
      · rw [fi_upd_same]; exact ht
    rw [e_513_214 _ _ _ _ _ H.1, tn, s0_602 H.1, if_pos rfl, if_pos (by decide), lt_eq]
    by_cases w2 : w = 2
    · rw [if_pos (by omega)]; exact fin2 _ (by unfold vu2; rw [if_neg (by omega), if_pos w2]) (by omega)
    · rw [if_neg (by omega)]; exact fin2 _ (by unfold vu2; rw [if_neg (by omega), if_neg w2]) (by omega)
  by_cases w2 : w = 2
  · rw [if_pos (by omega)]; exact fin _ (by unfold vu1; rw [if_neg (by omega), if_pos w2])
  · rw [if_neg (by omega)]
    by_cases w4 : w = 4
    · rw [if_neg (by omega), wJ_id (by omega) (by omega)]; exact fin _ (by unfold vu1; rw [if_neg (by omega), if_neg w2, if_pos w4])
    · rw [if_pos (by omega)]; exact fin _ (by unfold vu1; rw [if_neg (by omega), if_neg w2, if_neg w4])
/-- what reading a value gives -/
abbrev VlP (u : Nat → Int) (n M i : Nat) (a b : fi_H) : Int → fi_H → Int → fi_H → Prop := fun _ a' _ b' => (∃ j, i < j ∧ PS u n M j a' b') ∧ VE a b a' b' ∧ b' 427 602 0 = b 427 602 0 ∧ Val a' b' ∧ (b' 414 602 0 = 1 ∨ b' 414 602 0 = 3 ∨ b' 414 602 0 = 5) ∧ 0 ≤ b' 415 602 0 ∧ (tk u n i = 3 ∧ b' 414 602 0 = 3 → b' 417 602 0 = (tok u n (pl u n i)).2.2 ∧ b' 415 602 0 = vu1 1 (tok u n (pl u n i)).2.2 ∧ b' 416 602 0 = vu2 1 (tok u n (pl u n i)).2.2 ∧ (tok u n (pl u n i)).2.2 ≤ 10000) ∧ 0 ≤ b' 416 602 0
theorem vu1_nn {w N : Int} (h0 : 0 ≤ N) : 0 ≤ vu1 w N := by
  obtain ⟨g1, -⟩ := gcd100 h0
  unfold vu1
  split
  · exact Int.ediv_nonneg h0 (by omega)
  · (repeat' split) <;> omega
theorem vu2_nn {w N : Int} (h0 : 0 ≤ N) : 0 ≤ vu2 w N := by
  obtain ⟨g1, -⟩ := gcd100 h0
  unfold vu2
  split
  · exact Int.ediv_nonneg (by decide) (by omega)
  · (repeat' split) <;> omega
theorem kdu_rg {w : Int} (h : 0 ≤ w ∧ w ≤ 4) : 0 ≤ kdu w ∧ kdu w ≤ 7 := by unfold kdu; (repeat' split) <;> omega
theorem t_figure (q : PS u n M i a b) (hA : 8 ≤ dA) (hB : 14 ≤ dB) (hk : tk u n i = 3) :
    Bo 304 9 9 (fj_run dA 192 a [(4, 377)]) (fj_run dB 513 b [(4, 602)]) (VlP u n M i a b) (WrV a b) := by
  obtain ⟨d, rfl⟩ : ∃ e, dA = e + 1 := ⟨dA - 1, by omega⟩
  obtain ⟨e, rfl⟩ : ∃ e, dB = e + 1 := ⟨dB - 1, by omega⟩
  obtain ⟨n1, n2⟩ := tok_num (u := u) (n := n) (i := i) q.2.1.2.2.2.2.1 hk
  have hp := q.ple
  have hi2 := q.2.2.2.2.1
  have rN := q.row.1.2.1 hk
  have bN := (q.tb.2.2.2.2.2.1 hk).2
  have b396 := q.tb.1
  have tn : ((602 : Int)).toNat = 602 := rfl
  have vt : fi_vt 348 129 = some 500 := rfl
  unfold VlP
  generalize (tok u n (pl u n i)).2.2 = N at *
  rw [m_192 d q.ha.1, m_513 e q.hb.1, q.at]
  by_cases hi : i = 1200
  · obtain ⟨b', Hb, e1, W⟩ := t_last q (dB := e) (by omega) ⟨by omega, by omega⟩ hi
    rw [if_pos (by omega), kA_thr q (by omega) (by omega), e1, cv_thr, tx_603 Hb]
    exact Bo.thr (wra_hp q.ha (by omega) (by omega)) Hb (WrV.of (VE.rf _ _) W)
  · have hj := q.nx ⟨by omega, by omega⟩ hi
    obtain ⟨a1, b1, e1, e2, P1, T1, c1⟩ := t_step q (dA := d) (dB := e) (by omega) (by omega) ⟨by omega, by omega⟩ hi
    rw [if_neg (by omega), kA_unit q hj (by omega), ca_ret, e2, cv_ret, lt_eq, lt_eq, lt_eq, bN, b396]
    have HB4 : Hp (fi_upd (fi_upd (fi_upd b1 414 602 0 1) 415 602 0 N) 416 602 0 0) := Hp.uJ (Hp.uJ (Hp.uI P1.hb 0 (by decide) (by decide) (by omega)) 0 (by decide) (by decide) (by omega)) 0 (by decide) (by decide) (by omega)
    have F4 : Fr wvB b1 (fi_upd (fi_upd (fi_upd b1 414 602 0 1) 415 602 0 N) 416 602 0 0) := Fr.u 0 _ (Fr.u 0 _ (Fr.u 0 _ (Fr.rf _ _) (by decide) (by decide)) (by decide) (by decide)) (by decide) (by decide)
    have v414 : fi_upd (fi_upd (fi_upd b1 414 602 0 1) 415 602 0 N) 416 602 0 0 414 602 0 = 1 := by simp [fi_upd]
    have v415 : fi_upd (fi_upd (fi_upd b1 414 602 0 1) 415 602 0 N) 416 602 0 0 415 602 0 = N := by simp [fi_upd]
    have v416 : fi_upd (fi_upd (fi_upd b1 414 602 0 1) 415 602 0 N) 416 602 0 0 416 602 0 = 0 := by simp [fi_upd]
    generalize fi_upd (fi_upd (fi_upd b1 414 602 0 1) 415 602 0 N) 416 602 0 0 = b4 at *
    obtain ⟨P4, c4⟩ := P1.vl P1.ha HB4 (Fr.rf _ _) F4
    have V4 : VE a b a1 b4 := (T1.v).tr (VE.w (Fr.rf _ _) F4)
    rw [t_isSignB P4 (by omega) 37, ca_ret, ite0]
    have A68 : ∀ w lim : Int, 0 ≤ lim → lim ≤ 999999999 → c_192_68 d w lim a = if lim < N then some (.inr 304, wra a 3 (pl u n i)) else if w = 0 then c_192_106 d w N a1 else cv_ (fj_run d 166 a1 [(4, 377)]) (fun h8 => c_192_106 d w N h8) (fun q h => tx_ q h) := by
      intro w lim l0 l1
      have l : 0 < lc_ N lim ↔ lim < N := by rw [lc_gt, wJ_id (by omega) (by omega), wJ_id (by omega) (by omega)]
      rw [e_192_68 d w lim q.ha.1, q.at, if_pos (by omega), Int.toNat_natCast, rN, wI_id (by omega) (by omega), kA_thr q (by omega) (by omega), e1, cv_ret]
      by_cases z : lim < N
      · rw [if_pos (l.mpr z), if_pos z]
      · rw [if_neg (fun y => z (l.mp y)), if_neg z]
    have thr : ∀ (P : Int → fi_H → Int → fi_H → Prop), Bo 304 9 9 (some (.inr 304, wra a 3 (pl u n i))) (some (.inr 603, wrb b4 3 (pl u n i))) P (WrV a b) := fun P => Bo.thr (wra_hp q.ha (by omega) (by omega)) (wrb_hp HB4 (by omega) (by omega)) ⟨wr_wr _ _, (wra_fr _ _).mono (fun _ _ _ y => Or.inl y), V4.2.tr ((wrb_fr _ _).mono (fun _ _ _ y => Or.inl y))⟩
    by_cases z1 : tk u n (i + 1) = 6 ∧ (tok u n (pl u n (i + 1))).2.2 = 37
    · have hu : unt u n (i + 1) = 1 := by unfold unt; rw [if_pos z1]
      have z1b : tk u n (i + 1) = 6 ∧ bsg (tok u n (pl u n (i + 1))).2.2 = 37 := ⟨z1.1, by rw [z1.2]; rfl⟩
      have l : 0 < lc_ N 10000 ↔ 10000 < N := by rw [lc_gt, wJ_id (by omega) (by omega), wJ_id (by omega) (by omega)]
      rw [hu, if_pos rfl, A68 1 10000 (by omega) (by omega), if_pos z1b]
      by_cases z : 10000 < N
      · rw [if_pos z, if_pos (l.mpr z), e_513_52 e _ _ _ _ HB4.1, tn, s0_602 HB4.1, vt, dv_s, kB_need0 HB4 (by omega) (by omega) (by omega), cv_thr, tx_603 (wrb_hp HB4 (by omega) (by omega))]
        exact thr _
      · rw [if_neg z, if_neg (by decide), if_neg (fun y => z (l.mp y)), e_513_52 e _ _ _ _ HB4.1, tn, s0_602 HB4.1, vt, dv_s, kB_need1 HB4 (by omega) (by decide), cv_ret]
        refine Bo.cvcv (t_take P4 (by omega) (by omega) ⟨by omega, by omega⟩) (fun x a2 y b2 HA HB r => ?_) (fun a' b' HA HB r => Bo.tx HA HB (WrV.of V4 r))
        obtain ⟨a3, ea, Ha3, Fa3, x1, x2, x3⟩ := kA_106 (d := d) HA (w := 1) (by omega) (by omega) n1 n2
        obtain ⟨g1, g2, g3, g4⟩ := gcd100 n1
        have q1 : 0 ≤ N / (Int.gcd N 100 : Int) := Int.ediv_nonneg n1 (by omega)
        have q2 : N / (Int.gcd N 100 : Int) ≤ N := Int.ediv_le_self _ n1
        have q3 : 0 ≤ 100 / (Int.gcd N 100 : Int) := Int.ediv_nonneg (by decide) (by omega)
        have q4 : 100 / (Int.gcd N 100 : Int) ≤ 100 := Int.ediv_le_self _ (by decide)
        have G2 : Hp (fi_upd (fi_upd b2 414 602 0 3) 417 602 0 N) := Hp.uJ (Hp.uI HB 0 (by decide) (by decide) (by omega)) 0 (by decide) (by decide) (by omega)
        have G3 : Hp (fi_upd (fi_upd (fi_upd b2 414 602 0 3) 417 602 0 N) 415 602 0 (N / (Int.gcd N 100 : Int))) := Hp.uJ G2 0 (by decide) (by decide) (by omega)
        have G4 : Hp (fi_upd (fi_upd (fi_upd (fi_upd b2 414 602 0 3) 417 602 0 N) 415 602 0 (N / (Int.gcd N 100 : Int))) 416 602 0 (100 / (Int.gcd N 100 : Int))) := Hp.uJ G3 0 (by decide) (by decide) (by omega)
        have K4 : Fr wvB b2 (fi_upd (fi_upd (fi_upd (fi_upd b2 414 602 0 3) 417 602 0 N) 415 602 0 (N / (Int.gcd N 100 : Int))) 416 602 0 (100 / (Int.gcd N 100 : Int))) := Fr.u 0 _ (Fr.u 0 _ (Fr.u 0 _ (Fr.u 0 _ (Fr.rf _ _) (by decide) (by decide)) (by decide) (by decide)) (by decide) (by decide)) (by decide) (by decide)
        obtain ⟨e, rfl⟩ : ∃ k, e = k + 1 := ⟨e - 1, by omega⟩
        rw [ea, lt_eq, lt_eq, kB_gcd e G2 (by omega) (by decide), ca_ret, if_neg (by omega), lt_eq, if_neg (by omega), lt_eq, lq_nn (by omega) (by omega) (by omega) (by omega), lq_nn (by omega) (by omega) (by omega) (by omega)]
        obtain ⟨P6, c6⟩ := r.1.vl Ha3 G4 Fa3 K4
        have y414 : fi_upd (fi_upd (fi_upd (fi_upd b2 414 602 0 3) 417 602 0 N) 415 602 0 (N / (Int.gcd N 100 : Int))) 416 602 0 (100 / (Int.gcd N 100 : Int)) 414 602 0 = 3 := by simp [fi_upd]
        have y415 : fi_upd (fi_upd (fi_upd (fi_upd b2 414 602 0 3) 417 602 0 N) 415 602 0 (N / (Int.gcd N 100 : Int))) 416 602 0 (100 / (Int.gcd N 100 : Int)) 415 602 0 = vu1 1 N := by simp [fi_upd, vu1]
        have y416 : fi_upd (fi_upd (fi_upd (fi_upd b2 414 602 0 3) 417 602 0 N) 415 602 0 (N / (Int.gcd N 100 : Int))) 416 602 0 (100 / (Int.gcd N 100 : Int)) 416 602 0 = vu2 1 N := by simp [fi_upd, vu2]
        have y417 : fi_upd (fi_upd (fi_upd (fi_upd b2 414 602 0 3) 417 602 0 N) 415 602 0 (N / (Int.gcd N 100 : Int))) 416 602 0 (100 / (Int.gcd N 100 : Int)) 417 602 0 = N := by simp [fi_upd]
        refine Bo.vv Ha3 G4 ⟨⟨i + 1 + 1, by omega, P6⟩, (V4.tr r.2.1.v).tr (VE.w Fa3 K4), by rw [c6, r.2.2, c4, c1], ⟨by rw [x1, y414]; rfl, by rw [x2, y415], by rw [x3, y416], by rw [y414]; omega, ?_⟩, Or.inr (Or.inl y414), by rw [y415]; exact vu1_nn n1, fun _ => ⟨y417, y415, y416, by omega⟩, by rw [y416]; exact vu2_nn n1⟩
        rw [y414, y415, y416]
        exact vu_ok (w := 1) (by omega) n1 (by rw [if_pos rfl]; omega)
    · have z1b : ¬ (tk u n (i + 1) = 6 ∧ bsg (tok u n (pl u n (i + 1))).2.2 = 37) := fun w => z1 ⟨w.1, (bsg_iff (by decide) (by decide) (by decide) (by have := tok_sg (u := u) (n := n) (i + 1) w.1; omega)).mp w.2⟩
      rw [if_neg z1b]
      have sB := t_sortB P4
      have tr := tk_rg (u := u) (n := n) (i + 1)
      by_cases zw : tk u n (i + 1) = 2 ∧ (15 ≤ kw u n (i + 1) ∧ kw u n (i + 1) ≤ 17)
      · rw [if_neg (by omega), if_neg (by omega), if_pos zw.1, if_neg (by omega)] at sB
        have b395 : b4 395 602 0 = kw u n (i + 1) := (P4.tb.2.2.2.2.1 zw.1).1
        have hu : unt u n (i + 1) = kw u n (i + 1) - 13 := by
          unfold unt
          rw [if_neg z1]
          by_cases y : kw u n (i + 1) = 15
          · rw [if_pos ⟨zw.1, y⟩]; omega
          · rw [if_neg (fun w => y w.2)]
            by_cases y2 : kw u n (i + 1) = 16
            · rw [if_pos ⟨zw.1, y2⟩]; omega
            · rw [if_neg (fun w => y2 w.2), if_pos ⟨zw.1, by omega⟩]; omega
        have hkr := zw.2
        generalize kw u n (i + 1) = k at *
        obtain ⟨lim, hl⟩ : ∃ lim : Int, lim = if k = 15 then 65535 else if k = 16 then 2400 else 200 := ⟨_, rfl⟩
        have hlr : 0 ≤ lim ∧ lim ≤ 65535 := by rw [hl]; (repeat' split) <;> omega
        have eA : (if unt u n (i + 1) = 1 then c_192_68 d (unt u n (i + 1)) 10000 a else if unt u n (i + 1) = 2 then c_192_68 d (unt u n (i + 1)) 65535 a else if unt u n (i + 1) = 3 then c_192_68 d (unt u n (i + 1)) 2400 a else if unt u n (i + 1) = 4 then c_192_68 d (unt u n (i + 1)) 200 a else c_192_68 d (unt u n (i + 1)) 999999999 a) = c_192_68 d (k - 13) lim a := by
          rw [hu, hl]
          have : k = 15 ∨ k = 16 ∨ k = 17 := by omega
          rcases this with rfl | rfl | rfl
          · rw [if_neg (by decide), if_pos (by decide), if_pos rfl]
          · rw [if_neg (by decide), if_neg (by decide), if_pos (by decide), if_neg (by decide), if_pos rfl]
          · rw [if_neg (by decide), if_neg (by decide), if_neg (by decide), if_pos (by decide), if_neg (by decide), if_neg (by decide)]
        have l : 0 < lc_ N lim ↔ lim < N := by rw [lc_gt, wJ_id (by omega) (by omega), wJ_id (by omega) (by omega)]
        have eB : (if k = 15 then c_513_163 e (pl u n i) N k 602 N 65535 b4 else if k = 16 then c_513_163 e (pl u n i) N k 602 N 2400 b4 else c_513_163 e (pl u n i) N k 602 N 200 b4) = if lim < N then c_513_172 e (pl u n i) N k 602 0 b4 else c_513_172 e (pl u n i) N k 602 1 b4 := by
          have : (if k = 15 then c_513_163 e (pl u n i) N k 602 N 65535 b4 else if k = 16 then c_513_163 e (pl u n i) N k 602 N 2400 b4 else c_513_163 e (pl u n i) N k 602 N 200 b4) = c_513_163 e (pl u n i) N k 602 N lim b4 := by
            rw [hl]; (repeat' split) <;> rfl
          rw [this, e_513_163 e _ _ _ _ _ _ HB4.1]
          by_cases z : lim < N
          · rw [if_pos (l.mpr z), if_pos z]
          · rw [if_neg (fun y => z (l.mp y)), if_neg z]
        obtain ⟨e, rfl⟩ : ∃ k, e = k + 1 := ⟨e - 1, by omega⟩
        rw [eA, A68 _ lim (by omega) (by omega), if_pos sB, b395, wI_id (by omega) (by omega), kB_in e HB4.1 (by omega) (by omega) (by omega), ca_ret, if_pos (by omega : (15 : Int) ≤ k ∧ k ≤ 17), if_neg (by decide : ¬ ((1 : Int) = 0)), b395, eB]
        by_cases z : lim < N
        · rw [if_pos z, if_pos z, e_513_172 (e + 1) _ _ _ _ _ HB4.1, tn, s0_602 HB4.1, vt, dv_s, kB_need0 HB4 (by omega) (by omega) (by omega), cv_thr, tx_603 (wrb_hp HB4 (by omega) (by omega))]
          exact thr _
        · rw [if_neg z, if_neg (by omega), if_neg z, e_513_172 (e + 1) _ _ _ _ _ HB4.1, tn, s0_602 HB4.1, vt, dv_s, kB_need1 HB4 (by omega) (by decide), cv_ret]
          refine Bo.cvcv (t_take P4 (by omega) (by omega) ⟨by omega, by omega⟩) (fun x a2 y b2 HA HB r => ?_) (fun a' b' HA HB r => Bo.tx HA HB (WrV.of V4 r))
          obtain ⟨a3, ea, Ha3, Fa3, x1, x2, x3⟩ := kA_106 (d := d) HA (w := k - 13) (by omega) (by omega) n1 n2
          have G2 : Hp (fi_upd b2 414 602 0 5) := Hp.uI HB 0 (by decide) (by decide) (by omega)
          have K2 : Fr wvB b2 (fi_upd b2 414 602 0 5) := Fr.u 0 _ (Fr.rf _ _) (by decide) (by decide)
          obtain ⟨b5, eb, G5, K5, y1, y2, y3⟩ := kB_214 (d := e + 1) G2 (w := k - 13) (by omega) n1 n2
          rw [show 13 + (k - 13) = k by omega] at eb
          rw [ea, lt_eq, eb]
          obtain ⟨P6, c6⟩ := r.1.vl Ha3 G5 Fa3 (K2.tr K5)
          have y414 : b5 414 602 0 = 5 := by rw [y1]; exact fi_upd_same _ _ _ _ _
          have kd : kdu (k - 13) = 5 := by unfold kdu; rw [if_neg (by omega), if_neg (by omega)]
          refine Bo.vv Ha3 G5 ⟨⟨i + 1 + 1, by omega, P6⟩, (V4.tr r.2.1.v).tr (VE.w Fa3 (K2.tr K5)), by rw [c6, r.2.2, c4, c1], ⟨by rw [x1, y414, kd], by rw [x2, y2], by rw [x3, y3], by rw [y414]; omega, ?_⟩, Or.inr (Or.inr y414), by rw [y2]; exact vu1_nn n1, fun y => by omega, by rw [y3]; exact vu2_nn n1⟩
          have := vu_ok (w := k - 13) (N := N) (by omega) n1 (by
            rw [hl] at z
            have : k = 15 ∨ k = 16 ∨ k = 17 := by omega
            rcases this with rfl | rfl | rfl
            · rw [if_pos rfl] at z; rw [if_neg (by decide), if_pos (by decide)]; omega
            · rw [if_neg (by decide), if_pos rfl] at z; rw [if_neg (by decide), if_neg (by decide), if_pos (by decide)]; omega
            · rw [if_neg (by decide), if_neg (by decide)] at z; rw [if_neg (by decide), if_neg (by decide), if_neg (by decide), if_pos (by decide)]; omega)
          rw [kd] at this
          rw [y414, y2, y3]; exact this
      · have hu : unt u n (i + 1) = 0 := by
          unfold unt
          rw [if_neg z1, if_neg (fun w => zw ⟨w.1, by omega⟩), if_neg (fun w => zw ⟨w.1, by omega⟩), if_neg (fun w => zw ⟨w.1, by omega⟩)]
        have eB : (if b4 394 602 0 = 2 then ca_ (fj_run e 508 b4 [(1, wI (b4 395 602 0)), (1, 15), (1, 17)]) 0 (fun v11 h10 => if v11 = 0 then (some (.inl none, h10) : fk_R) else if h10 395 602 0 = 15 then c_513_163 e (pl u n i) N (h10 395 602 0) 602 N 65535 h10 else if h10 395 602 0 = 16 then c_513_163 e (pl u n i) N (h10 395 602 0) 602 N 2400 h10 else c_513_163 e (pl u n i) N (h10 395 602 0) 602 N 200 h10) (fun q12 h10 => tx_ q12 h10) else some (.inl none, b4)) = some (.inl none, b4) := by
          by_cases y : b4 394 602 0 = 2
          · have t2 : tk u n (i + 1) = 2 := by
              by_cases t2 : tk u n (i + 1) = 2
              · exact t2
              · rw [if_neg t2] at sB; (repeat' split at sB) <;> omega
            have b395 : b4 395 602 0 = kw u n (i + 1) := (P4.tb.2.2.2.2.1 t2).1
            have r395 := rI HB4 (f := 395) rfl 602 0
            obtain ⟨e, rfl⟩ : ∃ k, e = k + 1 := ⟨e - 1, by omega⟩
            rw [if_pos y, b395, wI_id (by omega) (by omega), kB_in e HB4.1 (by omega) (by omega) (by omega), ca_ret, if_neg (fun w => zw ⟨t2, w⟩), if_pos rfl]
          · rw [if_neg y]
        rw [eB, hu, if_neg (by decide), if_neg (by decide), if_neg (by decide), if_neg (by decide), A68 0 999999999 (by omega) (by omega), if_neg (by omega), if_pos rfl]
        obtain ⟨a3, ea, Ha3, Fa3, x1, x2, x3⟩ := kA_106 (d := d) P4.ha (w := 0) (by omega) (by omega) n1 n2
        obtain ⟨P6, c6⟩ := P4.vl Ha3 HB4 Fa3 (Fr.rf _ _)
        rw [ea]
        refine Bo.vv Ha3 HB4 ⟨⟨i + 1, by omega, P6⟩, V4.tr (VE.w Fa3 (Fr.rf _ _)), by rw [c4, c1], ⟨by rw [x1, v414]; rfl, by rw [x2, v415]; rfl, by rw [x3, v416]; rfl, by rw [v414]; omega, ?_⟩, Or.inl v414, by rw [v415]; exact n1, fun y => by omega, by rw [v416]; decide⟩
        have := vu_ok (w := 0) (N := N) (by omega) n1 (by simpa using n2)
        rw [v414, v415, v416]; exact this
end FIG
end

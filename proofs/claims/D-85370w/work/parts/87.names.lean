section
/-! the call names() -/
set_option maxRecDepth 100000
/-- the fault of the latest text, as both tell it -/
def FltR (a b : fi_H) : Prop := a 267 303 0 = b 402 602 0 ∧ a 268 303 0 = b 403 602 0
/-- what reading a text writes besides what it brings -/
def WTXa (f x : Nat) : Bool := decide ((x = 303 ∧ (f = 266 ∨ f = 267 ∨ f = 268)) ∨ x = 304 ∨ (377 ≤ x ∧ x ≤ 398) ∨ f = 319 ∨ f = 320)
def WTXb (f x : Nat) : Bool := decide (x = 602 ∧ ((392 ≤ f ∧ f ≤ 403) ∨ (414 ≤ f ∧ f ≤ 417) ∨ f = 427))
def WNMa (f x : Nat) : Bool := decide (WTXa f x = true ∨ (x = 303 ∧ f = 215) ∨ (f = 12 ∧ x = 320))
def WNMb (f x : Nat) : Bool := decide (WTXb f x = true ∨ (x = 602 ∧ f = 413) ∨ (608 ≤ x ∧ x ≤ 616))
section KNAMES
variable {a b : fi_H} {n m : Nat} {dA dB : Nat}
theorem PS.flt {u : Nat → Int} {n M i : Nat} (q : PS u n M i a b) : b 402 602 0 = 0 ∧ b 403 602 0 = -1 := q.2.2.2.2.2.2.2.2.2.2
theorem PS.bd {u : Nat → Int} {n M i : Nat} (q : PS u n M i a b) : ∃ k c, Bd a k c := q.2.2.1.2.2.2.2.2
theorem Bd.v {k : Nat} {c : Nat → Int} (B : Bd a k c) : 714 < a 145 384 0 ∨ a 145 384 0 = 385 := by
  have := B.2.1
  omega
/-- both begin: frames -/
theorem begin_fa {a' : fi_H} {k : Nat} {c : Nat → Int} (B : Bd a k c) (F : FrL (fun f x i => wrst f x i ∨ wbeg f x i) a a') : FA WTXa a a' := by
  refine FA.ofL F (fun f => by simp [WTXa]) (fun f x i q r => ?_) ?_
  · have e : cx x = x := by unfold cx; rw [if_pos (by omega)]
    rw [e]
    simp only [WTXa, decide_eq_true_eq]
    omega
  · rcases B.v with z | z
    · exact Or.inl z
    · exact Or.inr ⟨z, by simp [WTXa]⟩
theorem begin_fb {b' : fi_H} (H : Hp b) (F : Fr wrsm b b') : FB WTXb b b' := FB.of H F (fun f x i q _ _ => by simp only [WTXb, decide_eq_true_eq]; omega)
theorem k_noted (H : Hp a) {d : Nat} {x y : Int} (hx : -2147483648 ≤ x ∧ x < 2147483648) (hy : -2147483648 ≤ y ∧ y < 2147483648) : fj_run (d + 1) 196 a [(4, 303), (0, x), (0, y)] = some (.inl none, fi_upd (fi_upd a 267 303 0 x) 268 303 0 y) ∧ Hp (fi_upd (fi_upd a 267 303 0 x) 268 303 0 y) ∧ FA WTXa a (fi_upd (fi_upd a 267 303 0 x) 268 303 0 y) := by
  refine ⟨by rw [m_196 d x y H.1, lt_eq, lt_eq], Hp.uI (Hp.uI H 0 (by decide) (by decide) hx) 0 (by decide) (by decide) hy, ?_⟩
  refine FA.ofF (P := fun f x _ => x = 303 ∧ (f = 267 ∨ f = 268)) H (Fr.u 0 _ (Fr.u 0 _ (Fr.rf _ _) (by decide) ⟨rfl, Or.inl rfl⟩) (by decide) ⟨rfl, Or.inr rfl⟩) (by omega) (fun f x i q r => ?_)
  have e : cx x = x := by unfold cx; rw [if_pos (by omega)]
  rw [e]
  simp only [WTXa, decide_eq_true_eq]
  omega
theorem NE.fa {a' b' : fi_H} (HA : Hp a) (HB : Hp b) (V : NE m a b a' b') : FA WNMa a a' ∧ FB WNMb b b' := by
  refine ⟨FA.ofF HA V.1 (by simp only [wNA, wVA, wTA, wvA]; omega) (fun f x i q r => ?_), FB.of HB V.2 (fun f x i q h1 h2 => ?_)⟩
  · simp only [wNA, wVA, wTA, wvA] at q
    simp only [WNMa, WTXa, decide_eq_true_eq]
    unfold cx
    split <;> omega
  · simp only [wNB, wVB, wTB, wvB] at q
    simp only [WNMb, WTXb, decide_eq_true_eq]
    omega
theorem WTXa_n {f x : Nat} (h : WTXa f x = true) : WNMa f x = true := by simp only [WNMa, decide_eq_true_eq]; exact Or.inl h
theorem WTXb_n {f x : Nat} (h : WTXb f x = true) : WNMb f x = true := by simp only [WNMb, decide_eq_true_eq]; exact Or.inl h
theorem k_names (HA : Hp a) (HB : Hp b) (T : Tape a b n) (BD : ∃ k c, Bd a k c) (N : NmR a b m) (hm : a 215 303 0 = (m : Int)) (hm2 : b 413 602 0 = (m : Int)) (hA : 20 ≤ dA) (hB : 24 ≤ dB) :
    Bo 304 0 0 (fj_run dA 110 a [(4, 303)]) (fj_run dB 485 b [(4, 602)]) (fun x a' y b' => x = y ∧ (∃ m' : Nat, NmR a' b' m' ∧ a' 215 303 0 = (m' : Int) ∧ b' 413 602 0 = (m' : Int)) ∧ Tape a' b' 0 ∧ (∃ k c, Bd a' k c) ∧ FltR a' b' ∧ FA WNMa a a' ∧ FB WNMb b b') (fun _ _ => False) := by
  obtain ⟨d, rfl⟩ : ∃ e, dA = e + 18 := ⟨dA - 18, by omega⟩
  obtain ⟨e, rfl⟩ : ∃ e, dB = e + 23 := ⟨dB - 23, by omega⟩
  obtain ⟨kb, cb, B⟩ := BD
  have hm40 := N.1
  obtain ⟨a1, b1, M, e1, e2, P1, F1, G1, z266, z160, y392, y427, y402, y403, z5⟩ := t_begin HA HB T B (dA := d + 17) (dB := e + 22) (by omega) (by omega)
  have FA1 := begin_fa B F1
  have FB1 := begin_fb HB G1
  have N1 : NmR a1 b1 m := N.fa HA FA1 FB1 (by decide) (by decide)
  have c215 : a1 215 303 0 = (m : Int) := by rw [FA1.g HA 0 (by decide) (by decide)]; exact hm
  have c413 : b1 413 602 0 = (m : Int) := by rw [FB1 413 602 0 (by decide) (by decide) (by decide)]; exact hm2
  have ta := P1.ha.1.2.2.1
  have tb := P1.hb.1.2.2.1
  rw [m_110 (d + 17) HA.1, e1, cv_ret, m_485 (e + 22) HB.1, e2, cv_ret, m_160 (d + 16) P1.ha.1, m_498 (e + 21) P1.hb.1]
  refine Bo.cvcv (t_names (g := (m : Int)) (f := 0) ta (by omega) (by omega) 1201 0 m a1 b1 (by omega) ⟨P1, N1, ⟨by omega, by omega⟩, c413, by omega⟩ NE.rf (Nat.le_refl _) c215 y427) (fun _ a2 _ b2 HA2 HB2 w => ?_) (fun a2 b2 HA2 HB2 w => ?_)
  · obtain ⟨j, m', hm', ⟨P2, N2, ⟨k1, k2⟩, k3, k4⟩, V2, g2, f2, -⟩ := w
    have hm40' := N2.1
    obtain ⟨W2a, W2b⟩ := V2.fa P1.ha P1.hb
    obtain ⟨q1, q2, q3⟩ := k_noted HA2 (d := d + 16) (x := 0) (y := -1) (by omega) (by omega)
    have x160 : fi_upd (fi_upd a2 267 303 0 0) 268 303 0 (-1) 160 377 0 = a2 160 377 0 := by rw [fi_upd_ne _ _ _ _ _ (by omega), fi_upd_ne _ _ _ _ _ (by omega)]
    have x215 : fi_upd (fi_upd a2 267 303 0 0) 268 303 0 (-1) 215 303 0 = a2 215 303 0 := by rw [fi_upd_ne _ _ _ _ _ (by omega), fi_upd_ne _ _ _ _ _ (by omega)]
    have x267 : fi_upd (fi_upd a2 267 303 0 0) 268 303 0 (-1) 267 303 0 = 0 := by rw [fi_upd_ne _ _ _ _ _ (by omega), fi_upd_same]
    have x268 : fi_upd (fi_upd a2 267 303 0 0) 268 303 0 (-1) 268 303 0 = -1 := fi_upd_same _ _ _ _ _
    have xB : ∀ f, f < 267 → ∀ x i : Nat, fi_upd (fi_upd a2 267 303 0 0) 268 303 0 (-1) f x i = a2 f x i := fun f hf x i => by rw [fi_upd_ne _ _ _ _ _ (by omega), fi_upd_ne _ _ _ _ _ (by omega)]
    rw [q1, cv_ret, x215, x160, wI_id (by omega) (by omega), lt_eq, wI_id (by omega) (by omega)]
    generalize hq : fi_upd (fi_upd a2 267 303 0 0) 268 303 0 (-1) = a3 at *
    have H4 : Hp (fi_upd a3 215 303 0 (a2 215 303 0 + a2 160 377 0)) := Hp.uI q2 0 (by decide) (by decide) (by omega)
    have F4 : FA WNMa a3 (fi_upd a3 215 303 0 (a2 215 303 0 + a2 160 377 0)) := by
      refine FA.ofF (P := fun f x _ => x = 303 ∧ f = 215) q2 (Fr.u 0 _ (Fr.rf _ _) (by decide) ⟨rfl, rfl⟩) (by omega) (fun f x i q r => ?_)
      rw [q.1, q.2]; decide
    have F4' : FA (fun f x => decide (x = 303 ∧ f = 215)) a3 (fi_upd a3 215 303 0 (a2 215 303 0 + a2 160 377 0)) := by
      refine FA.ofF (P := fun f x _ => x = 303 ∧ f = 215) q2 (Fr.u 0 _ (Fr.rf _ _) (by decide) ⟨rfl, rfl⟩) (by omega) (fun f x i q r => ?_)
      rw [q.1, q.2]; decide
    have y1 : fi_upd a3 215 303 0 (a2 215 303 0 + a2 160 377 0) 215 303 0 = a2 215 303 0 + a2 160 377 0 := fi_upd_same _ _ _ _ _
    have y2 : ∀ f, f ≠ 215 → ∀ x i : Nat, fi_upd a3 215 303 0 (a2 215 303 0 + a2 160 377 0) f x i = a3 f x i := fun f hf x i => fi_upd_ne _ _ _ _ _ (by omega)
    generalize fi_upd a3 215 303 0 (a2 215 303 0 + a2 160 377 0) = a4 at *
    have N3 : NmR a3 b2 m' := N2.fa HA2 q3 (FB.rf (fun _ _ => false) _) (by decide) (by decide)
    have N4 : NmR a4 b2 m' := N3.fa q2 F4' (FB.rf (fun _ _ => false) _) (by decide) (by decide)
    have v160 : a4 160 377 0 = a2 160 377 0 := by rw [y2 160 (by decide)]; exact x160
    obtain ⟨kk, cc, B2⟩ := P2.bd
    have B4 : Bd a4 kk cc := by
      have e : ∀ f, f < 267 → f ≠ 215 → ∀ x i : Nat, a4 f x i = a2 f x i := fun f h1 h2 x i => by rw [y2 f h2, xB f h1]
      unfold Bd at B2 ⊢
      simpa only [e 145 (by decide) (by decide), e 146 (by decide) (by decide), e 148 (by decide) (by decide), e 0 (by decide) (by decide), e 1 (by decide) (by decide), e 2 (by decide) (by decide), e 8 (by decide) (by decide)] using B2
    have t266 : a4 266 303 0 = 0 := by
      rw [y2 266 (by decide), xB 266 (by decide)]
      rw [V2.1.2 266 303 0 (by decide) (by omega) (by simp only [wNA, wVA, wTA, wvA]; omega)]; exact z266
    have t392 : b2 392 602 0 = 0 := by
      rw [V2.2.2 392 602 0 (by decide) (by omega) (by simp only [wNB, wVB, wTB, wvB]; omega)]; exact y392
    refine Bo.ret (by decide) (by decide) H4 HB2 ⟨?_, ⟨m', N4, by rw [y1]; omega, k3⟩, ⟨t266, t392, by omega, fun k hk => by omega⟩, ⟨kk, cc, B4⟩, ⟨?_, ?_⟩, ((FA1.mono (fun _ _ => WTXa_n)).tr W2a).tr ((q3.mono (fun _ _ => WTXa_n)).tr F4), (FB1.mono (fun _ _ => WTXb_n)).tr W2b⟩
    · rw [v160]; omega
    · rw [y2 267 (by decide), x267, P2.flt.1]
    · rw [y2 268 (by decide), x268, P2.flt.2]
  · obtain ⟨w1, V2⟩ := w
    obtain ⟨W2a, W2b⟩ := V2.fa P1.ha P1.hb
    have N2 : NmR a2 b2 m := V2.names P1.ha P1.hb N1
    obtain ⟨kk, cc, B1⟩ := P1.bd
    have B2 : Bd a2 kk cc := B1.f P1.ha V2.1 (fun f x i x1 x2 f1 f2 => by simp only [wNA, wVA, wTA, wvA]; omega) (fun f x i h1 _ f1 f2 => by simp only [wNA, wVA, wTA, wvA]; omega)
    have r107 := rI HA2 (f := 107) rfl 304 0
    have r108 := rI HA2 (f := 108) rfl 304 0
    have t304 : ((304 : Nat) : Int).toNat = 304 := rfl
    show Bo 304 0 0 (tc_ 128 304 a2 (c_110_17 (d + 17) ((304 : Nat) : Int) a2)) (tc_ 130 603 b2 (c_485_16 (e + 22) (b1 413 602 0) ((603 : Nat) : Int) b2)) _ _
    unfold tc_
    rw [if_pos (s0_304 HA2.1), if_pos (s0_603 HB2.1), e_110_17 _ _ HA2.1, t304, if_pos (s0_304 HA2.1), e_485_16 _ _ _ HB2.1, lt_eq]
    obtain ⟨q1, q2, q3⟩ := k_noted HA2 (d := d + 16) r107 r108
    rw [q1, cv_ret]
    have x267 : fi_upd (fi_upd a2 267 303 0 (a2 107 304 0)) 268 303 0 (a2 108 304 0) 267 303 0 = a2 107 304 0 := by rw [fi_upd_ne _ _ _ _ _ (by omega), fi_upd_same]
    have x268 : fi_upd (fi_upd a2 267 303 0 (a2 107 304 0)) 268 303 0 (a2 108 304 0) 268 303 0 = a2 108 304 0 := fi_upd_same _ _ _ _ _
    have xB : ∀ f, f < 267 → ∀ x i : Nat, fi_upd (fi_upd a2 267 303 0 (a2 107 304 0)) 268 303 0 (a2 108 304 0) f x i = a2 f x i := fun f hf x i => by rw [fi_upd_ne _ _ _ _ _ (by omega), fi_upd_ne _ _ _ _ _ (by omega)]
    generalize fi_upd (fi_upd a2 267 303 0 (a2 107 304 0)) 268 303 0 (a2 108 304 0) = a3 at *
    have HB3 : Hp (fi_upd b2 413 602 0 (b1 413 602 0)) := Hp.uI HB2 0 (by decide) (by decide) (by rw [c413]; omega)
    have G3 : FB (fun f x => decide (f = 413 ∧ x = 602)) b2 (fi_upd b2 413 602 0 (b1 413 602 0)) := fun f x i h1 h2 hw => fi_upd_ne _ _ _ _ _ (by simp only [decide_eq_false_iff_not] at hw; omega)
    have G3' : FB WNMb b2 (fi_upd b2 413 602 0 (b1 413 602 0)) := G3.mono (fun f x q => by simp only [WNMb, decide_eq_true_eq] at q ⊢; omega)
    have z413 : fi_upd b2 413 602 0 (b1 413 602 0) 413 602 0 = (m : Int) := by rw [fi_upd_same]; exact c413
    have zB : ∀ f, f ≠ 413 → ∀ x i : Nat, fi_upd b2 413 602 0 (b1 413 602 0) f x i = b2 f x i := fun f hf x i => fi_upd_ne _ _ _ _ _ (by omega)
    generalize fi_upd b2 413 602 0 (b1 413 602 0) = b3 at *
    have N3 : NmR a3 b3 m := N2.fa HA2 q3 G3 (by decide) (by decide)
    have B3 : Bd a3 kk cc := by
      unfold Bd at B2 ⊢
      simpa only [xB 145 (by decide), xB 146 (by decide), xB 148 (by decide), xB 0 (by decide), xB 1 (by decide), xB 2 (by decide), xB 8 (by decide)] using B2
    have t215 : a3 215 303 0 = (m : Int) := by
      rw [xB 215 (by decide), V2.1.2 215 303 0 (by decide) (by omega) (by simp only [wNA, wVA, wTA, wvA]; omega)]; exact c215
    have t266 : a3 266 303 0 = 0 := by
      rw [xB 266 (by decide), V2.1.2 266 303 0 (by decide) (by omega) (by simp only [wNA, wVA, wTA, wvA]; omega)]; exact z266
    have t392 : b3 392 602 0 = 0 := by
      rw [zB 392 (by decide), V2.2.2 392 602 0 (by decide) (by omega) (by simp only [wNB, wVB, wTB, wvB]; omega)]; exact y392
    refine Bo.ret (by decide) (by decide) q2 HB3 ⟨rfl, ⟨m, N3, t215, z413⟩, ⟨t266, t392, by omega, fun k hk => by omega⟩, ⟨kk, cc, B3⟩, ⟨?_, ?_⟩, ((FA1.mono (fun _ _ => WTXa_n)).tr W2a).tr (q3.mono (fun _ _ => WTXa_n)), ((FB1.mono (fun _ _ => WTXb_n)).tr W2b).tr G3'⟩
    · rw [x267, zB 402 (by decide)]; exact w1.1
    · rw [x268, zB 403 (by decide)]; exact w1.2
end KNAMES
end

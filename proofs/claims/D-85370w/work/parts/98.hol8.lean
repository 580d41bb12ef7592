section
/-! the call holidays() -/
set_option maxRecDepth 100000
def WHLa (f x : Nat) : Bool := decide (WTXa f x = true ∨ (x = 303 ∧ 210 ≤ f ∧ f ≤ 212) ∨ (f = 12 ∧ (x = 307 ∨ x = 308)))
def WHLb (f x : Nat) : Bool := decide (WTXb f x = true ∨ (604 ≤ x ∧ x ≤ 606) ∨ (x = 602 ∧ f = 390))
def KHa : List (Nat × Nat) := [(210, 303), (211, 303), (212, 303), (12, 307), (12, 308), (0, 715), (331, 715), (332, 715), (333, 715), (334, 715), (335, 715), (336, 715)]
def KHb : List (Nat × Nat) := [(390, 602), (10, 604), (10, 605), (10, 606)]
section KHOL
variable {a b a' b' : fi_H} {n w : Nat} {dA dB : Nat} {W V : Nat → Nat → Bool}
theorem HolR.fa (R : HolR a b) (H : Hp a) (F : FA W a a') (G : FB V b b') (hW : dj KHa W) (hV : dj KHb V) : HolR a' b' := by
  obtain ⟨r1, r2, r3⟩ := R
  have e1 := F.g H 0 (f := 210) (x := 303) (by decide) (hW.m rfl)
  have e2 := F.g H 0 (f := 211) (x := 303) (by decide) (hW.m rfl)
  have e3 := F.g H 0 (f := 212) (x := 303) (by decide) (hW.m rfl)
  have e4 := G 390 602 0 (by decide) (by decide) (hV.m rfl)
  unfold HolR
  rw [e1, e2, e3, e4]
  refine ⟨r1, r2, fun k hk => ?_⟩
  have q := r3 k hk
  have ea : a' 12 (a 210 303 0).toNat k = a 12 (a 210 303 0).toNat k := by
    rcases r1 with z | z <;> rw [z.1]
    · exact F.g H k (f := 12) (x := 307) (by decide) (hW.m rfl)
    · exact F.g H k (f := 12) (x := 308) (by decide) (hW.m rfl)
  rw [ea, G 10 604 k (by decide) (by decide) (hV.m rfl), G 10 605 k (by decide) (by decide) (hV.m rfl), G 10 606 k (by decide) (by decide) (hV.m rfl)]
  obtain ⟨q1, q2⟩ := q
  have e : ∀ f, KHa.contains (f, 715) = true → f ≠ 8 → a' f (a 12 (a 210 303 0).toNat k).toNat 0 = a f (a 12 (a 210 303 0).toNat k).toNat 0 := fun f hf h8 => F.d 0 (by omega) (hW.m hf) (Or.inl h8)
  refine ⟨⟨q1.1, by have := F.1; omega⟩, ?_⟩
  rw [e 0 rfl (by decide), e 331 rfl (by decide), e 332 rfl (by decide), e 333 rfl (by decide), e 334 rfl (by decide), e 335 rfl (by decide), e 336 rfl (by decide)]
  exact q2
theorem WTXa_h {f x : Nat} (h : WTXa f x = true) : WHLa f x = true := by simp only [WHLa, decide_eq_true_eq]; exact Or.inl h
theorem WTXb_h {f x : Nat} (h : WTXb f x = true) : WHLb f x = true := by simp only [WHLb, decide_eq_true_eq]; exact Or.inl h
theorem hol_fa (HA : Hp a) (hw : w = 307 ∨ w = 308) (F : Fr (wHA w) a a') : FA WHLa a a' := by
  refine FA.ofF HA F (by simp only [wHA, wTA]; omega) (fun f x i q r => ?_)
  simp only [wHA, wTA] at q
  simp only [WHLa, WTXa, decide_eq_true_eq]
  unfold cx
  split <;> omega
theorem hol_fb (HB : Hp b) (F : Fr wHBe b b') : FB WHLb b b' := by
  refine FB.of HB F (fun f x i q h1 h2 => ?_)
  simp only [wHB, wHBe, wTB] at q
  simp only [WHLb, WTXb, decide_eq_true_eq]
  omega
theorem Bd.o {kk : Nat} {cc : Nat → Int} (B : Bd a kk cc) (h : ∀ f x i : Nat, f < 210 → a' f x i = a f x i) : Bd a' kk cc := by
  unfold Bd at B ⊢
  simpa only [h 145 _ _ (by decide), h 146 _ _ (by decide), h 148 _ _ (by decide), h 0 _ _ (by decide), h 1 _ _ (by decide), h 2 _ _ (by decide), h 8 _ _ (by decide)] using B
theorem k_holidays (HA : Hp a) (HB : Hp b) (T : Tape a b n) (BD : ∃ k c, Bd a k c) (R : HolR a b) (hA : 20 ≤ dA) (hB : 24 ≤ dB) :
    Bo 304 0 0 (fj_run dA 197 a [(4, 303)]) (fj_run dB 521 b [(4, 602)]) (fun x a' y b' => x = y ∧ HolR a' b' ∧ Tape a' b' 0 ∧ (∃ k c, Bd a' k c) ∧ FltR a' b' ∧ FA WHLa a a' ∧ FB WHLb b b') (fun _ _ => False) := by
  obtain ⟨d, rfl⟩ : ∃ e, dA = e + 18 := ⟨dA - 18, by omega⟩
  obtain ⟨e, rfl⟩ : ∃ e, dB = e + 23 := ⟨dB - 23, by omega⟩
  obtain ⟨kb, cb, B⟩ := BD
  obtain ⟨a1, b1, M, e1, e2, P1, F1, G1, z266, z160, y392, y427, y402, y403, z5⟩ := t_begin HA HB T B (dA := d + 17) (dB := e + 22) (by omega) (by omega)
  have FA1 := begin_fa B F1
  have FB1 := begin_fb HB G1
  have R1 : HolR a1 b1 := R.fa HA FA1 FB1 (by decide) (by decide)
  have ta := P1.ha.1.2.2.1
  have tb := P1.hb.1.2.2.1
  obtain ⟨w, hw, h211, h210⟩ : ∃ w : Nat, (w = 307 ∨ w = 308) ∧ a1 211 303 0 = (w : Int) ∧ a1 210 303 0 = 615 - (w : Int) := by
    rcases R1.1 with z | z
    · exact ⟨308, Or.inr rfl, z.2, z.1⟩
    · exact ⟨307, Or.inl rfl, z.2, z.1⟩
  rw [m_197 (d + 17) HA.1, e1, cv_ret, m_521 (e + 22) HB.1, e2, cv_ret, m_198 (d + 16) P1.ha.1, m_522 (e + 21) P1.hb.1]
  refine Bo.cacv (t_hols hw (by omega) (by omega) 1201 0 0 a1 b1 (by omega) P1 (by omega) (fun j hj => by omega) ⟨Fr.rf _ _, Fr.rf _ _⟩ h211) (by decide) (fun x a2 _ b2 HA2 HB2 z => ?_) (fun a2 b2 HA2 HB2 z => ?_)
  · obtain ⟨k', hk', rfl, g211, g390, rows, V1, V2, f402, f403, kk, cc, B2⟩ := z
    have W2a := hol_fa P1.ha hw V1
    have W2b := hol_fb P1.hb V2
    obtain ⟨q1, q2, q3⟩ := k_noted HA2 (d := d + 16) (x := 0) (y := -1) (by omega) (by omega)
    have xB : ∀ f, f < 267 → ∀ x i : Nat, fi_upd (fi_upd a2 267 303 0 0) 268 303 0 (-1) f x i = a2 f x i := fun f hf x i => by rw [fi_upd_ne _ _ _ _ _ (by omega), fi_upd_ne _ _ _ _ _ (by omega)]
    have x267 : fi_upd (fi_upd a2 267 303 0 0) 268 303 0 (-1) 267 303 0 = 0 := by rw [fi_upd_ne _ _ _ _ _ (by omega), fi_upd_same]
    have x268 : fi_upd (fi_upd a2 267 303 0 0) 268 303 0 (-1) 268 303 0 = -1 := fi_upd_same _ _ _ _ _
    have xF : ∀ f, 268 < f → ∀ x i : Nat, fi_upd (fi_upd a2 267 303 0 0) 268 303 0 (-1) f x i = a2 f x i := fun f hf x i => by rw [fi_upd_ne _ _ _ _ _ (by omega), fi_upd_ne _ _ _ _ _ (by omega)]
    have g210 : a2 210 303 0 = 615 - (w : Int) := by rw [V1.2 210 303 0 (by decide) (by omega) (by simp only [wHA, wTA]; omega)]; exact h210
    have t2 : a2 2 0 0 = fi_upd (fi_upd a2 267 303 0 0) 268 303 0 (-1) 2 0 0 := (xB 2 (by decide) 0 0).symm
    have t2a := HA2.1.2.2.1
    rw [q1, cv_ret, lt_eq, lt_eq, lt_eq, g390]
    generalize fi_upd (fi_upd a2 267 303 0 0) 268 303 0 (-1) = a3 at *
    have v211 : a3 211 303 0 = (w : Int) := by rw [xB 211 (by decide)]; exact g211
    have v210 : a3 210 303 0 = 615 - (w : Int) := by rw [xB 210 (by decide)]; exact g210
    rw [v211, v210]
    have H4 : Hp (fi_upd a3 210 303 0 (w : Int)) := Hp.uR q2 0 (by decide) (by decide) (by omega)
    have H5 : Hp (fi_upd (fi_upd a3 210 303 0 (w : Int)) 211 303 0 (615 - (w : Int))) := Hp.uR H4 0 (by decide) (by decide) ⟨by omega, by rw [fi_upd_ne _ _ _ _ _ (by omega)]; omega⟩
    have H6 : Hp (fi_upd (fi_upd (fi_upd a3 210 303 0 (w : Int)) 211 303 0 (615 - (w : Int))) 212 303 0 (k' : Int)) := Hp.uI H5 0 (by decide) (by decide) (by omega)
    have F6 : Fr (fun f x _ => x = 303 ∧ 210 ≤ f ∧ f ≤ 212) a3 (fi_upd (fi_upd (fi_upd a3 210 303 0 (w : Int)) 211 303 0 (615 - (w : Int))) 212 303 0 (k' : Int)) := Fr.u 0 _ (Fr.u 0 _ (Fr.u 0 _ (Fr.rf _ _) (by decide) ⟨rfl, by decide, by decide⟩) (by decide) ⟨rfl, by decide, by decide⟩) (by decide) ⟨rfl, by decide, by decide⟩
    have u1 : fi_upd (fi_upd (fi_upd a3 210 303 0 (w : Int)) 211 303 0 (615 - (w : Int))) 212 303 0 (k' : Int) 210 303 0 = (w : Int) := by rw [fi_upd_ne _ _ _ _ _ (by omega), fi_upd_ne _ _ _ _ _ (by omega), fi_upd_same]
    have u2 : fi_upd (fi_upd (fi_upd a3 210 303 0 (w : Int)) 211 303 0 (615 - (w : Int))) 212 303 0 (k' : Int) 211 303 0 = 615 - (w : Int) := by rw [fi_upd_ne _ _ _ _ _ (by omega), fi_upd_same]
    have u3 : fi_upd (fi_upd (fi_upd a3 210 303 0 (w : Int)) 211 303 0 (615 - (w : Int))) 212 303 0 (k' : Int) 212 303 0 = (k' : Int) := fi_upd_same _ _ _ _ _
    have u4 : ∀ f x i : Nat, (f < 210 ∨ 212 < f) → fi_upd (fi_upd (fi_upd a3 210 303 0 (w : Int)) 211 303 0 (615 - (w : Int))) 212 303 0 (k' : Int) f x i = a3 f x i := fun f x i hf => by rw [fi_upd_ne _ _ _ _ _ (by omega), fi_upd_ne _ _ _ _ _ (by omega), fi_upd_ne _ _ _ _ _ (by omega)]
    generalize fi_upd (fi_upd (fi_upd a3 210 303 0 (w : Int)) 211 303 0 (615 - (w : Int))) 212 303 0 (k' : Int) = a6 at *
    have F6a : FA WHLa a3 a6 := by
      refine FA.ofF q2 F6 (by omega) (fun f x i q r => ?_)
      simp only [WHLa, decide_eq_true_eq]
      unfold cx
      split <;> omega
    have all : ∀ f x i : Nat, (f < 210 ∨ 268 < f) → a6 f x i = a2 f x i := fun f x i hf => by
      rw [u4 f x i (by omega)]
      rcases hf with z | z
      · exact xB f (by omega) x i
      · exact xF f z x i
    refine Bo.ret (by decide) (by decide) H6 HB2 ⟨rfl, ⟨?_, ⟨by rw [u3, g390], by omega, by omega⟩, fun k hk => ?_⟩, ⟨?_, ?_, by omega, fun k hk => by omega⟩, ⟨kk, cc, B2.o (fun f x i hf => all f x i (Or.inl hf))⟩, ⟨?_, ?_⟩, ((FA1.mono (fun _ _ => WTXa_h)).tr W2a).tr ((q3.mono (fun _ _ => WTXa_h)).tr F6a), (FB1.mono (fun _ _ => WTXb_h)).tr W2b⟩
    · rw [u1, u2]
      rcases hw with rfl | rfl
      · exact Or.inl ⟨rfl, rfl⟩
      · exact Or.inr ⟨rfl, rfl⟩
    · rw [u1, Int.toNat_natCast, all 12 w k (by omega)]
      obtain ⟨o1, o2⟩ := rows k (by omega)
      refine ⟨⟨o1.1, by rw [all 2 0 0 (by omega)]; exact o1.2⟩, ?_⟩
      rw [all 0 _ _ (by omega), all 331 _ _ (by omega), all 332 _ _ (by omega), all 333 _ _ (by omega), all 334 _ _ (by omega), all 335 _ _ (by omega), all 336 _ _ (by omega)]
      exact o2
    · rw [u4 266 _ _ (by omega), xB 266 (by decide), V1.2 266 303 0 (by decide) (by omega) (by simp only [wHA, wTA]; omega)]; exact z266
    · rw [V2.2 392 602 0 (by decide) (by omega) (by simp only [wHB, wHBe, wTB]; omega)]; exact y392
    · rw [u4 267 _ _ (by omega), x267, f402]
    · rw [u4 268 _ _ (by omega), x268, f403]
  · obtain ⟨w1, V1, V2⟩ := z
    have W2a := hol_fa P1.ha hw V1
    have W2b := hol_fb P1.hb (V2.mono (fun f x i z => z.elim Or.inl (fun z => Or.inr (Or.inl ⟨z.1, z.2.1⟩))))
    obtain ⟨kk, cc, B1⟩ := P1.bd
    have B2 : Bd a2 kk cc := B1.f P1.ha V1 (fun f x i x1 x2 f1 f2 => by simp only [wHA, wTA]; omega) (fun f x i h1 _ f1 f2 => by simp only [wHA, wTA]; omega)
    have r107 := rI HA2 (f := 107) rfl 304 0
    have r108 := rI HA2 (f := 108) rfl 304 0
    have t304 : ((304 : Nat) : Int).toNat = 304 := rfl
    show Bo 304 0 0 (tc_ 128 304 a2 (c_197_18 (d + 17) ((304 : Nat) : Int) a2)) (tc_ 130 603 b2 (c_521_11 (e + 22) ((603 : Nat) : Int) b2)) _ _
    unfold tc_
    rw [if_pos (s0_304 HA2.1), if_pos (s0_603 HB2.1), e_197_18 _ _ HA2.1, t304, if_pos (s0_304 HA2.1), e_521_11 _ _ HB2.1]
    obtain ⟨q1, q2, q3⟩ := k_noted HA2 (d := d + 16) r107 r108
    rw [q1, cv_ret]
    have x267 : fi_upd (fi_upd a2 267 303 0 (a2 107 304 0)) 268 303 0 (a2 108 304 0) 267 303 0 = a2 107 304 0 := by rw [fi_upd_ne _ _ _ _ _ (by omega), fi_upd_same]
    have x268 : fi_upd (fi_upd a2 267 303 0 (a2 107 304 0)) 268 303 0 (a2 108 304 0) 268 303 0 = a2 108 304 0 := fi_upd_same _ _ _ _ _
    have xB : ∀ f, f < 267 → ∀ x i : Nat, fi_upd (fi_upd a2 267 303 0 (a2 107 304 0)) 268 303 0 (a2 108 304 0) f x i = a2 f x i := fun f hf x i => by rw [fi_upd_ne _ _ _ _ _ (by omega), fi_upd_ne _ _ _ _ _ (by omega)]
    generalize fi_upd (fi_upd a2 267 303 0 (a2 107 304 0)) 268 303 0 (a2 108 304 0) = a3 at *
    have R2 : HolR a2 b2 := by
      obtain ⟨r1, r2, r3⟩ := R1
      have o : ∀ f x i : Nat, 0 < x → x ≤ 714 → ¬ wHA w f x i → a2 f x i = a1 f x i := fun f x i h0 h1 hw => V1.2 f x i h0 (by omega) hw
      have ob : ∀ f x i : Nat, 602 ≤ x → x ≤ 606 → ¬ wHB f x i → b2 f x i = b1 f x i := fun f x i h0 h1 hw => V2.2 f x i (by omega) (by omega) hw
      unfold HolR
      rw [o 210 303 0 (by decide) (by decide) (by simp only [wHA, wTA]; omega), o 211 303 0 (by decide) (by decide) (by simp only [wHA, wTA]; omega), o 212 303 0 (by decide) (by decide) (by simp only [wHA, wTA]; omega), ob 390 602 0 (by decide) (by decide) (by simp only [wHB, wHBe, wTB]; omega)]
      refine ⟨r1, r2, fun k hk => ?_⟩
      rw [o 12 (a1 210 303 0).toNat k (by omega) (by omega) (by simp only [wHA, wTA]; omega), ob 10 604 k (by decide) (by decide) (by simp only [wHB, wHBe, wTB]; omega), ob 10 605 k (by decide) (by decide) (by simp only [wHB, wHBe, wTB]; omega), ob 10 606 k (by decide) (by decide) (by simp only [wHB, wHBe, wTB]; omega)]
      exact (r3 k hk).f V1 (fun f x i hx hf => by simp only [wHA, wTA]; omega)
    refine Bo.ret (by decide) (by decide) q2 HB2 ⟨rfl, R2.fa HA2 q3 (FB.rf (fun _ _ => false) _) (by decide) (by decide), ⟨?_, ?_, by omega, fun k hk => by omega⟩, ⟨kk, cc, B2.o (fun f x i hf => xB f (by omega) x i)⟩, ⟨?_, ?_⟩, ((FA1.mono (fun _ _ => WTXa_h)).tr W2a).tr (q3.mono (fun _ _ => WTXa_h)), (FB1.mono (fun _ _ => WTXb_h)).tr W2b⟩
    · rw [xB 266 (by decide), V1.2 266 303 0 (by decide) (by omega) (by simp only [wHA, wTA]; omega)]; exact z266
    · rw [V2.2 392 602 0 (by decide) (by omega) (by simp only [wHB, wHBe, wTB]; omega)]; exact y392
    · rw [x267]; exact w1.1
    · rw [x268]; exact w1.2
end KHOL
end

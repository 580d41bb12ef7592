section
/-! reading: values -/
set_option maxRecDepth 100000
abbrev wvA (f x _i : Nat) : Prop := x = 377 ∧ 167 ≤ f ∧ f ≤ 169
abbrev wvB (f x _i : Nat) : Prop := x = 602 ∧ 414 ≤ f ∧ f ≤ 417
abbrev wVA (f x i : Nat) : Prop := wTA f x i ∨ wvA f x i
abbrev wVB (f x i : Nat) : Prop := wTB f x i ∨ wvB f x i
/-- what reading a value leaves behind -/
def VE (a b a' b' : fi_H) : Prop := Fr wVA a a' ∧ Fr wVB b b'
theorem VE.rf (a b : fi_H) : VE a b a b := ⟨Fr.rf _ _, Fr.rf _ _⟩
theorem VE.tr {a b a1 b1 a2 b2 : fi_H} (p : VE a b a1 b1) (q : VE a1 b1 a2 b2) : VE a b a2 b2 := ⟨p.1.tr q.1, p.2.tr q.2⟩
theorem TkE.v {a b a' b' : fi_H} (p : TkE a b a' b') : VE a b a' b' := ⟨p.1.mono (fun _ _ _ q => Or.inl q), p.2.mono (fun _ _ _ q => Or.inl q)⟩
theorem VE.w {a b a' b' : fi_H} (F : Fr wvA a a') (G : Fr wvB b b') : VE a b a' b' := ⟨F.mono (fun _ _ _ q => Or.inr q), G.mono (fun _ _ _ q => Or.inr q)⟩
def WrV (a b a' b' : fi_H) : Prop := Wr a' b' ∧ VE a b a' b'
theorem WrV.of {a b a1 b1 a' b' : fi_H} (p : VE a b a1 b1) (q : WrE a1 b1 a' b') : WrV a b a' b' := ⟨q.1, p.tr q.2.v⟩
/-- the value that both have read -/
def Val (a b : fi_H) : Prop := a 167 377 0 = 2 + b 414 602 0 ∧ a 168 377 0 = b 415 602 0 ∧ a 169 377 0 = b 416 602 0 ∧ (0 ≤ b 414 602 0 ∧ b 414 602 0 ≤ 7) ∧ Vok (b 414 602 0) (b 415 602 0) (b 416 602 0)
section VAL
variable {u : Nat → Int} {n M i : Nat} {a b : fi_H} {dA dB : Nat}
theorem PS.rw (q : PS u n M i a b) {j : Nat} (hj : j < M) : RowT u (pl u n j) (tok u n (pl u n j)) a j ∧ a 9 379 j = (pl u n j : Int) := q.2.2.1.1 j hj
theorem PS.srt (q : PS u n M i a b) {j : Nat} (hj : j < M) : a 8 378 j = (tk u n j : Int) := (q.rw hj).1.1
/-- behind a token that is no end there is another -/
theorem PS.nx (q : PS u n M i a b) (hk : tk u n i ≠ 0 ∧ tk u n i ≠ 1) (hi : i ≠ 1200) : i + 1 < M := by
  obtain ⟨q1, q2, q3, q4, q5, q6⟩ := q
  by_cases y : i + 1 < M
  · exact y
  · exfalso
    have : M - 1 = i := by omega
    rcases q3.2.2.2.2.1 with w | w | w
    · rw [this] at w; exact hk.1 w
    · rw [this] at w; exact hk.2 w
    · omega
theorem PS.vl (q : PS u n M i a b) {a' b' : fi_H} (HA : Hp a') (HB : Hp b') (F : Fr wvA a a') (G : Fr wvB b b') : PS u n M i a' b' ∧ b' 427 602 0 = b 427 602 0 :=
  ⟨q.st HA HB F G (fun f x i _ _ _ _ z => by omega) (fun f x i _ z => by omega) ⟨by omega, by omega⟩ (fun f _ _ z => by omega) ⟨by omega, fun k z => by omega⟩, G.2 427 602 0 (by decide) (by have := q.hb.1.2.2.1; omega) (by omega)⟩
theorem t_isAt (q : PS u n M i a b) {j : Nat} (hj : j < M) (hA : 4 ≤ dA) {x s : Int} (hx : x = (j : Int)) {l : List Int} (S : LitC a s l) : fj_run dA 163 a [(4, 377), (0, x), (4, s)] = some (.inl (some (0, if tk u n j = 2 ∧ eqL (lw u n j) (cw u n j) l = true then 1 else 0)), a) := by
  subst hx
  obtain ⟨d, rfl⟩ : ∃ e, dA = e + 4 := ⟨dA - 4, by omega⟩
  have hM := q.2.2.1.2.2.1
  rw [m_163 (d + 3) _ _ q.ha.1, if_pos (by omega), Int.toNat_natCast, q.srt hj]
  by_cases z : tk u n j = 2
  · have T := ((q.rw hj).1.2.2.2.2.2 z).1
    rw [if_pos (by omega), T.2.1, show fi_vt 216 131 = some 64 from rfl, dv_s, kS_eq d q.ha T S.1, ca_ret, ite0]
    show (if eqL (lw u n j) (cw u n j) l = true then _ else _) = _
    by_cases y : eqL (lw u n j) (cw u n j) l = true
    · rw [if_pos y, if_pos ⟨z, y⟩]
    · rw [if_neg y, if_neg (fun w => y w.2)]
  · rw [if_neg (by omega), if_neg (fun w => z w.1)]
/-- the unit behind a number -/
def unt (u : Nat → Int) (n j : Nat) : Int := if tk u n j = 6 ∧ (tok u n (pl u n j)).2.2 = 37 then 1 else if tk u n j = 2 ∧ kw u n j = 15 then 2 else if tk u n j = 2 ∧ kw u n j = 16 then 3 else if tk u n j = 2 ∧ kw u n j = 17 then 4 else 0
theorem kA_unit (q : PS u n M i a b) (hj : i + 1 < M) (hA : 6 ≤ dA) : fj_run dA 193 a [(4, 377)] = some (.inl (some (0, unt u n (i + 1))), a) := by
  obtain ⟨d, rfl⟩ : ∃ e, dA = e + 6 := ⟨dA - 6, by omega⟩
  have hi := q.2.2.2.2.1
  have hM := q.2.2.1.2.2.1
  have e : wI ((i : Int) + 1) = ((i + 1 : Nat) : Int) := by rw [wI_id (by omega) (by omega)]; omega
  have e34 : c_193_34 (d + 5) a = some (.inl (some (0, if tk u n (i + 1) = 2 ∧ kw u n (i + 1) = 15 then 2 else if tk u n (i + 1) = 2 ∧ kw u n (i + 1) = 16 then 3 else if tk u n (i + 1) = 2 ∧ kw u n (i + 1) = 17 then 4 else 0)), a) := by
    rw [e_193_34 _ q.ha.1, q.at, e, t_isAt q hj (by omega) rfl (li_w15 q.ha), ca_ret, ite0]
    by_cases z : tk u n (i + 1) = 2 ∧ kw u n (i + 1) = 15
    · rw [if_pos ((t_word (by decide)).mpr z), if_pos z]
    · rw [if_neg (fun y => z ((t_word (by decide)).mp y)), if_neg z, q.at, e, t_isAt q hj (by omega) rfl (li_w16 q.ha), ca_ret, ite0]
      by_cases z2 : tk u n (i + 1) = 2 ∧ kw u n (i + 1) = 16
      · rw [if_pos ((t_word (by decide)).mpr z2), if_pos z2]
      · rw [if_neg (fun y => z2 ((t_word (by decide)).mp y)), if_neg z2, q.at, e, t_isAt q hj (by omega) rfl (li_w17 q.ha), ca_ret, ite0]
        by_cases z3 : tk u n (i + 1) = 2 ∧ kw u n (i + 1) = 17
        · rw [if_pos ((t_word (by decide)).mpr z3), if_pos z3]
        · rw [if_neg (fun y => z3 ((t_word (by decide)).mp y)), if_neg z3]
  rw [m_193 _ q.ha.1, q.at, e, if_pos (by omega), Int.toNat_natCast, q.srt hj, e34]
  unfold unt
  by_cases z : tk u n (i + 1) = 6
  · rw [if_pos (by omega), (q.rw hj).1.2.2.2.2.1 z]
    by_cases y : (tok u n (pl u n (i + 1))).2.2 = 37
    · rw [if_pos y, if_pos ⟨z, y⟩]
    · have zz : ¬ (tk u n (i + 1) = 6 ∧ (tok u n (pl u n (i + 1))).2.2 = 37) := fun w => y w.2
      rw [if_neg y, if_neg zz]
  · have zz : ¬ (tk u n (i + 1) = 6 ∧ (tok u n (pl u n (i + 1))).2.2 = 37) := fun w => z w.1
    rw [if_neg (by omega), if_neg zz]
/-- a step over one token that is not the last -/
theorem t_step (q : PS u n M i a b) (hA : 3 ≤ dA) (hB : 12 ≤ dB) (hk : tk u n i ≠ 0 ∧ tk u n i ≠ 1) (hi : i ≠ 1200) : ∃ a' b', fj_run dA 166 a [(4, 377)] = some (.inl none, a') ∧ fj_run dB 502 b [(4, 602)] = some (.inl none, b') ∧ PS u n M (i + 1) a' b' ∧ TkE a b a' b' ∧ b' 427 602 0 = b 427 602 0 := by
  obtain ⟨a', b', HA, HB, ⟨x, y, e1, e2, p⟩ | ⟨e1, -, -⟩⟩ := t_take q hA hB hk
  · exact ⟨a', b', e1, e2, p⟩
  · exfalso
    obtain ⟨d, rfl⟩ : ∃ e, dA = e + 1 := ⟨dA - 1, by omega⟩
    rw [m_166 d q.ha.1, q.at, if_neg (by omega), lt_eq] at e1
    simp at e1
theorem t_last (q : PS u n M i a b) (hB : 12 ≤ dB) (hk : tk u n i ≠ 0 ∧ tk u n i ≠ 1) (hi : i = 1200) : ∃ b', Hp b' ∧ fj_run dB 502 b [(4, 602)] = some (.inr 603, b') ∧ WrE a b (wra a 4 (pl u n i)) b' := by
  obtain ⟨a', b', HA, HB, ⟨x, y, e1, e2, p⟩ | ⟨e1, e2, p⟩⟩ := t_take q (dA := 3) (by omega) hB hk
  · exfalso
    rw [m_166 2 q.ha.1, q.at, if_pos (by omega), kA_thr q (by omega) (by omega)] at e1
    simp at e1
  · rw [m_166 2 q.ha.1, q.at, if_pos (by omega), kA_thr q (by omega) (by omega)] at e1
    have : wra a 4 (pl u n i) = a' := by simpa using e1
    rw [this]
    exact ⟨b', HB, e2, p⟩
/-- both throw, at a place -/
theorem v_wr {TA TB : Nat} {P : Int → fi_H → Int → fi_H → Prop} {a0 b0 : fi_H} (HA : Hp a) (HB : Hp b) (V : VE a0 b0 a b) {k p : Int} (hk : 0 ≤ k ∧ k < 100) (hp : 0 ≤ p ∧ p ≤ 4000) : Bo 304 TA TB (some (.inr 304, wra a k p)) (some (.inr 603, wrb b k p)) P (WrV a0 b0) :=
  Bo.thr (wra_hp HA (by omega) (by omega)) (wrb_hp HB (by omega) (by omega)) ⟨wr_wr _ _, V.tr (TkE.v ⟨wra_fr _ _, wrb_fr _ _⟩)⟩
def kdu (w : Int) : Int := if w = 0 then 1 else if w = 1 then 3 else 5
def vu1 (w N : Int) : Int := if w = 1 then N / (Int.gcd N 100 : Int) else if w = 2 then 0 else if w = 4 then 12 * N else N
def vu2 (w N : Int) : Int := if w = 1 then 100 / (Int.gcd N 100 : Int) else if w = 2 then N else 0
theorem gcd100 {N : Int} (h : 0 ≤ N) : 1 ≤ (Int.gcd N 100 : Int) ∧ (Int.gcd N 100 : Int) ≤ 100 ∧ (Int.gcd N 100 : Int) ∣ N ∧ (Int.gcd N 100 : Int) ∣ 100 := by
  have h1 : (Int.gcd N 100 : Int) ∣ N := Int.gcd_dvd_left ..
  have h2 : (Int.gcd N 100 : Int) ∣ 100 := Int.gcd_dvd_right ..
  have h3 : 0 < Int.gcd N 100 := Int.gcd_pos_of_ne_zero_right _ (by decide)
  exact ⟨by omega, Int.le_of_dvd (by decide) h2, h1, h2⟩
theorem vu_ok {w N : Int} (hw : 0 ≤ w ∧ w ≤ 4) (h0 : 0 ≤ N) (hN : N ≤ (if w = 1 then 10000 else if w = 2 then 65535 else if w = 3 then 2400 else if w = 4 then 200 else 999999999)) : Vok (kdu w) (vu1 w N) (vu2 w N) := by
  obtain ⟨g1, g2, g3, g4⟩ := gcd100 h0
  have : w = 0 ∨ w = 1 ∨ w = 2 ∨ w = 3 ∨ w = 4 := by omega
  rcases this with rfl | rfl | rfl | rfl | rfl
  · simp [Vok, kdu, vu1, vu2] at hN ⊢; omega
  · have hN : N ≤ 10000 := by simpa using hN
    have k1 : kdu 1 = 3 := rfl
    have k2 : vu1 1 N = N / (Int.gcd N 100 : Int) := rfl
    have k3 : vu2 1 N = 100 / (Int.gcd N 100 : Int) := rfl
    rw [k1, k2, k3]
    refine ⟨fun z => by omega, fun z => by omega, fun z => by omega, fun _ => ?_, fun z => by omega, fun z => by omega, fun z => by omega, fun z => by omega⟩
    have a1 : 0 ≤ N / (Int.gcd N 100 : Int) := Int.ediv_nonneg h0 (by omega)
    have a2 : N / (Int.gcd N 100 : Int) ≤ N := Int.ediv_le_self _ h0
    have b1 : 0 < 100 / (Int.gcd N 100 : Int) := Int.ediv_pos_of_pos_of_dvd (by decide) (by omega) g4
    have b2 : 100 / (Int.gcd N 100 : Int) ≤ 100 := Int.ediv_le_self _ (by decide)
    refine ⟨by omega, by omega, by omega, by omega, ?_⟩
    rw [Int.gcd_ediv g3 g4, Int.natAbs_natCast]
    exact Nat.div_self (by omega)
  · simp [Vok, kdu, vu1, vu2] at hN ⊢; omega
  · simp [Vok, kdu, vu1, vu2] at hN ⊢; omega
  · simp [Vok, kdu, vu1, vu2] at hN ⊢; omega
end VAL
end

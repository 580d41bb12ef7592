section
/-! reading: both sides at one token -/
set_option maxRecDepth 100000
/-- the class's tokens, cut -/
def Lx (u : Nat → Int) (n M : Nat) (a : fi_H) : Prop :=
  Rows u n a M ∧ (∀ j : Nat, j < M → (tok u n (pl u n j)).1 = 2 → StrH a (a 12 383 j) ((tok u n (pl u n j)).2.1 - pl u n j) (fun i => u (pl u n j + i))) ∧ M ≤ 1202 ∧ (∀ j : Nat, j + 1 < M → (tok u n (pl u n j)).1 ≠ 0 ∧ (tok u n (pl u n j)).1 ≠ 1) ∧
  ((tok u n (pl u n (M - 1))).1 = 0 ∨ (tok u n (pl u n (M - 1))).1 = 1 ∨ M = 1202) ∧ ∃ k c, Bd a k c
/-- the sort of token i -/
def tk (u : Nat → Int) (n i : Nat) : Nat := (tok u n (pl u n i)).1
def PS (u : Nat → Int) (n M i : Nat) (a b : fi_H) : Prop :=
  Hp a ∧ LexB u n b ∧ Lx u n M a ∧ a 158 377 0 = (i : Int) ∧ (i < M ∧ i ≤ 1200) ∧ TokB u (pl u n i) (tok u n (pl u n i)) b ∧ b 398 602 0 = (if tk u n i = 0 then (i : Int) else (i : Int) + 1) ∧ a 159 377 0 = b 427 602 0 ∧ 0 ≤ b 427 602 0 ∧ b 427 602 0 ≤ 40 ∧ b 402 602 0 = 0 ∧ b 403 602 0 = -1
/-- the fault of a text, as both note it -/
def Wr (a b : fi_H) : Prop := a 107 304 0 = b 402 602 0 ∧ a 108 304 0 = b 403 602 0
abbrev wTA (f x _i : Nat) : Prop := (x = 304 ∧ (f = 107 ∨ f = 108)) ∨ (x = 377 ∧ (f = 158 ∨ f = 159)) ∨ f = 319 ∨ f = 320
abbrev wTB (f x _i : Nat) : Prop := x = 602 ∧ ((394 ≤ f ∧ f ≤ 403) ∨ f = 427)
def wra (a : fi_H) (k p : Int) : fi_H := fi_upd (fi_upd a 107 304 0 k) 108 304 0 p
def wrb (b : fi_H) (k p : Int) : fi_H := fi_upd (fi_upd b 402 602 0 k) 403 602 0 p
section PSS
variable {u : Nat → Int} {n M i : Nat} {a b : fi_H}
theorem PS.ha (q : PS u n M i a b) : Hp a := q.1
theorem PS.hb (q : PS u n M i a b) : Hp b := q.2.1.1
theorem PS.row (q : PS u n M i a b) : RowT u (pl u n i) (tok u n (pl u n i)) a i ∧ a 9 379 i = (pl u n i : Int) := q.2.2.1.1 i q.2.2.2.2.1.1
theorem PS.at (q : PS u n M i a b) : a 158 377 0 = (i : Int) := q.2.2.2.1
theorem PS.tb (q : PS u n M i a b) : TokB u (pl u n i) (tok u n (pl u n i)) b := q.2.2.2.2.2.1
theorem PS.ple (q : PS u n M i a b) : pl u n i ≤ n ∧ n ≤ 4000 := ⟨pl_le q.2.1.2.2.2.2.1 i, q.2.1.2.2.1⟩
theorem StrH.st {a a' : fi_H} {W : Nat → Nat → Nat → Prop} (F : Fr W a a') {s : Int} {k : Nat} {c : Nat → Int} (q : StrH a s k c) (hs : 0 < s ∧ s ≤ a 2 0 0) (hW : ∀ f, ¬ W f s.toNat 0) : StrH a' s k c := by
  unfold StrH
  rw [F.2 319 _ 0 (by omega) (by omega) (hW 319), F.2 320 _ 0 (by omega) (by omega) (hW 320)]
  exact q
/-- the tokens stay, whatever is done elsewhere -/
theorem Lx.st {a' : fi_H} {W : Nat → Nat → Nat → Prop} (H : Hp a) (q : Lx u n M a) (F : Fr W a a') (h1 : ∀ f x i : Nat, 378 ≤ x → x ≤ 385 → f ≠ 319 → f ≠ 320 → ¬ W f x i) (h2 : ∀ f x i : Nat, 714 < x → ¬ W f x i) : Lx u n M a' := by
  obtain ⟨q1, q2, q3, q4, q5, k, c, q6⟩ := q
  have ht := H.1.2.2.1
  have FL : FrL W a a' := F.l H (h1 145 384 0 (by decide) (by decide) (by decide) (by decide))
  refine ⟨fun j hj => ?_, fun j hj h2' => ?_, q3, q4, q5, k, c, q6.st H F (fun f i f1 f2 => ⟨h1 f 384 i (by decide) (by decide) f1 f2, h1 f 385 i (by decide) (by decide) f1 f2⟩) (fun f x i hx _ _ => h2 f x i hx)⟩
  · obtain ⟨r1, r2⟩ := q1 j hj
    have e : ∀ f x, 378 ≤ x → x ≤ 383 → f ≠ 319 → f ≠ 320 → a' f x j = a f x j := fun f x x1 x2 f1 f2 => F.2 f x j (by omega) (by omega) (h1 f x j x1 (by omega) f1 f2)
    refine ⟨?_, by rw [e 9 379 (by decide) (by decide) (by decide) (by decide)]; exact r2⟩
    obtain ⟨s1, s2, s3, s4, s5, s6⟩ := r1
    unfold RowT
    rw [e 8 378 (by decide) (by decide) (by decide) (by decide), e 10 380 (by decide) (by decide) (by decide) (by decide), e 11 381 (by decide) (by decide) (by decide) (by decide), e 5 382 (by decide) (by decide) (by decide) (by decide), e 12 383 (by decide) (by decide) (by decide) (by decide)]
    exact ⟨s1, s2, s3, s4, s5, fun z => (s6 z).l FL (fun f x i hx _ _ => h2 f x i hx)⟩
  · obtain ⟨r1, r2⟩ := q1 j hj
    have S := r1.2.2.2.2.2 h2'
    rw [F.2 12 383 j (by decide) (by omega) (h1 12 383 j (by decide) (by decide) (by decide) (by decide))]
    exact (q2 j hj h2').st F S.1.1 (fun f => h2 f _ 0 (by have := S.2.1; omega))
theorem PS.st {a' b' : fi_H} {W V : Nat → Nat → Nat → Prop} (q : PS u n M i a b) (HA : Hp a') (HB : Hp b') (F : Fr W a a') (G : Fr V b b') (h1 : ∀ f x i : Nat, 378 ≤ x → x ≤ 385 → f ≠ 319 → f ≠ 320 → ¬ W f x i) (h2 : ∀ f x i : Nat, 714 < x → ¬ W f x i) (h3 : ¬ W 158 377 0 ∧ ¬ W 159 377 0) (g1 : ∀ f, 393 ≤ f → f ≤ 403 → ¬ V f 602 0) (g2 : ¬ V 427 602 0 ∧ ∀ k, ¬ V 10 607 k) : PS u n M i a' b' := by
  obtain ⟨q1, q2, q3, q4, q5, q6, q7, q8⟩ := q
  have ta := q1.1.2.2.1
  have tb := q2.1.1.2.2.1
  have e : ∀ f, 393 ≤ f → f ≤ 403 → b' f 602 0 = b f 602 0 := fun f f1 f2 => G.2 f 602 0 (by decide) (by omega) (g1 f f1 f2)
  refine ⟨HA, q2.st HB G ⟨g1 393 (by decide) (by decide), g2.2⟩, q3.st q1 F h1 h2, by rw [F.2 158 377 0 (by decide) (by omega) h3.1]; exact q4, q5, ?_, by rw [e 398 (by decide) (by decide)]; exact q7, ?_⟩
  · unfold TokB at q6 ⊢
    rw [e 396 (by decide) (by decide), e 397 (by decide) (by decide), e 394 (by decide) (by decide), e 395 (by decide) (by decide), e 399 (by decide) (by decide), e 400 (by decide) (by decide), e 401 (by decide) (by decide)]
    exact q6
  · rw [F.2 159 377 0 (by decide) (by omega) h3.2, G.2 427 602 0 (by decide) (by omega) g2.1, e 402 (by decide) (by decide), e 403 (by decide) (by decide)]
    exact q8
/-! faults -/
theorem wra_hp (H : Hp a) {k p : Int} (hk : -2147483648 ≤ k ∧ k < 2147483648) (hp : -2147483648 ≤ p ∧ p < 2147483648) : Hp (wra a k p) := Hp.uI (Hp.uI H 0 (by decide) (by decide) hk) 0 (by decide) (by decide) hp
theorem wrb_hp (H : Hp b) {k p : Int} (hk : -2147483648 ≤ k ∧ k < 2147483648) (hp : -2147483648 ≤ p ∧ p < 2147483648) : Hp (wrb b k p) := Hp.uI (Hp.uI H 0 (by decide) (by decide) hk) 0 (by decide) (by decide) hp
theorem wr_wr (k p : Int) : Wr (wra a k p) (wrb b k p) := by unfold Wr; simp [wra, wrb, fi_upd]
theorem wra_fr (k p : Int) : Fr wTA a (wra a k p) := Fr.u 0 _ (Fr.u 0 _ (Fr.rf _ _) (by decide) (by simp [wTA])) (by decide) (by simp [wTA])
theorem wrb_fr (k p : Int) : Fr wTB b (wrb b k p) := Fr.u 0 _ (Fr.u 0 _ (Fr.rf _ _) (by decide) (by simp [wTB])) (by decide) (by simp [wTB])
/-- the class throws: at the token at hand, or at a place -/
theorem kA_wrongAt (q : PS u n M i a b) {d : Nat} (hd : 2 ≤ d) (k : Int) : fj_run d 164 a [(4, 377), (0, k)] = some (.inl (some (4, 304)), wra a k (pl u n i)) := by
  obtain ⟨d, rfl⟩ : ∃ e, d = e + 2 := ⟨d - 2, by omega⟩
  have hi := q.2.2.2.2.1
  rw [m_164 (d + 1) k q.ha.1, q.at, if_pos (by omega), Int.toNat_natCast, q.row.2, m_165 d _ _ q.ha.1, lt_eq, lt_eq, ca_ret]
  rfl
theorem kA_thr (q : PS u n M i a b) {d : Nat} (hd : 2 ≤ d) {k : Int} (hk : 0 ≤ k ∧ k < 100) {x : Nat → fi_H → fk_R} : ca_ (fj_run d 164 a [(4, 377), (0, k)]) 4 (fun v h => if v ≠ 0 then tx_ v.toNat h else none) x = some (.inr 304, wra a k (pl u n i)) := by
  have hp := q.ple
  rw [kA_wrongAt q hd, ca_ret, if_pos (by decide)]
  exact tx_304 (wra_hp q.ha (by omega) (by omega))
theorem kA_wrong (H : Hp a) {d : Nat} (hd : 1 ≤ d) {k p : Int} (hk : 0 ≤ k ∧ k < 100) (hp : 0 ≤ p ∧ p ≤ 4000) {x : Nat → fi_H → fk_R} : ca_ (fj_run d 165 a [(4, 303), (0, k), (0, p)]) 4 (fun v h => if v ≠ 0 then tx_ v.toNat h else none) x = some (.inr 304, wra a k p) := by
  obtain ⟨d, rfl⟩ : ∃ e, d = e + 1 := ⟨d - 1, by omega⟩
  rw [m_165 d _ _ H.1, lt_eq, lt_eq, ca_ret, if_pos (by decide)]
  exact tx_304 (wra_hp H (by omega) (by omega))
theorem kB_need0 (H : Hp b) {d : Nat} (hd : 2 ≤ d) {k p : Int} (hk : 0 ≤ k ∧ k < 100) (hp : 0 ≤ p ∧ p ≤ 4000) : fj_run d 500 b [(4, 602), (0, 0), (0, k), (0, p)] = some (.inr 603, wrb b k p) := by
  obtain ⟨d, rfl⟩ : ∃ e, d = e + 2 := ⟨d - 2, by omega⟩
  have Hw := wrb_hp (b := b) H (k := k) (p := p) (by omega) (by omega)
  have e : tx_ 603 (wrb b k p) = some (.inr 603, wrb b k p) := tx_603 Hw
  rw [m_500 (d + 1) _ _ _ H.1, if_pos rfl, m_501 d _ _ H.1, lt_eq, lt_eq]
  show cv_ (tx_ 603 (wrb b k p)) _ _ = _
  rw [e, cv_thr, e]
theorem kB_need1 (H : Hp b) {d : Nat} (hd : 1 ≤ d) {x k p : Int} (hx : x ≠ 0) : fj_run d 500 b [(4, 602), (0, x), (0, k), (0, p)] = some (.inl none, b) := by
  obtain ⟨d, rfl⟩ : ∃ e, d = e + 1 := ⟨d - 1, by omega⟩
  rw [m_500 d _ _ _ H.1, if_neg hx]
end PSS
end

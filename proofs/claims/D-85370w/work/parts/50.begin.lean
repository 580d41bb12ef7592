section
/-! the class cuts its whole tape -/
set_option maxRecDepth 100000
abbrev wbeg (f a _i : Nat) : Prop := (f = 157 ∧ a = 377) ∨ (378 ≤ a ∧ a ≤ 383)
/-- the rows of the tokens told up to m -/
def Rows (u : Nat → Int) (n : Nat) (h : fi_H) (m : Nat) : Prop := ∀ j : Nat, j < m → RowT u (pl u n j) (tok u n (pl u n j)) h j ∧ h 9 379 j = (pl u n j : Int)
theorem RowT.l {u : Nat → Int} {p : Nat} {T : Nat × Nat × Int} {h h' : fi_H} {j : Nat} {R : Nat → Nat → Nat → Prop} (H : Hp h) {k : Nat} {c : Nat → Int} (B : Bd h k c) (F : FrL R h h') (hR : ∀ f a, 378 ≤ a → a ≤ 383 → ¬ R f a j) (hR2 : ∀ f x i : Nat, 714 < x → f ≠ 319 → f ≠ 320 → ¬ R f x i) (q : RowT u p T h j) : RowT u p T h' j := by
  have ht := H.1.2.2.1
  have e : ∀ f a, 378 ≤ a → a ≤ 383 → h' f a j = h f a j := fun f a h1 h2 => F.1.2 f a j (by omega) (by omega) (by
    have := B.2.1
    rintro (y | y | ⟨-, y⟩)
    · exact hR f a h1 h2 y
    · omega
    · omega)
  obtain ⟨q1, q2, q3, q4, q5, q6⟩ := q
  unfold RowT
  rw [e 8 378 (by decide) (by decide), e 10 380 (by decide) (by decide), e 11 381 (by decide) (by decide), e 5 382 (by decide) (by decide), e 12 383 (by decide) (by decide)]
  exact ⟨q1, q2, q3, q4, q5, fun z => (q6 z).l F hR2⟩
section BEGIN
variable (d : Nat) {u : Nat → Int} {n : Nat} {h : fi_H}
theorem Bd.st {h' : fi_H} {R : Nat → Nat → Nat → Prop} (H : Hp h) {k : Nat} {c : Nat → Int} (B : Bd h k c) (F : Fr R h h') (hR : ∀ f i : Nat, f ≠ 319 → f ≠ 320 → ¬ R f 384 i ∧ ¬ R f 385 i) (hR2 : ∀ f x i : Nat, 714 < x → f ≠ 319 → f ≠ 320 → ¬ R f x i) : Bd h' k c := by
  have ht := H.1.2.2.1
  obtain ⟨b1, b2, b3, b4, b5, b6, b7, b8⟩ := B
  have e : ∀ f, f < 319 → h' f 384 0 = h f 384 0 := fun f q => F.2 f 384 0 (by decide) (by omega) (hR f 0 (by omega) (by omega)).1
  have e2 : ∀ f i : Nat, f < 319 → h' f (h 145 384 0).toNat i = h f (h 145 384 0).toNat i := fun f i q => F.2 f _ i (by omega) (by omega) (by
    rcases b2 with z | z
    · rw [z]; exact (hR f i (by omega) (by omega)).2
    · exact hR2 f _ i (by omega) (by omega) (by omega))
  unfold Bd
  rw [e 145 (by decide), e 146 (by decide), e 148 (by decide), e2 0 _ (by decide), e2 1 _ (by decide)]
  exact ⟨⟨b1.1, Int.le_trans b1.2 F.1⟩, b2, b3, b4, b5, b6, b7, fun i hi => by rw [e2 8 i (by decide)]; exact b8 i hi⟩
def BegE (u : Nat → Int) (n m : Nat) (k : Int) (h : fi_H) (dd : Nat) : Prop :=
    ∃ (h' : fi_H) (M : Nat), c_111_63 dd k 1 h = some (.inl none, h') ∧ Hp h' ∧ FrL wbeg h h' ∧ h' 157 377 0 = (M : Int) ∧ (m < M ∧ M ≤ 1202) ∧ Rows u n h' M ∧ (∀ j : Nat, j + 1 < M → (tok u n (pl u n j)).1 ≠ 0 ∧ (tok u n (pl u n j)).1 ≠ 1) ∧ ((tok u n (pl u n (M - 1))).1 = 0 ∨ (tok u n (pl u n (M - 1))).1 = 1 ∨ M = 1202) ∧ ∃ k c, Bd h' k c
theorem kA_begins {m k : Nat} (hr : m ≤ 1201) (L : LexU u n h) (B : ∃ k c, Bd h k c) (hm : h 157 377 0 = (m : Int)) (hk : k ≤ n) (hpl : pl u n m = bk u n false k) (R : Rows u n h m) (K : ∀ j : Nat, j < m → (tok u n (pl u n j)).1 ≠ 0 ∧ (tok u n (pl u n j)).1 ≠ 1)
    (cont : m < 1201 → ∀ (k : Nat) (h2 : fi_H), LexU u n h2 → (∃ k c, Bd h2 k c) → h2 157 377 0 = ((m + 1 : Nat) : Int) → k ≤ n → pl u n (m + 1) = bk u n false k → Rows u n h2 (m + 1) → (∀ j : Nat, j < m + 1 → (tok u n (pl u n j)).1 ≠ 0 ∧ (tok u n (pl u n j)).1 ≠ 1) → BegE u n (m + 1) k h2 (d + 10)) : BegE u n m k h (d + 10) := by
  obtain ⟨kb, cb, B⟩ := B
  have hn := L.2.2.1
  have ht := L.1.1.2.2.1
  obtain ⟨p1, p2, p3⟩ := bk_ok (u := u) (n := n) (n - k) k false (by omega)
  rw [← hpl] at p1 p2 p3
  have H1 : Hp (fi_upd h 9 379 m (pl u n m : Int)) := Hp.uS L.1 m (by decide) (by decide) (by omega)
  have F1 : Fr (fun f a i => i = m ∧ (378 ≤ a ∧ a ≤ 383)) h (fi_upd h 9 379 m (pl u n m : Int)) := Fr.u m _ (Fr.rf _ _) (by decide) ⟨rfl, by decide, by decide⟩
  have L1 := L.st H1 F1 ⟨fun q => by omega, fun k q => by omega⟩
  have B1 := B.st L.1 F1 (fun f i _ _ => ⟨fun q => by omega, fun q => by omega⟩) (fun f x i hx _ _ q => by omega)
  have hm1 : fi_upd h 9 379 m (pl u n m : Int) 157 377 0 = (m : Int) := by rw [fi_upd_ne _ _ _ _ _ (by omega)]; exact hm
  have v1 : fi_upd h 9 379 m (pl u n m : Int) 9 379 m = (pl u n m : Int) := fi_upd_same _ _ _ _ _
  -- the rows ahead stay, whatever is done to row m and to the builder
  have rows : ∀ h2 : fi_H, FrL (fun f a i => (f = 157 ∧ a = 377) ∨ (i = m ∧ (378 ≤ a ∧ a ≤ 383))) h h2 → Rows u n h2 m := by
    intro h2 F j hj
    obtain ⟨q1, q2⟩ := R j hj
    refine ⟨q1.l L.1 B F (fun f a h1 h2 q => by omega) (fun f x i hx _ _ q => by omega), ?_⟩
    rw [F.1.2 9 379 j (by decide) (by omega) (by
      rintro (y | y | ⟨y, -⟩)
      · omega
      · omega
      · omega)]
    exact q2
  -- the end, behind row m
  have fin : ∀ (x : Int) (h2 : fi_H), Hp h2 → h2 157 377 0 = (m : Int) → FrL (fun f a i => (f = 157 ∧ a = 377) ∨ (i = m ∧ (378 ≤ a ∧ a ≤ 383))) h h2 → RowT u (pl u n m) (tok u n (pl u n m)) h2 m → h2 9 379 m = (pl u n m : Int) → (∃ k c, Bd h2 k c) → ((tok u n (pl u n m)).1 = 0 ∨ (tok u n (pl u n m)).1 = 1 ∨ m = 1201) →
      ∃ (h' : fi_H) (M : Nat), c_111_142 (d + 10) x 0 h2 = some (.inl none, h') ∧ Hp h' ∧ FrL wbeg h h' ∧ h' 157 377 0 = (M : Int) ∧ (m < M ∧ M ≤ 1202) ∧ Rows u n h' M ∧ (∀ j : Nat, j + 1 < M → (tok u n (pl u n j)).1 ≠ 0 ∧ (tok u n (pl u n j)).1 ≠ 1) ∧ ((tok u n (pl u n (M - 1))).1 = 0 ∨ (tok u n (pl u n (M - 1))).1 = 1 ∨ M = 1202) ∧ ∃ k c, Bd h' k c := by
    intro x h2 H2 hm2 F2 R2 hv2 B2 hend
    have H3 : Hp (fi_upd h2 157 377 0 ((m : Int) + 1)) := Hp.uI H2 0 (by decide) (by decide) (by omega)
    have F3 : Fr (fun f a _ => f = 157 ∧ a = 377) h2 (fi_upd h2 157 377 0 ((m : Int) + 1)) := Fr.u 0 _ (Fr.rf _ _) (by decide) ⟨rfl, rfl⟩
    have F3' : FrL (fun f a i => (f = 157 ∧ a = 377) ∨ (i = m ∧ (378 ≤ a ∧ a ≤ 383))) h (fi_upd h2 157 377 0 ((m : Int) + 1)) := F2.tr ((F3.mono (fun _ _ _ q => Or.inl q)).l H2 (by omega))
    obtain ⟨kk, cc, B2⟩ := B2
    refine ⟨fi_upd h2 157 377 0 ((m : Int) + 1), m + 1, ?_, H3, F3'.mono (fun f a i q => q.elim Or.inl (fun z => Or.inr z.2)), ?_, by omega, ?_, fun j hj => K j (by omega), ?_, _, _, B2.st H2 F3 (fun f i _ _ => ⟨fun q => by omega, fun q => by omega⟩) (fun f x i hx _ _ q => by omega)⟩
    · rw [e_111_142 (d + 10) x 0 H2.1, hm2, wI_id (by omega) (by omega)]
      repeat rewrite [lt_eq]
      rw [e_111_63 (d + 10) x 0 H3.1, if_pos rfl]
    · rw [fi_upd_same]; omega
    · intro j hj
      by_cases e : j = m
      · subst e
        refine ⟨R2.l H2 B2 (F3.l H2 (by omega)) (fun f a h1 h2 q => by omega) (fun f x i hx _ _ q => by omega), ?_⟩
        rw [fi_upd_ne _ _ _ _ _ (by omega)]; exact hv2
      · exact rows _ F3' j (by omega)
    · rw [Nat.add_sub_cancel]
      rcases hend with q | q | q
      · exact Or.inl q
      · exact Or.inr (Or.inl q)
      · exact Or.inr (Or.inr (by omega))
  unfold BegE
  rw [e_111_63 (d + 10) k 1 L.1.1, if_neg (by decide), kA_blank (d + 8) L hk, ca_ret, hm, if_pos (by omega), ← hpl, wS_id (by omega) (by omega), Int.toNat_natCast]
  repeat rewrite [lt_eq]
  rw [hm1, L1.2.1]
  have F1' : FrL (fun f a i => (f = 157 ∧ a = 377) ∨ (i = m ∧ (378 ≤ a ∧ a ≤ 383))) h (fi_upd h 9 379 m (pl u n m : Int)) := (F1.mono (fun _ _ _ q => Or.inr q)).l L.1 (by omega)
  generalize hX : fi_upd h 9 379 m (pl u n m : Int) = h1 at *
  by_cases q : ((pl u n m : Nat) : Int) = (n : Int)
  · have e : tok u n (pl u n m) = (0, pl u n m, 0) := by unfold tok; rw [if_pos (by omega)]
    rw [if_pos q, if_pos (by omega), Int.toNat_natCast]
    have H2 : Hp (fi_upd h1 8 378 m 0) := Hp.uB H1 m (by decide) (by decide) (by omega)
    have F2 : Fr (fun f a i => (f = 157 ∧ a = 377) ∨ (i = m ∧ (378 ≤ a ∧ a ≤ 383))) h1 (fi_upd h1 8 378 m 0) := Fr.u m _ (Fr.rf _ _) (by decide) (Or.inr ⟨rfl, by decide, by decide⟩)
    refine fin _ _ H2 (by rw [fi_upd_ne _ _ _ _ _ (by omega)]; exact hm1) (F1'.tr (F2.l H1 (by omega))) ?_ (by rw [fi_upd_ne _ _ _ _ _ (by omega)]; exact v1) ⟨_, _, B1.st H1 F2 (fun f i _ _ => ⟨fun q => by omega, fun q => by omega⟩) (fun f x i hx _ _ q => by omega)⟩ (by rw [e]; exact Or.inl rfl)
    rw [e]
    exact ⟨fi_upd_same _ _ _ _ _, fun z => by simp at z, fun z => by simp at z, fun z => by simp at z, fun z => by simp at z, fun z => by simp at z⟩
  · rw [if_neg q]
    obtain ⟨h2, e2, H2, F2, R2, B2⟩ := kA_token (d + 1) L1 hm1 (by omega) (p := pl u n m) (by omega) B1
    have F2' : FrL (fun f a i => (f = 157 ∧ a = 377) ∨ (i = m ∧ (378 ≤ a ∧ a ≤ 383))) h1 h2 := F2.mono (fun f a i z => Or.inr ⟨z.1, by omega⟩)
    have hm2 : h2 157 377 0 = (m : Int) := by
      rw [F2.1.2 157 377 0 (by decide) (by have := H1.1.2.2.1; omega) (by
        rintro (y | y | ⟨y, -⟩)
        · omega
        · omega
        · omega)]
      exact hm1
    have v2 : h2 9 379 m = (pl u n m : Int) := by
      rw [F2.1.2 9 379 m (by decide) (by have := H1.1.2.2.1; omega) (by
        rintro (y | y | ⟨y, -⟩)
        · have := y.2; omega
        · omega
        · omega)]
      exact v1
    obtain ⟨t1, t2⟩ := tok_end (u := u) (n := n) (p := pl u n m) (by omega) L.2.2.2.2
    have hk1 := R2.1
    rw [e2, ca_ret, hm2, if_pos (by omega), Int.toNat_natCast, hk1]
    by_cases k1 : (tok u n (pl u n m)).1 = 1
    · rw [if_pos (by omega), e_111_140 (d + 10) _ H2.1, e_111_141 (d + 10) _ _ H2.1]
      exact fin _ _ H2 hm2 (F1'.tr F2') R2 v2 B2 (Or.inr (Or.inl k1))
    · rw [if_neg (by omega)]
      by_cases k2 : 1200 < (m : Int)
      · rw [if_pos k2, e_111_140 (d + 10) _ H2.1, e_111_141 (d + 10) _ _ H2.1]
        exact fin _ _ H2 hm2 (F1'.tr F2') R2 v2 B2 (Or.inr (Or.inr (by omega)))
      · rw [if_neg k2, e_111_141 (d + 10) _ _ H2.1, e_111_142 (d + 10) _ _ H2.1, hm2, wI_id (by omega) (by omega)]
        repeat rewrite [lt_eq]
        have k0 : (tok u n (pl u n m)).1 ≠ 0 := by
          unfold tok
          rw [if_neg (by omega)]
          (repeat' split) <;> simp
        have H3 : Hp (fi_upd h2 157 377 0 ((m : Int) + 1)) := Hp.uI H2 0 (by decide) (by decide) (by omega)
        have F3 : Fr (fun f a _ => f = 157 ∧ a = 377) h2 (fi_upd h2 157 377 0 ((m : Int) + 1)) := Fr.u 0 _ (Fr.rf _ _) (by decide) ⟨rfl, rfl⟩
        have F3' : FrL (fun f a i => (f = 157 ∧ a = 377) ∨ (i = m ∧ (378 ≤ a ∧ a ≤ 383))) h (fi_upd h2 157 377 0 ((m : Int) + 1)) := (F1'.tr F2').tr ((F3.mono (fun _ _ _ q => Or.inl q)).l H2 (by omega))
        obtain ⟨kk, cc, B2⟩ := B2
        have B3 := B2.st H2 F3 (fun f i _ _ => ⟨fun q => by omega, fun q => by omega⟩) (fun f x i hx _ _ q => by omega)
        have L2 : LexU u n h2 := L1.l B1 H2 F2 wrow_U
        have L3 := L2.st H3 F3 ⟨fun q => by omega, fun k q => by omega⟩
        obtain ⟨h', M, c1, c2, c3, c4, c5, c6⟩ := cont (by omega) (tok u n (pl u n m)).2.1 (fi_upd h2 157 377 0 ((m : Int) + 1)) L3 ⟨_, _, B3⟩ (by rw [fi_upd_same]; omega) t2 rfl (by
          intro j hj
          by_cases e : j = m
          · subst e
            refine ⟨R2.l H2 B2 (F3.l H2 (by omega)) (fun f a h1 h2 q => by omega) (fun f x i hx _ _ q => by omega), ?_⟩
            rw [fi_upd_ne _ _ _ _ _ (by omega)]; exact v2
          · exact rows _ F3' j (by omega)) (fun j hj => by
          by_cases e : j = m
          · subst e; exact ⟨k0, k1⟩
          · exact K j (by omega))
        exact ⟨h', M, c1, c2, (F3'.mono (fun f a i q => q.elim Or.inl (fun z => Or.inr z.2))).tr c3, c4, by omega, c6⟩
theorem kA_beginl : ∀ (r m k : Nat) (h : fi_H), m + r = 1201 → LexU u n h → (∃ k c, Bd h k c) → h 157 377 0 = (m : Int) → k ≤ n → pl u n m = bk u n false k → Rows u n h m → (∀ j : Nat, j < m → (tok u n (pl u n j)).1 ≠ 0 ∧ (tok u n (pl u n j)).1 ≠ 1) → BegE u n m k h (d + 10) := by
  intro r
  induction r with
  | zero =>
    intro m k h hr L B hm hk hpl R K
    exact kA_begins d (by omega) L B hm hk hpl R K (fun q => by omega)
  | succ r ih =>
    intro m k h hr L B hm hk hpl R K
    exact kA_begins d (by omega) L B hm hk hpl R K (fun q k2 h2 L2 B2 hm2 hk2 hp2 R2 K2 => ih (m + 1) k2 h2 (by omega) L2 B2 hm2 hk2 hp2 R2 K2)
end BEGIN
/-- what begins ahead of the first token -/
def rst (h : fi_H) : fi_H := fi_upd (fi_upd (fi_upd (fi_upd (fi_upd (fi_upd (fi_upd (fi_upd (fi_upd (fi_upd h 156 377 0 (h 266 303 0)) 266 303 0 0) 158 377 0 0) 157 377 0 0) 159 377 0 0) 160 377 0 0) 161 377 0 0) 162 377 0 0) 163 377 0 0) 164 377 0 0
abbrev wrst (f a _i : Nat) : Prop := (a = 303 ∧ f = 266) ∨ (a = 377 ∧ 156 ≤ f ∧ f ≤ 164)
section BEGIN2
variable (d : Nat) {n : Nat} {h : fi_H}
theorem rst_hp (H : Hp h) : Hp (rst h) := by
  have hr := rI H (f := 266) rfl 303 0
  unfold rst
  exact Hp.uI (Hp.uI (Hp.uI (Hp.uI (Hp.uI (Hp.uI (Hp.uI (Hp.uI (Hp.uI (Hp.uI H 0 (by decide) (by decide) hr) 0 (by decide) (by decide) (by omega)) 0 (by decide) (by decide) (by omega)) 0 (by decide) (by decide) (by omega)) 0 (by decide) (by decide) (by omega)) 0 (by decide) (by decide) (by omega)) 0 (by decide) (by decide) (by omega)) 0 (by decide) (by decide) (by omega)) 0 (by decide) (by decide) (by omega)) 0 (by decide) (by decide) (by omega)
theorem rst_fr : Fr wrst h (rst h) := by
  unfold rst
  exact Fr.u 0 _ (Fr.u 0 _ (Fr.u 0 _ (Fr.u 0 _ (Fr.u 0 _ (Fr.u 0 _ (Fr.u 0 _ (Fr.u 0 _ (Fr.u 0 _ (Fr.u 0 _ (Fr.rf _ _) (by decide) (by decide)) (by decide) (by decide)) (by decide) (by decide)) (by decide) (by decide)) (by decide) (by decide)) (by decide) (by decide)) (by decide) (by decide)) (by decide) (by decide)) (by decide) (by decide)) (by decide) (by decide)
theorem rst_v : rst h 156 377 0 = h 266 303 0 ∧ rst h 266 303 0 = 0 ∧ rst h 157 377 0 = 0 ∧ rst h 158 377 0 = 0 ∧ rst h 159 377 0 = 0 ∧ rst h 160 377 0 = 0 ∧ rst h 161 377 0 = 0 ∧ rst h 162 377 0 = 0 ∧ rst h 163 377 0 = 0 ∧ rst h 164 377 0 = 0 := by simp [rst, fi_upd]
/-- the byte at a place of the tape, 0 behind its end -/
def tap (h : fi_H) (n : Nat) (k : Nat) : Int := if k < n then h 8 376 k else 0
/-- the class's tape is cut -/
theorem kA_begin (H : Hp h) {kb : Nat} {cb : Nat → Int} (B : Bd h kb cb) (hn : h 266 303 0 = (n : Int)) (hn2 : n ≤ 4000) :
    ∃ (h' : fi_H) (M : Nat), fj_run (d + 11) 111 h [(4, 377)] = some (.inl none, h') ∧ Hp h' ∧ FrL (fun f a i => wrst f a i ∨ wbeg f a i) h h' ∧ (h' 266 303 0 = 0 ∧ h' 158 377 0 = 0 ∧ h' 159 377 0 = 0 ∧ h' 160 377 0 = 0 ∧ h' 161 377 0 = 0 ∧ h' 162 377 0 = 0 ∧ h' 163 377 0 = 0 ∧ h' 164 377 0 = 0) ∧ h' 157 377 0 = (M : Int) ∧ (0 < M ∧ M ≤ 1202) ∧ Rows (tap h n) n h' M ∧
      (∀ j : Nat, j + 1 < M → (tok (tap h n) n (pl (tap h n) n j)).1 ≠ 0 ∧ (tok (tap h n) n (pl (tap h n) n j)).1 ≠ 1) ∧ ((tok (tap h n) n (pl (tap h n) n (M - 1))).1 = 0 ∨ (tok (tap h n) n (pl (tap h n) n (M - 1))).1 = 1 ∨ M = 1202) ∧ ∃ k c, Bd h' k c := by
  obtain ⟨v1, v2, v3, v4, v5, v6, v7, v8, v9, v10⟩ := rst_v (h := h)
  have H1 := rst_hp H
  have F1 := rst_fr (h := h)
  have ht := H.1.2.2.1
  have L1 : LexU (tap h n) n (rst h) := ⟨H1, by rw [v1]; exact hn, hn2, fun k hk => by rw [F1.2 8 376 k (by decide) (by omega) (by omega)]; unfold tap; rw [if_pos hk], fun k hk => by unfold tap; rw [if_neg (by omega)]⟩
  have B1 := B.st H F1 (fun f i _ _ => ⟨fun q => by omega, fun q => by omega⟩) (fun f x i hx _ _ q => by omega)
  have e1 : fj_run (d + 11) 111 h [(4, 377)] = c_111_63 (d + 10) 0 1 (rst h) := by
    rw [m_111 (d + 10) H.1]
    show c_111_59 (d + 10) (rst h) = _
    rw [e_111_59 (d + 10) H1.1]
  have r := kA_beginl d 1201 0 0 (rst h) (by omega) L1 ⟨_, _, B1⟩ v3 (by omega) rfl (fun j hj => by omega) (fun j hj => by omega)
  obtain ⟨h', M, c1, c2, c3, c4, c5, c6, c7, c8, c9⟩ := r
  have t1 := H1.1.2.2.1
  have o : ∀ f, f ≠ 157 → f ≠ 8 → h' f 377 0 = rst h f 377 0 := fun f q1 q2 => c3.1.2 f 377 0 (by decide) (by omega) (by
    rintro (y | y | ⟨y, -⟩)
    · omega
    · omega
    · omega)
  refine ⟨h', M, by rw [e1]; exact c1, c2, (F1.l H (by omega)).mono (fun f a i q => Or.inl q) |>.tr (c3.mono (fun f a i q => Or.inr q)), ⟨?_, ?_, ?_, ?_, ?_, ?_, ?_, ?_⟩, c4, c5, c6, c7, c8, c9⟩
  · rw [c3.1.2 266 303 0 (by decide) (by omega) (by
      rintro (y | y | ⟨y, -⟩)
      · omega
      · omega
      · omega)]
    exact v2
  · rw [o 158 (by decide) (by decide)]; exact v4
  · rw [o 159 (by decide) (by decide)]; exact v5
  · rw [o 160 (by decide) (by decide)]; exact v6
  · rw [o 161 (by decide) (by decide)]; exact v7
  · rw [o 162 (by decide) (by decide)]; exact v8
  · rw [o 163 (by decide) (by decide)]; exact v9
  · rw [o 164 (by decide) (by decide)]; exact v10
end BEGIN2
end

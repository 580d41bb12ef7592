section
/-! the words of a cut tape keep no hashes yet -/
set_option maxRecDepth 100000
section BEGZ
variable (d : Nat) {u : Nat → Int} {n : Nat} {h : fi_H}
theorem RowZ.l {h' : fi_H} {R : Nat → Nat → Nat → Prop} {j k kb : Nat} {c cb : Nat → Int} (H : Hp h) (B : Bd h kb cb) (q : RowZ h j) (S : StrN h (h 12 383 j) k c) (F : FrL R h h') (h1 : ¬ R 12 383 j) (h2 : ∀ f x i : Nat, 714 < x → ¬ R f x i) : RowZ h' j := by
  have ht := H.1.2.2.1
  have s1 := S.1.1
  have s2 := S.2.1
  have e : h' 12 383 j = h 12 383 j := F.1.2 12 383 j (by decide) (by omega) (by
    rintro (y | y | ⟨y, -⟩)
    · exact h1 y
    · omega
    · omega)
  have e2 : ∀ f, f ≠ 8 → h' f (h 12 383 j).toNat 0 = h f (h 12 383 j).toNat 0 := fun f hf => F.1.2 f _ 0 (by omega) (by omega) (by
    rintro (y | y | ⟨y, -⟩)
    · exact h2 _ _ _ (by omega) y
    · omega
    · exact hf y)
  unfold RowZ at q ⊢
  rw [e, e2 319 (by decide), e2 320 (by decide)]
  exact q
theorem kA_begz1 {m k : Nat} (hr : m ≤ 1201) (L : LexU u n h) (B : ∃ k c, Bd h k c) (hm : h 157 377 0 = (m : Int)) (hk : k ≤ n) (hpl : pl u n m = bk u n false k) (R : Rows u n h m) (Z : ∀ j : Nat, j < m → (tok u n (pl u n j)).1 = 2 → RowZ h j)
    (cont : m < 1201 → ∀ (k2 : Nat) (h2 : fi_H), LexU u n h2 → (∃ k c, Bd h2 k c) → h2 157 377 0 = ((m + 1 : Nat) : Int) → k2 ≤ n → pl u n (m + 1) = bk u n false k2 → Rows u n h2 (m + 1) → (∀ j : Nat, j < m + 1 → (tok u n (pl u n j)).1 = 2 → RowZ h2 j) → ∀ (h' : fi_H) (M : Nat), c_111_63 (d + 10) k2 1 h2 = some (.inl none, h') → h' 157 377 0 = (M : Int) → ∀ j : Nat, j < M → (tok u n (pl u n j)).1 = 2 → RowZ h' j) :
    ∀ (h' : fi_H) (M : Nat), c_111_63 (d + 10) k 1 h = some (.inl none, h') → h' 157 377 0 = (M : Int) → ∀ j : Nat, j < M → (tok u n (pl u n j)).1 = 2 → RowZ h' j := by
  intro h' M e hM j hj hs
  obtain ⟨kb, cb, B⟩ := B
  have hn := L.2.2.1
  have ht := L.1.1.2.2.1
  obtain ⟨p1, p2, p3⟩ := bk_ok (u := u) (n := n) (n - k) k false (by omega)
  rw [← hpl] at p1 p2 p3
  have H1 : Hp (fi_upd h 9 379 m (pl u n m : Int)) := Hp.uS L.1 m (by decide) (by decide) (by omega)
  have F1 : Fr (fun f a i => i = m ∧ (378 ≤ a ∧ a ≤ 383)) h (fi_upd h 9 379 m (pl u n m : Int)) := Fr.u m _ (Fr.rf _ _) (by decide) ⟨rfl, by decide, by decide⟩
  have L1 := L.st H1 F1 ⟨fun q => by omega, fun k q => by omega⟩
  have B1 := B.st L.1 F1 (fun f i _ _ => ⟨fun q => by omega, fun q => by omega⟩) (fun f x i hx _ _ q => by omega)
  have hm1 : fi_upd h 9 379 m (pl u n m : Int) 157 377 0 = (m : Int) := by rw [fi_upd_ne _ _ _ _ _ (by omega)]; exact hm
  have v1 : fi_upd h 9 379 m (pl u n m : Int) 9 379 m = (pl u n m : Int) := fi_upd_same _ _ _ _ _
  have FL1 := F1.l L.1 (by omega)
  have R1 : Rows u n (fi_upd h 9 379 m (pl u n m : Int)) m := fun j hj => ⟨(R j hj).1.l L.1 B FL1 (fun f a h1 h2 q => by omega) (fun f x i hx _ _ q => by omega), by rw [fi_upd_ne _ _ _ _ _ (by omega)]; exact (R j hj).2⟩
  have Z1 : ∀ j : Nat, j < m → (tok u n (pl u n j)).1 = 2 → RowZ (fi_upd h 9 379 m (pl u n m : Int)) j := fun j hj hs => (Z j hj hs).l L.1 B ((R j hj).1.2.2.2.2.2 hs) FL1 (fun q => by omega) (fun f x i hx q => by omega)
  have finZ : ∀ (x : Int) (h2 : fi_H), Hp h2 → h2 157 377 0 = (m : Int) → (∀ j : Nat, j < m + 1 → (tok u n (pl u n j)).1 = 2 → RowZ h2 j) → c_111_142 (d + 10) x 0 h2 = some (.inl none, h') → RowZ h' j := by
    intro x h2 H2 hm2 Z2 e
    have H3 : Hp (fi_upd h2 157 377 0 ((m : Int) + 1)) := Hp.uI H2 0 (by decide) (by decide) (by omega)
    rw [e_111_142 (d + 10) x 0 H2.1, hm2, wI_id (by omega) (by omega), lt_eq, e_111_63 (d + 10) x 0 H3.1, if_pos rfl] at e
    have e : fi_upd h2 157 377 0 ((m : Int) + 1) = h' := (Prod.mk.inj (Option.some.inj e)).2
    have hM2 : M = m + 1 := by rw [← e, fi_upd_same] at hM; omega
    have z := Z2 j (by omega) hs
    rw [← e]
    unfold RowZ at z ⊢
    rw [fi_upd_ne _ _ _ _ _ (by omega), fi_upd_ne _ _ _ _ _ (by omega), fi_upd_ne _ _ _ _ _ (by omega)]
    exact z
  rw [e_111_63 (d + 10) k 1 L.1.1, if_neg (by decide), kA_blank (d + 8) L hk, ca_ret, hm, if_pos (by omega), ← hpl, wS_id (by omega) (by omega), Int.toNat_natCast] at e
  repeat rewrite [lt_eq] at e
  rw [hm1, L1.2.1] at e
  generalize hX : fi_upd h 9 379 m (pl u n m : Int) = h1 at *
  by_cases q : ((pl u n m : Nat) : Int) = (n : Int)
  · have et : tok u n (pl u n m) = (0, pl u n m, 0) := by unfold tok; rw [if_pos (by omega)]
    rw [if_pos q, if_pos (by omega), Int.toNat_natCast] at e
    have H2 : Hp (fi_upd h1 8 378 m 0) := Hp.uB H1 m (by decide) (by decide) (by omega)
    refine finZ _ _ H2 (by rw [fi_upd_ne _ _ _ _ _ (by omega)]; exact hm1) (fun j hj hs => ?_) e
    by_cases y : j = m
    · rw [y, et] at hs; simp at hs
    · have z := Z1 j (by omega) hs
      unfold RowZ at z ⊢
      rw [fi_upd_ne _ _ _ _ _ (by omega), fi_upd_ne _ _ _ _ _ (by omega), fi_upd_ne _ _ _ _ _ (by omega)]
      exact z
  · rw [if_neg q] at e
    obtain ⟨h2, e2, H2, F2, R2, B2⟩ := kA_token (d + 1) L1 hm1 (by omega) (p := pl u n m) (by omega) B1
    have hm2 : h2 157 377 0 = (m : Int) := by
      rw [F2.1.2 157 377 0 (by decide) (by have := H1.1.2.2.1; omega) (by
        rintro (y | y | ⟨y, -⟩)
        · omega
        · omega
        · omega)]
      exact hm1
    have v2 : h2 9 379 m = (pl u n m : Int) := by
      rw [F2.1.2 9 379 m (by decide) (by have := H1.1.2.2.1; omega) (by
        rintro (y | y | ⟨y, -⟩)
        · have := y.2; omega
        · omega
        · omega)]
      exact v1
    have Z2 : ∀ j : Nat, j < m + 1 → (tok u n (pl u n j)).1 = 2 → RowZ h2 j := by
      intro j hj hs
      by_cases y : j = m
      · subst y; exact kA_tokZ (d + 1) L1 hm1 (by omega) (by omega) B1 hs e2
      · exact (Z1 j (by omega) hs).l H1 B1 ((R1 j (by omega)).1.2.2.2.2.2 hs) F2 (fun z => by have := z.1; omega) (fun f x i hx z => by have := z.2; omega)
    obtain ⟨t1, t2⟩ := tok_end (u := u) (n := n) (p := pl u n m) (by omega) L.2.2.2.2
    have hk1 := R2.1
    rw [e2, ca_ret, hm2, if_pos (by omega), Int.toNat_natCast, hk1] at e
    by_cases k1 : (tok u n (pl u n m)).1 = 1
    · rw [if_pos (by omega), e_111_140 (d + 10) _ H2.1, e_111_141 (d + 10) _ _ H2.1] at e
      exact finZ _ _ H2 hm2 Z2 e
    · rw [if_neg (by omega)] at e
      by_cases k2 : 1200 < (m : Int)
      · rw [if_pos k2, e_111_140 (d + 10) _ H2.1, e_111_141 (d + 10) _ _ H2.1] at e
        exact finZ _ _ H2 hm2 Z2 e
      · rw [if_neg k2, e_111_141 (d + 10) _ _ H2.1, e_111_142 (d + 10) _ _ H2.1, hm2, wI_id (by omega) (by omega), lt_eq] at e
        have H3 : Hp (fi_upd h2 157 377 0 ((m : Int) + 1)) := Hp.uI H2 0 (by decide) (by decide) (by omega)
        have F3 : Fr (fun f a _ => f = 157 ∧ a = 377) h2 (fi_upd h2 157 377 0 ((m : Int) + 1)) := Fr.u 0 _ (Fr.rf _ _) (by decide) ⟨rfl, rfl⟩
        obtain ⟨kk, cc, B2⟩ := B2
        have B3 := B2.st H2 F3 (fun f i _ _ => ⟨fun q => by omega, fun q => by omega⟩) (fun f x i hx _ _ q => by omega)
        have L2 : LexU u n h2 := L1.l B1 H2 F2 wrow_U
        have L3 := L2.st H3 F3 ⟨fun q => by omega, fun k q => by omega⟩
        have FL3 := F3.l H2 (by omega)
        refine cont (by omega) (tok u n (pl u n m)).2.1 _ L3 ⟨_, _, B3⟩ (by rw [fi_upd_same]; omega) t2 rfl (fun j hj => ?_) (fun j hj hs => ?_) h' M e hM j hj hs
        · by_cases y : j = m
          · subst y
            exact ⟨R2.l H2 B2 FL3 (fun f a h1 h2 q => by omega) (fun f x i hx _ _ q => by omega), by rw [fi_upd_ne _ _ _ _ _ (by omega)]; exact v2⟩
          · have r1 := R1 j (by omega)
            refine ⟨(r1.1.l H1 B1 F2 (fun f a h1 h2 q => by have := q.1; omega) (fun f x i hx _ _ q => by have := q.2; omega)).l H2 B2 FL3 (fun f a h1 h2 q => by omega) (fun f x i hx _ _ q => by omega), ?_⟩
            rw [fi_upd_ne _ _ _ _ _ (by omega), F2.1.2 9 379 j (by decide) (by have := H1.1.2.2.1; omega) (by
              rintro (y | y | ⟨y, -⟩)
              · have := y.1; omega
              · omega
              · omega)]
            exact r1.2
        · have z := Z2 j hj hs
          unfold RowZ at z ⊢
          rw [fi_upd_ne _ _ _ _ _ (by omega), fi_upd_ne _ _ _ _ _ (by omega), fi_upd_ne _ _ _ _ _ (by omega)]
          exact z
theorem kA_begz : ∀ (r m k : Nat) (h : fi_H), m + r = 1201 → LexU u n h → (∃ k c, Bd h k c) → h 157 377 0 = (m : Int) → k ≤ n → pl u n m = bk u n false k → Rows u n h m → (∀ j : Nat, j < m → (tok u n (pl u n j)).1 = 2 → RowZ h j) →
    ∀ (h' : fi_H) (M : Nat), c_111_63 (d + 10) k 1 h = some (.inl none, h') → h' 157 377 0 = (M : Int) → ∀ j : Nat, j < M → (tok u n (pl u n j)).1 = 2 → RowZ h' j := by
  intro r
  induction r with
  | zero =>
    intro m k h hr L B hm hk hpl R Z
    exact kA_begz1 d (by omega) L B hm hk hpl R Z (fun q => by omega)
  | succ r ih =>
    intro m k h hr L B hm hk hpl R Z
    exact kA_begz1 d (by omega) L B hm hk hpl R Z (fun q k2 h2 L2 B2 hm2 hk2 hp2 R2 Z2 => ih (m + 1) k2 h2 (by omega) L2 B2 hm2 hk2 hp2 R2 Z2)
end BEGZ
end

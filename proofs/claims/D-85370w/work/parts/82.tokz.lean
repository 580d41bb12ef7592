section
/-! a word that is cut is a string that keeps no hash yet -/
set_option maxRecDepth 100000
def RowZ (h : fi_H) (m : Nat) : Prop := h 319 (h 12 383 m).toNat 0 = 0 ∧ h 320 (h 12 383 m).toNat 0 = 0
section TOKZ
variable (d : Nat) {u : Nat → Int} {n : Nat} {h : fi_H}
theorem kA_w99z (L : LexU u n h) {p m : Nat} (hm : h 157 377 0 = (m : Int)) (hm2 : m < 1202) (q : ¬ 12 < we u n p - p) (B : Bd h (we u n p - p) (fun i => u (p + i))) :
    ∃ h', c_113_99 (d + 8) ((we u n p : Nat) : Int) 378 (m : Int) 2 h = some (.inl (some (0, ((we u n p : Nat) : Int))), h') ∧ RowZ h' m := by
  have a1 := s0_378 L.1.1
  have a2 := s1_378 L.1.1
  have tn : ((378 : Int)).toNat = 378 := rfl
  have et8 : fi_et 1 8 = 8 := by decide
  have ht := L.1.1.2.2.1
  have H1 : Hp (fi_upd h 8 378 m 2) := Hp.uB L.1 m (by decide) (by decide) (by omega)
  have hm1 : fi_upd h 8 378 m 2 157 377 0 = (m : Int) := by rw [fi_upd_ne _ _ _ _ _ (by omega)]; exact hm
  have B1 : Bd (fi_upd h 8 378 m 2) (we u n p - p) (fun i => u (p + i)) := by
    obtain ⟨b1, b2, b3, b4, b5, b6, b7, b8⟩ := B
    have z : ∀ f a i : Nat, a ≠ 378 → fi_upd h 8 378 m 2 f a i = h f a i := fun f a i q => fi_upd_ne _ _ _ _ _ (by omega)
    unfold Bd
    rw [z 145 384 0 (by omega), z 2 0 0 (by omega), z 0 _ 0 (by omega), z 1 _ 0 (by omega), z 146 384 0 (by omega), z 148 384 0 (by omega)]
    exact ⟨b1, b2, b3, b4, b5, b6, b7, fun i hi => by rw [z 8 _ i (by omega)]; exact b8 i hi⟩
  have s1 : fi_upd h 8 378 m 2 8 378 m = 2 := fi_upd_same _ _ _ _ _
  rw [e_113_99 (d + 8) _ _ _ _ L.1.1, tn, a1, et8, a2, if_pos ⟨by decide, by decide⟩, if_pos (by omega), wB_id (by omega) (by omega), if_pos (by rfl)]
  repeat rewrite [lt_eq]
  rw [Int.toNat_natCast, hm1, if_pos (by omega), Int.toNat_natCast, s1, if_pos rfl]
  generalize fi_upd h 8 378 m 2 = h1 at *
  have ht1 := H1.1.2.2.1
  obtain ⟨h2, r1, H2, C2, v2, t2, F2, z1, z2⟩ := kA_toStr (d + 1) H1 B1 (by omega)
  rw [r1, ca_ret, if_pos (Or.inr (by rw [C2.2.1]; rfl))]
  repeat rewrite [lt_eq]
  refine ⟨_, rfl, ?_⟩
  unfold RowZ
  rw [fi_upd_same, fi_upd_ne _ _ _ _ _ (by omega), fi_upd_ne _ _ _ _ _ (by omega)]
  exact ⟨z1, z2⟩
theorem kA_tokZ (L : LexU u n h) {p m : Nat} (hm : h 157 377 0 = (m : Int)) (hm2 : m < 1202) (hp : p < n) {k0 : Nat} {c0 : Nat → Int} (B0 : Bd h k0 c0) (h2 : (tok u n p).1 = 2) {h' : fi_H} {v : Option FV} (e : fj_run (d + 9) 113 h [(4, 377), (0, (p : Int))] = some (.inl v, h')) : RowZ h' m := by
  have q1 : xs (u p) ∧ ¬ 12 < we u n p - p := by
    unfold tok at h2
    split at h2
    · simp at h2
    · split at h2
      · rename_i z1
        simp only at h2
        split at h2
        · simp at h2
        · exact ⟨z1, by assumption⟩
      · split at h2
        · split at h2
          · simp at h2
          · split at h2
            · simp at h2
            · split at h2 <;> simp at h2
        · split at h2
          · split at h2 <;> simp at h2
          · split at h2 <;> simp at h2
  have hn := L.2.2.1
  obtain ⟨h1, e1, H1, B1, F1⟩ := kA_setl (d + 5) L.1 B0
  have L1 : LexU u n h1 := L.l B0 H1 (F1.l (R := fun _ _ _ => False)) ⟨fun q => q, fun _ q => q⟩
  obtain ⟨w1, w2, w3, w4⟩ := we_ok (u := u) (n := n) (n - p) p (by omega)
  obtain ⟨h3, e2, H2, B2, F2⟩ := kA_wordl (d + 2) (p := p) (by omega) (we u n p - p) p h1 L1 (by omega) (Nat.le_refl _) (by rw [Nat.sub_self]; exact B1 _)
  have L2 : LexU u n h3 := L1.l (B1 (fun _ => 0)) H2 (F2.l (R := fun _ _ _ => False)) ⟨fun q => q, fun _ q => q⟩
  have hm' : h3 157 377 0 = (m : Int) := by
    have ht := L.1.1.2.2.1
    rw [(F1.tr F2).1.2 157 377 0 (by decide) (by omega) (by intro z; have := B0.2.1; rcases z with z | ⟨z, -⟩ <;> exact absurd z (by decide))]; exact hm
  obtain ⟨h4, e4, Z⟩ := kA_w99z d L2 hm' hm2 q1.2 B2
  rw [m_113 (d + 8) p L.1.1, kA_byte (d + 7) L p, ca_ret, kA_small (d + 7) L.1.1, ca_ret, ite0, if_pos q1.1, e1, cv_ret, e2, hm', if_neg q1.2, e4] at e
  have : h4 = h' := by simpa using (Prod.mk.inj (Option.some.inj e)).2
  rw [← this]; exact Z
end TOKZ
end

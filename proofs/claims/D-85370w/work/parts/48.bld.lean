section
/-! the builder of words -/
set_option maxRecDepth 100000
theorem nw_eq {h : fi_H} {k n len : Int} {b : Int → fi_H → fk_R} : nw_ h k n len b = b (h 2 0 0 + 1) (fi_new h k n len) := rfl
def Bd (h : fi_H) (k : Nat) (c : Nat → Int) : Prop :=
  (302 < h 145 384 0 ∧ h 145 384 0 ≤ h 2 0 0) ∧ (h 145 384 0 = 385 ∨ 714 < h 145 384 0) ∧ h 0 (h 145 384 0).toNat 0 = 8 ∧ (16 ≤ h 1 (h 145 384 0).toNat 0 ∧ h 1 (h 145 384 0).toNat 0 ≤ 8002) ∧
  h 146 384 0 = 0 ∧ h 148 384 0 = (k : Int) ∧ (k : Int) ≤ h 1 (h 145 384 0).toNat 0 ∧ ∀ i, i < k → h 8 (h 145 384 0).toNat i = c i
/-- the builder's cells -/
abbrev wbd (vb : Int) (f a _i : Nat) : Prop := a = 384 ∨ (f = 8 ∧ (a : Int) = vb)
def FrB (h h' : fi_H) : Prop := Fr (wbd (h 145 384 0)) h h' ∧ (h' 145 384 0 = h 145 384 0 ∨ h 2 0 0 < h' 145 384 0)
theorem FrB.rf (h : fi_H) : FrB h h := ⟨Fr.rf _ _, Or.inl rfl⟩
theorem FrB.tr {a b c : fi_H} (p : FrB a b) (q : FrB b c) : FrB a c := by
  obtain ⟨p1, p2⟩ := p
  obtain ⟨q1, q2⟩ := q
  refine ⟨⟨Int.le_trans p1.1 q1.1, fun f x i h0 hx hw => ?_⟩, ?_⟩
  · have e : ¬ wbd (b 145 384 0) f x i := by
      intro z
      rcases z with z | ⟨z1, z2⟩
      · exact hw (Or.inl z)
      · rcases p2 with r | r
        · exact hw (Or.inr ⟨z1, by rw [z2, r]⟩)
        · omega
    exact (q1.2 f x i h0 (Int.le_trans hx p1.1) e).trans (p1.2 f x i h0 hx hw)
  · have := p1.1
    rcases q2 with r | r
    · rw [r]; exact p2
    · right; omega
theorem sr_0 {y : Int} (h1 : -2147483648 ≤ y) (h2 : y < 2147483648) : sr_ y 0 = y := by
  unfold sr_
  have e : fi_I y >>> (fi_I 0 &&& 31) = fi_I y := by
    have : (fi_I 0 &&& 31 : Int32) = 0 := by decide
    rw [this]
    exact Int32.shiftRight_zero
  rw [e]
  exact wI_id h1 h2
theorem sl_0 {y : Int} (h1 : -2147483648 ≤ y) (h2 : y < 2147483648) : sl_ y 0 = y := by
  unfold sl_
  have e : fi_I y <<< (fi_I 0 &&& 31) = fi_I y := by
    have : (fi_I 0 &&& 31 : Int32) = 0 := by decide
    rw [this]
    exact Int32.shiftLeft_zero
  rw [e]
  exact wI_id h1 h2
/-- bytes moved in bulk -/
def cpy (h : fi_H) (s sp t tp k : Int) : fi_H := fun f b i => if f = 8 ∧ (b : Int) = t ∧ tp ≤ (i : Int) ∧ (i : Int) < tp + k then h 8 s.toNat (i - tp.toNat + sp.toNat) else h f b i
section BLD
variable (d : Nat) {h : fi_H}
theorem run_1000 {s sp t tp k : Int} (q : 0 < s ∧ (fi_J : Int) < t ∧ s ≠ t ∧ h 0 s.toNat 0 = 8 ∧ h 0 t.toNat 0 = 8 ∧ 0 ≤ sp ∧ 0 ≤ tp ∧ 0 ≤ k ∧ sp + k ≤ h 1 s.toNat 0 ∧ tp + k ≤ h 1 t.toNat 0) : fj_run (d + 1) 1000 h [(4, s), (0, sp), (4, t), (0, tp), (0, k)] = some (.inl none, cpy h s sp t tp k) := by
  have e : fj_ntv 1000 h [(4, s), (0, sp), (4, t), (0, tp), (0, k)] = some (some (.inl none, cpy h s sp t tp k)) := by
    unfold fj_ntv fi_nat0
    rw [if_neg (by decide), if_neg (by decide), if_neg (by decide), if_neg (by decide), if_pos rfl]
    simp only [if_pos q]
    rfl
  rw [fj_run]
  simp only [e]
theorem run_1009 {r : Int} (q : 0 < r) : fj_run (d + 1) 1009 h [(4, r)] = some (.inl none, h) := by
  have e : fj_ntv 1009 h [(4, r)] = some (some (.inl none, h)) := by
    unfold fj_ntv fi_nat0
    rw [if_neg (by decide), if_neg (by decide), if_neg (by decide), if_neg (by decide), if_neg (by decide), if_neg (by decide), if_neg (by decide), if_neg (by decide), if_pos rfl]
    simp only [if_pos q]
  rw [fj_run]
  simp only [e]
theorem kA_ens0 (H : Hp h) {c : Nat → Int} {k : Nat} (B : Bd h k c) {x : Int} (h0 : 0 ≤ x) (hx : x ≤ h 1 (h 145 384 0).toNat 0) : fj_run (d + 1) 118 h [(4, 384), (0, x)] = some (.inl none, h) := by
  obtain ⟨b1, b2, b3, b4, b5, b6, b7, b8⟩ := B
  have hc : h 0 ((384 : Int)).toNat 0 = 132 := s0_384 H.1
  have t : ((384 : Int)).toNat = 384 := rfl
  rw [m_118 d 384 x H.1 hc (by decide), if_pos hc, t, b3, if_pos (by decide)]
  repeat rewrite [lt_eq]
  rw [b5, sr_0 (by omega) (by omega), wI_id (by omega) (by omega), if_neg (by omega)]
theorem kA_setl (H : Hp h) {c : Nat → Int} {k : Nat} (B : Bd h k c) : ∃ h', fj_run (d + 3) 116 h [(4, 384), (0, 0)] = some (.inl none, h') ∧ Hp h' ∧ (∀ c', Bd h' 0 c') ∧ FrB h h' := by
  have hc : h 0 ((384 : Int)).toNat 0 = 132 := s0_384 H.1
  have t : ((384 : Int)).toNat = 384 := rfl
  have e1 := kA_ens0 d H B (x := 0) (by omega) (by have := B.2.2.2.1; omega)
  have B' := B
  obtain ⟨b1, b2, b3, b4, b5, b6, b7, b8⟩ := B
  have hv : (h 145 384 0).toNat ≠ 384 := by omega
  have fin : ∀ h1 : fi_H, Hp h1 → (∀ f i : Nat, f ≠ 147 → h1 f 384 i = h f 384 i) → (∀ f a i : Nat, a ≠ 384 → h1 f a i = h f a i) → ∃ h', c_117_76 (d + 1) 384 0 h1 = some (.inl none, h') ∧ Hp h' ∧ (∀ c', Bd h' 0 c') ∧ FrB h h' := by
    intro h1 H1 g1 g2
    have hc1 : h1 0 ((384 : Int)).toNat 0 = 132 := s0_384 H1.1
    refine ⟨fi_upd h1 148 384 0 0, ?_, Hp.uI H1 0 (by decide) (by decide) (by omega), ?_, ?_⟩
    · rw [e_117_76 (d + 1) 384 0 H1.1 hc1 (by decide), if_pos hc1, if_pos (by decide)]
      rfl
    · intro c'
      have z : ∀ f a i : Nat, ¬ (f = 148 ∧ a = 384 ∧ i = 0) → fi_upd h1 148 384 0 0 f a i = h1 f a i := fun f a i q => fi_upd_ne _ _ _ _ _ q
      unfold Bd
      rw [z 145 384 0 (by omega), z 2 0 0 (by omega), z 146 384 0 (by omega), g1 145 0 (by omega), g1 146 0 (by omega), g2 2 0 0 (by omega), z 0 _ 0 (by omega), z 1 _ 0 (by omega), g2 0 _ 0 hv, g2 1 _ 0 hv]
      exact ⟨b1, b2, b3, b4, b5, fi_upd_same _ _ _ _ _, by omega, fun i hi => by omega⟩
    · refine ⟨⟨?_, fun f a i _ _ hw => ?_⟩, Or.inl ?_⟩
      · rw [fi_upd_ne _ _ _ _ _ (by omega), g2 2 0 0 (by omega)]; exact Int.le_refl _
      · have ha : a ≠ 384 := fun q => hw (Or.inl q)
        rw [fi_upd_ne _ _ _ _ _ (by omega), g2 f a i ha]
      · rw [fi_upd_ne _ _ _ _ _ (by omega), g1 145 0 (by omega)]
  have e2 : ∃ h', fj_run (d + 2) 117 h [(4, 384), (0, 0)] = some (.inl none, h') ∧ Hp h' ∧ (∀ c', Bd h' 0 c') ∧ FrB h h' := by
    rw [m_117 (d + 1) 384 0 H.1 hc (by decide), if_neg (by decide), t, s0_384 H.1, show fi_vt 328 132 = some 118 from rfl]
    have hd : ∀ k : Nat → fk_R, dv_ (some 118) k = k 118 := fun _ => rfl
    rw [hd, e1, cv_ret, s0_384 H.1, if_pos rfl, b6, if_neg (by omega)]
    by_cases q : 0 < (k : Int)
    · rw [if_pos q, if_pos (by decide)]
      exact fin _ (Hp.uZ H 0 (by decide) (by decide) (by omega)) (fun f i q => fi_upd_ne _ _ _ _ _ (by omega)) (fun f a i q => fi_upd_ne _ _ _ _ _ (by omega))
    · rw [if_neg q]
      exact fin h H (fun _ _ _ => rfl) (fun _ _ _ _ => rfl)
  obtain ⟨h', e2, r⟩ := e2
  refine ⟨h', ?_, r⟩
  rw [m_116 (d + 2) 384 0 H.1 hc, e2, cv_ret]
theorem kA_ncap (H : Hp h) {c : Nat → Int} {k : Nat} (B : Bd h k c) (hk : h 1 (h 145 384 0).toNat 0 = (k : Int)) (hk2 : k ≤ 4000) : fj_run (d + 3) 119 h [(4, 384), (0, (k : Int) + 1)] = some (.inl (some (0, 2 * (k : Int) + 2)), h) := by
  obtain ⟨b1, b2, b3, b4, b5, b6, b7, b8⟩ := B
  have hc : h 0 ((384 : Int)).toNat 0 = 132 := s0_384 H.1
  have t : ((384 : Int)).toNat = 384 := rfl
  rw [m_119 (d + 2) 384 _ H.1 hc (by decide), if_pos hc, t, b3, if_pos (by decide)]
  repeat rewrite [lt_eq]
  rw [b5, hk, sl_0 (by omega) (by omega), show sl_ 2 0 = 2 from by decide, wI_id (by omega) (by omega), wI_id (x := (k : Int) + 2) (by omega) (by omega), m_120 (d + 1) _ _ _ H.1, m_6 d _ _ H.1, if_pos (by omega), ca_ret, wI_id (by omega) (by omega), if_pos (by omega), if_neg (by omega), ca_ret, if_neg (by omega), b5, sr_0 (by omega) (by omega)]
  exact ret_eq (by omega)
theorem cpy_o (s sp t tp k : Int) {f b : Nat} (i : Nat) (q : f ≠ 8 ∨ (b : Int) ≠ t) : cpy h s sp t tp k f b i = h f b i := by
  unfold cpy
  rw [if_neg (by omega)]
theorem cpy_i (s sp t tp k : Int) {b i : Nat} (q : (b : Int) = t) (q1 : tp ≤ (i : Int)) (q2 : (i : Int) < tp + k) : cpy h s sp t tp k 8 b i = h 8 s.toNat (i - tp.toNat + sp.toNat) := by
  unfold cpy
  rw [if_pos ⟨rfl, q, q1, q2⟩]
theorem fw_v4 {top r : Int} (q : 0 ≤ r ∧ r ≤ top) : fw_v fw_all top (4, r) := ⟨q, fun _ _ => trivial⟩
theorem fw_v0 {top x : Int} (q : -2147483648 ≤ x ∧ x < 2147483648) : fw_v fw_all top (0, x) := ⟨q, fun e => by cases e⟩
theorem cpy_hp (H : Hp h) {s sp t tp k : Int} (q : 0 < s ∧ (fi_J : Int) < t ∧ s ≠ t ∧ h 0 s.toNat 0 = 8 ∧ h 0 t.toNat 0 = 8 ∧ 0 ≤ sp ∧ 0 ≤ tp ∧ 0 ≤ k ∧ sp + k ≤ h 1 s.toNat 0 ∧ tp + k ≤ h 1 t.toNat 0) (hs : s ≤ h 2 0 0) (ht : t ≤ h 2 0 0) : Hp (cpy h s sp t tp k) := by
  have l1 := H.2.2.2.2 s.toNat
  have l2 := H.2.2.2.2 t.toNat
  have hJ : (0 : Int) ≤ (fi_J : Int) := by omega
  refine Hp.run H (d := 1) (M := 1000) (a := [(4, s), (0, sp), (4, t), (0, tp), (0, k)]) (fun v hv => ?_) (run_1000 0 q)
  simp only [List.mem_cons, List.not_mem_nil, or_false] at hv
  rcases hv with rfl | rfl | rfl | rfl | rfl
  · exact fw_v4 (by omega)
  · exact fw_v0 (by omega)
  · exact fw_v4 (by omega)
  · exact fw_v0 (by omega)
  · exact fw_v0 (by omega)
/-- a new cell -/
theorem new_o (k n len : Int) {f a : Nat} (i : Nat) (q : (a : Int) ≠ h 2 0 0 + 1) (q0 : a ≠ 0) : fi_new h k n len f a i = h f a i := by
  unfold fi_new
  rw [if_neg q, if_neg q0]
theorem new_2 (k n len : Int) (H : Hp h) : fi_new h k n len 2 0 0 = h 2 0 0 + 1 := fi_new_top h k n len (by have := H.2.1; omega)
theorem new_c (k n len : Int) (H : Hp h) (i : Nat) : fi_new h k n len 0 (h 2 0 0 + 1).toNat i = k := by
  have := H.2.1
  unfold fi_new
  rw [if_pos (by omega), if_pos rfl]
theorem new_l (k n len : Int) (H : Hp h) (i : Nat) : fi_new h k n len 1 (h 2 0 0 + 1).toNat i = len := by
  have := H.2.1
  unfold fi_new
  rw [if_pos (by omega), if_neg (by decide), if_pos rfl]
theorem new_z (k n len : Int) (H : Hp h) {f : Nat} (i : Nat) (q : 2 ≤ f) : fi_new h k n len f (h 2 0 0 + 1).toNat i = 0 := by
  have := H.2.1
  unfold fi_new
  rw [if_pos (by omega), if_neg (by omega), if_neg (by omega)]
/-- Arrays.copyOf to a greater length -/
theorem kA_copyOf (H : Hp h) {v len m : Int} (hv : 302 < v ∧ v ≤ h 2 0 0) (hc : h 0 v.toNat 0 = 8) (hl : h 1 v.toNat 0 = len) (hm : len < m ∧ m < 65536) :
    fj_run (d + 2) 122 h [(4, v), (0, m)] = some (.inl (some (4, h 2 0 0 + 1)), cpy (fi_new h 8 m m) v 0 (h 2 0 0 + 1) 0 len) ∧ Hp (cpy (fi_new h 8 m m) v 0 (h 2 0 0 + 1) 0 len) := by
  have hl0 := H.2.2.2.2 v.toNat
  have HN := Hp.n H (k := 8) m (len := m) (by decide) ⟨by omega, by omega⟩
  have hJ : (fi_J : Int) = 302 := rfl
  have g0 : fi_new h 8 m m 0 v.toNat 0 = 8 := by rw [new_o 8 m m 0 (by omega) (by omega)]; exact hc
  have g1 : fi_new h 8 m m 1 v.toNat 0 = len := by rw [new_o 8 m m 0 (by omega) (by omega)]; exact hl
  have g2 := new_c (h := h) 8 m m H 0
  have g3 := new_l (h := h) 8 m m H 0
  have q : 0 < v ∧ (fi_J : Int) < h 2 0 0 + 1 ∧ v ≠ h 2 0 0 + 1 ∧ fi_new h 8 m m 0 v.toNat 0 = 8 ∧ fi_new h 8 m m 0 (h 2 0 0 + 1).toNat 0 = 8 ∧ (0 : Int) ≤ 0 ∧ (0 : Int) ≤ 0 ∧ 0 ≤ len ∧ 0 + len ≤ fi_new h 8 m m 1 v.toNat 0 ∧ 0 + len ≤ fi_new h 8 m m 1 (h 2 0 0 + 1).toNat 0 := by
    rw [g1, g3]
    exact ⟨by omega, by omega, by omega, g0, g2, by omega, by omega, by omega, by omega, by omega⟩
  refine ⟨?_, cpy_hp HN q (by rw [new_2 8 m m H]; omega) (by rw [new_2 8 m m H]; omega)⟩
  rw [m_122 (d + 1) v m H.1, hc, if_pos (by decide), hl, if_neg (by omega), if_pos (by omega)]
  rw [nw_eq, g0, if_pos (by decide), m_7 d _ _ HN.1, g1, if_neg (by omega), ca_ret, run_1000 d q, cv_ret]
theorem kA_append (H : Hp h) {c : Nat → Int} {k : Nat} (B : Bd h k c) (hk : k ≤ 4000) (hc0 : 0 ≤ c k ∧ c k < 128) : ∃ h', fj_run (d + 6) 129 h [(4, 384), (0, c k)] = some (.inl (some (4, 384)), h') ∧ Hp h' ∧ Bd h' (k + 1) c ∧ FrB h h' := by
  have hc : h 0 ((384 : Int)).toNat 0 = 132 := s0_384 H.1
  have t : ((384 : Int)).toNat = 384 := rfl
  have ht := H.1.2.2.1
  -- the capacity first
  have e1 : ∃ h1, fj_run (d + 4) 118 h [(4, 384), (0, (k : Int) + 1)] = some (.inl none, h1) ∧ Hp h1 ∧ Bd h1 k c ∧ FrB h h1 ∧ (k : Int) + 1 ≤ h1 1 (h1 145 384 0).toNat 0 := by
    by_cases q : (k : Int) + 1 ≤ h 1 (h 145 384 0).toNat 0
    · exact ⟨h, kA_ens0 (d + 3) H B (by omega) q, H, B, FrB.rf h, q⟩
    · have B' := B
      obtain ⟨b1, b2, b3, b4, b5, b6, b7, b8⟩ := B
      have hlen : h 1 (h 145 384 0).toNat 0 = (k : Int) := by omega
      obtain ⟨ec, Hc⟩ := kA_copyOf (d + 1) H (v := h 145 384 0) (len := (k : Int)) (m := 2 * (k : Int) + 2) b1 b3 hlen (by omega)
      have hcl : cpy (fi_new h 8 (2 * (k : Int) + 2) (2 * (k : Int) + 2)) (h 145 384 0) 0 (h 2 0 0 + 1) 0 (k : Int) 2 0 0 = h 2 0 0 + 1 := by rw [cpy_o _ _ _ _ _ _ (by omega), new_2 _ _ _ H]
      have hold : ∀ f a i : Nat, 0 < a → (a : Int) ≤ h 2 0 0 → cpy (fi_new h 8 (2 * (k : Int) + 2) (2 * (k : Int) + 2)) (h 145 384 0) 0 (h 2 0 0 + 1) 0 (k : Int) f a i = h f a i := fun f a i h0 h1 => by rw [cpy_o _ _ _ _ _ _ (by omega), new_o _ _ _ _ (by omega) (by omega)]
      have H2 : Hp (fi_upd (cpy (fi_new h 8 (2 * (k : Int) + 2) (2 * (k : Int) + 2)) (h 145 384 0) 0 (h 2 0 0 + 1) 0 (k : Int)) 145 384 0 (h 2 0 0 + 1)) := Hp.uR Hc 0 (by decide) (by decide) (by omega)
      have z : ∀ f a i : Nat, ¬ (f = 145 ∧ a = 384 ∧ i = 0) → fi_upd (cpy (fi_new h 8 (2 * (k : Int) + 2) (2 * (k : Int) + 2)) (h 145 384 0) 0 (h 2 0 0 + 1) 0 (k : Int)) 145 384 0 (h 2 0 0 + 1) f a i = cpy (fi_new h 8 (2 * (k : Int) + 2) (2 * (k : Int) + 2)) (h 145 384 0) 0 (h 2 0 0 + 1) 0 (k : Int) f a i := fun f a i q => fi_upd_ne _ _ _ _ _ q
      refine ⟨fi_upd (cpy (fi_new h 8 (2 * (k : Int) + 2) (2 * (k : Int) + 2)) (h 145 384 0) 0 (h 2 0 0 + 1) 0 (k : Int)) 145 384 0 (h 2 0 0 + 1), ?_, H2, ?_, ?_, ?_⟩
      · rw [m_118 (d + 3) 384 _ H.1 hc (by decide), if_pos hc, t, b3, if_pos (by decide)]
        repeat rewrite [lt_eq]
        rw [b5, hlen, sr_0 (by omega) (by omega), wI_id (by omega) (by omega), if_pos (by omega), kA_ncap d H B' hlen hk, ca_ret, b5, sl_0 (by omega) (by omega), ec, ca_ret, if_pos (by decide), lt_eq]
      · unfold Bd
        rw [fi_upd_same, z 2 0 0 (by omega), hcl, z 0 _ 0 (by omega), z 1 _ 0 (by omega), cpy_o _ _ _ _ _ _ (by omega), cpy_o _ _ _ _ _ _ (by omega), new_c _ _ _ H, new_l _ _ _ H, z 146 384 0 (by omega), hold 146 384 0 (by omega) (by omega), z 148 384 0 (by omega), hold 148 384 0 (by omega) (by omega)]
        refine ⟨by omega, by omega, rfl, by omega, b5, b6, by omega, fun i hi => ?_⟩
        rw [z 8 _ i (by omega), cpy_i _ _ _ _ _ (by omega) (by omega) (by omega), new_o _ _ _ _ (by omega) (by omega)]
        have : i - ((0 : Int)).toNat + ((0 : Int)).toNat = i := by simp
        rw [this]
        exact b8 i hi
      · refine ⟨⟨?_, fun f a i h0 h1 hw => ?_⟩, Or.inr ?_⟩
        · rw [z 2 0 0 (by omega), hcl]; omega
        · have ha : a ≠ 384 := fun q => hw (Or.inl q)
          rw [z f a i (by omega), hold f a i h0 h1]
        · rw [fi_upd_same]; omega
      · rw [fi_upd_same, z 1 _ 0 (by omega), cpy_o _ _ _ _ _ _ (by omega), new_l _ _ _ H]; omega
  obtain ⟨h1, e1, H1, B1, F1, hcap⟩ := e1
  have hc1 : h1 0 ((384 : Int)).toNat 0 = 132 := s0_384 H1.1
  have ht1 := H1.1.2.2.1
  obtain ⟨b1, b2, b3, b4, b5, b6, b7, b8⟩ := B1
  have hk148 : h 148 384 0 = (k : Int) := B.2.2.2.2.2.1
  have H2 : Hp (fi_upd h1 148 384 0 ((k : Int) + 1)) := Hp.uI H1 0 (by decide) (by decide) (by omega)
  have hcl2 : fi_upd h1 148 384 0 ((k : Int) + 1) 0 (h1 145 384 0).toNat 0 = 8 := by rw [fi_upd_ne _ _ _ _ _ (by omega)]; exact b3
  have hln2 : fi_upd h1 148 384 0 ((k : Int) + 1) 1 (h1 145 384 0).toNat 0 = h1 1 (h1 145 384 0).toNat 0 := fi_upd_ne _ _ _ _ _ (by omega)
  have et8 : fi_et 1 8 = 8 := by decide
  have H3 : Hp (fi_upd (fi_upd h1 148 384 0 ((k : Int) + 1)) 8 (h1 145 384 0).toNat k (c k)) := Hp.ud H2 k (by omega) (by rw [hcl2]; decide) (by decide) (by decide) (by rw [show fr_ty 8 = 8 from rfl]; show -128 ≤ c k ∧ c k < 128; omega)
  have z : ∀ f a i : Nat, ¬ (f = 148 ∧ a = 384 ∧ i = 0) → ¬ (f = 8 ∧ a = (h1 145 384 0).toNat ∧ i = k) → fi_upd (fi_upd h1 148 384 0 ((k : Int) + 1)) 8 (h1 145 384 0).toNat k (c k) f a i = h1 f a i := fun f a i q q2 => by rw [fi_upd_ne _ _ _ _ _ q2, fi_upd_ne _ _ _ _ _ q]
  have F3 : FrB h1 (fi_upd (fi_upd h1 148 384 0 ((k : Int) + 1)) 8 (h1 145 384 0).toNat k (c k)) := by
    refine ⟨⟨?_, fun f a i h0 hx hw => ?_⟩, Or.inl (z 145 384 0 (by omega) (by omega))⟩
    · rw [z 2 0 0 (by omega) (by omega)]; exact Int.le_refl _
    · refine z f a i (fun q => hw (Or.inl q.2.1)) (fun q => hw (Or.inr ⟨q.1, ?_⟩))
      rw [q.2.1]; omega
  refine ⟨_, ?_, H3, ?_, F1.tr F3⟩
  · rw [m_129 (d + 5) 384 _ H.1 hc, m_130 (d + 4) 384 _ H.1 hc (by decide), if_pos hc, t, hk148, wI_id (by omega) (by omega), e1, cv_ret, m_123 (d + 3) 384 H1.1 hc1 (by decide), if_pos hc1, t, b5, if_pos rfl, ca_ret, if_neg (by decide), m_131 (d + 3) _ H1.1, if_neg (by omega), ca_ret, if_neg (by decide), if_pos (by decide), b6, wI_id (by omega) (by omega)]
    repeat rewrite [lt_eq]
    rw [hcl2, et8, hln2, if_pos ⟨by omega, by decide⟩, if_pos (by omega), wB_id (by omega) (by omega), if_pos (by simp [fi_rg]; omega), Int.toNat_natCast, ca_ret]
  · unfold Bd
    rw [z 145 384 0 (by omega) (by omega), z 2 0 0 (by omega) (by omega), z 0 _ 0 (by omega) (by omega), z 1 _ 0 (by omega) (by omega), z 146 384 0 (by omega) (by omega)]
    refine ⟨b1, b2, b3, b4, b5, ?_, by omega, fun i hi => ?_⟩
    · rw [fi_upd_ne _ _ _ _ _ (by omega), fi_upd_same]; omega
    · by_cases q : i = k
      · subst q; exact fi_upd_same _ _ _ _ _
      · rw [z 8 _ i (by omega) (by omega)]; exact b8 i (by omega)
/-- a string of letters -/
def StrC (h : fi_H) (s : Int) (k : Nat) (c : Nat → Int) : Prop :=
  (0 < s ∧ s ≤ h 2 0 0) ∧ h 0 s.toNat 0 = 131 ∧ h 318 s.toNat 0 = 0 ∧ (0 < h 317 s.toNat 0 ∧ h 317 s.toNat 0 ≤ h 2 0 0) ∧ h 0 (h 317 s.toNat 0).toNat 0 = 8 ∧ h 1 (h 317 s.toNat 0).toNat 0 = (k : Int) ∧ ∀ i, i < k → h 8 (h 317 s.toNat 0).toNat i = c i
/-- Arrays.copyOfRange of the beginning -/
theorem kA_cor (H : Hp h) {v k : Int} (hv : 302 < v ∧ v ≤ h 2 0 0) (hc : h 0 v.toNat 0 = 8) (hl : k < h 1 v.toNat 0) (hk' : 0 ≤ k ∧ k < 64) :
    fj_run (d + 4) 146 h [(4, v), (0, 0), (0, k)] = some (.inl (some (4, h 2 0 0 + 1)), cpy (fi_new h 8 k k) v 0 (h 2 0 0 + 1) 0 k) ∧ Hp (cpy (fi_new h 8 k k) v 0 (h 2 0 0 + 1) 0 k) := by
  have hk := hk'.1
  have hk64 := hk'.2
  have hl0 := H.2.2.2.2 v.toNat
  have HN := Hp.n H (k := 8) k (len := k) (by decide) ⟨by omega, by omega⟩
  have hJ : (fi_J : Int) = 302 := rfl
  have g0 : fi_new h 8 k k 0 v.toNat 0 = 8 := by rw [new_o 8 k k 0 (by omega) (by omega)]; exact hc
  have g1 : fi_new h 8 k k 1 v.toNat 0 = h 1 v.toNat 0 := new_o 8 k k 0 (by omega) (by omega)
  have g2 := new_c (h := h) 8 k k H 0
  have g3 := new_l (h := h) 8 k k H 0
  have q : 0 < v ∧ (fi_J : Int) < h 2 0 0 + 1 ∧ v ≠ h 2 0 0 + 1 ∧ fi_new h 8 k k 0 v.toNat 0 = 8 ∧ fi_new h 8 k k 0 (h 2 0 0 + 1).toNat 0 = 8 ∧ (0 : Int) ≤ 0 ∧ (0 : Int) ≤ 0 ∧ 0 ≤ k ∧ 0 + k ≤ fi_new h 8 k k 1 v.toNat 0 ∧ 0 + k ≤ fi_new h 8 k k 1 (h 2 0 0 + 1).toNat 0 := by
    rw [g1, g3]
    exact ⟨by omega, by omega, by omega, g0, g2, by omega, by omega, by omega, by omega, by omega⟩
  refine ⟨?_, cpy_hp HN q (by rw [new_2 8 k k H]; omega) (by rw [new_2 8 k k H]; omega)⟩
  rw [m_146 (d + 3) v 0 k H.1, if_pos rfl, hc, if_pos (by decide), if_neg (by omega), e_146_10 (d + 3) v 0 k H.1, m_147 (d + 2) v 0 k H.1, m_148 (d + 1) 0 k H.1, if_neg (by omega), cv_ret, wI_id (x := k - 0) (by omega) (by omega), Int.sub_zero, if_pos (by omega)]
  rw [nw_eq, g0, if_pos (by decide), g1, Int.sub_zero, wI_id (by omega) (by omega), m_7 (d + 1) _ _ HN.1, if_pos (by omega), ca_ret, run_1000 (d + 1) q, cv_ret, ca_ret]
/-- a new string: itself and its bytes are new -/
theorem kA_toStr (H : Hp h) {c : Nat → Int} {k : Nat} (B : Bd h k c) (hk : k < 16) : ∃ h', fj_run (d + 7) 140 h [(4, 384)] = some (.inl (some (4, h 2 0 0 + 1)), h') ∧ Hp h' ∧ StrC h' (h 2 0 0 + 1) k c ∧ h' 317 (h 2 0 0 + 1).toNat 0 = h 2 0 0 + 2 ∧ h' 2 0 0 = h 2 0 0 + 2 ∧ Fr (fun _ _ _ => False) h h' ∧ h' 319 (h 2 0 0 + 1).toNat 0 = 0 ∧ h' 320 (h 2 0 0 + 1).toNat 0 = 0 := by
  obtain ⟨b1, b2, b3, b4, b5, b6, b7, b8⟩ := B
  have hc : h 0 ((384 : Int)).toNat 0 = 132 := s0_384 H.1
  have t : ((384 : Int)).toNat = 384 := rfl
  have ht := H.1.2.2.1
  generalize hr : h 2 0 0 + 1 = r
  have H1 := Hp.n H (k := 131) 4 (len := 0) (by decide) ⟨by omega, by omega⟩
  have c1 := new_c (h := h) 131 4 0 H 0
  have t1 := new_2 (h := h) 131 4 0 H
  rw [hr] at c1 t1
  have o1 : ∀ f a i : Nat, 0 < a → (a : Int) < r → fi_new h 131 4 0 f a i = h f a i := fun f a i p q => new_o _ _ _ _ (by omega) (by omega)
  have z1 : ∀ f i : Nat, 2 ≤ f → fi_new h 131 4 0 f r.toNat i = 0 := fun f i q => by have := new_z (h := h) 131 4 0 H i q; rw [hr] at this; exact this
  generalize hN : fi_new h 131 4 0 = hn at *
  have hcn : hn 0 ((384 : Int)).toNat 0 = 132 := by rw [t, o1 0 384 0 (by omega) (by omega)]; exact s0_384 H.1
  have e318 : fi_upd hn 318 r.toNat 0 0 = hn := by
    funext f a i
    by_cases q : f = 318 ∧ a = r.toNat ∧ i = 0
    · obtain ⟨rfl, rfl, rfl⟩ := q
      rw [fi_upd_same, z1 318 0 (by decide)]
    · exact fi_upd_ne _ _ _ _ _ q
  have hv : hn 145 384 0 = h 145 384 0 := o1 145 384 0 (by omega) (by omega)
  obtain ⟨ec, H3⟩ := kA_cor d H1 (v := h 145 384 0) (k := (k : Int)) (by rw [t1]; omega) (by rw [o1 _ _ _ (by omega) (by omega)]; exact b3) (by rw [o1 _ _ _ (by omega) (by omega)]; omega) (by omega)
  have c2 := new_c (h := hn) 8 k k H1 0
  have l2 := new_l (h := hn) 8 k k H1 0
  have t2 := new_2 (h := hn) 8 k k H1
  rw [t1] at ec H3 c2 l2 t2
  have o2 : ∀ f a i : Nat, 0 < a → (a : Int) ≤ r → fi_new hn 8 k k f a i = hn f a i := fun f a i p q => new_o _ _ _ _ (by omega) (by omega)
  generalize hM : fi_new hn 8 (k : Int) (k : Int) = hm at *
  have o3 : ∀ f a i : Nat, 0 < a → (a : Int) ≤ r → cpy hm (h 145 384 0) 0 (r + 1) 0 k f a i = hn f a i := fun f a i p q => by rw [cpy_o _ _ _ _ _ _ (by omega)]; exact o2 f a i p q
  have t3 : cpy hm (h 145 384 0) 0 (r + 1) 0 k 2 0 0 = r + 1 := by rw [cpy_o _ _ _ _ _ _ (by omega)]; exact t2
  have s3 : ∀ i, i < k → cpy hm (h 145 384 0) 0 (r + 1) 0 k 8 (r + 1).toNat i = c i := fun i hi => by
    rw [cpy_i _ _ _ _ _ (by omega) (by omega) (by omega)]
    have : i - ((0 : Int)).toNat + ((0 : Int)).toNat = i := by simp
    rw [this, o2 8 _ i (by omega) (by omega), o1 8 _ i (by omega) (by omega)]
    exact b8 i hi
  have c3 : cpy hm (h 145 384 0) 0 (r + 1) 0 k 0 (r + 1).toNat 0 = 8 := by rw [cpy_o _ _ _ _ _ _ (by omega)]; exact c2
  have l3 : cpy hm (h 145 384 0) 0 (r + 1) 0 k 1 (r + 1).toNat 0 = k := by rw [cpy_o _ _ _ _ _ _ (by omega)]; exact l2
  generalize hX : cpy hm (h 145 384 0) 0 (r + 1) 0 (k : Int) = hx at *
  have H4 : Hp (fi_upd hx 317 r.toNat 0 (r + 1)) := by
    have T : fj_nice (fi_upd hx 317 r.toNat 0 (r + 1)) ∧ fj_stb hx (fi_upd hx 317 r.toNat 0 (r + 1)) := fj_hs_ok H3.1.1 (Or.inr (Or.inl ⟨317, r.toNat, r + 1, rfl, by show 302 < _; omega, by rw [o3 0 _ 0 (by omega) (by omega), c1]; decide, by decide, fun _ => by rw [o3 _ _ _ (by omega) (by omega)]; exact z1 317 0 (by decide)⟩))
    have e2 : fi_upd hx 317 r.toNat 0 (r + 1) 2 0 0 = hx 2 0 0 := fi_upd_ne _ _ _ _ _ (by omega)
    refine ⟨shp_st H3.1 T, by rw [e2]; exact H3.2.1, fun g b j => ?_, fun _ _ _ _ _ _ => trivial, fun b => ?_⟩
    · rw [e2]
      by_cases q : g = 317 ∧ b = r.toNat ∧ j = 0
      · obtain ⟨rfl, rfl, rfl⟩ := q
        rw [fi_upd_same]
        exact nt_ok (show nt_ _ 12 _ from (by show 0 ≤ r + 1 ∧ r + 1 ≤ hx 2 0 0; omega))
      · rw [fi_upd_ne _ _ _ _ _ q]; exact H3.2.2.1 g b j
    · rw [fi_upd_ne _ _ _ _ _ (by omega)]; exact H3.2.2.2.2 b
  have hcr : hn 0 r.toNat 0 = 131 := c1
  have tr : (384 : Int).toNat = 384 := rfl
  refine ⟨fi_upd hx 317 r.toNat 0 (r + 1), ?_, H4, ?_, ?_, ?_, ?_, ?_, ?_⟩
  · rw [m_140 (d + 6) 384 H.1 hc]
    rw [nw_eq, hr, hN, m_141 (d + 5) r 384 H1.1 hcr, m_142 (d + 4) r 384 0 H1.1 hcr, run_1009 (d + 3) (by omega), cv_ret, hcn, show fi_vt 208 132 = some 143 from rfl]
    have hd : ∀ (m : Nat) (k : Nat → fk_R), dv_ (some m) k = k m := fun _ _ => rfl
    rw [hd, m_143 (d + 3) 384 H1.1 hcn (by decide), if_pos hcn, ca_ret, hcn, show fi_vt 207 132 = some 144 from rfl, hd, m_144 (d + 3) 384 H1.1 hcn, m_145 (d + 2) 384 H1.1 hcn (by decide), if_pos hcn, ca_ret, ca_ret, hcn, show fi_vt 209 132 = some 123 from rfl, hd, m_123 (d + 3) 384 H1.1 hcn (by decide), if_pos hcn, t, o1 146 384 0 (by omega) (by omega), b5, if_pos rfl, ca_ret, if_neg (by decide), if_pos (by omega), if_pos (z1 318 0 (by decide))]
    repeat rewrite [lt_eq]
    rw [e318, hv, o1 148 384 0 (by omega) (by omega), b6, ec, ca_ret, if_pos (by omega), if_pos (by rw [o3 _ _ _ (by omega) (by omega)]; exact z1 317 0 (by decide)), lt_eq, cv_ret, cv_ret]
  · have z : ∀ f a i : Nat, ¬ (f = 317 ∧ a = r.toNat ∧ i = 0) → fi_upd hx 317 r.toNat 0 (r + 1) f a i = hx f a i := fun f a i q => fi_upd_ne _ _ _ _ _ q
    unfold StrC
    rw [fi_upd_same, z 2 0 0 (by omega), t3, z 0 _ 0 (by omega), o3 0 r.toNat 0 (by omega) (by omega), c1, z 318 _ 0 (by omega), o3 318 _ 0 (by omega) (by omega), z1 318 0 (by decide), z 0 _ 0 (by omega), c3, z 1 _ 0 (by omega), l3]
    exact ⟨by omega, rfl, rfl, by omega, rfl, rfl, fun i hi => by rw [z 8 _ i (by omega)]; exact s3 i hi⟩
  · rw [fi_upd_same]; omega
  · rw [fi_upd_ne _ _ _ _ _ (by omega), t3]; omega
  · refine ⟨?_, fun f a i p q _ => ?_⟩
    · rw [fi_upd_ne _ _ _ _ _ (by omega), t3]; omega
    · rw [fi_upd_ne _ _ _ _ _ (by omega), o3 f a i p (by omega), o1 f a i p (by omega)]
  · rw [fi_upd_ne _ _ _ _ _ (by omega), o3 319 _ 0 (by omega) (by omega)]; exact z1 319 0 (by decide)
  · rw [fi_upd_ne _ _ _ _ _ (by omega), o3 320 _ 0 (by omega) (by omega)]; exact z1 320 0 (by decide)
end BLD
end

section
/-! hashes of words; switches over words -/
set_option maxRecDepth 100000
def hsh (c : Nat → Int) : Nat → Int
  | 0 => 0
  | k + 1 => wI (wI (31 * hsh c k) + c k)
/-- what a string keeps of its hash is right -/
def StrH (h : fi_H) (s : Int) (k : Nat) (c : Nat → Int) : Prop := (h 319 s.toNat 0 = 0 ∨ h 319 s.toNat 0 = hsh c k) ∧ (h 320 s.toNat 0 = 0 ∨ hsh c k = 0)
abbrev whs (s : Int) (f x _i : Nat) : Prop := (f = 319 ∨ f = 320) ∧ (x : Int) = s
section HASH
variable (d : Nat) {h : fi_H}
theorem kS_hashl (H : Hp h) {v : Int} {k : Nat} {c : Nat → Int} (hk : k < 65536) (h1 : h 0 v.toNat 0 = 8) (l1 : h 1 v.toNat 0 = (k : Int)) (g1 : ∀ i, i < k → h 8 v.toNat i = c i) (hc : ∀ i, i < k → 0 ≤ c i ∧ c i < 128) :
    ∀ (m j : Nat), j + m = k → c_172_8 d (hsh c j) v (k : Int) (j : Int) h = some (.inl (some (0, hsh c k)), h) := by
  have et8 : fi_et 1 8 = 8 := by decide
  intro m
  induction m with
  | zero =>
    intro j hj
    have : j = k := by omega
    subst this
    rw [e_172_8 d _ _ _ _ H.1, if_neg (by omega)]
  | succ m ih =>
    intro j hj
    have hcj := hc j (by omega)
    rw [e_172_8 d _ _ _ _ H.1, if_pos (by omega), h1, et8, l1, if_pos ⟨by decide, by omega, by omega⟩, lt_eq, Int.toNat_natCast, g1 j (by omega), ia_255 (by omega) (by omega), Int.emod_eq_of_lt (by omega) (by omega), wI_id (x := (j : Int) + 1) (by omega) (by omega)]
    exact ih (j + 1) (by omega)
theorem kS_hash {s : Int} {k : Nat} {c : Nat → Int} (H : Hp h) (S : StrC h s k c) (Q : StrH h s k c) (hs : 302 < s) (hc : ∀ i, i < k → 0 ≤ c i ∧ c i < 128) :
    ∃ h', fj_run (d + 5) 169 h [(4, s)] = some (.inl (some (0, hsh c k)), h') ∧ Hp h' ∧ Fr (whs s) h h' ∧ StrH h' s k c := by
  have S' := S
  obtain ⟨s1, s2, s3, s4, s5, s6, s7⟩ := S
  have hl := H.2.2.2.2 (h 317 s.toNat 0).toNat
  have hw : -2147483648 ≤ hsh c k ∧ hsh c k < 2147483648 := by
    cases k with
    | zero => exact (by decide : -2147483648 ≤ (0 : Int) ∧ (0 : Int) < 2147483648)
    | succ k => exact wI_rg _
  rw [m_169 (d + 4) s H.1 s2]
  by_cases q : h 319 s.toNat 0 = 0
  · rw [if_pos q]
    by_cases q2 : h 320 s.toNat 0 = 0
    · rw [if_pos q2, m_21 (d + 3) s H.1 s2, s3, if_pos rfl, ca_ret, if_neg (by decide)]
      have e170 : fj_run (d + 4) 170 h [(4, h 317 s.toNat 0)] = some (.inl (some (0, hsh c k)), h) := by
        have et8 : fi_et 1 8 = 8 := by decide
        rw [m_170 (d + 3) _ H.1, s5, if_pos (by decide), s6]
        by_cases k0 : k = 0
        · subst k0
          rw [if_pos (by decide)]
          rfl
        · rw [if_neg (by omega)]
          by_cases k1 : k = 1
          · subst k1
            have c0 := hc 0 (by omega)
            rw [if_pos (by decide), et8, if_pos ⟨by decide, by decide, by decide⟩, s7 0 (by omega), ia_255 (by omega) (by omega), Int.emod_eq_of_lt (by omega) (by omega)]
            refine ret_eq ?_
            show c 0 = wI (wI (31 * 0) + c 0)
            rw [wI_id (x := 31 * 0) (by decide) (by decide), wI_id (by omega) (by omega)]
            omega
          · have e : c_172_8 (d + 1) 0 (h 317 s.toNat 0) (k : Int) 0 h = some (.inl (some (0, hsh c k)), h) := kS_hashl (d + 1) H (by omega) s5 s6 s7 hc k 0 (by omega)
            rw [if_neg (by omega), if_pos (by decide), m_171 (d + 2) _ _ _ _ _ H.1, if_pos rfl, s5, if_pos (Or.inr (by decide)), m_172 (d + 1) _ _ _ _ H.1, wI_id (x := 0 + (k : Int)) (by omega) (by omega), Int.zero_add, e, ca_ret, ca_ret]
      rw [e170, ca_ret, e_169_40 (d + 4) s _ H.1 s2]
      by_cases q3 : hsh c k = 0
      · rw [if_pos q3, if_pos hs, lt_eq]
        refine ⟨_, rfl, Hp.ud H 0 (by omega) (by rw [s2]; decide) (by decide) (by decide) (Or.inr rfl), Fr.u 0 _ (Fr.rf _ _) (by omega) ⟨Or.inr rfl, by omega⟩, ?_⟩
        exact ⟨by rw [fi_upd_ne _ _ _ _ _ (by omega)]; exact Or.inl q, Or.inr q3⟩
      · rw [if_neg q3, if_pos hs, lt_eq]
        refine ⟨_, rfl, Hp.ud H 0 (by omega) (by rw [s2]; decide) (by decide) (by decide) hw, Fr.u 0 _ (Fr.rf _ _) (by omega) ⟨Or.inl rfl, by omega⟩, ?_⟩
        exact ⟨Or.inr (fi_upd_same _ _ _ _ _), by rw [fi_upd_ne _ _ _ _ _ (by omega)]; exact Or.inl q2⟩
    · rw [if_neg q2]
      have e0 : hsh c k = 0 := by
        rcases Q.2 with z | z
        · exact absurd z q2
        · exact z
      exact ⟨h, by rw [q, e0], H, Fr.rf _ _, Q⟩
  · rw [if_neg q]
    have e0 : h 319 s.toNat 0 = hsh c k := by
      rcases Q.1 with z | z
      · exact absurd z q
      · exact z
    exact ⟨h, by rw [e0], H, Fr.rf _ _, Q⟩
end HASH
/-! a switch over words: hash, word, number; -1 for none of them -/
def eqL (k : Nat) (c : Nat → Int) (l : List Int) : Bool := eqS k c l.length (fun i => l.getD i 0)
def sidx : List (Int × List Int × Int) → Nat → (Nat → Int) → Int
  | [], _, _ => -1
  | q :: t, k, c => if eqL k c q.2.1 = true then q.2.2 else sidx t k c
def swf : List (Int × List Int × Int) → Int → Nat → (Nat → Int) → (Int → fk_R) → fk_R
  | [], _, _, _, D => D (-1)
  | q :: t, v, k, c, D => if v = q.1 then (if eqL k c q.2.1 = true then D q.2.2 else D (-1)) else swf t v k c D
theorem hsh_eq {k k' : Nat} {c c' : Nat → Int} (hk : k = k') (q : ∀ i, i < k → c i = c' i) : hsh c k = hsh c' k' := by
  subst hk
  induction k with
  | zero => rfl
  | succ k ih =>
    show wI (wI (31 * hsh c k) + c k) = wI (wI (31 * hsh c' k) + c' k)
    rw [ih (fun i hi => q i (by omega)), q k (by omega)]
def tb_ok (t : List (Int × List Int × Int)) : Bool := t.all (fun q => decide (hsh (fun i => q.2.1.getD i 0) q.2.1.length = q.1)) && t.all (fun q => t.all (fun r => decide (q.1 ≠ r.1) || decide (q = r)))
theorem eqL_hsh {k : Nat} {c : Nat → Int} {l : List Int} (q : eqL k c l = true) : hsh c k = hsh (fun i => l.getD i 0) l.length := hsh_eq (eqS_iff.mp q).1 (eqS_iff.mp q).2
theorem swf_no {v : Int} {k : Nat} {c : Nat → Int} {D : Int → fk_R} : ∀ {t : List (Int × List Int × Int)}, (∀ q ∈ t, ¬ eqL k c q.2.1 = true) → swf t v k c D = D (-1) ∧ sidx t k c = -1
  | [], _ => ⟨rfl, rfl⟩
  | q :: t, hn => by
    have h1 := hn q (by simp)
    obtain ⟨a, b⟩ := swf_no (v := v) (D := D) (t := t) (fun r hr => hn r (by simp [hr]))
    refine ⟨?_, ?_⟩
    · unfold swf
      by_cases e : v = q.1
      · rw [if_pos e, if_neg h1]
      · rw [if_neg e]; exact a
    · unfold sidx
      rw [if_neg h1]; exact b
theorem swf_eq {k : Nat} {c : Nat → Int} {D : Int → fk_R} {t : List (Int × List Int × Int)} (ok : tb_ok t = true) : swf t (hsh c k) k c D = D (sidx t k c) := by
  unfold tb_ok at ok
  rw [Bool.and_eq_true] at ok
  obtain ⟨o1, o2⟩ := ok
  have key : ∀ s : List (Int × List Int × Int), (∀ q ∈ s, q ∈ t) → swf s (hsh c k) k c D = D (sidx s k c) := by
    intro s
    induction s with
    | nil => intro _; rfl
    | cons q s ih =>
      intro hs
      have hq := hs q (by simp)
      have hh := of_decide_eq_true (List.all_eq_true.mp o1 q hq)
      unfold swf sidx
      by_cases e : eqL k c q.2.1 = true
      · rw [if_pos e, if_pos (by rw [eqL_hsh e, hh]), if_pos e]
      · rw [if_neg e]
        by_cases e2 : hsh c k = q.1
        · rw [if_pos e2, if_neg e]
          -- no other word has this hash
          have hn : ∀ r ∈ s, ¬ eqL k c r.2.1 = true := by
            intro r hr z
            have hr2 := hs r (by simp [hr])
            have hh2 := of_decide_eq_true (List.all_eq_true.mp o1 r hr2)
            have h3 := List.all_eq_true.mp (List.all_eq_true.mp o2 q hq) r hr2
            simp only [Bool.or_eq_true, decide_eq_true_eq] at h3
            rcases h3 with h3 | h3
            · exact h3 (by rw [← e2, eqL_hsh z, hh2])
            · exact e (by rw [h3]; exact z)
          rw [(swf_no (v := 0) (D := D) hn).2]
        · rw [if_neg e2, if_neg e]
          exact ih (fun r hr => hs r (by simp [hr]))
  exact key t (fun _ h => h)
end

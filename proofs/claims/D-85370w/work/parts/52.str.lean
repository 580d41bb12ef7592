section
/-! strings: their length, their letters, whether two are alike -/
set_option maxRecDepth 100000
theorem ia_255 {y : Int} (h1 : -2147483648 ≤ y) (h2 : y < 2147483648) : ia_ y 255 = y % 256 := by
  have ey : (fi_I y).toBitVec.toInt = y := fr_tI ⟨h1, h2⟩
  have e : ia_ y 255 = ((fi_I y).toBitVec &&& 255#32).toInt := rfl
  have en : ((fi_I y).toBitVec &&& 255#32).toNat = (fi_I y).toBitVec.toNat % 256 := by
    rw [BitVec.toNat_and]
    exact Nat.and_two_pow_sub_one_eq_mod _ 8
  have ec := BitVec.toInt_eq_toNat_cond (fi_I y).toBitVec
  rw [ey] at ec
  have hl : ((fi_I y).toBitVec &&& 255#32).toNat < 256 := by rw [en]; exact Nat.mod_lt _ (by decide)
  have e2 := BitVec.toInt_eq_toNat_cond ((fi_I y).toBitVec &&& 255#32)
  rw [if_pos (by omega)] at e2
  rw [e, e2, en]
  have := (fi_I y).toBitVec.isLt
  split at ec <;> omega
section STR
variable (d : Nat) {h : fi_H}
theorem m5_24 {x0 x1 x2 : Int} (H : Shp h) (q : 0 ≤ x0 ∧ x0 < x1) : fj_run (d + 1) 24 h [(0, x0), (0, x1), (5, x2)] = some (.inl (some (0, x0)), h) := by
  have key : fj_run (d + 1) 24 h [(0, x0), (0, x1), (5, x2)] = (if x0 < 0 then none else if x0 < x1 then some (.inl (some (0, x0)), h) else none) := by
    rw [fj_run_eq d (by decide) h [(0, x0), (0, x1), (5, x2)] (Nat.le_of_ble_eq_true (by rw [nl_24]; rfl))]
    show gG (fj_run d) 24 0 [(0, (0, x0)), (1, (0, x1)), (2, (5, x2))] [] h = _
    exact
      have D : fk_D 24 [(0, none, .iload_n 0, 1, 0, 0, 0), (1, none, .ifCond .lt 8, 3, 9, 0, 0), (4, none, .iload_n 0, 1, 0, 0, 0), (5, none, .iload_n 1, 1, 0, 0, 0), (6, none, .if_icmp .lt 10, 3, 16, 0, 0), (9, none, .aload_n 2, 1, 0, 0, 0), (10, none, .iload_n 0, 1, 0, 0, 0), (11, none, .iload_n 1, 1, 0, 0, 0)] := fq_of2 cd_24 ow_24 cl_24 rfl (pc := 0) (by decide +kernel)
      j_ildn (pc := 0) D rfl rfl rfl fun D =>
      j_iflt (pc := 1) D rfl (fun q1 => absurd q1 (by omega)) (fun _ D =>
        j_ildn (pc := 4) D rfl rfl rfl fun D =>
        j_ildn (pc := 5) D rfl rfl rfl fun D =>
        j_ilt (pc := 6) D rfl (fun _ =>
          have D : fk_D 24 [(16, none, .iload_n 0, 1, 0, 0, 0), (17, none, .ireturn, 1, 0, 0, 0)] := fq_of2 cd_24 ow_24 cl_24 rfl (pc := 16) (by decide +kernel)
          j_ildn (pc := 16) D rfl rfl rfl fun D =>
          j_iret D rt_24) (fun q1 _ => absurd q.2 q1))
  rw [key, if_neg (by omega), if_pos q.2]
theorem kS_len {s : Int} {k : Nat} {c : Nat → Int} (H : Hp h) (S : StrC h s k c) : fj_run (d + 2) 18 h [(4, s)] = some (.inl (some (0, (k : Int))), h) := by
  obtain ⟨s1, s2, s3, s4, s5, s6, s7⟩ := S
  have hl := H.2.2.2.2 (h 317 s.toNat 0).toNat
  rw [m_18 (d + 1) s H.1 s2, s5, if_pos (by decide), m_19 d s H.1 s2, s3, if_pos (by decide), ca_ret, s6, sr_0 (by omega) (by omega)]
theorem kS_at {s : Int} {k : Nat} {c : Nat → Int} (H : Hp h) (S : StrC h s k c) {x : Int} (i : Nat) (hx : x = (i : Int)) (hi : i < k) (hc : 0 ≤ c i ∧ c i < 128) : fj_run (d + 5) 20 h [(4, s), (0, x)] = some (.inl (some (0, c i)), h) := by
  subst hx
  obtain ⟨s1, s2, s3, s4, s5, s6, s7⟩ := S
  have hl := H.2.2.2.2 (h 317 s.toNat 0).toNat
  have et8 : fi_et 1 8 = 8 := by decide
  have e22 : fj_run (d + 4) 22 h [(4, h 317 s.toNat 0), (0, (i : Int))] = some (.inl (some (0, c i)), h) := by
    rw [m_22 (d + 3) _ _ H.1, s5, if_pos (by decide), s6, m_23 (d + 2) _ _ H.1, m5_24 (d + 1) H.1 ⟨by omega, by omega⟩, ca_ret, cv_ret, s5, et8, s6, if_pos ⟨by decide, by omega, by omega⟩, Int.toNat_natCast, s7 i hi, ia_255 (by omega) (by omega), Int.emod_eq_of_lt (by omega) (by omega), wC_id (by omega) (by omega), if_pos (by omega)]
  rw [m_20 (d + 4) s _ H.1 s2, m_21 (d + 3) s H.1 s2, s3, if_pos rfl, ca_ret, if_neg (by decide), e22, ca_ret, if_pos (by omega)]
/-- whether two words are alike -/
def eqS (k : Nat) (c : Nat → Int) (k' : Nat) (c' : Nat → Int) : Bool := decide (k = k') && (List.range k).all (fun i => decide (c i = c' i))
theorem eqS_iff {k : Nat} {c : Nat → Int} {k' : Nat} {c' : Nat → Int} : eqS k c k' c' = true ↔ k = k' ∧ ∀ i, i < k → c i = c' i := by
  unfold eqS
  simp
theorem kS_eql {v v' : Int} {k : Nat} {c c' : Nat → Int} (H : Hp h) (hk : k < 65536) (h1 : h 0 v.toNat 0 = 8) (h2 : h 0 v'.toNat 0 = 8) (l1 : h 1 v.toNat 0 = (k : Int)) (l2 : h 1 v'.toNat 0 = (k : Int)) (g1 : ∀ i, i < k → h 8 v.toNat i = c i) (g2 : ∀ i, i < k → h 8 v'.toNat i = c' i) :
    ∀ (m j : Nat), j + m = k → ∃ x, c_65_9 d v v' (j : Int) h = some (.inl (some (0, x)), h) ∧ ((x = 1 ∧ ∀ i, j ≤ i → i < k → c i = c' i) ∨ (x = 0 ∧ ∃ i, i < k ∧ c i ≠ c' i)) := by
  have et8 : fi_et 1 8 = 8 := by decide
  intro m
  induction m with
  | zero =>
    intro j hj
    refine ⟨1, ?_, Or.inl ⟨rfl, fun i a b => by omega⟩⟩
    rw [e_65_9 d v v' _ H.1, h1, if_pos (by decide), l1, if_neg (by omega)]
  | succ m ih =>
    intro j hj
    obtain ⟨x, e, r⟩ := ih (j + 1) (by omega)
    rw [e_65_9 d v v' _ H.1, h1, if_pos (by decide), l1, if_pos (by omega), et8, if_pos ⟨by decide, by omega, by omega⟩, h2, et8, l2, if_pos ⟨by decide, by omega, by omega⟩, Int.toNat_natCast, g1 j (by omega), g2 j (by omega)]
    by_cases q : c j = c' j
    · refine ⟨x, ?_, ?_⟩
      · rw [if_pos q, wI_id (by omega) (by omega)]; exact e
      · rcases r with ⟨r1, r2⟩ | r
        · refine Or.inl ⟨r1, fun i a b => ?_⟩
          by_cases z : i = j
          · subst z; exact q
          · exact r2 i (by omega) b
        · exact Or.inr r
    · exact ⟨0, by rw [if_neg q], Or.inr ⟨rfl, j, by omega, q⟩⟩
theorem kS_eq {s s' : Int} {k k' : Nat} {c c' : Nat → Int} (H : Hp h) (S : StrC h s k c) (S' : StrC h s' k' c') : fj_run (d + 3) 64 h [(4, s), (4, s')] = some (.inl (some (0, if eqS k c k' c' = true then 1 else 0)), h) := by
  obtain ⟨s1, s2, s3, s4, s5, s6, s7⟩ := S
  obtain ⟨t1, t2, t3, t4, t5, t6, t7⟩ := S'
  have hl := H.2.2.2.2 (h 317 s.toNat 0).toNat
  have hl' := H.2.2.2.2 (h 317 s'.toNat 0).toNat
  rw [m_64 (d + 2) s s' H.1 s2]
  by_cases q : s = s'
  · subst q
    have hk : k = k' := by omega
    rw [if_pos rfl, if_pos (eqS_iff.mpr ⟨hk, fun i hi => by rw [← s7 i hi, ← t7 i (by omega)]⟩)]
  · rw [if_neg q]
    have hii : ∀ b : Int → fk_R, ii_ s' (h 0 s'.toNat 0) 131 b = b 1 := fun b => by
      unfold ii_
      rw [if_neg (by omega), t2]
      rfl
    rw [hii, if_neg (by decide), t2, if_pos (Or.inr (by decide)), if_pos rfl, s3, t3, if_pos rfl, e_64_36 (d + 2) s s' H.1 s2, t2, if_pos rfl, m_65 (d + 1) _ _ H.1, s5, if_pos (by decide), t5, if_pos (by decide), s6, t6]
    by_cases hk : k = k'
    · subst hk
      rw [if_pos rfl]
      obtain ⟨x, e, r⟩ := kS_eql (d + 1) H (by omega) s5 t5 s6 t6 s7 t7 k 0 (by omega)
      have e : c_65_9 (d + 1) (h 317 s.toNat 0) (h 317 s'.toNat 0) 0 h = some (.inl (some (0, x)), h) := e
      rw [e, ca_ret]
      rcases r with ⟨rfl, r⟩ | ⟨rfl, i, hi, r⟩
      · rw [if_neg (by decide), if_pos (eqS_iff.mpr ⟨rfl, fun i hi => r i (by omega) hi⟩)]
      · rw [if_pos rfl, if_neg (fun z => r ((eqS_iff.mp z).2 i hi))]
    · rw [if_neg (by omega), ca_ret, if_pos rfl, if_neg (fun z => hk (eqS_iff.mp z).1)]
end STR
end

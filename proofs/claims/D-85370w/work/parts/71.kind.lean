section
/-! reading: a kind, a mode -/
set_option maxRecDepth 100000
/-- what a switch says of the model's word j -/
def sidw (t : List (Int × List Int × Int)) (j : Nat) : Int := sidx t (WL.getD j []).length (fun i => (WL.getD j []).getD i 0)
theorem sidx_kw {t : List (Int × List Int × Int)} (h0 : t.all (fun q => decide (0 ≤ q.2.2)) = true) (hm : t.all (fun q => WL.contains q.2.1) = true) {k : Nat} {c : Nat → Int} : sidx t k c = if kwd k c = -1 then -1 else sidw t (kwd k c).toNat := by
  unfold kwd
  rcases kwf_sp (k := k) (c := c) WL 0 with ⟨j, h1, h2, h3⟩ | ⟨h1, h2⟩
  · rw [h2, if_neg (by omega), show (0 + (j : Int)).toNat = j by omega]
    obtain ⟨e1, e2⟩ := eqS_iff.mp h3
    exact sidx_eq e1 e2 t
  · rw [h1, if_pos rfl]
    exact (sidx_no h0).mpr (fun q hq z => h2 _ (List.contains_iff_mem.mp (List.all_eq_true.mp hm q hq)) z)
theorem sw184 : (List.range 82).all (fun j => decide (sidw tb_184 j = if 2 ≤ j ∧ j ≤ 9 then (j : Int) - 2 else -1)) = true := by decide +kernel
theorem sw187 : (List.range 82).all (fun j => decide (sidw tb_187 j = if 10 ≤ j ∧ j ≤ 13 then (j : Int) - 10 else -1)) = true := by decide +kernel
section KIND
variable {u : Nat → Int} {n M i : Nat} {a b : fi_H} {dA dB : Nat}
theorem kw_rg (i : Nat) : kw u n i = -1 ∨ (0 ≤ kw u n i ∧ kw u n i < 82) := by
  have := kwd_rg (lw u n i) (cw u n i)
  unfold kw; omega
theorem kA_kind (q : PS u n M i a b) (hA : 8 ≤ dA) : ∃ a', PS u n M i a' b ∧ Fr wTA a a' ∧ fj_run dA 184 a [(4, 377)] = if tk u n i = 2 ∧ 2 ≤ kw u n i ∧ kw u n i ≤ 9 then some (.inl (some (4, kw u n i)), a') else some (.inr 304, wra a' 1 (pl u n i)) := by
  obtain ⟨d, rfl⟩ : ∃ e, dA = e + 8 := ⟨dA - 8, by omega⟩
  have hi := q.2.2.2.2.1
  rw [m_184 (d + 7) q.ha.1, q.at, if_pos (by omega), Int.toNat_natCast, q.sort]
  by_cases z : tk u n i = 2
  · have S := q.row.1.2.2.2.2.2 z
    have Q := q.2.2.1.2.1 i hi.1 z
    have hc := cw_rg (u := u) (n := n) (i := i) q.2.1.2.2.2.2.1 z
    obtain ⟨a1, e1, H1, F1, Q1⟩ := kS_hash (d + 2) q.ha S.1 Q (by have := S.2.1; omega) (fun j hj => ⟨by have := (hc j hj).1; show 0 ≤ u (pl u n i + j); omega, (hc j hj).2.1⟩)
    obtain ⟨P1, T1⟩ := q.hash hi.1 z H1 F1 Q1
    have S1 := S.1.hs F1
    refine ⟨a1, P1, T1, ?_⟩
    rw [if_pos (by omega), S.1.2.1, show fi_vt 215 131 = some 169 from rfl, dv_s, e1, ca_ret, sw_184 (d + 4) H1 S1]
    have sk := sidx_kw (t := tb_184) (by decide +kernel) (by decide +kernel) (k := lw u n i) (c := cw u n i)
    have sk : sidx tb_184 ((tok u n (pl u n i)).2.1 - pl u n i) (fun j => u (pl u n i + j)) = if kw u n i = -1 then -1 else sidw tb_184 (kw u n i).toNat := sk
    rw [sk]
    have r := kw_rg (u := u) (n := n) i
    have e308 : c_184_227 (d + 7) (-1) a1 = some (.inr 304, wra a1 1 (pl u n i)) := by
      rw [e_184_227 (d + 7) _ H1.1, if_neg (by decide), if_neg (by decide), if_neg (by decide), if_neg (by decide), if_neg (by decide), if_neg (by decide), if_neg (by decide), if_neg (by decide), e_184_308 (d + 7) H1.1]
      exact kA_thr P1 (by omega) (by omega)
    by_cases w : kw u n i = -1
    · rw [if_pos w, e308, if_neg (by omega)]
    · have := of_decide_eq_true (List.all_eq_true.mp sw184 (kw u n i).toNat (List.mem_range.mpr (by omega)))
      rw [if_neg w, this]
      by_cases y : 2 ≤ kw u n i ∧ kw u n i ≤ 9
      · rw [if_pos (by omega : 2 ≤ (kw u n i).toNat ∧ (kw u n i).toNat ≤ 9), if_pos ⟨z, y⟩, show ((kw u n i).toNat : Int) - 2 = kw u n i - 2 by omega, e_184_227 (d + 7) _ H1.1]
        have hk : kw u n i = 2 ∨ kw u n i = 3 ∨ kw u n i = 4 ∨ kw u n i = 5 ∨ kw u n i = 6 ∨ kw u n i = 7 ∨ kw u n i = 8 ∨ kw u n i = 9 := by omega
        rcases hk with h | h | h | h | h | h | h | h
        · rw [h, if_pos (by decide)]; exact e_184_276 (d + 7) H1.1
        · rw [h, if_neg (by decide), if_pos (by decide)]; exact e_184_280 (d + 7) H1.1
        · rw [h, if_neg (by decide), if_neg (by decide), if_pos (by decide)]; exact e_184_284 (d + 7) H1.1
        · rw [h, if_neg (by decide), if_neg (by decide), if_neg (by decide), if_pos (by decide)]; exact e_184_288 (d + 7) H1.1
        · rw [h, if_neg (by decide), if_neg (by decide), if_neg (by decide), if_neg (by decide), if_pos (by decide)]; exact e_184_292 (d + 7) H1.1
        · rw [h, if_neg (by decide), if_neg (by decide), if_neg (by decide), if_neg (by decide), if_neg (by decide), if_pos (by decide)]; exact e_184_296 (d + 7) H1.1
        · rw [h, if_neg (by decide), if_neg (by decide), if_neg (by decide), if_neg (by decide), if_neg (by decide), if_neg (by decide), if_pos (by decide)]; exact e_184_300 (d + 7) H1.1
        · rw [h, if_neg (by decide), if_neg (by decide), if_neg (by decide), if_neg (by decide), if_neg (by decide), if_neg (by decide), if_neg (by decide), if_pos (by decide)]; exact e_184_304 (d + 7) H1.1
      · rw [if_neg (by omega : ¬ (2 ≤ (kw u n i).toNat ∧ (kw u n i).toNat ≤ 9)), e308, if_neg (fun w => y w.2)]
  · refine ⟨a, q, Fr.rf _ _, ?_⟩
    rw [if_neg (by omega), if_neg (fun w => z w.1)]
    exact kA_thr q (by omega) (by omega)
theorem kB_kind (q : PS u n M i a b) (hB : 4 ≤ dB) : fj_run (dB + 1) 507 b [(4, 602)] = if tk u n i = 2 ∧ 2 ≤ kw u n i ∧ kw u n i ≤ 9 then cv_ (fj_run dB 502 b [(4, 602)]) (fun h => some (.inl (some (0, kw u n i - 2)), h)) (fun q h => tx_ q h) else some (.inr 603, wrb b 1 (pl u n i)) := by
  have tn : ((602 : Int)).toNat = 602 := rfl
  have vt : fi_vt 348 129 = some 500 := rfl
  have hp := q.ple
  have sB := t_sortB q
  have tr := tk_rg (u := u) (n := n) i
  have r := kw_rg (u := u) (n := n) i
  have bad : c_507_31 dB 602 0 b = some (.inr 603, wrb b 1 (pl u n i)) := by
    rw [e_507_31 dB _ _ q.hb.1, tn, s0_602 q.hb.1, vt, dv_s, q.tb.1, kB_need0 q.hb (by omega) (by omega) (by omega), cv_thr, tx_603 (wrb_hp q.hb (by omega) (by omega))]
  rw [m_507 dB q.hb.1]
  by_cases z : tk u n i = 2
  · rw [if_neg (by omega : ¬ tk u n i = 0), if_neg (by omega : ¬ tk u n i = 1), if_pos z] at sB
    by_cases w : kw u n i = -1
    · rw [if_pos w] at sB
      rw [if_neg (by omega), e_507_30 dB _ q.hb.1, bad, if_neg (by omega)]
    · rw [if_neg w] at sB
      have b395 : b 395 602 0 = kw u n i := (q.tb.2.2.2.2.1 z).1
      obtain ⟨e, rfl⟩ : ∃ k, dB = k + 1 := ⟨dB - 1, by omega⟩
      rw [if_pos sB, b395, wI_id (by omega) (by omega), kB_in e q.hb.1 (by omega) (by omega) (by omega), ca_ret, ite0]
      by_cases y : 2 ≤ kw u n i ∧ kw u n i ≤ 9
      · rw [if_pos y, if_pos ⟨z, y⟩, e_507_31 (e + 1) _ _ q.hb.1, tn, s0_602 q.hb.1, vt, dv_s, kB_need1 q.hb (by omega) (by decide), cv_ret, b395, wI_id (x := kw u n i - 2) (by omega) (by omega)]
      · rw [if_neg y, if_neg (fun w => y w.2), e_507_30 (e + 1) _ q.hb.1, bad]
  · have : ¬ b 394 602 0 = 2 := by rw [sB]; (repeat' split) <;> omega
    rw [if_neg this, if_neg (fun w => z w.1), e_507_30 dB _ q.hb.1, bad]
/-- the mode of rounding at hand -/
def mdw (u : Nat → Int) (n i : Nat) : Int := if tk u n i = 2 ∧ 10 ≤ kw u n i ∧ kw u n i ≤ 13 then kw u n i - 9 else 0
theorem kA_mode (q : PS u n M i a b) (hA : 8 ≤ dA) : ∃ a', PS u n M i a' b ∧ Fr wTA a a' ∧ fj_run dA 187 a [(4, 377)] = some (.inl (some (4, 10 + mdw u n i)), a') := by
  obtain ⟨d, rfl⟩ : ∃ e, dA = e + 8 := ⟨dA - 8, by omega⟩
  have hi := q.2.2.2.2.1
  rw [m_187 (d + 7) q.ha.1, q.at, if_pos (by omega), Int.toNat_natCast, q.sort]
  unfold mdw
  by_cases z : tk u n i = 2
  · have S := q.row.1.2.2.2.2.2 z
    have Q := q.2.2.1.2.1 i hi.1 z
    have hc := cw_rg (u := u) (n := n) (i := i) q.2.1.2.2.2.2.1 z
    obtain ⟨a1, e1, H1, F1, Q1⟩ := kS_hash (d + 2) q.ha S.1 Q (by have := S.2.1; omega) (fun j hj => ⟨by have := (hc j hj).1; show 0 ≤ u (pl u n i + j); omega, (hc j hj).2.1⟩)
    obtain ⟨P1, T1⟩ := q.hash hi.1 z H1 F1 Q1
    have S1 := S.1.hs F1
    refine ⟨a1, P1, T1, ?_⟩
    rw [if_pos (by omega), S.1.2.1, show fi_vt 215 131 = some 169 from rfl, dv_s, e1, ca_ret, sw_187 (d + 4) H1 S1]
    have sk := sidx_kw (t := tb_187) (by decide +kernel) (by decide +kernel) (k := lw u n i) (c := cw u n i)
    have sk : sidx tb_187 ((tok u n (pl u n i)).2.1 - pl u n i) (fun j => u (pl u n i + j)) = if kw u n i = -1 then -1 else sidw tb_187 (kw u n i).toNat := sk
    rw [sk]
    have r := kw_rg (u := u) (n := n) i
    have e10 : c_187_133 (d + 7) (-1) a1 = some (.inl (some (4, 10)), a1) := by
      rw [e_187_133 (d + 7) _ H1.1, if_neg (by decide), if_neg (by decide), if_neg (by decide), if_neg (by decide)]
    by_cases w : kw u n i = -1
    · rw [if_pos w, e10, if_neg (by omega)]; rfl
    · have := of_decide_eq_true (List.all_eq_true.mp sw187 (kw u n i).toNat (List.mem_range.mpr (by omega)))
      rw [if_neg w, this]
      by_cases y : 10 ≤ kw u n i ∧ kw u n i ≤ 13
      · rw [if_pos (by omega : 10 ≤ (kw u n i).toNat ∧ (kw u n i).toNat ≤ 13), if_pos ⟨z, y⟩, show ((kw u n i).toNat : Int) - 10 = kw u n i - 10 by omega, e_187_133 (d + 7) _ H1.1]
        have hk : kw u n i = 10 ∨ kw u n i = 11 ∨ kw u n i = 12 ∨ kw u n i = 13 := by omega
        rcases hk with h | h | h | h
        · rw [h, if_pos (by decide)]; rfl
        · rw [h, if_neg (by decide), if_pos (by decide)]; rfl
        · rw [h, if_neg (by decide), if_neg (by decide), if_pos (by decide)]; rfl
        · rw [h, if_neg (by decide), if_neg (by decide), if_neg (by decide), if_pos (by decide)]; rfl
      · rw [if_neg (by omega : ¬ (10 ≤ (kw u n i).toNat ∧ (kw u n i).toNat ≤ 13)), e10, if_neg (fun w => y w.2)]; rfl
  · refine ⟨a, q, Fr.rf _ _, ?_⟩
    rw [if_neg (by omega), if_neg (fun w => z w.1)]
    rfl
end KIND
end

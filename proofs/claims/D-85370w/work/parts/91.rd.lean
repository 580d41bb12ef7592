section
/-! reading: the commonest steps, made short -/
set_option maxRecDepth 100000
section RD
variable {u : Nat → Int} {n M i : Nat} {a b : fi_H} {dA dB d : Nat}
theorem t_isA (q : PS u n M i a b) (hA : 5 ≤ dA) {s : Int} {w : Nat} (hw : w < 82) (S : LitC a s (WL.getD w [])) : fj_run dA 162 a [(4, 377), (4, s)] = some (.inl (some (0, if tk u n i = 2 ∧ kw u n i = (w : Int) then 1 else 0)), a) := by
  rw [t_isWordA q hA S]
  by_cases z : tk u n i = 2 ∧ kw u n i = (w : Int)
  · rw [if_pos z, if_pos ((t_word hw).mpr z)]
  · rw [if_neg z, if_neg (fun y => z ((t_word hw).mp y))]
theorem t_isK (q : PS u n M i a b) (hA : 5 ≤ dA) {s : Int} (k : Nat) {w : Int} (e : (k : Int) = w) (hk : k < 82) (S : LitC a s (WL.getD k [])) : fj_run dA 162 a [(4, 377), (4, s)] = some (.inl (some (0, if tk u n i = 2 ∧ kw u n i = w then 1 else 0)), a) := by
  subst e; exact t_isA q hA hk S
theorem vt348 (H : Shp b) : fi_vt 348 (b 0 ((602 : Int)).toNat 0) = some 500 := by
  rw [show ((602 : Int)).toNat = 602 from rfl, s0_602 H]; rfl
/-- the model's need: good, not good -/
theorem nb1 (q : PS u n M i a b) (hB : 1 ≤ d) {k : Int} {K : fi_H → fk_R} {X : Nat → fi_H → fk_R} : dv_ (fi_vt 348 (b 0 ((602 : Int)).toNat 0)) (fun m4 => cv_ (fj_run d m4 b [(4, 602), (0, 1), (0, k), (0, b 396 602 0)]) K X) = K b := by
  rw [vt348 q.hb.1, dv_s, kB_need1 q.hb hB (by decide), cv_ret]
theorem nb0 (q : PS u n M i a b) (hB : 2 ≤ d) {k : Int} (hk : 0 ≤ k ∧ k < 100) {K : fi_H → fk_R} : dv_ (fi_vt 348 (b 0 ((602 : Int)).toNat 0)) (fun m4 => cv_ (fj_run d m4 b [(4, 602), (0, 0), (0, k), (0, b 396 602 0)]) K (fun q h => tx_ q h)) = some (.inr 603, wrb b k (pl u n i)) := by
  have hp := q.ple
  rw [vt348 q.hb.1, dv_s, q.tb.1, kB_need0 q.hb hB hk (by omega), cv_thr, tx_603 (wrb_hp q.hb (by omega) (by omega))]
theorem nc1 (q : PS u n M i a b) (hB : 1 ≤ d) {k x : Int} (hx : x ≠ 0) {K : fi_H → fk_R} {X : Nat → fi_H → fk_R} : cv_ (fj_run d 500 b [(4, 602), (0, x), (0, k), (0, b 396 602 0)]) K X = K b := by
  rw [kB_need1 q.hb hB hx, cv_ret]
theorem nc0 (q : PS u n M i a b) (hB : 2 ≤ d) {k : Int} (hk : 0 ≤ k ∧ k < 100) {K : fi_H → fk_R} : cv_ (fj_run d 500 b [(4, 602), (0, 0), (0, k), (0, b 396 602 0)]) K (fun q h => tx_ q h) = some (.inr 603, wrb b k (pl u n i)) := by
  have hp := q.ple
  rw [q.tb.1, kB_need0 q.hb hB hk (by omega), cv_thr, tx_603 (wrb_hp q.hb (by omega) (by omega))]
/-- a word is taken if it stands -/
theorem t_takes0 (q : PS u n M i a b) (hB : 2 ≤ dB) {w : Nat} (z : ¬ (tk u n i = 2 ∧ kw u n i = (w : Int))) : fj_run dB 511 b [(4, 602), (0, (w : Int))] = some (.inl (some (0, 0)), b) := by
  obtain ⟨e, rfl⟩ : ∃ k, dB = k + 1 := ⟨dB - 1, by omega⟩
  rw [m_511 e _ q.hb.1, t_isWordB q (by omega) (by omega), if_neg z, ca_ret, if_pos rfl, if_pos (Or.inl rfl)]
theorem t_takes1 (q : PS u n M i a b) (hB : 2 ≤ dB) {w : Nat} (z : tk u n i = 2 ∧ kw u n i = (w : Int)) {K : Int → fi_H → fk_R} : ca_ (fj_run (dB + 1) 511 b [(4, 602), (0, (w : Int))]) 0 K (fun q h => tx_ q h) = cv_ (fj_run dB 502 b [(4, 602)]) (fun h => K 1 h) (fun q h => tx_ q h) := by
  rw [m_511 dB _ q.hb.1, t_isWordB q (by omega) (by omega), if_pos z, ca_ret, if_neg (by decide), ca_cv]
  congr 1
end RD
end

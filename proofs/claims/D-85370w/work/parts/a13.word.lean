section
/-! reading expressions: a word at hand -/
set_option maxRecDepth 100000
section WRD
variable {u : Nat → Int} {n M i m p : Nat} {a b : fi_H} {dA dB d : Nat}
/-- the class's number of a word within single() -/
def ixs (u : Nat → Int) (n i : Nat) : Int := if kw u n i = -1 then -1 else sidw tb_240 (kw u n i).toNat
theorem sw240 : (List.range 82).all (fun j => decide (sidw tb_240 j = if 31 ≤ j ∧ j ≤ 33 then (j : Int) - 31 else if j = 58 then 3 else if j = 57 then 4 else if j = 52 then 5 else if j = 3 then 6 else if 53 ≤ j ∧ j ≤ 56 then (j : Int) - 46 else if 77 ≤ j ∧ j ≤ 79 then (j : Int) - 66 else -1)) = true := by decide +kernel
theorem sw180 : (List.range 82).all (fun j => decide (sidw tb_180 j = if j = 6 then 10 else if j = 8 then 20 else if 10 ≤ j ∧ j ≤ 13 then (j : Int) - 4 else if 34 ≤ j ∧ j ≤ 39 then (j : Int) - 34 else if 40 ≤ j ∧ j ≤ 48 then (j : Int) - 29 else if 49 ≤ j ∧ j ≤ 51 then (j : Int) - 28 else -1)) = true := by decide +kernel
theorem ixs_kw : ixs u n i = if 31 ≤ kw u n i ∧ kw u n i ≤ 33 then kw u n i - 31 else if kw u n i = 58 then 3 else if kw u n i = 57 then 4 else if kw u n i = 52 then 5 else if kw u n i = 3 then 6 else if 53 ≤ kw u n i ∧ kw u n i ≤ 56 then kw u n i - 46 else if 77 ≤ kw u n i ∧ kw u n i ≤ 79 then kw u n i - 66 else -1 := by
  have r := kw_rg (u := u) (n := n) i
  unfold ixs
  by_cases w : kw u n i = -1
  · rw [if_pos w]; (repeat' split) <;> omega
  · rw [if_neg w, of_decide_eq_true (List.all_eq_true.mp sw240 (kw u n i).toNat (List.mem_range.mpr (by omega)))]
    (repeat' split) <;> omega
theorem kA_word (X : XS u n M i m p a b) (z : tk u n i = 2) (hT : ¬ kT u n i) (hA : 14 ≤ d) : ∃ a1, PS u n M i a1 b ∧ VE a b a1 b ∧ fj_run (d + 1) 240 a [(4, 377)] = c_240_461 d (pl u n i : Int) (a1 12 383 i) (ixs u n i) a1 := by
  have q := X.1
  have hi := q.2.2.2.2.1
  obtain ⟨d, rfl⟩ : ∃ e, d = e + 5 := ⟨d - 5, by omega⟩
  have H0 : Hp (fi_upd a 169 377 0 0) := q.ha.k168 (Or.inr rfl) (by omega)
  have F0 : Fr wvA a (fi_upd a 169 377 0 0) := (Fr.rf _ _).wv (by omega) 0
  obtain ⟨P0, -⟩ := q.vl H0 q.hb F0 (Fr.rf _ _)
  have V0 : VE a b (fi_upd a 169 377 0 0) b := VE.w F0 (Fr.rf _ _)
  rw [m_240 _ q.ha.1, q.at, if_pos (by omega), Int.toNat_natCast, t_isSignA q (by omega) 40, if_neg (by omega : ¬ (tk u n i = 6 ∧ (tok u n (pl u n i)).2.2 = 40)), ca_ret, if_pos rfl, kA_isv q (by omega), if_neg (by omega), if_neg (by omega), if_neg (by omega), if_neg hT, ca_ret, if_pos rfl]
  generalize fi_upd a 169 377 0 0 = a0 at *
  rw [P0.at, if_pos (by omega), Int.toNat_natCast, P0.sort, if_pos (by omega)]
  have S := P0.row.1.2.2.2.2.2 z
  have Q := P0.2.2.1.2.1 i hi.1 z
  have hc := cw_rg (u := u) (n := n) (i := i) P0.2.1.2.2.2.2.1 z
  obtain ⟨a1, e1, H1, F1, Q1⟩ := kS_hash d P0.ha S.1 Q (by have := S.2.1; omega) (fun j hj => ⟨by have := (hc j hj).1; show 0 ≤ u (pl u n i + j); omega, (hc j hj).2.1⟩)
  obtain ⟨P1, T1⟩ := P0.hash hi.1 z H1 F1 Q1
  have S1 := S.1.hs F1
  have e383 : a1 12 383 i = a0 12 383 i := F1.2 12 383 i (by decide) (by have := P0.ha.1.2.2.1; omega) (fun w => by have := S.2.1; have := w.1; omega)
  refine ⟨a1, P1, V0.tr ⟨T1.mono (fun _ _ _ q => Or.inl q), Fr.rf _ _⟩, ?_⟩
  rw [S.1.2.1, show fi_vt 215 131 = some 169 from rfl, dv_s, e1, ca_ret, show a 9 379 i = (pl u n i : Int) from X.1.row.2, e383]
  rw [sw_240 (d + 2) H1 S1]
  have sk := sidx_kw (t := tb_240) (by decide +kernel) (by decide +kernel) (k := lw u n i) (c := cw u n i)
  have sk : sidx tb_240 ((tok u n (pl u n i)).2.1 - pl u n i) (fun j => u (pl u n i + j)) = ixs u n i := sk
  rw [sk]
end WRD
end

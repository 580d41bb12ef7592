section
/-! reading: taking tokens, words, signs, numbers, dates -/
set_option maxRecDepth 100000
/-- what a step over tokens leaves behind -/
def TkE (a b a' b' : fi_H) : Prop := Fr wTA a a' ∧ Fr wTB b b'
theorem TkE.rf (a b : fi_H) : TkE a b a b := ⟨Fr.rf _ _, Fr.rf _ _⟩
theorem TkE.tr {a b a1 b1 a2 b2 : fi_H} (p : TkE a b a1 b1) (q : TkE a1 b1 a2 b2) : TkE a b a2 b2 := ⟨p.1.tr q.1, p.2.tr q.2⟩
def WrE (a b a' b' : fi_H) : Prop := Wr a' b' ∧ TkE a b a' b'
section TOK
variable {u : Nat → Int} {n M i : Nat} {a b : fi_H} {dA dB : Nat}
theorem pl_next (i : Nat) : pl u n (i + 1) = bk u n false (tok u n (pl u n i)).2.1 := rfl
/-- token i is gone over -/
theorem t_take (q : PS u n M i a b) (hA : 3 ≤ dA) (hB : 12 ≤ dB) (hk : tk u n i ≠ 0 ∧ tk u n i ≠ 1) :
    Bo 304 9 9 (fj_run dA 166 a [(4, 377)]) (fj_run dB 502 b [(4, 602)]) (fun _ a' _ b' => PS u n M (i + 1) a' b' ∧ TkE a b a' b' ∧ b' 427 602 0 = b 427 602 0) (WrE a b) := by
  obtain ⟨d, rfl⟩ : ∃ e, dA = e + 3 := ⟨dA - 3, by omega⟩
  obtain ⟨e, rfl⟩ : ∃ e, dB = e + 12 := ⟨dB - 12, by omega⟩
  obtain ⟨q1, q2, q3, q4, q5, q6, q7, q8, q9⟩ := q
  have Q : PS u n M i a b := ⟨q1, q2, q3, q4, q5, q6, q7, q8, q9⟩
  have hp := Q.ple
  have tn : ((602 : Int)).toNat = 602 := rfl
  have vt : fi_vt 348 129 = some 500 := rfl
  rw [if_neg hk.1] at q7
  rw [m_166 (d + 2) q1.1, q4, m_502 (e + 11) q2.1.1, q7]
  by_cases z : i = 1200
  · have e0 : c_502_16 (e + 11) 602 0 b = some (.inr 603, wrb b 4 (pl u n i)) := by
      have Hw := wrb_hp (b := b) q2.1 (k := 4) (p := (pl u n i : Int)) (by omega) (by omega)
      rw [e_502_16 (e + 11) _ _ q2.1.1, tn, s0_602 q2.1.1, vt, dv_s, q6.1, kB_need0 q2.1 (by omega) (by omega) (by omega), cv_thr]
      exact tx_603 Hw
    rw [if_pos (by omega), if_pos (by omega), kA_thr Q (by omega) (by omega), e0]
    exact Bo.thr (wra_hp q1 (by omega) (by omega)) (wrb_hp q2.1 (by omega) (by omega)) ⟨wr_wr _ _, wra_fr _ _, wrb_fr _ _⟩
  · have hend : b 397 602 0 = ((tok u n (pl u n i)).2.1 : Int) := q6.2.1 (by unfold tk at hk; exact hk.2)
    have hlt : pl u n i < n := by
      by_cases y : pl u n i < n
      · exact y
      · exfalso; apply hk.1; unfold tk tok; rw [if_pos (by omega)]
    obtain ⟨t1, t2⟩ := tok_end hlt q2.2.2.2.2.1
    obtain ⟨b', c1, c2, c3, c4, c5⟩ := kB_cut e q2 hend t2 q7 (by omega)
    have e0 : c_502_16 (e + 11) 602 1 b = some (.inl none, b') := by
      rw [e_502_16 (e + 11) _ _ q2.1.1, tn, s0_602 q2.1.1, vt, dv_s, kB_need1 q2.1 (by omega) (by decide), cv_ret, c1, cv_ret]
    have HA' : Hp (fi_upd a 158 377 0 ((i : Int) + 1)) := Hp.uI q1 0 (by decide) (by decide) (by omega)
    have FA : Fr (fun f x _ => f = 158 ∧ x = 377) a (fi_upd a 158 377 0 ((i : Int) + 1)) := Fr.u 0 _ (Fr.rf _ _) (by decide) ⟨rfl, rfl⟩
    rw [if_neg (by omega), if_neg (by omega), lt_eq, wI_id (by omega) (by omega), e0]
    have b427 : b' 427 602 0 = b 427 602 0 := c3.2 427 602 0 (by decide) (by have := q2.1.1.2.2.1; omega) (by omega)
    have b402 : b' 402 602 0 = b 402 602 0 := c3.2 402 602 0 (by decide) (by have := q2.1.1.2.2.1; omega) (by omega)
    have b403 : b' 403 602 0 = b 403 602 0 := c3.2 403 602 0 (by decide) (by have := q2.1.1.2.2.1; omega) (by omega)
    refine Bo.vv HA' c2 ⟨⟨HA', q2.st c2 c3 wcut_U, q3.st q1 FA (fun f x i _ _ _ _ => by omega) (fun f x i _ => by omega), ?_, ?_, c4, ?_, ?_⟩, ⟨FA.mono (fun f x i y => Or.inr (Or.inl ⟨y.2, Or.inl y.1⟩)), c3.mono (fun f x i y => ⟨y.1, Or.inl ⟨y.2.1, by omega⟩⟩)⟩, b427⟩
    · rw [fi_upd_same]; omega
    · refine ⟨?_, by omega⟩
      by_cases y : i + 1 < M
      · exact y
      · exfalso
        have : M - 1 = i := by omega
        rcases q3.2.2.2.2.1 with w | w | w
        · rw [this] at w; exact hk.1 w
        · rw [this] at w; exact hk.2 w
        · omega
    · rw [c5]
      show _ = (if tk u n (i + 1) = 0 then _ else _)
      unfold tk
      rw [pl_next]
      by_cases y : (tok u n (bk u n false (tok u n (pl u n i)).2.1)).1 = 0
      · rw [if_pos y, if_pos y]; omega
      · rw [if_neg y, if_neg y]; omega
    · rw [fi_upd_ne _ _ _ _ _ (by omega), b427, b402, b403]
      exact ⟨q8, q9⟩
/-! the token at hand -/
theorem PS.sort (q : PS u n M i a b) : a 8 378 i = (tk u n i : Int) := q.row.1.1
theorem tk_rg (i : Nat) : tk u n i ≤ 6 := by
  unfold tk tok
  (repeat' split) <;> simp
/-- whether a sign is at hand -/
theorem t_isSignA (q : PS u n M i a b) (hA : 1 ≤ dA) (c : Int) : fj_run dA 183 a [(4, 377), (0, c)] = some (.inl (some (0, if tk u n i = 6 ∧ (tok u n (pl u n i)).2.2 = c then 1 else 0)), a) := by
  obtain ⟨d, rfl⟩ : ∃ e, dA = e + 1 := ⟨dA - 1, by omega⟩
  have hi := q.2.2.2.2.1
  rw [m_183 d c q.ha.1, q.at, if_pos (by omega), Int.toNat_natCast, q.sort]
  by_cases z : tk u n i = 6
  · rw [if_pos (by omega), q.row.1.2.2.2.2.1 z]
    by_cases y : (tok u n (pl u n i)).2.2 = c
    · rw [if_pos y, if_pos ⟨z, y⟩]
    · rw [if_neg y, if_neg (fun w => y w.2)]
  · rw [if_neg (by omega), if_neg (fun w => z w.1)]
theorem t_isSignB (q : PS u n M i a b) (hB : 1 ≤ dB) (c : Int) : fj_run dB 506 b [(4, 602), (0, c)] = some (.inl (some (0, if tk u n i = 6 ∧ bsg (tok u n (pl u n i)).2.2 = c then 1 else 0)), b) := by
  obtain ⟨d, rfl⟩ : ∃ e, dB = e + 1 := ⟨dB - 1, by omega⟩
  obtain ⟨t0, t1, t2, t3, t4, t5, t6, t7, t8⟩ := q.tb
  have hr := tk_rg (u := u) (n := n) i
  rw [m_506 d c q.hb.1]
  by_cases z : tk u n i = 6
  · obtain ⟨y1, y2⟩ := t8 z
    rw [if_pos y1, y2]
    by_cases y : bsg (tok u n (pl u n i)).2.2 = c
    · rw [if_pos y, if_pos ⟨z, y⟩]
    · rw [if_neg y, if_neg (fun w => y w.2)]
  · rw [if_neg (fun w => ?_), if_neg (fun w => z w.1)]
    unfold tk at z hr
    have : (tok u n (pl u n i)).1 = 0 ∨ (tok u n (pl u n i)).1 = 1 ∨ (tok u n (pl u n i)).1 = 2 ∨ (tok u n (pl u n i)).1 = 3 ∨ (tok u n (pl u n i)).1 = 4 ∨ (tok u n (pl u n i)).1 = 5 := by omega
    rcases this with y | y | y | y | y | y
    · have := t2 y; omega
    · have := t3 y; omega
    · have := (t4 y).2.1; split at this <;> omega
    · have := (t5 y).1; omega
    · have := (t6 y).1; omega
    · have := (t7 y).1; omega
theorem bsg_iff {x c : Int} (h1 : c ≠ 108) (h2 : c ≠ 103) (h3 : c < 256) (hx : x < 256) : bsg x = c ↔ x = c := by
  unfold bsg
  split
  · omega
  · split <;> omega
/-- what a sign is -/
theorem tok_sg (i : Nat) (h : tk u n i = 6) : 0 ≤ (tok u n (pl u n i)).2.2 ∧ (tok u n (pl u n i)).2.2 < 128 := by
  unfold tk at h
  unfold tok at h ⊢
  split at h
  · simp at h
  · rename_i z0
    rw [if_neg z0]
    split at h
    · simp only at h; split at h <;> simp at h
    · rename_i z1
      rw [if_neg z1]
      split at h
      · split at h
        · simp at h
        · split at h
          · simp at h
          · split at h <;> simp at h
      · rename_i z2
        rw [if_neg z2]
        split at h
        · rename_i z3
          rw [if_pos z3]
          split at h
          · rename_i z4
            rw [if_pos z4]
            show 0 ≤ (if u (pl u n i) = 60 then (108 : Int) else 103) ∧ (if u (pl u n i) = 60 then (108 : Int) else 103) < 128
            split <;> omega
          · rename_i z4
            rw [if_neg z4]
            show 0 ≤ u (pl u n i) ∧ u (pl u n i) < 128
            omega
        · rename_i z3
          rw [if_neg z3]
          split at h
          · rename_i z4
            rw [if_pos z4]
            show 0 ≤ u (pl u n i) ∧ u (pl u n i) < 128
            omega
          · simp at h
/-! words -/
theorem WL_nd : (List.range 82).all (fun i => (List.range 82).all (fun j => decide (i = j) || !(decide (WL.getD i [] = WL.getD j [])))) = true := by decide +kernel
theorem eqW_L {w : List Int} {k : Nat} {c : Nat → Int} : eqW w k c = true ↔ eqL k c w = true := by
  unfold eqW eqL
  rw [eqS_iff, eqS_iff]
  constructor
  · rintro ⟨h1, h2⟩; exact ⟨h1.symm, fun i hi => (h2 i (by omega)).symm⟩
  · rintro ⟨h1, h2⟩; exact ⟨h1.symm, fun i hi => (h2 i (by omega)).symm⟩
theorem eqL_eq {w w' : List Int} {k : Nat} {c : Nat → Int} (h : eqL k c w = true) (h' : eqL k c w' = true) : w = w' := by
  obtain ⟨a1, a2⟩ := eqS_iff.mp h
  obtain ⟨b1, b2⟩ := eqS_iff.mp h'
  refine List.ext_getElem (by omega) (fun i h1 h2 => ?_)
  have x1 := a2 i (by omega)
  have x2 := b2 i (by omega)
  simp only [List.getD_eq_getElem?_getD, List.getElem?_eq_getElem h1, List.getElem?_eq_getElem h2, Option.getD_some] at x1 x2
  omega
theorem kwf_sp {k : Nat} {c : Nat → Int} : ∀ (L : List (List Int)) (i : Int), (∃ j, j < L.length ∧ kwf L k c i = i + (j : Int) ∧ eqL k c (L.getD j []) = true) ∨ (kwf L k c i = -1 ∧ ∀ w ∈ L, ¬ eqL k c w = true)
  | [], i => Or.inr ⟨rfl, fun w hw => by cases hw⟩
  | w :: L, i => by
    have e : kwf (w :: L) k c i = if eqW w k c = true then i else kwf L k c (i + 1) := rfl
    rw [e]
    by_cases q : eqW w k c = true
    · rw [if_pos q]
      exact Or.inl ⟨0, by simp, by simp, by simpa using eqW_L.mp q⟩
    · rw [if_neg q]
      rcases kwf_sp L (i + 1) with ⟨j, h1, h2, h3⟩ | ⟨h1, h2⟩
      · exact Or.inl ⟨j + 1, by simp; omega, by rw [h2]; omega, by simpa using h3⟩
      · refine Or.inr ⟨h1, fun x hx => ?_⟩
        rcases List.mem_cons.mp hx with rfl | hx
        · exact fun z => q (eqW_L.mpr z)
        · exact h2 x hx
theorem WL_82 : WL.length = 82 := by decide
theorem kwd_iff {k : Nat} {c : Nat → Int} {w : Nat} (hw : w < 82) : eqL k c (WL.getD w []) = true ↔ kwd k c = (w : Int) := by
  have nd : ∀ j : Nat, j < 82 → WL.getD w [] = WL.getD j [] → w = j := fun j hj e => by
    have := List.all_eq_true.mp (List.all_eq_true.mp WL_nd w (List.mem_range.mpr hw)) j (List.mem_range.mpr hj)
    simp only [Bool.or_eq_true, decide_eq_true_eq, Bool.not_eq_true', decide_eq_false_iff_not] at this
    rcases this with z | z
    · exact z
    · exact absurd e z
  unfold kwd
  rcases kwf_sp (k := k) (c := c) WL 0 with ⟨j, h1, h2, h3⟩ | ⟨h1, h2⟩
  · rw [WL_82] at h1
    rw [h2]
    constructor
    · intro z
      have := nd j h1 (eqL_eq z h3)
      omega
    · intro z
      have : j = w := by omega
      rw [← this]; exact h3
  · rw [h1]
    constructor
    · intro z
      refine absurd z (h2 _ ?_)
      rw [List.getD_eq_getElem?_getD, List.getElem?_eq_getElem (by rw [WL_82]; exact hw)]
      exact List.getElem_mem _
    · intro z; omega
/-- the letters of token i -/
abbrev cw (u : Nat → Int) (n i : Nat) : Nat → Int := fun j => u (pl u n i + j)
abbrev lw (u : Nat → Int) (n i : Nat) : Nat := (tok u n (pl u n i)).2.1 - pl u n i
/-- the model's word of token i; -1 if it has none -/
def kw (u : Nat → Int) (n i : Nat) : Int := kwd (lw u n i) (cw u n i)
theorem t_isWordA (q : PS u n M i a b) (hA : 5 ≤ dA) {s : Int} {l : List Int} (S : LitC a s l) : fj_run dA 162 a [(4, 377), (4, s)] = some (.inl (some (0, if tk u n i = 2 ∧ eqL (lw u n i) (cw u n i) l = true then 1 else 0)), a) := by
  obtain ⟨d, rfl⟩ : ∃ e, dA = e + 5 := ⟨dA - 5, by omega⟩
  have hi := q.2.2.2.2.1
  rw [m_162 (d + 4) s q.ha.1, q.at, m_163 (d + 3) _ _ q.ha.1, if_pos (by omega), Int.toNat_natCast, q.sort]
  by_cases z : tk u n i = 2
  · have T := (q.row.1.2.2.2.2.2 z).1
    rw [if_pos (by omega), T.2.1, show fi_vt 216 131 = some 64 from rfl, dv_s, kS_eq d q.ha T S.1, ca_ret, ite0]
    show ca_ (if eqL (lw u n i) (cw u n i) l = true then _ else _) _ _ _ = _
    by_cases y : eqL (lw u n i) (cw u n i) l = true
    · rw [if_pos y, ca_ret, if_pos (by decide), if_pos ⟨z, y⟩]
    · rw [if_neg y, ca_ret, if_pos (by decide), if_neg (fun w => y w.2)]
  · rw [if_neg (by omega), ca_ret, if_pos (by decide), if_neg (fun w => z w.1)]
theorem t_isWordB (q : PS u n M i a b) (hB : 1 ≤ dB) {w : Int} (hw : 0 ≤ w) : fj_run dB 499 b [(4, 602), (0, w)] = some (.inl (some (0, if tk u n i = 2 ∧ kw u n i = w then 1 else 0)), b) := by
  obtain ⟨d, rfl⟩ : ∃ e, dB = e + 1 := ⟨dB - 1, by omega⟩
  obtain ⟨t0, t1, t2, t3, t4, t5, t6, t7, t8⟩ := q.tb
  have hr := tk_rg (u := u) (n := n) i
  rw [m_499 d w q.hb.1]
  by_cases z : tk u n i = 2
  · obtain ⟨y1, y2, -⟩ := t4 z
    have y1 : b 395 602 0 = kw u n i := y1
    have y2 : b 394 602 0 = if kw u n i = -1 then 1 else 2 := y2
    by_cases y : kw u n i = w
    · have y3 : b 394 602 0 = 2 := by rw [y2, if_neg (by omega)]
      rw [if_pos y3, y1, if_pos y, if_pos ⟨z, y⟩]
    · have y4 : ¬ (tk u n i = 2 ∧ kw u n i = w) := fun x => y x.2
      by_cases y3 : b 394 602 0 = 2
      · rw [if_pos y3, y1, if_neg y, if_neg y4]
      · rw [if_neg y3, if_neg y4]
  · rw [if_neg (fun w => ?_), if_neg (fun w => z w.1)]
    unfold tk at z hr
    have : (tok u n (pl u n i)).1 = 0 ∨ (tok u n (pl u n i)).1 = 1 ∨ (tok u n (pl u n i)).1 = 3 ∨ (tok u n (pl u n i)).1 = 4 ∨ (tok u n (pl u n i)).1 = 5 ∨ (tok u n (pl u n i)).1 = 6 := by omega
    rcases this with y | y | y | y | y | y
    · have := t2 y; omega
    · have := t3 y; omega
    · have := (t5 y).1; omega
    · have := (t6 y).1; omega
    · have := (t7 y).1; omega
    · have := (t8 y).1; omega
/-- the same word, the class's by its letters, the model's by its number -/
theorem t_word {w : Nat} (hw : w < 82) : (tk u n i = 2 ∧ eqL (lw u n i) (cw u n i) (WL.getD w []) = true) ↔ (tk u n i = 2 ∧ kw u n i = (w : Int)) := by
  rw [kwd_iff hw]
  rfl
end TOK
end
